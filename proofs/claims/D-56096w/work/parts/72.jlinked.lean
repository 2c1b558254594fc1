/-! ===== java.util.LinkedList ===== -/
section JQ
variable {ρ : zz_C} {σ : zz_S} {τ : Nat → Nat}
/-- LinkedList at l with nodes N and items X -/
def cL (σ : zz_S) (l : Nat) (N X : List Nat) : Prop :=
  (∃ mc : Int32, σ.2.2 l = some (true, .inr (140, [.int mc, .int (Int32.ofNat X.length), va_rf N[0]?, va_rf N.getLast?]))) ∧
  N.length = X.length ∧ N.Nodup ∧ X.length ≤ 64 ∧
  ∀ j n x, N[j]? = some n → X[j]? = some x → ∃ p, σ.2.2 n = some (true, .inr (142, [.ref x, va_rf N[j + 1]?, p]))
theorem cL.keep {σ' : zz_S} {l : Nat} {N X : List Nat} (h : cL σ l N X) (hl : σ'.2.2 l = σ.2.2 l) (hN : ∀ n, n ∈ N → σ'.2.2 n = σ.2.2 n) : cL σ' l N X := by
  obtain ⟨⟨mc, h1⟩, h2, h3, h4, h5⟩ := h
  exact ⟨⟨mc, hl.trans h1⟩, h2, h3, h4, fun j n x hn hx => by
    obtain ⟨p, hp⟩ := h5 j n x hn hx
    exact ⟨p, (hN n (List.mem_of_getElem? hn)).trans hp⟩⟩
theorem cL.ck {l : Nat} {N X : List Nat} {K : Nat → zz_R} (h : cL σ l N X) : zz_ck σ (some l) 140 K = K l := by
  obtain ⟨⟨mc, h1⟩, -⟩ := h
  exact zp_ck h1
theorem cL.node {l : Nat} {N X : List Nat} (h : cL σ l N X) {n : Nat} (hn : n ∈ N) : ∃ fs, σ.2.2 n = some (true, .inr (142, fs)) := by
  obtain ⟨-, h2, -, -, h5⟩ := h
  obtain ⟨j, hj⟩ := List.getElem?_of_mem hn
  have hjl := (List.getElem?_eq_some_iff.mp hj).1
  obtain ⟨p, hp⟩ := h5 j n X[j] hj (List.getElem?_eq_getElem (h2 ▸ hjl))
  exact ⟨_, hp⟩
theorem cL.not {l : Nat} {N X : List Nat} (h : cL σ l N X) : l ∉ N := by
  intro hl
  obtain ⟨fs, hf⟩ := h.node hl
  obtain ⟨⟨mc, h1⟩, -⟩ := h
  rw [h1] at hf
  cases hf
theorem jl_size {l : Nat} {N X : List Nat} (h : cL σ l N X) : zF_J40_size ρ l σ = zz_rI (Int32.ofNat X.length) σ := by
  obtain ⟨⟨mc, h1⟩, -⟩ := h
  unfold zF_J40_size
  rw [zp_gI h1 (v := Int32.ofNat X.length) rfl]
  rfl
theorem jl_isEmpty {l : Nat} {N X : List Nat} (h : cL σ l N X) : zF_J0_isEmpty_at_J40 ρ l σ = zz_rI (if X.length = 0 then 1 else 0) σ := by
  unfold zF_J0_isEmpty_at_J40
  rw [h.ck, jl_size h, cc_I]
  have h4 := h.2.2.2.1
  by_cases he : X.length = 0
  · rw [if_pos he, if_pos (by rw [he]; rfl)]; rfl
  · rw [if_neg he, if_neg (by rw [show (0 : Int32) = Int32.ofNat 0 from rfl, ci_eq (by omega) (by omega)]; exact he)]; rfl
theorem jl_getFirst {l : Nat} {N X : List Nat} {x : Nat} (h : cL σ l N (x :: X)) : zF_J40_getFirst ρ l σ = zz_rR (some x) σ := by
  obtain ⟨⟨mc, h1⟩, h2, h3, h4, h5⟩ := h
  cases N with
  | nil => simp at h2
  | cons n N =>
    obtain ⟨p, hp⟩ := h5 0 n x rfl rfl
    unfold zF_J40_getFirst
    rw [zp_gR h1 (v := some n) rfl, Option.bind_some, cn_some, zp_gR hp (v := some x) rfl, Option.bind_some]
theorem jl_init {a : Nat} (h : σ.2.2 a = some (true, .inr (140, [.int 0, .int 0, .null, .null]))) (hw : zp_wf σ) :
    ∃ σ', zF_J40_init ρ a σ = zz_rV σ' ∧ zp_le (fun b => b = a) 0 σ σ' ∧ cL σ' a [] [] := by
  refine ⟨zz_set σ a (.inr (140, [.int 0, .int 0, .null, .null])), ?_, zp_set_le (hw.lt h) rfl, ⟨0, zp_set_at⟩, rfl, List.nodup_nil, by decide, fun j n x hn => by simp at hn⟩
  unfold zF_J40_init zF_J39_init zF_J1_init_at_J40 zF_J0_init_at_J40
  rw [cc_V, zp_pf (N := 4) h rfl, Option.bind_some, cc_V, cc_V, zp_pf (N := 4) zp_set_at rfl, Option.bind_some, cs_set_set]
  rfl
/-- an iterator at place k -/
def cN (σ : zz_S) (it l : Nat) (N : List Nat) (k : Nat) : Prop := ∃ (lr : Value) (mc : Int32) (w : Bool) (r : List Value), σ.2.2 it = some (true, .inr (126, [lr, va_rf N[k]?, .int (Int32.ofNat k), .int mc, .ref l])) ∧ σ.2.2 l = some (w, .inr (140, .int mc :: r))
theorem cN.keep {σ' : zz_S} {it l k : Nat} {N : List Nat} (h : cN σ it l N k) (h1 : σ'.2.2 it = σ.2.2 it) (h2 : σ'.2.2 l = σ.2.2 l) : cN σ' it l N k := by
  obtain ⟨lr, mc, w, r, g1, g2⟩ := h
  exact ⟨lr, mc, w, r, h1.trans g1, h2.trans g2⟩
theorem cN.ck {it l k : Nat} {N : List Nat} {K : Nat → zz_R} (h : cN σ it l N k) : zz_ck σ (some it) 126 K = K it := by
  obtain ⟨lr, mc, w, r, g1, g2⟩ := h
  exact zp_ck g1
theorem jl_sh : ∀ n, n ≤ 64 → (((Int32.ofNat n) >>> ((1 : Int32) &&& 31)) ≤ 0 ↔ n ≤ 1) := by decide
theorem jl_node {l f : Nat} {N X : List Nat} (h : cL σ l N X) (hx : X.length ≠ 0) (hf : ρ.2 = f + 1) : zF_J40_node ρ l 0 σ = zz_rR N[0]? σ := by
  obtain ⟨⟨mc, h1⟩, h2, h3, h4, h5⟩ := h
  unfold zF_J40_node
  rw [zp_gI h1 (k := 1) (v := Int32.ofNat X.length) rfl, Option.bind_some]
  by_cases hs : X.length ≤ 1
  · rw [if_pos ((jl_sh _ h4).mpr hs), zp_gR h1 (k := 3) (v := N.getLast?) rfl, Option.bind_some, Option.bind_some, hf]
    have h1l : X.length = 1 := by omega
    unfold zL_J40_node_47
    rw [h1l, if_pos (by decide)]
    have : N.getLast? = N[0]? := by
      cases N with
      | nil => rfl
      | cons n N =>
        cases N with
        | nil => rfl
        | cons m N => simp at h2; omega
    rw [this]
  · rw [if_neg (fun hh => hs ((jl_sh _ h4).mp hh)), zp_gR h1 (k := 2) (v := N[0]?) rfl, Option.bind_some, hf]
    unfold zL_J40_node_17
    rw [if_pos (by decide)]
theorem jl_iterator {l g f : Nat} {N X : List Nat} (h : cL σ l N X) (hw : zp_wf σ) (hg : zp_gas (g + 1) σ) (hf : ρ.2 = f + 1) :
    ∃ σ', zF_J39_iterator ρ l σ = zz_rR (some σ.1.1) σ' ∧ zp_le zp_no 1 σ σ' ∧ cN σ' σ.1.1 l N 0 := by
  have h0 := h
  obtain ⟨⟨mc, h1⟩, h2, h3, h4, h5⟩ := h
  have hne : l ≠ σ.1.1 := Nat.ne_of_lt (hw.lt h1)
  have hk : ∀ e sz, cL (zp_al σ e sz) l N X := fun e sz => h0.keep (zp_al_old hne) fun n hn => by
    obtain ⟨fs, hfs⟩ := h0.node hn
    exact zp_al_old (Nat.ne_of_lt (hw.lt hfs))
  refine ⟨zp_al σ (.inr (126, [.null, va_rf N[0]?, .int 0, .int mc, .ref l])) 5, ?_, zp_al_le (by decide), .null, mc, true, _, zp_al_new, (zp_al_old hne).trans h1⟩
  unfold zF_J39_iterator zF_J1_listIterator_at_J40 zF_J40_listIterator zF_J40_checkPositionIndex zF_J40_isPositionIndex
  have e1 : ¬ Int32.ofNat X.length < 0 := (ci_in' (n := 100) (by omega) (by omega)).1
  rw [h0.ck, h0.ck, h0.ck, h0.ck, if_neg (by decide), zp_gI h1 (k := 1) (v := Int32.ofNat X.length) rfl, Option.bind_some, if_neg e1, cb_b1, cc_I, if_neg (by decide), cc_V]
  rw [zp_al_eq hg (by decide)]
  unfold zF_J26_init
  have g0 : ∀ fs, (zp_al σ (.inr (126, fs)) 5).2.2 l = some (true, .inr (140, [.int mc, .int (Int32.ofNat X.length), va_rf N[0]?, va_rf N.getLast?])) := fun fs => (zp_al_old hne).trans h1
  rw [zp_pf (N := 5) zp_al_new rfl, Option.bind_some, cs_al_set, zp_gR zp_al_new (v := some l) rfl, Option.bind_some, zp_gI (g0 _) (k := 0) (v := mc) rfl, Option.bind_some, zp_pf (N := 5) zp_al_new rfl, Option.bind_some, cs_al_set, zp_gI (g0 _) (k := 1) (v := Int32.ofNat X.length) rfl, Option.bind_some]
  by_cases he : X.length = 0
  · have hN : N = [] := List.length_eq_zero_iff.mp (h2.trans he)
    rw [if_pos (by rw [he]; rfl), zp_pf (N := 5) zp_al_new rfl, Option.bind_some, cs_al_set, zp_pf (N := 5) zp_al_new rfl, Option.bind_some, cs_al_set, cc_V, cc_R, cc_R]
    rw [hN]
    rfl
  · rw [if_neg (by rw [show (0 : Int32) = Int32.ofNat 0 from rfl, ci_eq (by omega) (by omega)]; exact fun hh => he hh.symm), (hk _ _).ck, jl_node (hk _ _) he hf, cc_R, zp_pf (N := 5) zp_al_new rfl, Option.bind_some, cs_al_set, zp_pf (N := 5) zp_al_new rfl, Option.bind_some, cs_al_set, cc_V, cc_R, cc_R]
    rfl
theorem jl_hasNext {it l k : Nat} {N X : List Nat} (hi : cN σ it l N k) (h : cL σ l N X) (hk : k ≤ X.length) : zF_J26_hasNext ρ it σ = zz_rI (if k = X.length then 0 else 1) σ := by
  obtain ⟨lr, mc, w, r, g1, g2⟩ := hi
  obtain ⟨⟨mc', h1⟩, h2, h3, h4, h5⟩ := h
  unfold zF_J26_hasNext
  rw [zp_gI g1 (k := 2) (v := Int32.ofNat k) rfl, Option.bind_some, zp_gR g1 (k := 4) (v := some l) rfl, Option.bind_some, zp_gI h1 (k := 1) (v := Int32.ofNat X.length) rfl, Option.bind_some]
  by_cases he : k = X.length
  · rw [if_pos (by rw [he]; exact Int32.le_refl _), if_pos he]; rfl
  · rw [if_neg (by rw [ci_le (by omega) (by omega)]; omega), if_neg he]; rfl
theorem jl_next {it l k x : Nat} {N X : List Nat} (hi : cN σ it l N k) (h : cL σ l N X) (hx : X[k]? = some x) (hw : zp_wf σ) :
    ∃ σ', zF_J26_next ρ it σ = zz_rR (some x) σ' ∧ zp_le (fun b => b = it) 0 σ σ' ∧ cN σ' it l N (k + 1) := by
  have hi0 := hi
  have h0 := h
  obtain ⟨lr, mc, w, r, g1, g2⟩ := hi
  obtain ⟨⟨mc', h1⟩, h2, h3, h4, h5⟩ := h
  have hk : k < X.length := (List.getElem?_eq_some_iff.mp hx).1
  have hmc : mc' = mc := by rw [h1] at g2; cases g2; rfl
  subst hmc
  have hn : N[k]? = some N[k] := List.getElem?_eq_getElem (by omega)
  obtain ⟨p, hp⟩ := h5 k N[k] x hn hx
  have hil : l ≠ it := by intro he; rw [he, g1] at h1; cases h1
  have hin : N[k] ≠ it := by intro he; rw [he, g1] at hp; cases hp
  rw [hn] at g1
  refine ⟨zz_set σ it (.inr (126, [.ref N[k], va_rf N[k + 1]?, .int (Int32.ofNat (k + 1)), .int mc', .ref l])), ?_, zp_set_le (hw.lt g1) rfl, _, mc', w, r, zp_set_at, (zp_set_old hil).trans g2⟩
  unfold zF_J26_next zF_J26_checkForComodification
  rw [zp_ck g1, zp_gR g1 (k := 4) (v := some l) rfl, Option.bind_some, zp_gI h1 (k := 0) (v := mc') rfl, Option.bind_some, zp_gI g1 (k := 3) (v := mc') rfl, Option.bind_some, if_pos rfl, cc_V, zp_ck g1, jl_hasNext hi0 h0 (by omega), if_neg (by omega), cc_I, if_neg (by decide)]
  have gp : ∀ e, (zz_set σ it e).2.2 N[k] = some (true, .inr (142, [.ref x, va_rf N[k + 1]?, p])) := fun e => (zp_set_old hin).trans hp
  rw [zp_gR g1 (k := 1) (v := some N[k]) rfl, Option.bind_some, zp_pf (N := 5) g1 rfl, Option.bind_some, zp_gR zp_set_at (k := 1) (v := some N[k]) rfl, Option.bind_some, zp_gR (gp _) (k := 1) (v := N[k + 1]?) rfl, Option.bind_some, zp_pf (N := 5) zp_set_at rfl, Option.bind_some, cs_set_set, zp_gI zp_set_at (k := 2) (v := Int32.ofNat k) rfl, Option.bind_some, zp_pf (N := 5) zp_set_at rfl, Option.bind_some, cs_set_set, zp_gR zp_set_at (k := 0) (v := some N[k]) rfl, Option.bind_some, zp_gR (gp _) (k := 0) (v := some x) rfl, Option.bind_some, ci_succ]
  rfl
end JQ
