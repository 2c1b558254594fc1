/-! ===== java.util.LinkedList: addLast, removeFirst ===== -/
section JR
variable {ρ : zz_C} {σ : zz_S}
theorem jl_last? (N : List Nat) (n : Nat) : (N ++ [n]).getLast? = some n := by simp
theorem jl_addLast {l x g : Nat} {N X : List Nat} (h : cL σ l N X) (hw : zp_wf σ) (hg : zp_gas (g + 1) σ) (hX : X.length < 64) :
    ∃ σ', zF_J40_addLast ρ l (some x) σ = zz_rV σ' ∧ zp_le (fun b => b = l ∨ b ∈ N) 1 σ σ' ∧ cL σ' l (N ++ [σ.1.1]) (X ++ [x]) := by
  have h0 := h
  have hlN := h.not
  obtain ⟨⟨mc, h1⟩, h2, h3, h4, h5⟩ := h
  have hln : l ≠ σ.1.1 := Nat.ne_of_lt (hw.lt h1)
  have hNn : ∀ n, n ∈ N → n < σ.1.1 := fun n hn => by obtain ⟨fs, hfs⟩ := h0.node hn; exact hw.lt hfs
  unfold zF_J40_addLast zF_J40_linkLast
  rw [h0.ck, zp_gR h1 (k := 3) (v := N.getLast?) rfl, Option.bind_some, zp_al_eq hg (by decide)]
  unfold zF_J42_init
  rw [zp_pf (N := 3) zp_al_new rfl, Option.bind_some, cs_al_set, zp_pf (N := 3) zp_al_new rfl, Option.bind_some, cs_al_set, zp_pf (N := 3) zp_al_new rfl, Option.bind_some, cs_al_set, cc_V]
  let E0 : zz_E := .inr (142, [.ref x, .null, va_rf N.getLast?])
  let σ1 := zp_al σ E0 3
  have a1 : σ1.2.2 l = some (true, .inr (140, [.int mc, .int (Int32.ofNat X.length), va_rf N[0]?, va_rf N.getLast?])) := (zp_al_old hln).trans h1
  show ∃ σ', zz_cV ((zz_pf σ1 (some l) 140 4 3 (va_rf (some σ.1.1))).bind _) _ _ = _ ∧ _
  rw [zp_pf (N := 4) a1 rfl, Option.bind_some]
  let σ2 := zz_set σ1 l (.inr (140, [.int mc, .int (Int32.ofNat X.length), va_rf N[0]?, .ref σ.1.1]))
  have a2 : σ2.2.2 l = some (true, .inr (140, [.int mc, .int (Int32.ofNat X.length), va_rf N[0]?, .ref σ.1.1])) := zp_set_at
  have an : σ2.2.2 σ.1.1 = some (true, E0) := (zp_set_old (fun h => hln h.symm)).trans zp_al_new
  have ao : ∀ b, b ≠ l → b ≠ σ.1.1 → σ2.2.2 b = σ.2.2 b := fun b hb hb' => (zp_set_old hb).trans (zp_al_old hb')
  have l2 : zp_le (fun b => b = l ∨ b ∈ N) 1 σ σ2 := (zp_al_le (M := fun b => b = l ∨ b ∈ N) (by decide)).trans (k' := 0) (zp_set_le (by show l < σ.1.1 + 1; have := hw.lt h1; omega) (.inl rfl)) (fun a _ h => h)
  show ∃ σ', zz_cV (zz_nul N.getLast? ((zz_pf σ2 (some l) 140 4 2 (va_rf (some σ.1.1))).bind fun σ11 => zJ_J40_linkLast_38 ρ l σ11) fun _ => (zz_pf σ2 N.getLast? 142 3 1 (va_rf (some σ.1.1))).bind fun σ10 => zJ_J40_linkLast_38 ρ l σ10) _ _ = _ ∧ _
  -- the rest from a state where the first and the nodes are right
  have fin : ∀ (σ3 : zz_S) (fst : Option Nat), zp_le (fun b => b = l ∨ b ∈ N) 1 σ σ3 → σ3.2.2 l = some (true, .inr (140, [.int mc, .int (Int32.ofNat X.length), va_rf fst, .ref σ.1.1])) → fst = (N ++ [σ.1.1])[0]? →
      (∀ j n y, (N ++ [σ.1.1])[j]? = some n → (X ++ [x])[j]? = some y → ∃ p, σ3.2.2 n = some (true, .inr (142, [.ref y, va_rf (N ++ [σ.1.1])[j + 1]?, p]))) →
      ∃ σ', zz_cV (zJ_J40_linkLast_38 ρ l σ3) (fun σ5 => zz_rV σ5) zz_P = zz_rV σ' ∧ zp_le (fun b => b = l ∨ b ∈ N) 1 σ σ' ∧ cL σ' l (N ++ [σ.1.1]) (X ++ [x]) := by
    intro σ3 fst l3 b1 bf b2
    have hl3 : l < σ3.1.1 := l3.lt (hw.lt h1)
    refine ⟨zz_set σ3 l (.inr (140, [.int (mc + 1), .int (Int32.ofNat (X.length + 1)), va_rf fst, .ref σ.1.1])), ?_, l3.trans (k' := 0) (zp_set_le (M := fun b => b = l ∨ b ∈ N) hl3 (.inl rfl)) (fun a _ h => h), ⟨mc + 1, ?_⟩, by simp [h2], ?_, by simp; omega, fun j n y hj hy => ?_⟩
    · unfold zJ_J40_linkLast_38
      rw [zp_gI b1 (k := 1) (v := Int32.ofNat X.length) rfl, Option.bind_some, zp_pf (N := 4) b1 rfl, Option.bind_some, zp_gI zp_set_at (k := 0) (v := mc) rfl, Option.bind_some, zp_pf (N := 4) zp_set_at rfl, Option.bind_some, cs_set_set, cc_V, ci_succ]
      rfl
    · rw [zp_set_at, bf, jl_last?]
      simp
      rfl
    · rw [List.nodup_append]
      refine ⟨h3, by simp, fun a ha b hb => ?_⟩
      simp at hb
      have := hNn a ha
      omega
    · obtain ⟨p, hp⟩ := b2 j n y hj hy
      refine ⟨p, ?_⟩
      have hnl : n ≠ l := by
        intro he
        rw [he, b1] at hp
        cases hp
      rw [zp_set_old hnl]
      exact hp
  have hnew : ∀ (σ3 : zz_S), σ3.2.2 σ.1.1 = some (true, E0) → ∃ p, σ3.2.2 σ.1.1 = some (true, .inr (142, [.ref x, va_rf (N ++ [σ.1.1])[N.length + 1]?, p])) := fun σ3 h => ⟨va_rf N.getLast?, by
    have : (N ++ [σ.1.1])[N.length + 1]? = none := by simp
    rw [this]
    exact h⟩
  cases hlast : N.getLast? with
  | none =>
    have hN : N = [] := by simpa using hlast
    subst hN
    have hX0 : X = [] := List.length_eq_zero_iff.mp h2.symm
    subst hX0
    rw [cn_none, zp_pf (N := 4) a2 rfl, Option.bind_some]
    refine fin _ (some σ.1.1) (l2.trans (k' := 0) (zp_set_le (M := fun b => b = l ∨ b ∈ []) (l2.lt (hw.lt h1)) (.inl rfl)) (fun a _ h => h)) zp_set_at rfl fun j n y hj hy => ?_
    cases j with
    | succ j => simp at hj
    | zero =>
      simp at hj hy
      subst hj hy
      exact hnew _ ((zp_set_old (fun h => hln h.symm)).trans an)
  | some z =>
    have hz : z ∈ N := List.mem_of_getLast? hlast
    have hzl : z ≠ l := fun h => hlN (h ▸ hz)
    have hpos : 0 < N.length := List.length_pos_of_mem hz
    have hzi : N[N.length - 1]? = some z := by rw [← List.getLast?_eq_getElem?]; exact hlast
    have hxi : X[N.length - 1]? = some X[N.length - 1] := List.getElem?_eq_getElem (by omega)
    obtain ⟨p, hp⟩ := h5 (N.length - 1) z _ hzi hxi
    have hzn : z ≠ σ.1.1 := Nat.ne_of_lt (hNn z hz)
    have hp2 : σ2.2.2 z = some (true, .inr (142, [.ref X[N.length - 1], va_rf N[N.length - 1 + 1]?, p])) := (ao z hzl hzn).trans hp
    rw [cn_some, zp_pf (N := 3) hp2 rfl, Option.bind_some]
    have hne0 : N ≠ [] := by intro h; rw [h] at hpos; simp at hpos
    refine fin _ N[0]? (l2.trans (k' := 0) (zp_set_le (M := fun b => b = l ∨ b ∈ N) (l2.lt (hNn z hz)) (.inr hz)) (fun a _ h => h)) ((zp_set_old hzl.symm).trans a2) (by rw [List.getElem?_append_left hpos]) fun j n y hj hy => ?_
    have hjl := (List.getElem?_eq_some_iff.mp hj).1
    simp at hjl
    by_cases hj1 : j = N.length
    · subst hj1
      have hnn : n = σ.1.1 := by simpa using hj.symm
      have hyx : y = x := by rw [h2] at hy; simpa using hy.symm
      subst hnn hyx
      exact hnew _ ((zp_set_old (fun h => hzn h.symm)).trans an)
    · have hj2 : j < N.length := by omega
      rw [List.getElem?_append_left hj2] at hj
      rw [List.getElem?_append_left (by omega)] at hy
      by_cases hj3 : j = N.length - 1
      · subst hj3
        have hnz : n = z := by rw [hzi] at hj; exact (Option.some.inj hj).symm
        have hyz : y = X[N.length - 1] := by rw [hxi] at hy; exact (Option.some.inj hy).symm
        subst hnz hyz
        refine ⟨p, ?_⟩
        have e : (N ++ [σ.1.1])[N.length - 1 + 1]? = some σ.1.1 := by
          rw [show N.length - 1 + 1 = N.length by omega]; simp
        rw [zp_set_at, e]
        rfl
      · obtain ⟨p', hp'⟩ := h5 j n y hj hy
        have hnN : n ∈ N := List.mem_of_getElem? hj
        have hnz : n ≠ z := by
          intro he
          have := (List.getElem?_inj hj2 h3).mp (hj.trans (he ▸ hzi.symm))
          omega
        refine ⟨p', ?_⟩
        rw [zp_set_old hnz, ao n (fun h => hlN (h ▸ hnN)) (Nat.ne_of_lt (hNn n hnN)), hp', List.getElem?_append_left (by omega)]
theorem jl_removeFirst {l x : Nat} {N X : List Nat} (h : cL σ l N (x :: X)) (hw : zp_wf σ) :
    ∃ n N', N = n :: N' ∧ ∃ σ', zF_J40_removeFirst ρ l σ = zz_rR (some x) σ' ∧ zp_le (fun b => b = l ∨ b ∈ N) 0 σ σ' ∧ cL σ' l N' X := by
  have h0 := h
  have hlN := h.not
  obtain ⟨⟨mc, h1⟩, h2, h3, h4, h5⟩ := h
  cases N with
  | nil => simp at h2
  | cons n N =>
  refine ⟨n, N, rfl, ?_⟩
  obtain ⟨p, hp⟩ := h5 0 n x rfl rfl
  have hnl : n ≠ l := fun h => hlN (h ▸ List.mem_cons_self)
  have hnN : n ∉ N := (List.nodup_cons.mp h3).1
  have h3' := (List.nodup_cons.mp h3).2
  unfold zF_J40_removeFirst zF_J40_unlinkFirst
  rw [zp_gR h1 (k := 2) (v := some n) rfl, Option.bind_some, cn_some, h0.ck, zp_gR hp (k := 0) (v := some x) rfl, Option.bind_some, zp_gR hp (k := 1) (v := N[0]?) rfl, Option.bind_some, zp_pf (N := 3) hp rfl, Option.bind_some, zp_pf (N := 3) zp_set_at rfl, Option.bind_some, cs_set_set]
  let σ1 := zz_set σ n (.inr (142, [.null, .null, p]))
  have a1 : σ1.2.2 l = some (true, .inr (140, [.int mc, .int (Int32.ofNat (x :: X).length), va_rf (n :: N)[0]?, va_rf (n :: N).getLast?])) := (zp_set_old hnl.symm).trans h1
  show ∃ σ', zz_cR ((zz_pf σ1 (some l) 140 4 2 (va_rf N[0]?)).bind _) _ _ = _ ∧ _
  rw [zp_pf (N := 4) a1 rfl, Option.bind_some]
  let σ2 := zz_set σ1 l (.inr (140, [.int mc, .int (Int32.ofNat (x :: X).length), va_rf N[0]?, va_rf (n :: N).getLast?]))
  have a2 : σ2.2.2 l = some (true, .inr (140, [.int mc, .int (Int32.ofNat (x :: X).length), va_rf N[0]?, va_rf (n :: N).getLast?])) := zp_set_at
  have ao : ∀ b, b ≠ l → b ≠ n → σ2.2.2 b = σ.2.2 b := fun b hb hb' => (zp_set_old hb).trans (zp_set_old hb')
  have l2 : zp_le (fun b => b = l ∨ b ∈ n :: N) 0 σ σ2 := (zp_set_le (M := fun b => b = l ∨ b ∈ n :: N) (hw.lt hp) (.inr List.mem_cons_self)).trans (k' := 0) (zp_set_le (hw.lt h1) (.inl rfl)) (fun a _ h => h)
  show ∃ σ', zz_cR (zz_nul N[0]? ((zz_pf σ2 (some l) 140 4 3 (va_rf none)).bind fun σ8 => zJ_J40_unlinkFirst_42 ρ l (some x) σ8) fun _ => (zz_pf σ2 N[0]? 142 3 2 (va_rf none)).bind fun σ7 => zJ_J40_unlinkFirst_42 ρ l (some x) σ7) _ _ = _ ∧ _
  have fin : ∀ (σ3 : zz_S) (lst : Option Nat), zp_le (fun b => b = l ∨ b ∈ n :: N) 0 σ σ3 → σ3.2.2 l = some (true, .inr (140, [.int mc, .int (Int32.ofNat (x :: X).length), va_rf N[0]?, va_rf lst])) → lst = N.getLast? →
      (∀ j m y, N[j]? = some m → X[j]? = some y → ∃ p, σ3.2.2 m = some (true, .inr (142, [.ref y, va_rf N[j + 1]?, p]))) →
      ∃ σ', zz_cR (zJ_J40_unlinkFirst_42 ρ l (some x) σ3) (fun v6 σ7 => zz_rR v6 σ7) zz_P = zz_rR (some x) σ' ∧ zp_le (fun b => b = l ∨ b ∈ n :: N) 0 σ σ' ∧ cL σ' l N X := by
    intro σ3 lst l3 b1 bl b2
    refine ⟨zz_set σ3 l (.inr (140, [.int (mc + 1), .int (Int32.ofNat X.length), va_rf N[0]?, va_rf lst])), ?_, l3.trans (k' := 0) (zp_set_le (M := fun b => b = l ∨ b ∈ n :: N) (l3.lt (hw.lt h1)) (.inl rfl)) (fun a _ h => h), ⟨mc + 1, ?_⟩, by simpa using h2, h3', by simp at h4; omega, fun j m y hj hy => ?_⟩
    · unfold zJ_J40_unlinkFirst_42
      rw [zp_gI b1 (k := 1) (v := Int32.ofNat (x :: X).length) rfl, Option.bind_some, zp_pf (N := 4) b1 rfl, Option.bind_some, zp_gI zp_set_at (k := 0) (v := mc) rfl, Option.bind_some, zp_pf (N := 4) zp_set_at rfl, Option.bind_some, cs_set_set, cc_R]
      have : Int32.ofNat (x :: X).length - 1 = Int32.ofNat X.length := by
        rw [show (1 : Int32) = Int32.ofNat 1 from rfl, ci_sub (by simp)]
        simp
      rw [this]
      rfl
    · rw [zp_set_at, bl]
    · obtain ⟨p, hp⟩ := b2 j m y hj hy
      refine ⟨p, ?_⟩
      have hnl : m ≠ l := by
        intro he
        rw [he, b1] at hp
        cases hp
      rw [zp_set_old hnl]
      exact hp
  cases N with
  | nil =>
    show ∃ σ', zz_cR (zz_nul none _ _) _ _ = _ ∧ _
    rw [cn_none, zp_pf (N := 4) a2 rfl, Option.bind_some]
    refine fin _ none (l2.trans (k' := 0) (zp_set_le (M := fun b => b = l ∨ b ∈ [n]) (l2.lt (hw.lt h1)) (.inl rfl)) (fun a _ h => h)) zp_set_at rfl fun j m y hj => ?_
    simp at hj
  | cons z N =>
    cases X with
    | nil => simp at h2
    | cons y0 X =>
    obtain ⟨pz, hpz⟩ := h5 1 z y0 rfl rfl
    have hzl : z ≠ l := fun h => hlN (h ▸ List.mem_cons_of_mem _ List.mem_cons_self)
    have hzn : z ≠ n := fun h => hnN (h ▸ List.mem_cons_self)
    show ∃ σ', zz_cR (zz_nul (some z) _ fun _ => (zz_pf σ2 (some z) 142 3 2 (va_rf none)).bind _) _ _ = _ ∧ _
    rw [cn_some, zp_pf (N := 3) ((ao z hzl hzn).trans hpz) rfl, Option.bind_some]
    refine fin _ _ (l2.trans (k' := 0) (zp_set_le (M := fun b => b = l ∨ b ∈ n :: z :: N) (l2.lt (hw.lt hpz)) (.inr (List.mem_cons_of_mem _ List.mem_cons_self))) (fun a _ h => h)) ((zp_set_old hzl.symm).trans a2) (by simp) fun j m y hj hy => ?_
    cases j with
    | zero =>
      simp at hj hy
      subst hj hy
      exact ⟨.null, zp_set_at⟩
    | succ j =>
      obtain ⟨p', hp'⟩ := h5 (j + 1 + 1) m y hj hy
      have hmN : m ∈ z :: N := List.mem_of_getElem? hj
      have hmz : m ≠ z := by
        intro he
        have hl1 := (List.getElem?_eq_some_iff.mp hj).1
        have := (List.getElem?_inj hl1 h3').mp (hj.trans (by rw [he]; rfl : some m = (z :: N)[0]?))
        omega
      refine ⟨p', ?_⟩
      rw [zp_set_old hmz, ao m (fun h => hlN (h ▸ List.mem_cons_of_mem _ hmN)) (fun h => hnN (h ▸ hmN)), hp']
      rfl
end JR
