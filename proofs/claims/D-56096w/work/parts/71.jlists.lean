/-! ===== java.util.ArrayList, LinkedList: the pure functions over a picture ===== -/
section JL
variable {ρ : zz_C} {σ : zz_S} {τ : Nat → Nat}
/-- ArrayList at a over the array e (of cap places), elements X -/
def cA (σ : zz_S) (a e cap : Nat) (X : List Nat) : Prop :=
  (∃ mc : Int32, σ.2.2 a = some (true, .inr (102, [.int mc, .ref e, .int (Int32.ofNat X.length)]))) ∧
  (∃ f : Nat → Option Nat, σ.2.2 e = some (true, .inl (5, (cap, .inr (.inr (.inr (.inr f)))))) ∧ ∀ k x, X[k]? = some x → f k = some x) ∧ X.length ≤ cap ∧ cap ≤ 100
theorem cA.keep {σ' : zz_S} {a e cap : Nat} {X : List Nat} (h : cA σ a e cap X) (ha : σ'.2.2 a = σ.2.2 a) (he : σ'.2.2 e = σ.2.2 e) : cA σ' a e cap X := by
  obtain ⟨⟨mc, h1⟩, ⟨f, h2, h3⟩, h4⟩ := h
  exact ⟨⟨mc, ha.trans h1⟩, ⟨f, he.trans h2, h3⟩, h4⟩
theorem cA.ne {a e cap : Nat} {X : List Nat} (h : cA σ a e cap X) : a ≠ e := by
  obtain ⟨⟨mc, h1⟩, ⟨f, h2, -⟩, -⟩ := h
  intro he
  rw [he, h2] at h1
  cases h1
theorem ja_size {a e cap : Nat} {X : List Nat} (h : cA σ a e cap X) : zF_J2_size ρ a σ = zz_rI (Int32.ofNat X.length) σ := by
  obtain ⟨⟨mc, h1⟩, -⟩ := h
  simp [zF_J2_size, zz_gI, zz_ob, zz_vI, h1]
theorem ja_ck {a e cap : Nat} {X : List Nat} {K : Nat → zz_R} (h : cA σ a e cap X) : zz_ck σ (some a) 102 K = K a := by
  obtain ⟨⟨mc, h1⟩, -⟩ := h
  exact zp_ck h1
theorem ja_get {a e cap k x : Nat} {X : List Nat} (h : cA σ a e cap X) (hx : X[k]? = some x) : zF_J2_get ρ a (Int32.ofNat k) σ = zz_rR (some x) σ := by
  obtain ⟨⟨mc, h1⟩, ⟨f, h2, h3⟩, h4, h5⟩ := h
  have hk : k < X.length := (List.getElem?_eq_some_iff.mp hx).1
  have e1 : ¬ Int32.ofNat k < 0 := (ci_in' (n := X.length) (by omega) hk).1
  have e2 : Int32.ofNat k < Int32.ofNat X.length := (ci_lt (by omega) (by omega)).mpr hk
  have e3 : zz_inb (Int32.ofNat k) cap = true := tw_inb (by omega) (by omega)
  unfold zF_J2_get
  rw [zp_gI h1 (v := Int32.ofNat X.length) rfl, Option.bind_some]
  unfold zF_J27_checkIndex zF_J14_checkIndex
  rw [if_neg e1, if_pos e2, cc_I, cc_I, zp_ck h1]
  unfold zF_J2_elementData
  rw [zp_gR h1 (v := some e) rfl, Option.bind_some]
  unfold zz_aR zz_ar
  simp only [h2, if_true, e3, Option.bind_some, ci_nat (show k < 2 ^ 31 by omega), h3 k x hx, cc_R]
/-- add -/
theorem ja_add {a e cap x : Nat} {X : List Nat} (h : cA σ a e cap X) (hn : X.length < cap) (ho : zz_ok σ (some x) zz_cO = true) :
    ∃ σ', zF_J2_add ρ a (some x) σ = zz_rI 1 σ' ∧ σ'.1 = σ.1 ∧ σ'.2.1 = σ.2.1 ∧ (∀ b, b ≠ a → b ≠ e → σ'.2.2 b = σ.2.2 b) ∧ cA σ' a e cap (X ++ [x]) := by
  have hne := h.ne
  obtain ⟨⟨mc, h1⟩, ⟨f, h2, h3⟩, h4, h5⟩ := h
  have e3 : zz_inb (Int32.ofNat X.length) cap = true := tw_inb hn (by omega)
  have e4 : ¬ Int32.ofNat X.length = Int32.ofNat cap := by rw [ci_eq (by omega) (by omega)]; omega
  obtain ⟨σ1, hs1⟩ : ∃ s, s = zz_set σ a (.inr (102, [.int (mc + 1), .ref e, .int (Int32.ofNat X.length)])) := ⟨_, rfl⟩
  obtain ⟨σ2, hs2⟩ : ∃ s, s = zz_set σ1 e (.inl (5, (cap, .inr (.inr (.inr (.inr (va_up f X.length (some x)))))))) := ⟨_, rfl⟩
  obtain ⟨σ3, hs3⟩ : ∃ s, s = zz_set σ2 a (.inr (102, [.int (mc + 1), .ref e, .int (Int32.ofNat (X.length + 1))])) := ⟨_, rfl⟩
  have g1 : σ1.2.2 a = some (true, .inr (102, [.int (mc + 1), .ref e, .int (Int32.ofNat X.length)])) := by rw [hs1]; exact zp_set_at
  have g2 : σ1.2.2 e = some (true, .inl (5, (cap, .inr (.inr (.inr (.inr f)))))) := by rw [hs1, zp_set_old hne.symm]; exact h2
  have g3 : σ2.2.2 a = some (true, .inr (102, [.int (mc + 1), .ref e, .int (Int32.ofNat X.length)])) := by rw [hs2, zp_set_old hne]; exact g1
  have ho1 : zz_ok σ1 (some x) zz_cO = true := by
    by_cases hxa : x = a
    · subst hxa
      exfalso
      simp [zz_ok, zz_cl, h1, zz_cO] at ho
    · have : σ1.2.2 x = σ.2.2 x := by rw [hs1]; exact zp_set_old hxa
      simpa [zz_ok, zz_cl, this] using ho
  refine ⟨σ3, ?_, by rw [hs3, hs2, hs1]; rfl, by rw [hs3, hs2, hs1]; rfl, fun b hba hbe => ?_, ⟨mc + 1, ?_⟩, ⟨va_up f X.length (some x), ?_, fun k y hy => ?_⟩, by simp; omega, h5⟩
  · unfold zF_J2_add
    rw [zp_gI h1 (k := 0) (v := mc) rfl, Option.bind_some, zq_pf (N := 3) h1 rfl (fs' := [.int (mc + 1), .ref e, .int (Int32.ofNat X.length)]) rfl, Option.bind_some, ← hs1]
    rw [zp_gR g1 (k := 1) (v := some e) rfl, Option.bind_some, zp_gI g1 (k := 2) (v := Int32.ofNat X.length) rfl, Option.bind_some, zp_ck g1]
    unfold zF_J2_add_2
    rw [zp_len g2, Option.bind_some, if_neg e4, if_neg (fun hh => hh ho1)]
    have es : zz_sR σ1 (some e) 5 (Int32.ofNat X.length) (some x) = some σ2 := by
      unfold zz_sR zz_ar
      simp only [g2, if_true, e3, ci_nat (show X.length < 2 ^ 31 by omega), hs2]
      rfl
    rw [es, Option.bind_some, zq_pf (N := 3) g3 rfl (fs' := [.int (mc + 1), .ref e, .int (Int32.ofNat X.length + 1)]) rfl, Option.bind_some, ci_succ, ← hs3]
    rfl
  · rw [hs3, zp_set_old hba, hs2, zp_set_old hbe, hs1]
    exact zp_set_old hba
  · rw [hs3, zp_set_at, show (X ++ [x]).length = X.length + 1 by simp]
  · rw [hs3, zp_set_old hne.symm, hs2]
    exact zp_set_at
  · unfold va_up
    by_cases hk : k = X.length
    · subst hk
      rw [if_pos rfl]
      simpa using hy
    · rw [if_neg hk]
      have : k < X.length := by
        have := (List.getElem?_eq_some_iff.mp hy).1
        simp at this; omega
      rw [List.getElem?_append_left this] at hy
      exact h3 k y hy
/-- an iterator at place k of the list a -/
def cI (σ : zz_S) (it a k : Nat) : Prop := ∃ (lr mc : Int32) (w : Bool) (r : List Value), σ.2.2 it = some (true, .inr (124, [.int (Int32.ofNat k), .int lr, .int mc, .ref a])) ∧ σ.2.2 a = some (w, .inr (102, .int mc :: r))
theorem cI.keep {σ' : zz_S} {it a k : Nat} (h : cI σ it a k) (h1 : σ'.2.2 it = σ.2.2 it) (h2 : σ'.2.2 a = σ.2.2 a) : cI σ' it a k := by
  obtain ⟨lr, mc, w, r, g1, g2⟩ := h
  exact ⟨lr, mc, w, r, h1.trans g1, h2.trans g2⟩
theorem cI.ne {it a k : Nat} (h : cI σ it a k) : it ≠ a := by
  obtain ⟨lr, mc, w, r, g1, g2⟩ := h
  intro he
  rw [he, g2] at g1
  cases g1
theorem cI.ck {it a k : Nat} {K : Nat → zz_R} (h : cI σ it a k) : zz_ck σ (some it) 124 K = K it := by
  obtain ⟨lr, mc, w, r, g1, g2⟩ := h
  exact zp_ck g1
theorem ja_iterator {a e cap g : Nat} {X : List Nat} (h : cA σ a e cap X) (hw : zp_wf σ) (hg : zp_gas (g + 1) σ) :
    ∃ σ', zF_J2_iterator ρ a σ = zz_rR (some σ.1.1) σ' ∧ zp_le zp_no 1 σ σ' ∧ cI σ' σ.1.1 a 0 := by
  obtain ⟨⟨mc, h1⟩, -⟩ := h
  have hne : a ≠ σ.1.1 := Nat.ne_of_lt (hw.lt h1)
  refine ⟨zp_al σ (.inr (124, [.int 0, .int (-1), .int mc, .ref a])) 4, ?_, zp_al_le (by decide), -1, mc, true, _, zp_al_new, (zp_al_old hne).trans h1⟩
  unfold zF_J2_iterator
  rw [zp_al_eq hg (by decide)]
  unfold zF_J24_init
  have g0 : ∀ fs, (zp_al σ (.inr (124, fs)) 4).2.2 a = some (true, .inr (102, [.int mc, .ref e, .int (Int32.ofNat X.length)])) := fun fs => (zp_al_old hne).trans h1
  rw [zp_pf (N := 4) zp_al_new rfl, Option.bind_some, cs_al_set, zp_pf (N := 4) zp_al_new rfl, Option.bind_some, cs_al_set]
  rw [zp_gR zp_al_new (v := some a) rfl, Option.bind_some, zp_gI (g0 _) (v := mc) rfl, Option.bind_some, zp_pf (N := 4) zp_al_new rfl, Option.bind_some, cs_al_set, cc_V]
  rfl
theorem ja_hasNext {it a e cap k : Nat} {X : List Nat} (hi : cI σ it a k) (h : cA σ a e cap X) (hk : k ≤ X.length) : zF_J24_hasNext ρ it σ = zz_rI (if k = X.length then 0 else 1) σ := by
  obtain ⟨lr, mc, w, r, g1, g2⟩ := hi
  obtain ⟨⟨mc', h1⟩, -, h4, h5⟩ := h
  unfold zF_J24_hasNext
  rw [zp_gI g1 (v := Int32.ofNat k) rfl, Option.bind_some, zp_gR g1 (v := some a) rfl, Option.bind_some, zp_gI h1 (v := Int32.ofNat X.length) rfl, Option.bind_some]
  by_cases he : k = X.length
  · rw [if_pos (by rw [he]), if_pos he]; rfl
  · rw [if_neg (by rw [ci_eq (by omega) (by omega)]; exact he), if_neg he]; rfl
theorem ja_next {it a e cap k x : Nat} {X : List Nat} (hi : cI σ it a k) (h : cA σ a e cap X) (hx : X[k]? = some x) (hw : zp_wf σ) :
    ∃ σ', zF_J24_next ρ it σ = zz_rR (some x) σ' ∧ zp_le (fun b => b = it) 0 σ σ' ∧ cI σ' it a (k + 1) := by
  have hne := hi.ne
  obtain ⟨lr, mc, w, r, g1, g2⟩ := hi
  obtain ⟨⟨mc', h1⟩, ⟨f, h2, h3⟩, h4, h5⟩ := h
  have hk : k < X.length := (List.getElem?_eq_some_iff.mp hx).1
  have hmc : mc' = mc := by rw [h1] at g2; cases g2; rfl
  subst hmc
  have e2 : Int32.ofNat k < Int32.ofNat X.length := (ci_lt (by omega) (by omega)).mpr hk
  have e3 : zz_inb (Int32.ofNat k) cap = true := tw_inb (by omega) (by omega)
  have e4 : Int32.ofNat k < Int32.ofNat cap := (ci_lt (by omega) (by omega)).mpr (by omega)
  have hie : e ≠ it := by intro he; rw [he, g1] at h2; cases h2
  refine ⟨zz_set σ it (.inr (124, [.int (Int32.ofNat (k + 1)), .int (Int32.ofNat k), .int mc', .ref a])), ?_, zp_set_le (hw.lt g1) rfl, Int32.ofNat k, mc', w, r, zp_set_at, (zp_set_old hne.symm).trans g2⟩
  unfold zF_J24_next zF_J24_checkForComodification
  rw [zp_ck g1, zp_gR g1 (v := some a) rfl, Option.bind_some, zp_gI h1 (v := mc') rfl, Option.bind_some, zp_gI g1 (v := mc') rfl, Option.bind_some, if_pos rfl, cc_V]
  rw [zp_gI g1 (v := Int32.ofNat k) rfl, Option.bind_some, zp_gR g1 (v := some a) rfl, Option.bind_some, zp_gI h1 (v := Int32.ofNat X.length) rfl, Option.bind_some, if_pos e2]
  rw [Option.bind_some, zp_gR h1 (v := some e) rfl, Option.bind_some, zp_len h2, Option.bind_some, if_pos e4]
  rw [zp_pf (N := 4) g1 rfl, Option.bind_some, zp_pf (N := 4) zp_set_at rfl, Option.bind_some, cs_set_set, ci_succ]
  have es : zz_aR (zz_set σ it (.inr (124, [.int (Int32.ofNat (k + 1)), .int (Int32.ofNat k), .int mc', .ref a]))) (some e) 5 (Int32.ofNat k) = some (some x) := by
    unfold zz_aR zz_ar
    simp only [zp_set_old hie, h2, if_true, e3, ci_nat (show k < 2 ^ 31 by omega), h3 k x hx]
  exact (congrArg (fun o => Option.bind o _) es)
end JL
