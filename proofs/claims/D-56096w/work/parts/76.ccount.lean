/-! ===== COUNTING FROGS: count and weight, by their lambdas ===== -/
section CC
variable {ρ : zz_C} {σ : zz_S} {τ : Nat → Nat}
/-- a Choice's answer, by its class -/
def zlam (c : Nat) (ρ : zz_C) (y : Nat) (p : Option Nat) (σ : zz_S) : zz_R :=
  if c = 205 then zF_lam5 ρ y p σ else if c = 210 then zF_lam10 ρ y p σ else if c = 215 then zF_lam15 ρ y p σ else if c = 217 then zF_lam17 ρ y p σ else if c = 218 then zF_lam18 ρ y p σ else if c = 221 then zF_lam21 ρ y p σ else none
theorem zl_none {K : Int32 → zz_S → zz_R} {X : Nat × Nat → zz_S → zz_R} : zz_cI none K X = none := rfl
theorem zl_count (n y it : Nat) (acc : Int32) : zL_X2_count_10 ρ (n + 1) (some y) acc (some it) σ =
    zz_ck σ (some it) 124 fun a1 => zz_cI (zF_J24_hasNext ρ a1 σ) (fun v4 σ5 => if v4 = 0 then zz_rI acc σ5 else
      zz_ck σ5 (some it) 124 fun a6 => zz_cR (zF_J24_next ρ a6 σ5) (fun v9 σ10 => if ¬ (zz_ok σ10 v9 [5] = true) then none else
        zz_dp σ10 (some y) fun a11 c12 => zz_cI (zlam c12 ρ a11 v9 σ10) (fun v σ16 => if v = 0 then zL_X2_count_10 ρ n (some y) (acc + 0) (some it) σ16 else zL_X2_count_10 ρ n (some y) (acc + 1) (some it) σ16) zz_P) zz_P) zz_P := by
  rw [zL_X2_count_10]
  unfold zJ_X2_count_47
  congr 1
  funext a1
  congr 1
  funext v4 σ5
  split
  · rfl
  · congr 1
    funext a6
    congr 1
    funext v9 σ10
    split
    · rfl
    · congr 1
      funext a11 c12
      unfold zlam
      split
      · rfl
      · split
        · rfl
        · split
          · rfl
          · split
            · rfl
            · split
              · rfl
              · split
                · rfl
                · rfl
theorem zl_weight (n y it : Nat) (acc : Int32) : zL_X2_weight_10 ρ (n + 1) (some y) acc (some it) σ =
    zz_ck σ (some it) 124 fun a1 => zz_cI (zF_J24_hasNext ρ a1 σ) (fun v4 σ5 => if v4 = 0 then zz_rI acc σ5 else
      zz_ck σ5 (some it) 124 fun a6 => zz_cR (zF_J24_next ρ a6 σ5) (fun v9 σ10 => if ¬ (zz_ok σ10 v9 [5] = true) then none else
        zz_dp σ10 (some y) fun a11 c12 => zz_cI (zlam c12 ρ a11 v9 σ10) (fun v σ16 => if v = 0 then zL_X2_weight_10 ρ n (some y) (acc + 0) (some it) σ16 else (zz_gI σ16 v9 5 2).bind fun w => zL_X2_weight_10 ρ n (some y) (acc + w) (some it) σ16) zz_P) zz_P) zz_P := by
  rw [zL_X2_weight_10]
  unfold zJ_X2_weight_51
  congr 1
  funext a1
  congr 1
  funext v4 σ5
  split
  · rfl
  · congr 1
    funext a6
    congr 1
    funext v9 σ10
    split
    · rfl
    · congr 1
      funext a11 c12
      unfold zlam
      split
      · rfl
      · split
        · rfl
        · split
          · rfl
          · split
            · rfl
            · split
              · rfl
              · split
                · rfl
                · rfl
/-- a Choice y says P of every frog, in every state that is as σ below n0 -/
def kAcc (ρ : zz_C) (n0 : Nat) (σ : zz_S) (A : pa_A) (g : Nat) (τ : Nat → Nat) (y : Nat) (P : Nat → Bool) : Prop := y < n0 ∧ ∃ w c fs, σ.2.2 y = some (w, .inr (c, fs)) ∧ ∀ σ1, kSame n0 σ σ1 → ∀ k p, k < A.1.length → τ p = g + 10 + k → σ1.2.2 p = some (true, fcell k (pa_frog A k)) → zlam c ρ y (some p) σ1 = zz_rI (if P k then 1 else 0) σ1
theorem kl_count {g a y it n0 : Nat} {A : pa_A} {P : Nat → Bool} (h : rAs τ σ g a A) (h12 : A.1.length ≤ 12) (h6 : A.2.2.1.length ≤ 6) (hg0 : g ≠ 0) (hw : zo_wf τ σ) (hn0 : ∀ b, n0 ≤ b → τ b = 0) (hy : kAcc ρ n0 σ A g τ y P) (hit : n0 ≤ it) :
    ∀ (r k n : Nat) (acc : Nat) (σ1 : zz_S), k + r = A.1.length → r < n → kSame n0 σ σ1 → zo_wf τ σ1 → (∃ af, zz_gR σ (some a) 2 0 = some (some af) ∧ cI σ1 it af k) →
      ∃ σ2, zL_X2_count_10 ρ n (some y) (.ofNat acc) (some it) σ1 = zz_rI (.ofNat (acc + (((List.range A.1.length).drop k).map fun k => if P k then 1 else 0).sum)) σ2 ∧ zp_le (fun b => b = it) 0 σ1 σ2 := by
  have hh := h
  obtain ⟨af, ac, am, F, C, Mo, k0, k1, ⟨k2, k3, k4⟩, -⟩ := h
  have haf : zz_gR σ (some a) 2 0 = some (some af) := zp_gR k1 rfl
  intro r
  induction r with
  | zero =>
    intro k n acc σ1 hk hn hs hw1 ⟨af', e1, hi⟩
    rw [haf] at e1
    cases e1
    obtain ⟨n, rfl⟩ : ∃ m, n = m + 1 := ⟨n - 1, by omega⟩
    have hl : rA τ σ1 (g + 1) af 12 F := k2.keep (G := fun t => t ≠ 0) (hs.k hn0) (by omega)
    obtain ⟨e, l1, l2, l3⟩ := hl
    rw [zl_count, hi.ck, ja_hasNext hi l3 (by omega), if_pos (by omega), cc_I, if_pos z00, ps_end _ (by simp; omega)]
    exact ⟨σ1, rfl, zp_le.refl _ _ _⟩
  | succ r ih =>
    intro k n acc σ1 hk hn hs hw1 ⟨af', e1, hi⟩
    rw [haf] at e1
    cases e1
    obtain ⟨n, rfl⟩ : ∃ m, n = m + 1 := ⟨n - 1, by omega⟩
    have hk1 : k < A.1.length := by omega
    have hl : rA τ σ1 (g + 1) af 12 F := k2.keep (G := fun t => t ≠ 0) (hs.k hn0) (by omega)
    obtain ⟨e, l1, l2, l3⟩ := hl
    have hx := pa_frog_eq hk1
    obtain ⟨p, hp⟩ : ∃ p, F[k]? = some p := ⟨_, List.getElem?_eq_getElem (k3 ▸ hk1 : k < F.length)⟩
    obtain ⟨t1, t2⟩ := k4 k _ _ hp hx
    have hpn : p < n0 := by
      rcases Nat.lt_or_ge p n0 with h1 | h1
      · exact h1
      · rw [hn0 p h1] at t1; omega
    rw [zl_count, hi.ck, ja_hasNext hi l3 (by omega), if_neg (by omega), cc_I, if_neg n10, hi.ck]
    obtain ⟨σ2, n1, n2, n3⟩ := ja_next (ρ := ρ) hi l3 hp hw1.1
    have hs2 : kSame n0 σ σ2 := hs.trans (n2.same (by
      rcases Nat.lt_or_ge σ1.1.1 n0 with h1 | h1
      · have := hn0
        obtain ⟨lr, mc, w, rr, q1, q2⟩ := hi
        have := hw1.1.lt q1
        omega
      · exact h1) fun b hb he => by omega)
    have t3 : σ2.2.2 p = some (true, fcell k (pa_frog A k)) := (hs2 p hpn).trans t2
    obtain ⟨hyn, w, c, fs, y1, y2⟩ := hy
    have y3 : σ2.2.2 y = some (w, .inr (c, fs)) := (hs2 y hyn).trans y1
    rw [n1, cc_R, if_neg (fun hh => hh (kf_cast t3)), zp_dp y3, y2 σ2 hs2 k p hk1 t1 t3, cc_I, ps_step (x := k) _ (by rw [List.getElem?_range hk1])]
    obtain ⟨σ3, m1, m2⟩ := ih (k + 1) n (acc + (if P k then 1 else 0)) σ2 (by omega) (by omega) hs2 (hw1.le n2) ⟨af, haf, n3⟩
    refine ⟨σ3, ?_, n2.trans (k' := 0) m2 fun _ _ h => h⟩
    rw [← Nat.add_assoc, ← m1]
    by_cases hP : P k = true
    · rw [if_pos hP, if_pos hP, if_neg n10, ci_succ]
    · rw [if_neg hP, if_neg hP, if_pos z00]
      exact congrArg (fun z => zL_X2_count_10 ρ n (some y) z (some it) σ2) (Int32.add_zero _)
end CC
