/-! ===== COUNTING FROGS, further: weight; the methods that count ===== -/
section CW
variable {ρ : zz_C} {σ : zz_S} {τ : Nat → Nat}
theorem kl_weight {g a y it n0 : Nat} {A : pa_A} {P : Nat → Bool} (h : rAs τ σ g a A) (h12 : A.1.length ≤ 12) (h6 : A.2.2.1.length ≤ 6) (hg0 : g ≠ 0) (hw : zo_wf τ σ) (hn0 : ∀ b, n0 ≤ b → τ b = 0) (hy : kAcc ρ n0 σ A g τ y P) (hit : n0 ≤ it) :
    ∀ (r k n : Nat) (acc : Nat) (σ1 : zz_S), k + r = A.1.length → r < n → kSame n0 σ σ1 → zo_wf τ σ1 → (∃ af, zz_gR σ (some a) 2 0 = some (some af) ∧ cI σ1 it af k) →
      ∃ σ2, zL_X2_weight_10 ρ n (some y) (.ofNat acc) (some it) σ1 = zz_rI (.ofNat (acc + (((List.range A.1.length).drop k).map fun k => if P k then (pa_frog A k).2.1 else 0).sum)) σ2 ∧ zp_le (fun b => b = it) 0 σ1 σ2 := by
  have hh := h
  obtain ⟨af, ac, am, F, C, Mo, k0, k1, ⟨k2, k3, k4⟩, -⟩ := h
  have haf : zz_gR σ (some a) 2 0 = some (some af) := zp_gR k1 rfl
  intro r
  induction r with
  | zero =>
    intro k n acc σ1 hk hn hs hw1 ⟨af', e1, hi⟩
    rw [haf] at e1
    cases e1
    obtain ⟨n, rfl⟩ : ∃ m, n = m + 1 := ⟨n - 1, by omega⟩
    have hl : rA τ σ1 (g + 1) af 12 F := k2.keep (G := fun t => t ≠ 0) (hs.k hn0) (by omega)
    obtain ⟨e, l1, l2, l3⟩ := hl
    rw [zl_weight, hi.ck, ja_hasNext hi l3 (by omega), if_pos (by omega), cc_I, if_pos z00, ps_end _ (by simp; omega)]
    exact ⟨σ1, rfl, zp_le.refl _ _ _⟩
  | succ r ih =>
    intro k n acc σ1 hk hn hs hw1 ⟨af', e1, hi⟩
    rw [haf] at e1
    cases e1
    obtain ⟨n, rfl⟩ : ∃ m, n = m + 1 := ⟨n - 1, by omega⟩
    have hk1 : k < A.1.length := by omega
    have hl : rA τ σ1 (g + 1) af 12 F := k2.keep (G := fun t => t ≠ 0) (hs.k hn0) (by omega)
    obtain ⟨e, l1, l2, l3⟩ := hl
    have hx := pa_frog_eq hk1
    obtain ⟨p, hp⟩ : ∃ p, F[k]? = some p := ⟨_, List.getElem?_eq_getElem (k3 ▸ hk1 : k < F.length)⟩
    obtain ⟨t1, t2⟩ := k4 k _ _ hp hx
    have hpn : p < n0 := by
      rcases Nat.lt_or_ge p n0 with h1 | h1
      · exact h1
      · rw [hn0 p h1] at t1; omega
    rw [zl_weight, hi.ck, ja_hasNext hi l3 (by omega), if_neg (by omega), cc_I, if_neg n10, hi.ck]
    obtain ⟨σ2, n1, n2, n3⟩ := ja_next (ρ := ρ) hi l3 hp hw1.1
    have hs2 : kSame n0 σ σ2 := hs.trans (n2.same (by
      rcases Nat.lt_or_ge σ1.1.1 n0 with h1 | h1
      · have := hn0
        obtain ⟨lr, mc, w, rr, q1, q2⟩ := hi
        have := hw1.1.lt q1
        omega
      · exact h1) fun b hb he => by omega)
    have t3 : σ2.2.2 p = some (true, fcell k (pa_frog A k)) := (hs2 p hpn).trans t2
    obtain ⟨hyn, w, c, fs, y1, y2⟩ := hy
    have y3 : σ2.2.2 y = some (w, .inr (c, fs)) := (hs2 y hyn).trans y1
    rw [n1, cc_R, if_neg (fun hh => hh (kf_cast t3)), zp_dp y3, y2 σ2 hs2 k p hk1 t1 t3, cc_I, ps_step (x := k) _ (by rw [List.getElem?_range hk1])]
    obtain ⟨σ3, m1, m2⟩ := ih (k + 1) n (acc + (if P k then (pa_frog A k).2.1 else 0)) σ2 (by omega) (by omega) hs2 (hw1.le n2) ⟨af, haf, n3⟩
    refine ⟨σ3, ?_, n2.trans (k' := 0) m2 fun _ _ h => h⟩
    rw [← Nat.add_assoc, ← m1]
    by_cases hP : P k = true
    · rw [if_pos hP, if_pos hP, if_neg n10, kf_weight t3, Option.bind_some, ci_add]
    · rw [if_neg hP, if_neg hP, if_pos z00]
      exact congrArg (fun z => zL_X2_weight_10 ρ n (some y) z (some it) σ2) (Int32.add_zero _)

/-- what an assembly needs beside its picture -/
theorem pa_range {A : pa_A} (G : pa_F → Nat) : ((List.range A.1.length).map fun k => G (pa_frog A k)) = A.1.map G := by
  apply List.ext_getElem
  · simp
  · intro i h1 h2
    have hi : i < A.1.length := by simpa using h1
    have : pa_frog A i = A.1[i] := by
      unfold pa_frog
      rw [List.getElem?_eq_getElem hi]; rfl
    simp [this]
theorem kc_count {g a y n : Nat} {A : pa_A} {P : Nat → Bool} (h : rAs τ σ g a A) (h12 : A.1.length ≤ 12) (h6 : A.2.2.1.length ≤ 6) (hg0 : g ≠ 0) (hw : zo_wf τ σ) (hg : zp_gas (n + 1) σ) (hf : 100 ≤ ρ.2) (hy : kAcc ρ σ.1.1 σ A g τ y P) :
    ∃ σ', zF_X2_count ρ a (some y) σ = zz_rI (.ofNat ((List.range A.1.length).map fun k => if P k then 1 else 0).sum) σ' ∧ zp_le zp_no 1 σ σ' := by
  have hh := h
  obtain ⟨af, ac, am, F, C, Mo, k0, k1, ⟨⟨e, k2, k2', k3⟩, -⟩, -⟩ := h
  have haf : zz_gR σ (some a) 2 0 = some (some af) := zp_gR k1 rfl
  obtain ⟨σ1, i1, i2, i3⟩ := ja_iterator (ρ := ρ) k3 hw.1 hg
  obtain ⟨σ2, c1, c2⟩ := kl_count (it := σ.1.1) (n0 := σ.1.1) hh h12 h6 hg0 hw hw.2 hy (Nat.le_refl _) A.1.length 0 ρ.2 0 σ1 (Nat.zero_add _) (by omega) (i2.same (Nat.le_refl _) fun _ _ h => h) (hw.le i2) ⟨af, haf, i3⟩
  refine ⟨σ2, ?_, i2.trans (k' := 0) c2 fun b hb he => by omega⟩
  unfold zF_X2_count
  rw [haf, Option.bind_some, ja_ck k3, i1, cc_R]
  refine c1.trans ?_
  rw [Nat.zero_add, List.drop_zero]
theorem kc_weight {g a y n : Nat} {A : pa_A} {P : Nat → Bool} (h : rAs τ σ g a A) (h12 : A.1.length ≤ 12) (h6 : A.2.2.1.length ≤ 6) (hg0 : g ≠ 0) (hw : zo_wf τ σ) (hg : zp_gas (n + 1) σ) (hf : 100 ≤ ρ.2) (hy : kAcc ρ σ.1.1 σ A g τ y P) :
    ∃ σ', zF_X2_weight ρ a (some y) σ = zz_rI (.ofNat ((List.range A.1.length).map fun k => if P k then (pa_frog A k).2.1 else 0).sum) σ' ∧ zp_le zp_no 1 σ σ' := by
  have hh := h
  obtain ⟨af, ac, am, F, C, Mo, k0, k1, ⟨⟨e, k2, k2', k3⟩, -⟩, -⟩ := h
  have haf : zz_gR σ (some a) 2 0 = some (some af) := zp_gR k1 rfl
  obtain ⟨σ1, i1, i2, i3⟩ := ja_iterator (ρ := ρ) k3 hw.1 hg
  obtain ⟨σ2, c1, c2⟩ := kl_weight (it := σ.1.1) (n0 := σ.1.1) hh h12 h6 hg0 hw hw.2 hy (Nat.le_refl _) A.1.length 0 ρ.2 0 σ1 (Nat.zero_add _) (by omega) (i2.same (Nat.le_refl _) fun _ _ h => h) (hw.le i2) ⟨af, haf, i3⟩
  refine ⟨σ2, ?_, i2.trans (k' := 0) c2 fun b hb he => by omega⟩
  unfold zF_X2_weight
  rw [haf, Option.bind_some, ja_ck k3, i1, cc_R]
  refine c1.trans ?_
  rw [Nat.zero_add, List.drop_zero]
/-- a picture behind a new cell -/
theorem rAs.al {g a : Nat} {A : pa_A} (h : rAs τ σ g a A) (h12 : A.1.length ≤ 12) (h6 : A.2.2.1.length ≤ 6) (hg0 : g ≠ 0) (hw : zo_wf τ σ) {k : Nat} {σ' : zz_S} (hl : zp_le zp_no k σ σ') : rAs τ σ' g a A :=
  h.keep (G := fun t => t ≠ 0) (zo_k.of_le hw hl (by simp) fun _ hm => hm.elim) (by simp) (fun t h1 _ => by omega) h12 h6
/-- the lambda of frogsOn, padWeight: on a pad -/
theorem kl_5 {A : pa_A} {g y p n0 : Nat} {w : Bool} (hs : ∀ k, k < A.1.length → (pa_frog A k).2.2.1 ≤ 6) (hp : p ≤ 100) (hyn : y < n0) (hy : σ.2.2 y = some (w, .inr (205, [.int (.ofNat p)]))) : kAcc ρ n0 σ A g τ y fun k => decide ((pa_frog A k).2.2.1 = p + 1) := by
  refine ⟨hyn, w, 205, _, hy, fun σ1 h1 k q hk _ hq => ?_⟩
  show zF_lam5 ρ y (some q) σ1 = _
  unfold zF_lam5 zF_X2_lambda_frogsOn_0
  rw [zp_gI ((h1 y hyn).trans hy) (k := 0) (v := .ofNat p) rfl, Option.bind_some, kf_pad hq, Option.bind_some]
  by_cases h : (pa_frog A k).2.2.1 = p + 1
  · rw [if_pos ((kf_seat (hs k hk) hp).mpr h), if_pos (by simpa using h)]; rfl
  · rw [if_neg (fun hh => h ((kf_seat (hs k hk) hp).mp hh)), if_neg (by simpa using h)]; rfl
theorem kl_10 {A : pa_A} {g y p n0 : Nat} {w : Bool} (hs : ∀ k, k < A.1.length → (pa_frog A k).2.2.1 ≤ 6) (hp : p ≤ 100) (hyn : y < n0) (hy : σ.2.2 y = some (w, .inr (210, [.int (.ofNat p)]))) : kAcc ρ n0 σ A g τ y fun k => decide ((pa_frog A k).2.2.1 = p + 1) := by
  refine ⟨hyn, w, 210, _, hy, fun σ1 h1 k q hk _ hq => ?_⟩
  show zF_lam10 ρ y (some q) σ1 = _
  unfold zF_lam10 zF_X1_lambda_padWeight_8
  rw [zp_gI ((h1 y hyn).trans hy) (k := 0) (v := .ofNat p) rfl, Option.bind_some, kf_pad hq, Option.bind_some]
  by_cases h : (pa_frog A k).2.2.1 = p + 1
  · rw [if_pos ((kf_seat (hs k hk) hp).mpr h), if_pos (by simpa using h)]; rfl
  · rw [if_neg (fun hh => h ((kf_seat (hs k hk) hp).mp hh)), if_neg (by simpa using h)]; rfl
theorem kl_21 {A : pa_A} {g y n0 : Nat} {w : Bool} (hs : ∀ k, k < A.1.length → (pa_frog A k).2.2.1 ≤ 6) (hyn : y < n0) (hy : σ.2.2 y = some (w, .inr (221, []))) : kAcc ρ n0 σ A g τ y fun k => decide ((pa_frog A k).2.2.1 ≠ 0) := by
  refine ⟨hyn, w, 221, _, hy, fun σ1 h1 k q hk _ hq => ?_⟩
  show zF_lam21 ρ y (some q) σ1 = _
  unfold zF_lam21 zF_X2_lambda_meanSittingWeight_1
  rw [kf_ck hq, kf_sits hq (hs k hk), cc_I]
  by_cases h : (pa_frog A k).2.2.1 = 0
  · rw [if_pos h, if_neg (by simpa using h)]; rfl
  · rw [if_neg h, if_pos (by simpa using h)]; rfl
/-- frog j is ahead of frog k -/
def pa_isAhead (A : pa_A) (j k : Nat) : Bool :=
  if (pa_frog A j).2.2.2 ≠ (pa_frog A k).2.2.2 then decide ((pa_frog A k).2.2.2 < (pa_frog A j).2.2.2) else if (pa_frog A j).2.1 ≠ (pa_frog A k).2.1 then decide ((pa_frog A k).2.1 < (pa_frog A j).2.1) else decide (j < k)
theorem kl_15 {A : pa_A} {g y f p n0 : Nat} {w : Bool} (hs : ∀ k, k < A.1.length → (pa_frog A k).2.1 < 10 ∧ (pa_frog A k).2.2.2 ≤ 1000) (h12 : A.1.length ≤ 12) (hf : f < A.1.length) (hyn : y < n0) (hpn : p < n0) (hy : σ.2.2 y = some (w, .inr (215, [.ref p]))) (hp : σ.2.2 p = some (true, fcell f (pa_frog A f))) : kAcc ρ n0 σ A g τ y fun k => pa_isAhead A k f := by
  refine ⟨hyn, w, 215, _, hy, fun σ1 h1 k q hk _ hq => ?_⟩
  have hp1 := (h1 p hpn).trans hp
  obtain ⟨a1, a2⟩ := hs k hk
  obtain ⟨b1, b2⟩ := hs f hf
  show zF_lam15 ρ y (some q) σ1 = _
  unfold zF_lam15 zF_X2_lambda_frogAtRank_2 zF_X2_isAhead
  rw [zp_gR ((h1 y hyn).trans hy) (k := 0) (v := some p) rfl, Option.bind_some, kf_spoke hq, Option.bind_some, kf_spoke hp1, Option.bind_some, kf_weight hq, kf_weight hp1, kf_num hq, kf_num hp1]
  simp only [Option.bind_some]
  by_cases e1 : (pa_frog A k).2.2.2 = (pa_frog A f).2.2.2
  · rw [if_pos (by rw [e1])]
    by_cases e2 : (pa_frog A k).2.1 = (pa_frog A f).2.1
    · rw [if_pos (by rw [e2])]
      by_cases e3 : k < f
      · rw [if_neg (fun hh => by have := (ci_le (by omega) (by omega)).mp hh; omega), if_pos (by simp [pa_isAhead, e1, e2, e3])]; rfl
      · rw [if_pos ((ci_le (by omega) (by omega)).mpr (by omega)), if_neg (by simp [pa_isAhead, e1, e2, e3])]; rfl
    · rw [if_neg (by rw [ci_eq (by omega) (by omega)]; exact e2)]
      by_cases e3 : (pa_frog A f).2.1 < (pa_frog A k).2.1
      · rw [if_neg (fun hh => by have := (ci_le (by omega) (by omega)).mp hh; omega), if_pos (by simp [pa_isAhead, e1, e2, e3])]; rfl
      · rw [if_pos ((ci_le (by omega) (by omega)).mpr (by omega)), if_neg (by simp [pa_isAhead, e1, e2, e3])]; rfl
  · rw [if_neg (by rw [ci_eq (by omega) (by omega)]; exact e1)]
    by_cases e3 : (pa_frog A f).2.2.2 < (pa_frog A k).2.2.2
    · rw [if_neg (fun hh => by have := (ci_le (by omega) (by omega)).mp hh; omega), if_pos (by simp [pa_isAhead, e1, e3])]; rfl
    · rw [if_pos ((ci_le (by omega) (by omega)).mpr (by omega)), if_neg (by simp [pa_isAhead, e1, e3])]; rfl
/-- the lambda of closureWeight -/
theorem kl_17 {A : pa_A} {g y p m n0 : Nat} {x : pa_Mo} {l q b bw : Nat} {w : Bool} (h12 : A.1.length ≤ 12) (hyn : y < n0) (hpn : p < n0) (hbn : b < n0) (hwn : bw < n0) (hy : σ.2.2 y = some (w, .inr (217, [.ref p]))) (hp : σ.2.2 p = some (true, mcell m x l q b)) (hb : cB σ b bw x.1.2.2.2.1) : kAcc ρ n0 σ A g τ y fun k => x.1.2.2.2.1.testBit k := by
  refine ⟨hyn, w, 217, _, hy, fun σ1 h1 k r hk _ hr => ?_⟩
  have hb1 : cB σ1 b bw x.1.2.2.2.1 := hb.keep (h1 b hbn) (h1 bw hwn)
  show zF_lam17 ρ y (some r) σ1 = _
  unfold zF_lam17 zF_X2_lambda_closureWeight_3
  rw [zp_gR ((h1 y hyn).trans hy) (k := 0) (v := some p) rfl, Option.bind_some, zp_gR ((h1 p hpn).trans hp) (k := 4) (v := some b) rfl, Option.bind_some, kf_num hr, Option.bind_some, hb1.ck, jb_get hb1 (by omega), cc_I]
  show _ = zz_rI (if x.1.2.2.2.1.testBit k = true then 1 else 0) σ1
  cases x.1.2.2.2.1.testBit k <;> rfl
/-- entitles -/
theorem kc_entitles {p m f r : Nat} {x : pa_Mo} {y : pa_F} {l q b : Nat} (hx : x.1.1 < 16) (hy : y.1 < 4) (hp : σ.2.2 p = some (true, mcell m x l q b)) (hr : σ.2.2 r = some (true, fcell f y)) : zF_X6_entitles ρ p (some r) σ = zz_rI (if pa_for x y then 1 else 0) σ := by
  unfold zF_X6_entitles
  have e := tb_for _ hx _ hy
  rw [zp_gI hp (k := 1) (v := .ofNat x.1.1) rfl, Option.bind_some, kf_pond hr, Option.bind_some]
  by_cases h : pa_for x y = true
  · rw [if_pos (e.mpr h), if_pos h]; rfl
  · rw [if_neg (fun hh => h (e.mp hh)), if_neg h]; rfl
theorem kl_18 {A : pa_A} {g y p m n0 : Nat} {x : pa_Mo} {l q b : Nat} {w : Bool} (hx : x.1.1 < 16) (hs : ∀ k, k < A.1.length → (pa_frog A k).1 < 4) (hyn : y < n0) (hpn : p < n0) (hy : σ.2.2 y = some (w, .inr (218, [.ref p]))) (hp : σ.2.2 p = some (true, mcell m x l q b)) : kAcc ρ n0 σ A g τ y fun k => pa_for x (pa_frog A k) := by
  refine ⟨hyn, w, 218, _, hy, fun σ1 h1 k r hk _ hr => ?_⟩
  have hp1 := (h1 p hpn).trans hp
  show zF_lam18 ρ y (some r) σ1 = _
  unfold zF_lam18 zF_X2_lambda_entitledWeight_4
  rw [zp_gR ((h1 y hyn).trans hy) (k := 0) (v := some p) rfl, Option.bind_some, zp_ck hp1, kc_entitles hx (hs k hk) hp1 hr, cc_I]
  show _ = zz_rI (if pa_for x (pa_frog A k) = true then 1 else 0) σ1
  cases pa_for x (pa_frog A k) <;> rfl
end CW
