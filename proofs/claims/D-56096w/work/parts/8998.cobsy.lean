/-! ===== THE COMPONENT's OBSERVERS, at the top: weights, lists, croaks ===== -/
section CQY
variable {ρ : zz_C} {σ σ' : zz_S} {τ τ' : Nat → Nat}
variable {x c n g a0 : Nat} {A : pa_A}
theorem xq_padWeight (a : Int32) (h : xC ρ τ σ x A c n g a0) : xQ σ 60 (pq_pad A a fun p => .inl (.ofNat (A.1.map fun x => if x.2.2.1 = p + 1 then x.2.1 else 0).sum)) (zF_X1_padWeight ρ x a σ) := by
  obtain ⟨h1, h2, h3, ho, hok, hc, hw, hG, hfu⟩ := h
  unfold zF_X1_padWeight
  rw [h1, Option.bind_some, h2.ck]
  refine xq_pad h2 ho hG (by decide) fun p hp _ => ?_
  have h6 := ho.2.1
  rw [h1, Option.bind_some, zp_al_eq (n := n + 60) hG (by decide)]
  obtain ⟨s1, e1⟩ : ∃ s, s = zp_al σ (.inr (210, [.int (.ofNat p)])) 1 := ⟨_, rfl⟩
  have l1 : zp_le zp_no 1 σ s1 := by rw [e1]; exact zp_al_le (by decide)
  have n1 : s1.1.1 = σ.1.1 + 1 := by rw [e1]; rfl
  have y1 : s1.2.2 σ.1.1 = some (true, .inr (210, [.int (.ofNat p)])) := by rw [e1]; exact zp_al_new
  have hA1 := h2.al ho.1 ho.2.2.1 (by omega) hw l1
  obtain ⟨σ', s2, s3⟩ := kc_padWeight (ρ := ρ) (n := n + 59) hA1 ho (by omega) (hw.le l1) (l1.gas (n := n + 60) hG) hfu (by omega) (by omega) y1
  rw [← e1, hA1.ck, s2, cc_I]
  exact ⟨σ', rfl, (l1.trans s3 fun _ _ h => h).mono (fun _ _ h => h) (by decide)⟩
theorem xq_isEntitled (a b : Int32) (h : xC ρ τ σ x A c n g a0) : xQ σ 60 (pq_mot A a fun m => pq_frog A b fun f => .inl (if pa_for (pa_mot A m) (pa_frog A f) then 1 else 0)) (zF_X1_isEntitled ρ x a b σ) := by
  obtain ⟨h1, h2, h3, ho, hok, hc, hw, hG, hfu⟩ := h
  unfold zF_X1_isEntitled
  rw [h1, Option.bind_some, h2.ck]
  refine xq_mot h2 ho hG (by decide) fun m p hm _ hM => ?_
  rw [h1, Option.bind_some, h2.ck]
  refine xq_frog h2 ho hG (by decide) fun f q hf _ _ hq => ?_
  obtain ⟨-, l, qq, bb, R, K, cp, -⟩ := hM
  rw [zp_ck cp, kc_entitles (ho.mo hm).1 (ho.fr hf).1 cp hq, cc_I]
  by_cases hh : pa_for (pa_mot A m) (pa_frog A f) = true
  · rw [if_pos hh]; exact ⟨σ, rfl, zp_le.refl _ _ _⟩
  · rw [if_neg hh]; exact ⟨σ, rfl, zp_le.refl _ _ _⟩
theorem xq_closureWeight (a : Int32) (h : xC ρ τ σ x A c n g a0) : xQ σ 60 (pq_mot A a fun m => .inl (.ofNat (pa_backing A (pa_mot A m)))) (zF_X1_closureWeight ρ x a σ) := by
  obtain ⟨h1, h2, h3, ho, hok, hc, hw, hG, hfu⟩ := h
  unfold zF_X1_closureWeight
  rw [h1, Option.bind_some, Option.bind_some, h2.ck]
  refine xq_mot h2 ho hG (by decide) fun m p hm _ hM => ?_
  obtain ⟨σ', s1, s2⟩ := kc_closureWeight (ρ := ρ) (n := n + 59) h2 hM ho (by omega) hw hG hfu
  rw [h2.ck, s1, cc_I]
  exact ⟨σ', rfl, s2.mono (fun _ _ h => h) (by decide)⟩
theorem xq_entitledWeight (a : Int32) (h : xC ρ τ σ x A c n g a0) : xQ σ 60 (pq_mot A a fun m => .inl (.ofNat (pa_entitled A (pa_mot A m)))) (zF_X1_entitledWeight ρ x a σ) := by
  obtain ⟨h1, h2, h3, ho, hok, hc, hw, hG, hfu⟩ := h
  unfold zF_X1_entitledWeight
  rw [h1, Option.bind_some, Option.bind_some, h2.ck]
  refine xq_mot h2 ho hG (by decide) fun m p hm _ hM => ?_
  obtain ⟨σ', s1, s2⟩ := kc_entitledWeight (ρ := ρ) (n := n + 59) h2 hM (ho.mo hm).1 ho (by omega) hw hG hfu
  rw [h2.ck, s1, cc_I]
  exact ⟨σ', rfl, s2.mono (fun _ _ h => h) (by decide)⟩
theorem xq_str {p m s : Nat} (h : xC ρ τ σ x A c n g a0) (hm : m < A.2.2.1.length) (hs : s ≤ 1) (hM : rMo τ σ A.1 (g + 100 + 10 * m) p m (pa_mot A m)) : ∃ σ', zF_X6_strengths ρ p (.ofNat s) σ = zz_rI (.ofNat (pa_sum A (pa_mot A m).2.2 s)) σ' ∧ zp_le zp_no 1 σ σ' := by
  obtain ⟨h1, h2, h3, ho, hok, hc, hw, hG, hfu⟩ := h
  obtain ⟨l, q, b, N, R, k1, k2, k3, k4⟩ := hM.cros hw
  have hmo := ho.mo hm
  exact kc_strengths (ρ := ρ) (A := A) (n := n + 60) k1 k3 hs (fun k hk => (hmo.2.2.2.2.2.2 k hk).2.2) hw.1 hG hfu hmo.2.2.2.2.1
theorem xq_croaksAgainst (a : Int32) (h : xC ρ τ σ x A c n g a0) : xQ σ 60 (pq_mot A a fun m => .inl (.ofNat (pa_sum A (pa_mot A m).2.2 0))) (zF_X1_croaksAgainst ρ x a σ) := by
  have hh := h
  obtain ⟨h1, h2, h3, ho, hok, hc, hw, hG, hfu⟩ := h
  unfold zF_X1_croaksAgainst
  rw [h1, Option.bind_some, h2.ck]
  refine xq_mot h2 ho hG (by decide) fun m p hm _ hM => ?_
  obtain ⟨σ', s1, s2⟩ := xq_str hh hm (Nat.zero_le 1) hM
  have s1 : zF_X6_strengths ρ p 0 σ = _ := s1
  obtain ⟨-, l, qq, bb, R, K, cp, -⟩ := hM
  rw [zp_ck cp, s1, cc_I]
  exact ⟨σ', rfl, s2.mono (fun _ _ h => h) (by decide)⟩
theorem xq_strongestFrog (a : Int32) (h : xC ρ τ σ x A c n g a0) : xQ σ 60 (pq_mot A a fun m => if (pa_mot A m).2.2.isEmpty then .inr 119 else .inl (.ofNat ((pa_mot A m).2.2[pa_best (pa_strengths A (pa_mot A m).2.2)]?.getD (0, 0, 0)).1)) (zF_X1_strongestFrog ρ x a σ) := by
  obtain ⟨h1, h2, h3, ho, hok, hc, hw, hG, hfu⟩ := h
  unfold zF_X1_strongestFrog
  rw [h1, Option.bind_some, h2.ck]
  refine xq_mot h2 ho hG (by decide) fun m p hm _ hM => ?_
  obtain ⟨l, q, b, N, R, k1, k2, k3, k4⟩ := hM.cros hw
  have hmo := ho.mo hm
  have := kc_strongest (ρ := ρ) (A := A) (n := n + 60) k1 k3 (fun k hk => by have := pa_str_le ho (hmo.2.2.2.2.2.2 k hk).2.1; omega) hw.1 hG hfu hmo.2.2.2.2.1
  rw [zp_ck k1]
  by_cases he : (pa_mot A m).2.2.isEmpty = true
  · rw [if_pos he] at this ⊢
    exact (zthr.mono this (by decide)).cI
  · rw [if_neg he] at this ⊢
    obtain ⟨σ', s1, s2⟩ := this
    rw [s1, cc_I]
    exact ⟨σ', rfl, s2.mono (fun _ _ h => h) (by decide)⟩
theorem xq_frogsBefore (a b : Int32) (h : xC ρ τ σ x A c n g a0) : xQ σ 60 (pq_mot A a fun m => pq_frog A b fun f => match pa_place (pa_mot A m).2.1 f with | none => .inr 119 | some k => .inl (.ofNat (pa_ahead (pa_sk A (pa_mot A m).2.1) k))) (zF_X1_frogsBefore ρ x a b σ) := by
  obtain ⟨h1, h2, h3, ho, hok, hc, hw, hG, hfu⟩ := h
  unfold zF_X1_frogsBefore
  rw [h1, Option.bind_some, Option.bind_some, h2.ck]
  refine xq_mot h2 ho hG (by decide) fun m p hm _ hM => ?_
  rw [h1, Option.bind_some, h2.ck]
  refine xq_frog h2 ho hG (by decide) fun f q hf _ _ hq => ?_
  obtain ⟨l, qq, bb, N, R, k1, k2, k3, k4⟩ := hM.reqs hw
  have h12 := ho.1
  have := kc_frogsBefore (ρ := ρ) (n := n + 58) (f := f) h2 hok (by omega) (by omega) hw hG hfu (hok.mo hm) k1 k3 (ho.mo hm).2.2.2.1 (by omega)
  rw [kf_num hq, Option.bind_some, h2.ck]
  cases hp : pa_place (pa_mot A m).2.1 f with
  | none =>
    rw [hp] at this
    exact (zthr.mono this (by decide)).cI
  | some k =>
    rw [hp] at this
    obtain ⟨σ', s1, s2⟩ := this
    rw [s1, cc_I]
    exact ⟨σ', rfl, s2.mono (fun _ _ h => h) (by decide)⟩
/-- shareFor: a float -/
def xQF (σ : zz_S) (k : Nat) (o : UInt32 ⊕ Nat) (F : zz_R) : Prop := match o with
  | .inl v => ∃ σ', F = zz_rF v σ' ∧ zp_le zp_no k σ σ'
  | .inr c => zthr F c k σ
def xQD (σ : zz_S) (k : Nat) (o : UInt64 ⊕ Nat) (F : zz_R) : Prop := match o with
  | .inl v => ∃ σ', F = zz_rD v σ' ∧ zp_le zp_no k σ σ'
  | .inr c => zthr F c k σ
theorem zthr.cF {F : zz_R} {c k : Nat} {K : UInt32 → zz_S → zz_R} (h : zthr F c k σ) : zthr (zz_cF F K zz_P) c k σ := by
  obtain ⟨a, σ', h1, h2, h3⟩ := h
  exact ⟨a, σ', by rw [h1]; rfl, h2, h3⟩
theorem zthr.cD {F : zz_R} {c k : Nat} {K : UInt64 → zz_S → zz_R} (h : zthr F c k σ) : zthr (zz_cD F K zz_P) c k σ := by
  obtain ⟨a, σ', h1, h2, h3⟩ := h
  exact ⟨a, σ', by rw [h1]; rfl, h2, h3⟩
def pa_share (A : pa_A) (a : Int32) : UInt32 ⊕ Nat := match pd a 0 A.2.2.1.length with
  | none => .inr 122
  | some m => if pa_sum A (pa_mot A m).2.2 1 + pa_sum A (pa_mot A m).2.2 0 = 0 then .inr 144 else .inl (FP.fdiv (FP.i2f (.ofNat (pa_sum A (pa_mot A m).2.2 1))) (FP.i2f (.ofNat (pa_sum A (pa_mot A m).2.2 1 + pa_sum A (pa_mot A m).2.2 0))))
theorem xq_shareFor (a : Int32) (h : xC ρ τ σ x A c n g a0) : xQF σ 60 (pa_share A a) (zF_X1_shareFor ρ x a σ) := by
  obtain ⟨h1, h2, h3, ho, hok, hc, hw, hG, hfu⟩ := h
  unfold zF_X1_shareFor pa_share
  rw [h1, Option.bind_some, Option.bind_some, h2.ck]
  cases hx : pd a 0 A.2.2.1.length with
  | none => exact ((ka_motion_no h2 ho.2.2.1 hx hG).mono (by decide)).cR
  | some m =>
    obtain ⟨-, hm, rfl⟩ := pd_some hx
    obtain ⟨p, e1, e2⟩ := ka_motion_yes (ρ := ρ) h2 ho.2.2.1 hm
    have hmo := ho.mo hm
    have := kc_shareFor (ρ := ρ) (a := a0) (n := n + 58) ho e2 (by omega) (fun k hk => (hmo.2.2.2.2.2.2 k hk).2) hw hG hfu hmo.2.2.2.2.1
    rw [e1, cc_R, h2.ck]
    show xQF σ 60 (if _ then _ else _) _
    by_cases h0 : pa_sum A (pa_mot A m).2.2 1 + pa_sum A (pa_mot A m).2.2 0 = 0
    · rw [if_pos h0] at this ⊢
      exact (zthr.mono this (by decide)).cF
    · rw [if_neg h0] at this ⊢
      obtain ⟨σ', s1, s2⟩ := this
      rw [s1]
      exact ⟨σ', rfl, s2.mono (fun _ _ h => h) (by decide)⟩
def pa_mean (A : pa_A) : UInt64 ⊕ Nat := if pa_sit A = 0 then .inr 144 else .inl (FP.ddiv (FP.i2d (.ofNat (A.1.map fun x => if x.2.2.1 = 0 then 0 else x.2.1).sum)) (FP.i2d (.ofNat (pa_sit A))))
theorem xq_mean {y : Nat} (h : xC ρ τ σ x A c n g a0) (hy : ρ.1 221 = some y) (hyt : τ y = 1) (hyc : ∃ w, σ.2.2 y = some (w, .inr (221, []))) : xQD σ 60 (pa_mean A) (zF_X1_meanSittingWeight ρ x σ) := by
  obtain ⟨h1, h2, h3, ho, hok, hc, hw, hG, hfu⟩ := h
  have := kc_mean (ρ := ρ) (n := n + 56) h2 ho h3 hw hG hfu hy hyt hyc
  unfold zF_X1_meanSittingWeight pa_mean
  rw [h1, Option.bind_some, h2.ck]
  by_cases h0 : pa_sit A = 0
  · rw [if_pos h0] at this ⊢
    exact (zthr.mono this (by decide)).cD
  · rw [if_neg h0] at this ⊢
    obtain ⟨σ', s1, s2⟩ := this
    rw [s1]
    exact ⟨σ', rfl, s2.mono (fun _ _ h => h) (by decide)⟩
/-- the next of a list -/
def pa_next (A : pa_A) (m : Nat) : Int32 ⊕ Nat := match pa_ranked (pa_sk A (pa_mot A m).2.1) 0 with
  | none => .inr 119
  | some k => .inl (.ofNat ((pa_mot A m).2.1[k]?.getD (0, 0)).1)
theorem pa_next_nil {m : Nat} (h : (pa_mot A m).2.1 = []) : pa_next A m = .inr 119 := by
  unfold pa_next
  rw [h]; rfl
theorem xq_nextFrog {S : pa_S} {T : Nat} (a : Int32) (hr : rS ρ τ σ x S T) (h : xC ρ τ σ x S.1 c n g a0) : xQ σ 60 (pq_mot S.1 a (pa_next S.1)) (zF_X1_nextFrog ρ x a σ) := by
  obtain ⟨h1, h2, h3, ho, hok, hc, hw, hG, hfu⟩ := h
  obtain ⟨fa, ad, d, e, hh, tb, l, g0, a1, H, Z, hr⟩ := hr
  obtain ⟨r1, r2, ⟨t1, t2, ⟨w, f, t3, ⟨y, w1, y1, y2, y3⟩, -⟩, -⟩, -⟩ := hr
  unfold zF_X1_nextFrog
  have ea : zz_aR σ (some fa) 6 (0 : Int32) = some (some y) := by
    unfold zz_aR zz_ar
    simp only [t3, if_true, show zz_inb 0 2 = true from by decide]
    exact congrArg some y1
  rw [zp_gR r2 (k := 0) (v := some fa) rfl, Option.bind_some, ea, Option.bind_some, h1, Option.bind_some, Option.bind_some, h2.ck]
  refine xq_mot h2 ho hG (by decide) fun m p hm _ hM => ?_
  obtain ⟨l', qq, bb, N, R, k1, k2, k3, k4⟩ := hM.reqs hw
  rw [zp_dp y3, if_pos rfl]
  unfold zF_lam1 zF_X1_lambda_new_0
  rw [h2.ck]
  by_cases he : (pa_mot S.1 m).2.1 = []
  · rw [pa_next_nil he]
    exact ((((kc_nextByQueue_no (ρ := ρ) (g := g) (A := S.1) (a := a0) hG k1 k3 he).mono (by decide)).cR).cR).cR
  · obtain ⟨σ', k, q, s1, s2, s3, s4⟩ := kc_nextByQueue (ρ := ρ) (n := n + 57) h2 hok (by omega) (by omega) hw hG hfu (hok.mo hm) k1 k3 (hok.l11 hc (List.mem_of_getElem? (pa_mot_eq hm))) he
    have hkl : k < (pa_mot S.1 m).2.1.length := by rw [← k3.2.1]; exact (List.getElem?_eq_some_iff.mp s3).1
    have hrk := List.getElem?_eq_getElem hkl
    obtain ⟨u1, w', u2⟩ := k3.2.2.2.2 k q _ s3 hrk
    have u2' := (s2.keep u1 fun h => h).trans u2
    rw [s1, cc_R, cc_R, cc_R, zp_gI u2' (k := 0) (v := .ofNat ((pa_mot S.1 m).2.1[k]).1) rfl, Option.bind_some]
    unfold pa_next
    rw [s4]
    refine ⟨σ', ?_, s2.mono (fun _ _ h => h) (by decide)⟩
    rw [hrk]; rfl
theorem xq_nextFrogByScan {S : pa_S} {T : Nat} (a : Int32) (hr : rS ρ τ σ x S T) (h : xC ρ τ σ x S.1 c n g a0) : xQ σ 60 (pq_mot S.1 a (pa_next S.1)) (zF_X1_nextFrogByScan ρ x a σ) := by
  obtain ⟨h1, h2, h3, ho, hok, hc, hw, hG, hfu⟩ := h
  obtain ⟨fa, ad, d, e, hh, tb, l, g0, a1, H, Z, hr⟩ := hr
  obtain ⟨r1, r2, ⟨t1, t2, ⟨w, f, t3, -, ⟨y, w1, y1, y2, y3⟩⟩, -⟩, -⟩ := hr
  unfold zF_X1_nextFrogByScan
  have ea : zz_aR σ (some fa) 6 (1 : Int32) = some (some y) := by
    unfold zz_aR zz_ar
    simp only [t3, if_true, show zz_inb 1 2 = true from by decide]
    exact congrArg some y1
  rw [zp_gR r2 (k := 0) (v := some fa) rfl, Option.bind_some, ea, Option.bind_some, h1, Option.bind_some, Option.bind_some, h2.ck]
  refine xq_mot h2 ho hG (by decide) fun m p hm _ hM => ?_
  obtain ⟨l', qq, bb, N, R, k1, k2, k3, k4⟩ := hM.reqs hw
  rw [zp_dp y3, if_neg (by decide), if_pos rfl]
  unfold zF_lam2 zF_X1_lambda_new_1
  rw [h2.ck]
  by_cases he : (pa_mot S.1 m).2.1 = []
  · rw [pa_next_nil he]
    exact ((((kc_nextByScan_no (ρ := ρ) (g := g) (A := S.1) (a := a0) hG k1 k3 he).mono (by decide)).cR).cR).cR
  · obtain ⟨σ', k, q, s1, s2, s3, s4⟩ := kc_nextByScan (ρ := ρ) (n := n + 57) h2 hok (by omega) (by omega) hw hG hfu (hok.mo hm) k1 k3 (ho.mo hm).2.2.2.1 he
    have hkl : k < (pa_mot S.1 m).2.1.length := by rw [← k3.2.1]; exact (List.getElem?_eq_some_iff.mp s3).1
    have hrk := List.getElem?_eq_getElem hkl
    obtain ⟨u1, w', u2⟩ := k3.2.2.2.2 k q _ s3 hrk
    have u2' := (s2.keep u1 fun h => h).trans u2
    rw [s1, cc_R, cc_R, cc_R, zp_gI u2' (k := 0) (v := .ofNat ((pa_mot S.1 m).2.1[k]).1) rfl, Option.bind_some]
    unfold pa_next
    rw [s4]
    refine ⟨σ', ?_, s2.mono (fun _ _ h => h) (by decide)⟩
    rw [hrk]; rfl
theorem xq_croaksFor {S : pa_S} {T : Nat} (a : Int32) (hr : rS ρ τ σ x S T) (h : xC ρ τ σ x S.1 c n g a0) : xQ σ 60 (pq_mot S.1 a fun m => .inl (.ofNat (pa_sum S.1 (pa_mot S.1 m).2.2 1))) (zF_X1_croaksFor ρ x a σ) := by
  have hh' := h
  obtain ⟨h1, h2, h3, ho, hok, hc, hw, hG, hfu⟩ := h
  obtain ⟨fa, ad, d, e, hh, tb, l, g0, a1, H, Z, hr⟩ := hr
  obtain ⟨r1, r2, ⟨t1, t2, -, ⟨w, f, t3, ⟨y, w1, y1, y2, y3⟩, -⟩⟩, -⟩ := hr
  unfold zF_X1_croaksFor
  have ea : zz_aR σ (some ad) 7 (0 : Int32) = some (some y) := by
    unfold zz_aR zz_ar
    simp only [t3, if_true, show zz_inb 0 2 = true from by decide]
    exact congrArg some y1
  rw [zp_gR r2 (k := 1) (v := some ad) rfl, Option.bind_some, ea, Option.bind_some, h1, Option.bind_some, Option.bind_some, h2.ck]
  refine xq_mot h2 ho hG (by decide) fun m p hm _ hM => ?_
  obtain ⟨σ', s1, s2⟩ := xq_str hh' hm (Nat.le_refl 1) hM
  have s1 : zF_X6_strengths ρ p 1 σ = _ := s1
  obtain ⟨-, l', qq, bb, R, K, cp, -⟩ := hM
  rw [zp_dp y3, if_pos rfl]
  unfold zF_lam3 zF_X1_lambda_new_2
  rw [zp_gI y3 (k := 0) (v := 1) rfl, Option.bind_some, zp_ck cp, s1, cc_I, cc_I, cc_I]
  exact ⟨σ', rfl, s2.mono (fun _ _ h => h) (by decide)⟩
end CQY
