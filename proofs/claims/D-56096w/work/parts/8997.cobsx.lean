/-! ===== THE COMPONENT's OBSERVERS, at the top ===== -/
section CQX
variable {ρ : zz_C} {σ σ' : zz_S} {τ τ' : Nat → Nat}
/-- an observer's answer: a value or the class of what is thrown; no old cell is changed -/
def xQ (σ : zz_S) (k : Nat) (o : Int32 ⊕ Nat) (F : zz_R) : Prop := match o with
  | .inl v => ∃ σ', F = zz_rI v σ' ∧ zp_le zp_no k σ σ'
  | .inr c => zthr F c k σ
theorem xQ.xA {x c k T : Nat} {S : pa_S} {o : Int32 ⊕ Nat} {F : zz_R} (h : xQ σ k o F) (hr : rS ρ τ σ x S T) (hp : pS S c) (hw : zo_wf τ σ) : xA ρ τ σ x S k o F := by
  cases o with
  | inl v => exact xA.val h hr hp hw
  | inr p => exact xA.thr h hr hp hw
theorem xQ.mono {k k' : Nat} {o : Int32 ⊕ Nat} {F : zz_R} (h : xQ σ k o F) (hk : k ≤ k') : xQ σ k' o F := by
  cases o with
  | inl v =>
    obtain ⟨σ', h1, h2⟩ := h
    exact ⟨σ', h1, h2.mono (fun _ _ h => h) hk⟩
  | inr p => exact zthr.mono h hk
theorem xQ.cI {k : Nat} {o : Int32 ⊕ Nat} {F : zz_R} (h : xQ σ k o F) : xQ σ k o (zz_cI F (fun v σ => zz_rI v σ) zz_P) := by
  cases o with
  | inl v =>
    obtain ⟨σ', h1, h2⟩ := h
    exact ⟨σ', by rw [h1, cc_I], h2⟩
  | inr p => exact zthr.cI h
theorem xQ.here {k : Nat} {v : Int32} : xQ σ k (.inl v) (zz_rI v σ) := ⟨σ, rfl, zp_le.refl _ _ _⟩
def pq_frog (A : pa_A) (a : Int32) (K : Nat → Int32 ⊕ Nat) : Int32 ⊕ Nat := match pd a 0 A.1.length with | none => .inr 122 | some f => K f
def pq_pad (A : pa_A) (a : Int32) (K : Nat → Int32 ⊕ Nat) : Int32 ⊕ Nat := match pd a 0 A.2.1.length with | none => .inr 122 | some f => K f
def pq_mot (A : pa_A) (a : Int32) (K : Nat → Int32 ⊕ Nat) : Int32 ⊕ Nat := match pd a 0 A.2.2.1.length with | none => .inr 122 | some f => K f
theorem xq_frog {g a0 n k : Nat} {A : pa_A} {a : Int32} {K : Nat → Int32 ⊕ Nat} {R : Option Nat → zz_S → zz_R} (h : rAs τ σ g a0 A) (ho : pw A) (hg : zp_gas (n + 1) σ) (hk : 1 ≤ k) (hR : ∀ f p, f < A.1.length → a = .ofNat f → τ p = g + 10 + f → σ.2.2 p = some (true, fcell f (pa_frog A f)) → xQ σ k (K f) (R (some p) σ)) : xQ σ k (pq_frog A a K) (zz_cR (zF_X2_frog ρ a0 a σ) R zz_P) := by
  unfold pq_frog
  cases hx : pd a 0 A.1.length with
  | none => exact ((ka_frog_no h ho.1 hx hg).mono hk).cR
  | some f =>
    obtain ⟨-, hf, rfl⟩ := pd_some hx
    obtain ⟨p, e1, e2, e3⟩ := ka_frog_yes (ρ := ρ) h ho.1 hf
    rw [e1, cc_R]
    exact hR f p hf rfl e2 e3
theorem xq_mot {g a0 n k : Nat} {A : pa_A} {a : Int32} {K : Nat → Int32 ⊕ Nat} {R : Option Nat → zz_S → zz_R} (h : rAs τ σ g a0 A) (ho : pw A) (hg : zp_gas (n + 1) σ) (hk : 1 ≤ k) (hR : ∀ m p, m < A.2.2.1.length → a = .ofNat m → rMo τ σ A.1 (g + 100 + 10 * m) p m (pa_mot A m) → xQ σ k (K m) (R (some p) σ)) : xQ σ k (pq_mot A a K) (zz_cR (zF_X2_motion ρ a0 a σ) R zz_P) := by
  unfold pq_mot
  cases hx : pd a 0 A.2.2.1.length with
  | none => exact ((ka_motion_no h ho.2.2.1 hx hg).mono hk).cR
  | some m =>
    obtain ⟨-, hm, rfl⟩ := pd_some hx
    obtain ⟨p, e1, e2⟩ := ka_motion_yes (ρ := ρ) h ho.2.2.1 hm
    rw [e1, cc_R]
    exact hR m p hm rfl e2
theorem xq_pad {g a0 n k : Nat} {A : pa_A} {a : Int32} {K : Nat → Int32 ⊕ Nat} {R : Int32 → zz_S → zz_R} (h : rAs τ σ g a0 A) (ho : pw A) (hg : zp_gas (n + 1) σ) (hk : 1 ≤ k) (hR : ∀ p, p < A.2.1.length → a = .ofNat p → xQ σ k (K p) (R (.ofNat p) σ)) : xQ σ k (pq_pad A a K) (zz_cI (zF_X2_checkedPad ρ a0 a σ) R zz_P) := by
  unfold pq_pad
  cases hx : pd a 0 A.2.1.length with
  | none => exact ((ka_pad_no h ho.2.1 hx hg).mono hk).cI
  | some f =>
    obtain ⟨-, hf, rfl⟩ := pd_some hx
    rw [ka_pad_yes h ho.2.1 hf, cc_I]
    exact hR f hf rfl
/-- the current assembly -/
def xC (ρ : zz_C) (τ : Nat → Nat) (σ : zz_S) (x : Nat) (A : pa_A) (c n g a0 : Nat) : Prop := zz_gR σ (some x) 1 4 = some (some a0) ∧ rAs τ σ g a0 A ∧ 1000 ≤ g ∧ pw A ∧ pa_ok A c ∧ c ≤ 24 ∧ zo_wf τ σ ∧ zp_gas (n + 60 + 1) σ ∧ 100 ≤ ρ.2
theorem xH.cur {x T c n : Nat} {S : pa_S} (hh : xH ρ τ σ x S T c n) : ∃ g a0, xC ρ τ σ x S.1 c n g a0 := by
  obtain ⟨hr, hp, hc, hw, hca, hG, hfu⟩ := hh
  obtain ⟨fa, ad, d, e, h, tb, l, g0, a0, H, Z, r1, r2, r3, r4, r7, r8, r9, r10, r11, r12, r13, r14⟩ := hr
  exact ⟨g0, a0, zp_gR r2 (k := 4) (v := some a0) rfl, r9, (r12.1 _ List.mem_cons_self).1, hp.1.w (by omega), hp.1, hc, hw, hG.le (by omega), hfu⟩
section Q
variable {x c n g a0 : Nat} {A : pa_A}
theorem xq_frogCount (h : xC ρ τ σ x A c n g a0) : xQ σ 60 (.inl (.ofNat A.1.length)) (zF_X1_frogCount ρ x σ) := by
  obtain ⟨h1, ⟨af, ac, am, F, C, Mo, hX⟩, -⟩ := h
  obtain ⟨f1, -, -, f4, -, -, f7, -, -⟩ := hX.fl (ρ := ρ)
  unfold zF_X1_frogCount
  rw [h1, Option.bind_some, f1, Option.bind_some, f4, f7, cc_I]
  exact xQ.here
theorem xq_padCount (h : xC ρ τ σ x A c n g a0) : xQ σ 60 (.inl (.ofNat A.2.1.length)) (zF_X1_padCount ρ x σ) := by
  obtain ⟨h1, ⟨af, ac, am, F, C, Mo, hX⟩, -⟩ := h
  obtain ⟨-, f1, -, -, f4, -, -, f7, -⟩ := hX.fl (ρ := ρ)
  unfold zF_X1_padCount
  rw [h1, Option.bind_some, f1, Option.bind_some, f4, f7, cc_I]
  exact xQ.here
theorem xq_motionCount (h : xC ρ τ σ x A c n g a0) : xQ σ 60 (.inl (.ofNat A.2.2.1.length)) (zF_X1_motionCount ρ x σ) := by
  obtain ⟨h1, ⟨af, ac, am, F, C, Mo, hX⟩, -⟩ := h
  obtain ⟨-, -, f1, -, -, f4, -, -, f7⟩ := hX.fl (ρ := ρ)
  unfold zF_X1_motionCount
  rw [h1, Option.bind_some, f1, Option.bind_some, f4, f7, cc_I]
  exact xQ.here
theorem xq_speechTotal (h : xC ρ τ σ x A c n g a0) : xQ σ 60 (.inl (.ofNat A.2.2.2.1)) (zF_X1_speechTotal ρ x σ) := by
  obtain ⟨h1, ⟨af, ac, am, F, C, Mo, k0, k1, -⟩, -⟩ := h
  unfold zF_X1_speechTotal
  rw [h1, Option.bind_some, zp_gI k1 (k := 3) (v := .ofNat A.2.2.2.1) rfl, Option.bind_some]
  exact xQ.here
theorem xq_missedTotal (h : xC ρ τ σ x A c n g a0) : xQ σ 60 (.inl (.ofNat A.2.2.2.2)) (zF_X1_missedTotal ρ x σ) := by
  obtain ⟨h1, ⟨af, ac, am, F, C, Mo, k0, k1, -⟩, -⟩ := h
  unfold zF_X1_missedTotal
  rw [h1, Option.bind_some, zp_gI k1 (k := 4) (v := .ofNat A.2.2.2.2) rfl, Option.bind_some]
  exact xQ.here
theorem xq_pondOf (a : Int32) (h : xC ρ τ σ x A c n g a0) : xQ σ 60 (pq_frog A a fun f => .inl (.ofNat (pa_frog A f).1)) (zF_X1_pondOf ρ x a σ) := by
  obtain ⟨h1, h2, h3, ho, hok, hc, hw, hG, hfu⟩ := h
  unfold zF_X1_pondOf
  rw [h1, Option.bind_some, h2.ck]
  refine xq_frog h2 ho hG (by decide) fun f p hf _ _ hp => ?_
  rw [kf_pond hp, Option.bind_some]
  exact xQ.here
theorem xq_weightOf (a : Int32) (h : xC ρ τ σ x A c n g a0) : xQ σ 60 (pq_frog A a fun f => .inl (.ofNat (pa_frog A f).2.1)) (zF_X1_weightOf ρ x a σ) := by
  obtain ⟨h1, h2, h3, ho, hok, hc, hw, hG, hfu⟩ := h
  unfold zF_X1_weightOf
  rw [h1, Option.bind_some, h2.ck]
  refine xq_frog h2 ho hG (by decide) fun f p hf _ _ hp => ?_
  rw [kf_weight hp, Option.bind_some]
  exact xQ.here
theorem xq_speeches (a : Int32) (h : xC ρ τ σ x A c n g a0) : xQ σ 60 (pq_frog A a fun f => .inl (.ofNat (pa_frog A f).2.2.2)) (zF_X1_speeches ρ x a σ) := by
  obtain ⟨h1, h2, h3, ho, hok, hc, hw, hG, hfu⟩ := h
  unfold zF_X1_speeches
  rw [h1, Option.bind_some, h2.ck]
  refine xq_frog h2 ho hG (by decide) fun f p hf _ _ hp => ?_
  rw [kf_spoke hp, Option.bind_some]
  exact xQ.here
theorem xq_padOf (a : Int32) (h : xC ρ τ σ x A c n g a0) : xQ σ 60 (pq_frog A a fun f => if (pa_frog A f).2.2.1 = 0 then .inr 119 else .inl (.ofNat ((pa_frog A f).2.2.1 - 1))) (zF_X1_padOf ρ x a σ) := by
  obtain ⟨h1, h2, h3, ho, hok, hc, hw, hG, hfu⟩ := h
  unfold zF_X1_padOf
  rw [h1, Option.bind_some, h2.ck]
  refine xq_frog h2 ho hG (by decide) fun f p hf _ _ hp => ?_
  rw [kf_ck hp, kf_sits hp (ho.fr hf).2.2.1, cc_I]
  by_cases h0 : (pa_frog A f).2.2.1 = 0
  · rw [if_pos h0, if_pos h0]
    exact ((jk_elem_no hG).mono (by decide)).cV
  · rw [if_neg h0, if_neg h0, jk_elem_yes, cc_V, kf_pad hp, Option.bind_some, show (1 : Int32) = Int32.ofNat 1 from rfl, ci_sub (by omega)]
    exact xQ.here
theorem xq_frogsOn (a : Int32) (h : xC ρ τ σ x A c n g a0) : xQ σ 60 (pq_pad A a fun p => .inl (.ofNat (pa_on A p))) (zF_X1_frogsOn ρ x a σ) := by
  obtain ⟨h1, h2, h3, ho, hok, hc, hw, hG, hfu⟩ := h
  unfold zF_X1_frogsOn
  rw [h1, Option.bind_some, Option.bind_some, h2.ck]
  refine xq_pad h2 ho hG (by decide) fun p hp _ => ?_
  have h6 := ho.2.1
  obtain ⟨σ', s1, s2⟩ := kc_frogsOn (ρ := ρ) (p := p) (n := 0) h2 ho (by omega) hw (hG.le (by omega)) hfu (by omega)
  rw [h2.ck, s1, cc_I]
  exact ⟨σ', rfl, s2.mono (fun _ _ h => h) (by decide)⟩
theorem xq_sittingCount (h : xC ρ τ σ x A c n g a0) : xQ σ 60 (.inl (.ofNat (pa_sit A))) (zF_X1_sittingCount ρ x σ) := by
  obtain ⟨h1, h2, h3, ho, hok, hc, hw, hG, hfu⟩ := h
  obtain ⟨σ', s1, s2⟩ := kc_byPads (ρ := ρ) (n := 0) h2 hok (by omega) h3 hw (hG.le (by omega)) hfu
  unfold zF_X1_sittingCount
  rw [h1, Option.bind_some, h2.ck, s1, cc_I]
  exact ⟨σ', rfl, s2.mono (fun _ _ h => h) (by decide)⟩
theorem xq_sittingCountBySet (h : xC ρ τ σ x A c n g a0) : xQ σ 60 (.inl (.ofNat (pa_sit A))) (zF_X1_sittingCountBySet ρ x σ) := by
  obtain ⟨h1, h2, h3, ho, hok, hc, hw, hG, hfu⟩ := h
  obtain ⟨σ', s1, s2⟩ := kc_bySet (ρ := ρ) (n := 0) h2 ho h3 hw (hG.le (by omega)) hfu
  unfold zF_X1_sittingCountBySet
  rw [h1, Option.bind_some, h2.ck, s1, cc_I]
  exact ⟨σ', rfl, s2.mono (fun _ _ h => h) (by decide)⟩
theorem xq_adoptedCount (h : xC ρ τ σ x A c n g a0) : xQ σ 60 (.inl (.ofNat (pa_adopted A))) (zF_X1_adoptedCount ρ x σ) := by
  obtain ⟨h1, h2, h3, ho, hok, hc, hw, hG, hfu⟩ := h
  obtain ⟨σ', s1, s2⟩ := kc_adopted (ρ := ρ) (n := 0) h2 hok (by omega) h3 hw (hG.le (by omega)) hfu
  unfold zF_X1_adoptedCount
  rw [h1, Option.bind_some, h2.ck, s1, cc_I]
  exact ⟨σ', rfl, s2.mono (fun _ _ h => h) (by decide)⟩
theorem xq_frogAtRank (a : Int32) (h : xC ρ τ σ x A c n g a0) : xQ σ 60 (match pa_frogAt A a with | none => .inr 119 | some f => .inl (.ofNat f)) (zF_X1_frogAtRank ρ x a σ) := by
  obtain ⟨h1, h2, h3, ho, hok, hc, hw, hG, hfu⟩ := h
  have := kc_frogAt (ρ := ρ) (n := 0) a h2 ho h3 hw (hG.le (by omega)) hfu
  unfold zF_X1_frogAtRank
  rw [h1, Option.bind_some, h2.ck]
  cases hf : pa_frogAt A a with
  | none =>
    rw [hf] at this
    exact (this.mono (by decide)).cI
  | some f =>
    rw [hf] at this
    obtain ⟨σ', s1, s2⟩ := this
    rw [s1, cc_I]
    exact ⟨σ', rfl, s2.mono (fun _ _ h => h) (by decide)⟩
theorem xq_speechesOn (a : Int32) (h : xC ρ τ σ x A c n g a0) : xQ σ 60 (pq_mot A a fun m => .inl (.ofNat (pa_mot A m).1.2.2.2.2.2)) (zF_X1_speechesOn ρ x a σ) := by
  obtain ⟨h1, h2, h3, ho, hok, hc, hw, hG, hfu⟩ := h
  unfold zF_X1_speechesOn
  rw [h1, Option.bind_some, h2.ck]
  refine xq_mot h2 ho hG (by decide) fun m p hm _ hM => ?_
  obtain ⟨-, l, q, b, R, K, cp, -⟩ := hM
  rw [zp_gI cp (k := 6) (v := .ofNat (pa_mot A m).1.2.2.2.2.2) rfl, Option.bind_some]
  exact xQ.here
theorem xq_listLength (a : Int32) (h : xC ρ τ σ x A c n g a0) : xQ σ 60 (pq_mot A a fun m => .inl (.ofNat (pa_mot A m).2.1.length)) (zF_X1_listLength ρ x a σ) := by
  obtain ⟨h1, h2, h3, ho, hok, hc, hw, hG, hfu⟩ := h
  unfold zF_X1_listLength
  rw [h1, Option.bind_some, h2.ck]
  refine xq_mot h2 ho hG (by decide) fun m p hm _ hM => ?_
  obtain ⟨l, q, b, N, R, k1, k2, k3, k4⟩ := hM.reqs hw
  rw [zp_gR k1 (k := 2) (v := some l) rfl, Option.bind_some, k3.1.ck, jl_size k3.1, cc_I, k3.2.1]
  exact xQ.here
theorem xq_bit {v : Nat} (h : v ≤ 1) : zz_rN .boolean (Int32.ofNat v) σ = zz_rI (.ofNat v) σ := by
  rcases (show v = 0 ∨ v = 1 by omega) with h | h <;> subst h <;> rfl
theorem xq_isListClosed (a : Int32) (h : xC ρ τ σ x A c n g a0) : xQ σ 60 (pq_mot A a fun m => .inl (.ofNat (pa_mot A m).1.2.1)) (zF_X1_isListClosed ρ x a σ) := by
  obtain ⟨h1, h2, h3, ho, hok, hc, hw, hG, hfu⟩ := h
  unfold zF_X1_isListClosed
  rw [h1, Option.bind_some, h2.ck]
  refine xq_mot h2 ho hG (by decide) fun m p hm _ hM => ?_
  obtain ⟨-, l, q, b, R, K, cp, -⟩ := hM
  rw [zp_gI cp (k := 8) (v := .ofNat (pa_mot A m).1.2.1) rfl, Option.bind_some, xq_bit (ho.mo hm).2.1]
  exact xQ.here
theorem xq_isDecided (a : Int32) (h : xC ρ τ σ x A c n g a0) : xQ σ 60 (pq_mot A a fun m => .inl (if (pa_mot A m).1.2.2.1 = 0 then 0 else 1)) (zF_X1_isDecided ρ x a σ) := by
  obtain ⟨h1, h2, h3, ho, hok, hc, hw, hG, hfu⟩ := h
  unfold zF_X1_isDecided
  rw [h1, Option.bind_some, h2.ck]
  refine xq_mot h2 ho hG (by decide) fun m p hm _ hM => ?_
  obtain ⟨-, l, q, b, R, K, cp, -⟩ := hM
  rw [zp_ck cp, km_isOpen cp (hok.mo hm).2.2.2.1, cc_I]
  by_cases h0 : (pa_mot A m).1.2.2.1 = 0
  · rw [if_pos h0, if_pos h0, if_neg n10]
    exact xQ.here
  · rw [if_neg h0, if_neg h0, if_pos z00]
    exact xQ.here
theorem xq_isAdopted (a : Int32) (h : xC ρ τ σ x A c n g a0) : xQ σ 60 (pq_mot A a fun m => .inl (if (pa_mot A m).1.2.2.1 = 1 then 1 else 0)) (zF_X1_isAdopted ρ x a σ) := by
  obtain ⟨h1, h2, h3, ho, hok, hc, hw, hG, hfu⟩ := h
  unfold zF_X1_isAdopted
  rw [h1, Option.bind_some, h2.ck]
  refine xq_mot h2 ho hG (by decide) fun m p hm _ hM => ?_
  obtain ⟨-, l, q, b, R, K, cp, -⟩ := hM
  have h3 := (hok.mo hm).2.2.2.1
  rw [zp_gI cp (k := 7) (v := .ofNat (pa_mot A m).1.2.2.1) rfl, Option.bind_some]
  by_cases h0 : (pa_mot A m).1.2.2.1 = 1
  · rw [if_pos h0, if_pos (show Int32.ofNat (pa_mot A m).1.2.2.1 = 1 from by rw [h0]; rfl)]
    exact xQ.here
  · rw [if_neg (show ¬ Int32.ofNat (pa_mot A m).1.2.2.1 = 1 from by rw [show (1 : Int32) = Int32.ofNat 1 from rfl, ci_eq (by omega) (by decide)]; exact h0), if_neg h0]
    exact xQ.here
end Q
end CQX
