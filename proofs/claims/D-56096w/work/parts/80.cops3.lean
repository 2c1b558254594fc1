/-! ===== THE COMPONENT's OPERATIONS: addFrog, addPad; the lists of an assembly grow ===== -/
section CG
variable {ρ : zz_C} {σ : zz_S} {τ : Nat → Nat}
/-- the IntegerCache's numbers, never written -/
def rCache (ρ : zz_C) (τ : Nat → Nat) (σ : zz_S) : Prop := ∃ (ic : Nat) (w : Bool) (f : Nat → Option Nat), ρ.1 11 = some ic ∧ τ ic = 1 ∧ σ.2.2 ic = some (w, .inl (9, (256, .inr (.inr (.inr (.inr f)))))) ∧ ∀ k, k < 256 → ∃ p, f k = some p ∧ τ p = 1 ∧ cInt σ p (Int32.ofNat k - 128)
theorem rCache.keep {G : Nat → Prop} {τ' : Nat → Nat} {σ' : zz_S} (h : zo_k G τ σ τ' σ') (h1 : G 1) (hc : rCache ρ τ σ) : rCache ρ τ' σ' := by
  obtain ⟨ic, w, f, c1, c2, c3, c4⟩ := hc
  have k1 := h ic (by rw [c2]; exact h1)
  refine ⟨ic, w, f, c1, k1.1.trans c2, k1.2.trans c3, fun k hk => ?_⟩
  obtain ⟨p, d1, d2, w', d3⟩ := c4 k hk
  have k2 := h p (by rw [d2]; exact h1)
  exact ⟨p, d1, k2.1.trans d2, w', k2.2.trans d3⟩
theorem ji_small {n : Nat} (hc : rCache ρ τ σ) (hn : n ≤ 127) : ∃ p, zF_J17_valueOf ρ (Int32.ofNat n) σ = zz_rR (some p) σ ∧ τ p = 1 ∧ cInt σ p (.ofNat n) := by
  have h1 : ¬ Int32.ofNat n < (-128 : Int32) := by
    rw [Int32.lt_iff_toInt_lt, ci_int (by omega), show (-128 : Int32).toInt = -128 from rfl]; omega
  unfold zF_J17_valueOf
  rw [if_neg h1, if_neg (show ¬ (127 : Int32) < Int32.ofNat n from by rw [show (127 : Int32) = Int32.ofNat 127 from rfl, ci_lt (by decide) (by omega)]; omega)]
  obtain ⟨ic, w, f, k1, -, k2, k3⟩ := hc
  obtain ⟨p, hp, ht, hv⟩ := k3 (n + 128) (by omega)
  have ei : Int32.ofNat n + (128 : Int32) = Int32.ofNat (n + 128) := ci_add n 128
  have ea : zz_aR σ (ρ.1 11) 9 (Int32.ofNat (n + 128)) = some (some p) := by
    rw [k1]
    unfold zz_aR zz_ar
    simp only [k2, if_true, tw_inb (show n + 128 < 256 by omega) (by decide), tw_nat (show n + 128 < 2 ^ 31 by omega), hp]
  rw [ei, ea, Option.bind_some]
  refine ⟨p, rfl, ht, ?_⟩
  have : Int32.ofNat (n + 128) - 128 = Int32.ofNat n := by rw [show (128 : Int32) = Int32.ofNat 128 from rfl, ci_sub (by omega)]; simp
  rw [this] at hv
  exact hv
/-- a frog comes to the list of frogs -/
theorem kx_addF {g a p : Nat} {A : pa_A} {af ac am : Nat} {F C Mo : List Nat} {x : pa_F} (h : rAx τ σ g a A af ac am F C Mo) (ho : pw A) (hl : A.1.length < 12) (hg0 : g ≠ 0) (hg1 : g ≠ 1) (hw : zo_wf τ σ) (hp : τ p = 0) (hc : σ.2.2 p = some (true, fcell A.1.length x)) :
    ∃ σ', zF_J2_add ρ af (some p) σ = zz_rI 1 σ' ∧ zp_le (fun b => τ b = g + 1) 0 σ σ' ∧ zo_wf (zo_tg τ p (g + 10 + A.1.length)) σ' ∧ rAx (zo_tg τ p (g + 10 + A.1.length)) σ' g a (A.1 ++ [x], A.2) af ac am (F ++ [p]) C Mo := by
  obtain ⟨k0, k1, ⟨⟨e, k2, k2', k2''⟩, k3, k4⟩, ⟨k5, k6, k7⟩, k8, k9, k10⟩ := h
  have h12 := ho.1
  have h7 := ho.2.2.1
  obtain ⟨σ', s1, s2, s3, s4, s5⟩ := ja_add (ρ := ρ) (x := p) k2'' (by omega) (by simp [zz_ok, zz_cl, hc, fcell, zz_cO])
  have hafl : af < σ.1.1 := hw.lt (by rw [k2]; omega)
  have hel : e < σ.1.1 := hw.lt (by rw [k2']; omega)
  have hle : zp_le (fun b => τ b = g + 1) 0 σ σ' := ⟨s3, by rw [s2]; exact Nat.le_refl _, by rw [s2]; omega, by rw [s2]; omega, fun b _ hb => s4 b (fun h => hb (h ▸ k2)) (fun h => hb (h ▸ k2')), fun hwf b hb => by
    rw [s2] at hb
    rw [s4 b (by omega) (by omega)]; exact hwf b hb⟩
  have hpa : p ≠ af := fun h => by rw [h, k2] at hp; omega
  have hpe : p ≠ e := fun h => by rw [h, k2'] at hp; omega
  have hpl : p < σ.1.1 := hw.1.lt hc
  have hk : zo_k (fun t => t ≠ 0 ∧ t ≠ g + 1) τ σ (zo_tg τ p (g + 10 + A.1.length)) σ' := fun b hb => ⟨zo_tg_ne fun h => hb.1 (h ▸ hp), s4 b (fun h => hb.2 (h ▸ k2)) (fun h => hb.2 (h ▸ k2'))⟩
  refine ⟨σ', s1, hle, (hw.le hle).tg (by rw [s2]; exact hpl), ?_⟩
  have htag : ∀ b, τ b ≠ 0 → zo_tg τ p (g + 10 + A.1.length) b = τ b := fun b hb => zo_tg_ne fun h => hb (h ▸ hp)
  refine ⟨(htag a (by rw [k0]; exact hg0)).trans k0, ((hk a ⟨by rw [k0]; exact hg0, by omega⟩).2).trans k1, ⟨⟨e, (htag af (by omega)).trans k2, (htag e (by omega)).trans k2', s5⟩, by simp [k3], fun k q y hq hy => ?_⟩, ⟨k5.keep hk (by omega), k6, fun k q r hq hr => ?_⟩, k8.keep hk (by omega), k9, fun m q y hq hy => ?_⟩
  · have hy : (A.1 ++ [x])[k]? = some y := hy
    have hkl := (List.getElem?_eq_some_iff.mp hy).1
    simp at hkl
    by_cases hke : k = A.1.length
    · subst hke
      have e1 : q = p := by rw [← k3] at hq; simpa using hq.symm
      have e2 : y = x := by simpa using hy.symm
      subst e1 e2
      exact ⟨zo_tg_at _ _ _, (s4 q hpa hpe).trans hc⟩
    · rw [List.getElem?_append_left (by omega)] at hq hy
      obtain ⟨t1, t2⟩ := k4 k q y hq hy
      have := hk q ⟨by omega, by omega⟩
      exact ⟨this.1.trans t1, this.2.trans t2⟩
  · obtain ⟨t1, w, t2⟩ := k7 k q r hq hr
    have := hk q ⟨by omega, by omega⟩
    exact ⟨this.1.trans t1, w, this.2.trans t2⟩
  · have hm := (List.getElem?_eq_some_iff.mp hy).1
    have := (k10 m q y hq hy).keep hk ⟨by omega, by omega⟩ (fun t g1 g2 => ⟨by omega, by omega⟩)
    refine this.fr fun k hkk => ?_
    have := (ho.2.2.2.2.2 y (List.mem_of_getElem? hy)).2.2.2.2.2.2 k hkk
    show ((A.1 ++ [x])[k.1]?.getD _).1 = _ ∧ ((A.1 ++ [x])[k.1]?.getD _).2.1 = _
    rw [List.getElem?_append_left this.1]
    exact ⟨rfl, rfl⟩
/-- a pad's room comes to its list -/
theorem kx_addC {g a p r : Nat} {A : pa_A} {af ac am : Nat} {F C Mo : List Nat} (h : rAx τ σ g a A af ac am F C Mo) (ho : pw A) (hl : A.2.1.length < 6) (hg0 : g ≠ 0) (hg1 : g ≠ 1) (hw : zo_wf τ σ) (hp : τ p = 1) (hc : cInt σ p (.ofNat r)) (hg2 : 1000 ≤ g) :
    ∃ σ', zF_J2_add ρ ac (some p) σ = zz_rI 1 σ' ∧ zp_le (fun b => τ b = g + 2) 0 σ σ' ∧ zo_wf τ σ' ∧ rAx τ σ' g a (A.1, A.2.1 ++ [r], A.2.2) af ac am F (C ++ [p]) Mo := by
  obtain ⟨k0, k1, ⟨k2, k3, k4⟩, ⟨⟨e, k5, k5', k5''⟩, k6, k7⟩, k8, k9, k10⟩ := h
  have h12 := ho.1
  have h7 := ho.2.2.1
  obtain ⟨σ', s1, s2, s3, s4, s5⟩ := ja_add (ρ := ρ) (x := p) k5'' (by omega) hc.ok
  have hafl : ac < σ.1.1 := hw.lt (by rw [k5]; omega)
  have hel : e < σ.1.1 := hw.lt (by rw [k5']; omega)
  have hle : zp_le (fun b => τ b = g + 2) 0 σ σ' := ⟨s3, by rw [s2]; exact Nat.le_refl _, by rw [s2]; omega, by rw [s2]; omega, fun b _ hb => s4 b (fun h => hb (h ▸ k5)) (fun h => hb (h ▸ k5')), fun hwf b hb => by
    rw [s2] at hb
    rw [s4 b (by omega) (by omega)]; exact hwf b hb⟩
  have hk : zo_k (fun t => t ≠ g + 2) τ σ τ σ' := fun b hb => ⟨rfl, s4 b (fun h => hb (h ▸ k5)) (fun h => hb (h ▸ k5'))⟩
  refine ⟨σ', s1, hle, hw.le hle, ?_⟩
  refine ⟨k0, ((hk a (by show τ a ≠ _; omega)).2).trans k1, ⟨k2.keep hk (by show g + 1 ≠ _; omega), k3, fun k q y hq hy => ?_⟩, ⟨⟨e, k5, k5', s5⟩, by simp [k6], fun k q y hq hy => ?_⟩, k8.keep hk (by show g + 3 ≠ _; omega), k9, fun m q y hq hy => ?_⟩
  · obtain ⟨t1, t2⟩ := k4 k q y hq hy
    exact ⟨t1, (hk q (by show τ q ≠ _; omega)).2.trans t2⟩
  · have hy : (A.2.1 ++ [r])[k]? = some y := hy
    have hkl := (List.getElem?_eq_some_iff.mp hy).1
    simp at hkl
    by_cases hke : k = A.2.1.length
    · subst hke
      have e1 : q = p := by rw [← k6] at hq; simpa using hq.symm
      have e2 : y = r := by simpa using hy.symm
      subst e1 e2
      obtain ⟨w, hw'⟩ := hc
      exact ⟨hp, w, (hk q (by show τ q ≠ _; omega)).2.trans hw'⟩
    · rw [List.getElem?_append_left (by omega)] at hq hy
      obtain ⟨t1, w, t2⟩ := k7 k q y hq hy
      exact ⟨t1, w, (hk q (by show τ q ≠ _; omega)).2.trans t2⟩
  · have hm := (List.getElem?_eq_some_iff.mp hy).1
    exact (k10 m q y hq hy).keep hk (by show 1 ≠ _; omega) (fun t g1 g2 => by show t ≠ _; omega)
/-- a motion comes to its list -/
theorem kx_addM {g a p : Nat} {A : pa_A} {af ac am : Nat} {F C Mo : List Nat} {x : pa_Mo} (h : rAx τ σ g a A af ac am F C Mo) (ho : pw A) (hl : A.2.2.1.length < 6) (hg2 : 1000 ≤ g) (hw : zo_wf τ σ) (hp : rMo τ σ A.1 (g + 100 + 10 * A.2.2.1.length) p A.2.2.1.length x) :
    ∃ σ', zF_J2_add ρ am (some p) σ = zz_rI 1 σ' ∧ zp_le (fun b => τ b = g + 3) 0 σ σ' ∧ zo_wf τ σ' ∧ rAx τ σ' g a (A.1, A.2.1, A.2.2.1 ++ [x], A.2.2.2) af ac am F C (Mo ++ [p]) := by
  obtain ⟨k0, k1, ⟨k2, k3, k4⟩, ⟨k5, k6, k7⟩, ⟨e, k8, k8', k8''⟩, k9, k10⟩ := h
  have h12 := ho.1
  have h7 := ho.2.2.1
  have hpo : zz_ok σ (some p) zz_cO = true := by
    obtain ⟨-, l, q, b, R, K, t3, -⟩ := hp
    simp [zz_ok, zz_cl, t3, mcell, zz_cO]
  obtain ⟨σ', s1, s2, s3, s4, s5⟩ := ja_add (ρ := ρ) (x := p) k8'' (by omega) hpo
  have hafl : am < σ.1.1 := hw.lt (by rw [k8]; omega)
  have hel : e < σ.1.1 := hw.lt (by rw [k8']; omega)
  have hle : zp_le (fun b => τ b = g + 3) 0 σ σ' := ⟨s3, by rw [s2]; exact Nat.le_refl _, by rw [s2]; omega, by rw [s2]; omega, fun b _ hb => s4 b (fun h => hb (h ▸ k8)) (fun h => hb (h ▸ k8')), fun hwf b hb => by
    rw [s2] at hb
    rw [s4 b (by omega) (by omega)]; exact hwf b hb⟩
  have hk : zo_k (fun t => t ≠ g + 3) τ σ τ σ' := fun b hb => ⟨rfl, s4 b (fun h => hb (h ▸ k8)) (fun h => hb (h ▸ k8'))⟩
  refine ⟨σ', s1, hle, hw.le hle, ?_⟩
  refine ⟨k0, ((hk a (by show τ a ≠ _; omega)).2).trans k1, ⟨k2.keep hk (by show g + 1 ≠ _; omega), k3, fun k q y hq hy => ?_⟩, ⟨k5.keep hk (by show g + 2 ≠ _; omega), k6, fun k q y hq hy => ?_⟩, ⟨e, k8, k8', s5⟩, by simp [k9], fun m q y hq hy => ?_⟩
  · obtain ⟨t1, t2⟩ := k4 k q y hq hy
    exact ⟨t1, (hk q (by show τ q ≠ _; omega)).2.trans t2⟩
  · obtain ⟨t1, w, t2⟩ := k7 k q y hq hy
    exact ⟨t1, w, (hk q (by show τ q ≠ _; omega)).2.trans t2⟩
  · have hy : (A.2.2.1 ++ [x])[m]? = some y := hy
    have hml := (List.getElem?_eq_some_iff.mp hy).1
    simp at hml
    by_cases hme : m = A.2.2.1.length
    · subst hme
      have e1 : q = p := by rw [← k9] at hq; simpa using hq.symm
      have e2 : y = x := by simpa using hy.symm
      subst e1 e2
      exact hp.keep hk (by show 1 ≠ _; omega) (fun t g1 g2 => by show t ≠ _; omega)
    · rw [List.getElem?_append_left (by omega)] at hq hy
      exact (k10 m q y hq hy).keep hk (by show 1 ≠ _; omega) (fun t g1 g2 => by show t ≠ _; omega)
/-- the lists of an assembly, as they are read -/
theorem rAx.fl {g a : Nat} {A : pa_A} {af ac am : Nat} {F C Mo : List Nat} (h : rAx τ σ g a A af ac am F C Mo) : zz_gR σ (some a) 2 0 = some (some af) ∧ zz_gR σ (some a) 2 1 = some (some ac) ∧ zz_gR σ (some a) 2 2 = some (some am) ∧ (∀ K, zz_ck σ (some af) 102 K = K af) ∧ (∀ K, zz_ck σ (some ac) 102 K = K ac) ∧ (∀ K, zz_ck σ (some am) 102 K = K am) ∧ zF_J2_size ρ af σ = zz_rI (.ofNat A.1.length) σ ∧ zF_J2_size ρ ac σ = zz_rI (.ofNat A.2.1.length) σ ∧ zF_J2_size ρ am σ = zz_rI (.ofNat A.2.2.1.length) σ := by
  obtain ⟨k0, k1, ⟨⟨e, k2, k2', k2''⟩, k3, k4⟩, ⟨⟨e', k5, k5', k5''⟩, k6, k7⟩, ⟨e'', k8, k8', k8''⟩, k9, k10⟩ := h
  exact ⟨zp_gR k1 rfl, zp_gR k1 rfl, zp_gR k1 rfl, fun K => ja_ck k2'', fun K => ja_ck k5'', fun K => ja_ck k8'', k3 ▸ ja_size k2'', k6 ▸ ja_size k5'', k9 ▸ ja_size k8''⟩
/-- a picture behind new cells -/
theorem rAx.al {g a : Nat} {A : pa_A} {af ac am : Nat} {F C Mo : List Nat} (h : rAx τ σ g a A af ac am F C Mo) (ho : pw A) (hg0 : g ≠ 0) (hw : zo_wf τ σ) {k : Nat} {σ' : zz_S} (hl : zp_le zp_no k σ σ') : rAx τ σ' g a A af ac am F C Mo :=
  h.keep (G := fun t => t ≠ 0) (zo_k.of_le hw hl (by simp) fun _ hm => hm.elim) (by simp) (fun t h1 _ => by omega) ho.1 ho.2.2.1
theorem kc_addPad {g a n : Nat} {A : pa_A} (x : Int32) (h : rAs τ σ g a A) (ho : pw A) (hg2 : 1000 ≤ g) (hw : zo_wf τ σ) (hc : rCache ρ τ σ) (hg : zp_gas (n + 1) σ) : cO [106, 138] τ σ g a (pa_addPad x A) 1 (zF_X2_addPad ρ a x σ) := by
  unfold zF_X2_addPad pa_addPad
  cases hx : pd x 1 5 with
  | none => 
    rw [jk_between_no (lo := 1) (n := 5) 1 4 rfl (by decide) (by decide) (by decide) hx, cc_I]
    exact (jk_arg_no hg).cV
  | some w =>
    obtain ⟨hw1, hw2, rfl⟩ := pd_some hx
    obtain ⟨af, ac, am, F, C, Mo, hX⟩ := h
    obtain ⟨f1, f2, f3, f4, f5, f6, f7, f8, f9⟩ := hX.fl (ρ := ρ)
    have h6 := ho.2.1
    rw [jk_between_yes (lo := 1) (n := 5) 1 4 rfl (by decide) (by decide) hw1 hw2, cc_I, jk_arg_yes, cc_V, f2, Option.bind_some, f5, f8, cc_I]
    show cO _ τ σ g a (if A.2.1.length = 6 then .inr 2 else _) 1 _
    unfold zJ_X2_addPad_26
    by_cases h3 : A.2.1.length = 6
    · rw [if_pos h3, if_pos (show (6 : Int32) ≤ _ from by rw [h3]; decide)]
      exact (jk_state_no hg).cV
    · rw [if_neg h3, if_neg (show ¬ (6 : Int32) ≤ _ from by rw [show (6 : Int32) = Int32.ofNat 6 from rfl, ci_le (by decide) (by omega)]; omega), jk_state_yes, cc_V]
      obtain ⟨p, v1, v2, v3⟩ := ji_small (n := w) hc (by omega)
      obtain ⟨σ', s1, s2, s3, s4⟩ := kx_addC (ρ := ρ) hX ho (by omega) (by omega) (by omega) hw v2 v3 hg2
      obtain ⟨-, f2', -, -, f5', -, -, f8', -⟩ := s4.fl (ρ := ρ)
      rw [f2, Option.bind_some, v1, cc_R, f5, s1, cc_I, f2', Option.bind_some, f5', f8', cc_I, show (A.2.1 ++ [w]).length = A.2.1.length + 1 by simp, show (1 : Int32) = Int32.ofNat 1 from rfl, ci_sub (by omega)]
      exact ⟨τ, σ', rfl, s2.mono (fun b _ hb => by have hb : τ b = g + 2 := hb; constructor <;> omega) (by omega), s3, zo_g.refl _ _, af, ac, am, F, _, Mo, s4⟩
theorem kc_initF {p k pond weight : Nat} {v0 v1 v2 v3 : Value} (h : σ.2.2 p = some (true, .inr (5, [v0, v1, v2, v3, .int 0]))) (hw : zp_wf σ) :
    ∃ σ', zF_X5_init_2 ρ p (.ofNat k) (.ofNat pond) (.ofNat weight) σ = zz_rV σ' ∧ zp_le (fun b => b = p) 0 σ σ' ∧ σ'.2.2 p = some (true, fcell k (pond, weight, 0, 0)) := by
  unfold zF_X5_init_2
  rw [zp_pf (N := 5) h rfl, Option.bind_some, zp_pf (N := 5) zp_set_at rfl, Option.bind_some, cs_set_set, zp_pf (N := 5) zp_set_at rfl, Option.bind_some, cs_set_set, zp_pf (N := 5) zp_set_at rfl, Option.bind_some, cs_set_set]
  exact ⟨_, rfl, zp_set_le (hw.lt h) rfl, zp_set_at⟩
theorem kc_addFrog {g a n : Nat} {A : pa_A} (x y : Int32) (h : rAs τ σ g a A) (ho : pw A) (hg2 : 1000 ≤ g) (hw : zo_wf τ σ) (hg : zp_gas (n + 1) σ) : cO [122, 106, 138] τ σ g a (pa_addFrog x y A) 1 (zF_X2_addFrog ρ a x y σ) := by
  unfold zF_X2_addFrog pa_addFrog
  cases hx : pd x 0 4 with
  | none => exact (jk_index_no (n := 4) (by decide) hx hg).cV
  | some d =>
  obtain ⟨-, hd, rfl⟩ := pd_some hx
  have ei : zF_X1_checkIndex ρ (.ofNat d) (4 : Int32) σ = zz_rV σ := jk_index_yes (n := 4) (by decide) hd
  rw [ei, cc_V]
  show cO _ τ σ g a (match pd y 1 10 with | none => .inr 2 | some w => _) 1 _
  cases hy : pd y 1 10 with
  | none => 
    rw [jk_between_no (lo := 1) (n := 10) 1 9 rfl (by decide) (by decide) (by decide) hy, cc_I]
    exact (jk_arg_no hg).cV
  | some w =>
    obtain ⟨hw1, hw2, rfl⟩ := pd_some hy
    obtain ⟨af, ac, am, F, C, Mo, hX⟩ := h
    obtain ⟨f1, f2, f3, f4, f5, f6, f7, f8, f9⟩ := hX.fl (ρ := ρ)
    have h12 := ho.1
    rw [jk_between_yes (lo := 1) (n := 10) 1 9 rfl (by decide) (by decide) hw1 hw2, cc_I, jk_arg_yes, cc_V, f1, Option.bind_some, f4, f7, cc_I]
    show cO _ τ σ g a (if A.1.length = 12 then .inr 3 else _) 1 _
    unfold zJ_X2_addFrog_32
    by_cases h3 : A.1.length = 12
    · rw [if_pos h3, if_pos (show (12 : Int32) ≤ _ from by rw [h3]; decide)]
      exact (jk_state_no hg).cV
    · rw [if_neg h3, if_neg (show ¬ (12 : Int32) ≤ _ from by rw [show (12 : Int32) = Int32.ofNat 12 from rfl, ci_le (by decide) (by omega)]; omega), jk_state_yes, cc_V, f1, Option.bind_some, zp_al_eq hg (by decide)]
      have l1 : zp_le zp_no 1 σ (zp_al σ (.inr (5, [.int 0, .int 0, .int 0, .int 0, .int 0])) 5) := zp_al_le (by decide)
      have hX1 := hX.al ho (by omega) hw l1
      obtain ⟨f1', f2', f3', f4', f5', f6', f7', f8', f9'⟩ := hX1.fl (ρ := ρ)
      obtain ⟨σ2, i1, i2, i3⟩ := kc_initF (ρ := ρ) (p := σ.1.1) (k := A.1.length) (pond := d) (weight := w) (σ := zp_al σ (.inr (5, [.int 0, .int 0, .int 0, .int 0, .int 0])) 5) zp_al_new (l1.wf hw.1)
      have hw1' := hw.le l1
      have hX2 : rAx τ σ2 g a A af ac am F C Mo := hX1.keep (G := fun t => t ≠ 0) (zo_k.of_le hw1' i2 (by simp) fun b hb => by subst hb; simp [hw.new]) (by simp) (fun t h1 _ => by omega) h12 ho.2.2.1
      obtain ⟨-, -, -, f4'', -, -, -, -, -⟩ := hX2.fl (ρ := ρ)
      obtain ⟨σ', s1, s2, s3, s4⟩ := kx_addF (ρ := ρ) (x := (d, w, 0, 0)) hX2 ho (by omega) (by omega) (by omega) (hw1'.le i2) hw.new i3
      obtain ⟨q1, -, -, q4, -, -, q7, -, -⟩ := s4.fl (ρ := ρ)
      have hlen : ((A.1 ++ [(d, w, 0, 0)], A.2) : pa_A).1.length = A.1.length + 1 := by simp
      rw [f1', Option.bind_some, f4', f7', cc_I, i1, cc_V, f4'', s1, cc_I, q1, Option.bind_some, q4, q7, cc_I, hlen, show (1 : Int32) = Int32.ofNat 1 from rfl, ci_sub (by omega)]
      refine ⟨_, σ', rfl, ?_, s3, zo_g.tg hw.new (.inr ⟨by omega, by omega⟩), af, ac, am, _, C, Mo, s4⟩
      have l12 : zp_le zp_no 1 σ σ2 := l1.trans (k' := 0) i2 fun b hb he => by omega
      exact (l12.none (M := fun b => g ≤ τ b ∧ τ b < g + 200) (Nat.le_refl 1)).trans s2 fun b _ hb => by have hb : τ b = g + 1 := hb; constructor <;> omega
end CG
