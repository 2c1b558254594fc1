/-! ===== A CHANGE of the component ===== -/
section CCH
variable {ρ : zz_C} {σ σ' : zz_S} {τ τ' : Nat → Nat}
theorem rHs.push {H : List (Nat × Nat)} {As : List pa_A} {g a : Nat} {A : pa_A} (h : rHs τ σ H As) (hA : rAs τ σ g a A) : rHs τ σ (H ++ [(g, a)]) (As ++ [A]) := by
  obtain ⟨h1, h2⟩ := h
  refine ⟨by simp [h1], fun i p B hp hB => ?_⟩
  by_cases hi : i < H.length
  · rw [List.getElem?_append_left hi] at hp
    rw [List.getElem?_append_left (by omega)] at hB
    exact h2 i p B hp hB
  · have hil := (List.getElem?_eq_some_iff.mp hp).1
    simp at hil
    have : i = H.length := by omega
    subst this
    have e1 : p = (g, a) := by simpa using hp.symm
    have e2 : B = A := by rw [h1] at hB; simpa using hB.symm
    subst e1 e2
    exact hA
theorem rHs.drop {H : List (Nat × Nat)} {As : List pa_A} (h : rHs τ σ H As) : rHs τ σ (H.drop 1) (As.drop 1) := by
  obtain ⟨h1, h2⟩ := h
  refine ⟨by simp [h1], fun i p B hp hB => ?_⟩
  rw [List.getElem?_drop] at hp hB
  exact h2 _ p B hp hB
theorem rHs.keep {H : List (Nat × Nat)} {As : List pa_A} {c : Nat} {G : Nat → Prop} (h : rHs τ σ H As) (hok : ∀ A, A ∈ As → pa_ok A c) (hk : zo_k G τ σ τ' σ') (h1 : G 1) (hg : ∀ p, p ∈ H → ∀ t, p.1 ≤ t → t < p.1 + 200 → G t) : rHs τ' σ' H As :=
  ⟨h.1, fun i p A hi hA => (h.2 i p A hi hA).keep1 (hok A (List.mem_of_getElem? hA)) hk h1 (hg p (List.mem_of_getElem? hi))⟩
theorem pOwn.push {p : Nat × Nat} {H Z : List (Nat × Nat)} {T a : Nat} (h : pOwn (p :: H ++ Z) T) (hT : 1000 ≤ T) : pOwn (p :: (H ++ [(T, a)]) ++ Z) (T + 200) := by
  obtain ⟨h1, h2⟩ := h
  have hm : ∀ q, q ∈ p :: H ++ Z → q.1 + 200 ≤ T := fun q hq => (h1 q hq).2
  refine ⟨fun q hq => ?_, ?_⟩
  · rw [List.cons_append, List.mem_cons, List.mem_append, List.mem_append, List.mem_singleton] at hq
    rcases hq with hq | (hq | hq) | hq
    · have := h1 q (by rw [hq]; exact List.mem_cons_self); omega
    · have := h1 q (List.mem_cons_of_mem _ (List.mem_append_left _ hq)); omega
    · rw [hq]; exact ⟨hT, Nat.le_refl _⟩
    · have := h1 q (List.mem_cons_of_mem _ (List.mem_append_right _ hq)); omega
  · rw [List.cons_append, List.pairwise_cons, List.pairwise_append] at h2 ⊢
    obtain ⟨g1, g2, g3, g4⟩ := h2
    refine ⟨fun q hq => ?_, ?_, g3, fun q hq r hr => ?_⟩
    · rw [List.mem_append, List.mem_append, List.mem_singleton] at hq
      rcases hq with (hq | hq) | hq
      · exact g1 q (List.mem_append_left _ hq)
      · left; rw [hq]; exact hm p List.mem_cons_self
      · exact g1 q (List.mem_append_right _ hq)
    · rw [List.pairwise_append]
      refine ⟨g2, List.pairwise_singleton _ _, fun q hq r hr => ?_⟩
      rw [List.mem_singleton] at hr
      left; rw [hr]; exact hm q (List.mem_cons_of_mem _ (List.mem_append_left _ hq))
    · rw [List.mem_append, List.mem_singleton] at hq
      rcases hq with hq | hq
      · exact g4 q hq r hr
      · right; rw [hq]; exact hm r (List.mem_cons_of_mem _ (List.mem_append_right _ hr))
theorem pOwn.drop {p : Nat × Nat} {H Z : List (Nat × Nat)} {T : Nat} (h : pOwn (p :: H ++ Z) T) : pOwn (p :: H.drop 1 ++ Z) T := by
  have hs : List.Sublist (p :: H.drop 1 ++ Z) (p :: H ++ Z) := by
    rw [List.cons_append, List.cons_append]
    exact List.Sublist.cons_cons _ (List.Sublist.append (List.drop_sublist 1 H) (List.Sublist.refl _))
  exact ⟨fun q hq => h.1 q (hs.subset hq), h.2.sublist hs⟩
/-- what a change of the component answers -/
def xO (L : List Nat) (ρ : zz_C) (τ : Nat → Nat) (σ : zz_S) (x : Nat) (S : pa_S) (o : pa_O) (k : Nat) (F : zz_R) : Prop := match o with
  | .inl (v, A') => ∃ τ' σ' T', F = zz_rI (.ofNat v) σ' ∧ xStep τ σ τ' σ' k ∧ rS ρ τ' σ' x (pa_after S (.inl (v, A'))) T'
  | .inr p => ∃ τ' σ' T' b, F = zz_thr (kcls L p, b) σ' ∧ xStep τ σ τ' σ' k ∧ rS ρ τ' σ' x S T' ∧ σ'.2.2 b = some (true, .inr (kcls L p, []))
theorem kc_change {L : List Nat} {x y T c k cl n : Nat} {w : Bool} {fs : List Value} {S : pa_S} {o : pa_O} (hr : rS ρ τ σ x S T) (hp : pS S c) (hc : c ≤ 1000) (hw : zo_wf τ σ) (hca : rCache ρ τ σ) (hG : zp_gas (n + k + 220) σ) (hfu : 100 ≤ ρ.2) (hy : σ.2.2 y = some (w, .inr (cl, fs))) (hyt : τ y = 1) (ho' : ∀ v A', o = .inl (v, A') → pa_ok A' (c + 1))
    (hop : ∀ τ1 σ1 g0 a0, rAs τ1 σ1 g0 a0 S.1 → 1000 ≤ g0 → zo_wf τ1 σ1 → rCache ρ τ1 σ1 → zp_gas (n + k) σ1 → σ1.2.2 y = σ.2.2 y → cO L τ1 σ1 g0 a0 o k (zlamC cl ρ y (some a0) σ1)) :
    xO L ρ τ σ x S o (220 + k) (zF_X1_change ρ x (some y) σ) := by
  obtain ⟨fa, ad, d, e, h, tb, l, g0, a0, H, Z, hr⟩ := hr
  have hr0 := hr
  obtain ⟨r1, r2, r3, ⟨r4, r5, r6⟩, r7, r8, r9, r10, r11, r12, r13, r14⟩ := hr
  have hg0 := r12.1 _ List.mem_cons_self
  have hg0' : 1000 ≤ g0 ∧ g0 + 200 ≤ T := hg0
  rw [zl_change, zp_gR r2 (k := 4) (v := some a0) rfl, Option.bind_some, r9.ck]
  obtain ⟨τ1, σ1, a1, i1, i2, i3⟩ := kc_copy (ρ := ρ) (t := T) (n := n + k) r9 hp.1 hc hg0'.1 hg0'.2 r13 hw hca hG hfu
  have hk1 := i2.src
  have hw1 := i2.2.2.1
  have hT1 : ∀ b, τ1 b < T + 200 := fun b => by
    have := i2.2.2.2.2.2 b
    have := r13 b
    omega
  have hx1 := hr0.keep hp hk1 hT1 (by omega)
  obtain ⟨s1, s2, s3, ⟨s4, s5, s6⟩, s7, s8, s9, s10, s11, s12, s13, s14⟩ := hx1
  have hy1 := (hk1 y (by rw [hyt]; decide)).2
  have g1 : zp_gas (n + k) σ1 := i2.gas (n := n + k) hG (by omega)
  have hO := hop τ1 σ1 g0 a0 s9 hg0'.1 hw1 (hca.keep hk1 (by decide)) g1 hy1
  rw [i1, cc_R, zp_gR s2 (k := 4) (v := some a0) rfl, Option.bind_some, zp_dp (hy1.trans hy)]
  have hstep1 : xStep τ σ τ1 σ1 220 := ⟨hw1, hk1.mono fun t ht => by unfold kX at ht; omega, fun n hn => i2.2.2.2.1.gas (n := n) hn, i2.2.2.2.1.2.1⟩
  cases o with
  | inr p =>
    obtain ⟨b, σ2, f1, f2, f3⟩ := hO
    have hk2 : zo_k (fun t => t ≠ 0) τ1 σ1 τ1 σ2 := zo_k.of_le hw1 f2 (by simp) fun _ h => h.elim
    have hx2 := (hr0.keep hp hk1 hT1 (by omega)).keep hp hk2 hT1 (Nat.le_refl _)
    rw [f1, cc_Ix]
    refine ⟨τ1, σ2, T + 200, b, rfl, ⟨hw1.le f2, ?_, fun n hn => f2.gas (n := n) (hstep1.2.2.1 (n + k) (by rw [show n + k + 220 = n + (220 + k) by omega]; exact hn)), Nat.le_trans hstep1.2.2.2 f2.2.1⟩, ⟨_, _, _, _, _, _, _, _, _, _, _, hx2⟩, f3⟩
    exact (hstep1.2.1.trans hk2).mono fun t ht => ⟨ht, by unfold kX at ht; omega⟩
  | inl q =>
    obtain ⟨v, A'⟩ := q
    obtain ⟨τ2, σ2, f1, f2, f3, f4, f5⟩ := hO
    have hk2 : zo_k (fun t => t ≠ 0 ∧ ¬ (g0 ≤ t ∧ t < g0 + 200)) τ1 σ1 τ2 σ2 := fun b hb => ⟨f4.1 b hb.1, f2.keep (hw1.lt hb.1) hb.2⟩
    have hT2 : ∀ b, τ2 b < T + 200 := f4.2 (T + 200) (by omega) (by omega) hT1
    rw [f1, cc_I]
    have kx2 := hk2 x (by rw [s1]; omega)
    have kd2 := hk2 d (by rw [s4]; omega)
    have ke2 := hk2 e (by rw [s5]; omega)
    have u6 : cD σ2 d e h (H.map (·.2)) := s6.keep kd2.2 ke2.2
    have hown := s12.2
    rw [List.cons_append, List.pairwise_cons] at hown
    have hHok : ∀ p, p ∈ H → ∀ t, p.1 ≤ t → t < p.1 + 200 → t ≠ 0 ∧ ¬ (g0 ≤ t ∧ t < g0 + 200) := fun p hpH t h1 h2 => by
      have h3 := hown.1 p (List.mem_append_left _ hpH)
      have h4 := (r12.1 p (by rw [List.cons_append]; exact List.mem_cons_of_mem _ (List.mem_append_left _ hpH))).1
      have h3 : g0 + 200 ≤ p.1 ∨ p.1 + 200 ≤ g0 := h3
      omega
    have u10 : rHs τ2 σ2 H S.2.1 := s10.keep hp.2.1 hk2 (by omega) hHok
    have u3 : rAs τ2 σ2 T a1 S.1 := i3.keep1 hp.1 hk2 (by omega) fun t h1 h2 => by omega
    have cls : ∀ g a A, rAs τ2 σ2 g a A → ∃ w fs, σ2.2.2 a = some (w, .inr (2, fs)) := fun g a A hA => by
      obtain ⟨af, ac, am, F, C, Mo, k0, k1, -⟩ := hA
      exact ⟨true, _, k1⟩
    have hHl : H.length ≤ 8 := by rw [s10.1]; exact hp.2.2.1
    obtain ⟨σ3, h', m1, m2, m3⟩ := kc_remember (ρ := ρ) (x := x) (a1 := a1) (kx2.2.trans s2) rfl u6 (by simpa using hHl) (cls _ _ _ u3) (fun a ha => by
      obtain ⟨p, hpH, rfl⟩ := List.mem_map.mp ha
      obtain ⟨i, hi⟩ := List.getElem?_of_mem hpH
      have hil := (List.getElem?_eq_some_iff.mp hi).1
      exact cls _ _ _ (u10.2 i p _ hi (List.getElem?_eq_getElem (u10.1 ▸ hil)))) ⟨fun h => by rw [h, s4] at s1; omega, fun h => by rw [h, s5] at s1; omega⟩ f3.1
    have hk3 : zo_k (fun t => t ≠ 0 ∧ t ≠ 4) τ2 σ2 τ2 σ3 := fun b hb => ⟨rfl, m2.keep (f3.lt hb.1) fun h => by
      rcases h with h | h
      · rw [h, kd2.1, s4] at hb; omega
      · rw [h, ke2.1, s5] at hb; omega⟩
    rw [zp_ck (kx2.2.trans s2), m1, cc_V]
    have hk23 : zo_k (fun t => t ≠ 0 ∧ t ≠ 4 ∧ ¬ (g0 ≤ t ∧ t < g0 + 200)) τ1 σ1 τ2 σ3 := (hk2.trans hk3).mono fun t ht => ⟨⟨ht.1, ht.2.2⟩, ht.1, ht.2.1⟩
    have kx3 := hk23 x (by rw [s1]; omega)
    have l2 : zp_le (fun b => g0 ≤ τ1 b ∧ τ1 b < g0 + 200 ∨ b = d ∨ b = e) k σ1 σ3 := (f2.mono (M' := fun b => g0 ≤ τ1 b ∧ τ1 b < g0 + 200 ∨ b = d ∨ b = e) (fun b _ h => .inl h) (Nat.le_refl _)).trans (k' := 0) m2 fun b _ h => .inr h
    have hH3 : rHs τ2 σ3 (H ++ [(T, a1)]) (S.2.1 ++ [S.1]) := by
      refine (u10.push u3).keep (c := c) (fun A hA => ?_) hk3 (by omega) fun p hpH t h1 h2 => ?_
      · rcases List.mem_append.mp hA with h | h
        · exact hp.2.1 A h
        · have : A = S.1 := by simpa using h
          rw [this]; exact hp.1
      · rcases List.mem_append.mp hpH with h | h
        · have := (r12.1 p (by rw [List.cons_append]; exact List.mem_cons_of_mem _ (List.mem_append_left _ h))).1
          omega
        · have : p = (T, a1) := by simpa using h
          rw [this] at h1
          have h1 : T ≤ t := h1
          omega
    have hrest : ∀ H', H' = (if H.length = 8 then H.drop 1 ++ [(T, a1)] else H ++ [(T, a1)]) → rHs τ2 σ3 H' (pa_push S.2.1 S.1) ∧ pOwn ((g0, a0) :: H' ++ Z.toList) (T + 200) ∧ cD σ3 d e h' (H'.map (·.2)) := fun H' hH' => by
      have hl := s10.1
      unfold pa_push
      by_cases h8 : H.length = 8
      · rw [if_pos h8] at hH'
        rw [if_pos (hl ▸ h8)]
        rw [if_pos (by simpa using h8)] at m3
        have hd1 : (H ++ [(T, a1)]).drop 1 = H.drop 1 ++ [(T, a1)] := List.drop_append_of_le_length (by omega)
        have hd2 : (S.2.1 ++ [S.1]).drop 1 = S.2.1.drop 1 ++ [S.1] := List.drop_append_of_le_length (by omega)
        subst hH'
        refine ⟨?_, ?_, ?_⟩
        · rw [← hd1, ← hd2]; exact hH3.drop
        · rw [← hd1]; exact (r12.push r14).drop
        · rw [List.map_append, List.map_drop]; exact m3
      · rw [if_neg h8] at hH'
        rw [if_neg (hl ▸ h8)]
        rw [if_neg (by simpa using h8)] at m3
        subst hH'
        refine ⟨hH3, r12.push r14, ?_⟩
        rw [List.map_append]; exact m3
    obtain ⟨v1, v2, v3⟩ := hrest _ rfl
    refine ⟨τ2, σ3, T + 200, rfl, ⟨f3.le m2, ?_, fun n hn => l2.gas (n := n) (hstep1.2.2.1 (n + k) (by rw [show n + k + 220 = n + (220 + k) by omega]; exact hn)), Nat.le_trans hstep1.2.2.2 l2.2.1⟩, fa, ad, d, e, h', tb, l, g0, a0, (if H.length = 8 then H.drop 1 ++ [(T, a1)] else H ++ [(T, a1)]), Z, ?_⟩
    · exact (hstep1.2.1.trans hk23).mono fun t ht => ⟨ht, by unfold kX at ht; omega⟩
    · refine ⟨kx3.1.trans s1, kx3.2.trans s2, s3.keep hk23 (by omega), ⟨kd2.1.trans s4, ke2.1.trans s5, v3⟩, s7.keep hk23 (by omega), s8.keep hk23 (by omega), ?_, v1, ⟨s11.1, fun z A hz hA => ?_⟩, v2, hT2, by omega⟩
      · have hm2 : zo_k (fun t => g0 ≤ t ∧ t < g0 + 200 ∨ t = 1) τ2 σ2 τ2 σ3 := hk3.mono fun t ht => by omega
        exact f5.keep1 (ho' v A' rfl) hm2 (.inr rfl) fun t h1 h2 => .inl ⟨h1, h2⟩
      · have h1 := hown.1 z (List.mem_append_right _ (by rw [hz]; simp))
        have h2 := (r12.1 z (by rw [hz, List.cons_append]; exact List.mem_cons_of_mem _ (List.mem_append_right _ (by simp)))).1
        have h1 : g0 + 200 ≤ z.1 ∨ z.1 + 200 ≤ g0 := h1
        exact (s11.2 z A hz hA).keep1 (hp.2.2.2.1 A hA) hk23 (by omega) fun t h3 h4 => by omega
end CCH
