/-! ===== save, restore ===== -/
section CSV
variable {ρ : zz_C} {σ σ' : zz_S} {τ τ' : Nat → Nat}
theorem rAs.motCount {g a : Nat} {A : pa_A} (h : rAs τ σ g a A) : ∃ am, zz_gR σ (some a) 2 2 = some (some am) ∧ (∀ K, zz_ck σ (some am) 102 K = K am) ∧ zF_J2_size ρ am σ = zz_rI (.ofNat A.2.2.1.length) σ := by
  obtain ⟨af, ac, am, F, C, Mo, hX⟩ := h
  obtain ⟨-, -, f3, -, -, f6, -, -, f9⟩ := hX.fl (ρ := ρ)
  exact ⟨am, f3, f6, f9⟩
theorem kx_save {x T c n : Nat} {S : pa_S} (hh : xH ρ τ σ x S T c n) : xA ρ τ σ x (pa_save S) 220 (.inl (.ofNat S.1.2.2.1.length)) (zF_X1_save ρ x σ) := by
  obtain ⟨hr, hp, hc, hw, hca, hG, hfu⟩ := hh
  obtain ⟨fa, ad, d, e, h, tb, l, g0, a0, H, Z, hr⟩ := hr
  have hr0 := hr
  obtain ⟨r1, r2, r3, ⟨r4, r5, r6⟩, r7, r8, r9, r10, r11, r12, r13, r14⟩ := hr
  have hg0 := r12.1 _ List.mem_cons_self
  have hg0' : 1000 ≤ g0 ∧ g0 + 200 ≤ T := hg0
  obtain ⟨τ1, σ1, a1, i1, i2, i3⟩ := kc_copy (ρ := ρ) (t := T) (n := n + 40) r9 hp.1 (by omega) hg0'.1 hg0'.2 r13 hw hca hG hfu
  have hk1 := i2.src
  have hw1 := i2.2.2.1
  have hT1 : ∀ b, τ1 b < T + 200 := fun b => by
    have := i2.2.2.2.2.2 b
    have := r13 b
    omega
  obtain ⟨s1, s2, s3, ⟨s4, s5, s6⟩, s7, s8, s9, s10, s11, s12, s13, s14⟩ := hr0.keep hp hk1 hT1 (by omega)
  obtain ⟨σ2, e2⟩ : ∃ s, s = zz_set σ1 x (xcell fa ad d tb a0 (some a1) l S) := ⟨_, rfl⟩
  have l2 : zp_le (fun b => b = x) 0 σ1 σ2 := by rw [e2]; exact zp_set_le (hw1.1.lt s2) rfl
  have hpf : zz_pf σ1 (some x) 1 9 5 (va_rf (some a1)) = some σ2 := by rw [e2]; exact zq_pf (N := 9) s2 rfl rfl
  have hk2 : zo_k (fun t => t ≠ 0 ∧ t ≠ 2) τ1 σ1 τ1 σ2 := fun b hb => ⟨rfl, l2.keep (hw1.lt hb.1) fun h => by rw [h, s1] at hb; omega⟩
  have hx2 : σ2.2.2 x = some (true, xcell fa ad d tb a0 (some a1) l S) := by rw [e2]; exact zp_set_at
  have i3' := i3.keep1 hp.1 hk2 (by decide) fun t h1 h2 => by omega
  obtain ⟨am, m1, m2, m3⟩ := i3'.motCount (ρ := ρ)
  unfold zF_X1_save
  rw [zp_gR r2 (k := 4) (v := some a0) rfl, Option.bind_some, r9.ck, i1, cc_R, hpf, Option.bind_some, zp_gR hx2 (k := 5) (v := some a1) rfl, Option.bind_some, m1, Option.bind_some, m2, m3, cc_I]
  have hown : pOwn ((g0, a0) :: H ++ [(T, a1)]) (T + 200) := by
    have h1 : pOwn ((g0, a0) :: H ++ []) T := r12.sub (by rw [List.append_nil]; exact List.sublist_append_left _ _)
    have := h1.push (a := a1) r14
    rw [List.append_nil] at this
    exact this
  have hmem : ∀ p, p ∈ H → 1000 ≤ p.1 := fun p hp' => (r12.1 p (by rw [List.cons_append]; exact List.mem_cons_of_mem _ (List.mem_append_left _ hp'))).1
  refine ⟨τ1, σ2, T + 200, ⟨hw1.le l2, (hk1.trans hk2).mono fun t ht => by unfold kX at ht; omega, fun n hn => l2.gas (n := n) (i2.2.2.2.1.gas (n := n) hn), by have := i2.2.2.2.1.2.1; have := l2.2.1; omega⟩, ⟨fa, ad, d, e, h, tb, l, g0, a0, H, some (T, a1), s1, hx2, s3.keep hk2 (by decide), ⟨s4, s5, s6.keep (hk2 d (by rw [s4]; decide)).2 (hk2 e (by rw [s5]; decide)).2⟩, s7.keep hk2 (by decide), s8.keep hk2 (by decide), s9.keep1 hp.1 hk2 (by decide) (fun t h1 h2 => by omega), s10.keep hp.2.1 hk2 (by decide) (fun p hp' t h1 h2 => by have := hmem p hp'; omega), ⟨rfl, fun z A hz hA => ?_⟩, hown, hT1, by omega⟩, rfl⟩
  have e1 : z = (T, a1) := (Option.some.inj hz).symm
  have e3 : A = S.1 := (Option.some.inj hA).symm
  subst e1 e3
  exact i3'
theorem kx_restore {x T c n : Nat} {S : pa_S} (hh : xH ρ τ σ x S T c n) : xA ρ τ σ x (pa_restore S) 220 (match S.2.2.1 with | none => .inr 138 | some A => .inl (.ofNat A.2.2.1.length)) (zF_X1_restore ρ x σ) := by
  obtain ⟨hr, hp, hc, hw, hca, hG, hfu⟩ := hh
  have hr00 := hr
  obtain ⟨fa, ad, d, e, h, tb, l, g0, a0, H, Z, hr⟩ := hr
  have hr0 := hr
  obtain ⟨r1, r2, r3, ⟨r4, r5, r6⟩, r7, r8, r9, r10, r11, r12, r13, r14⟩ := hr
  unfold zF_X1_restore zJ_X1_restore_12
  rw [zp_gR r2 (k := 5) (v := Z.map (·.2)) rfl, Option.bind_some]
  cases hS : S.2.2.1 with
  | none =>
    have hZ : Z = none := by
      have := r11.1
      rw [hS] at this
      cases Z with
      | none => rfl
      | some z => cases this
    subst hZ
    have : pa_restore S = S := by unfold pa_restore; rw [hS]
    rw [this]
    show xA _ _ _ _ _ _ _ (zz_nul none _ _)
    rw [cn_none]
    exact xA.thr (((jk_state_no (g := n + 259) hG).cV).mono (by decide)) hr00 hp hw
  | some A =>
    obtain ⟨z, rfl⟩ : ∃ z, Z = some z := by
      have := r11.1
      rw [hS] at this
      cases Z with
      | none => cases this
      | some z => exact ⟨z, rfl⟩
    have hu : pa_restore S = (A, [], S.2.2) := by unfold pa_restore; rw [hS]
    have hAok := hp.2.2.2.1 A hS
    have hzA := r11.2 z A rfl hS
    have hz := r12.1 z (by simp)
    show xA _ _ _ _ _ _ _ (zz_nul (some z.2) _ _)
    rw [cn_some, jk_state_yes, cc_V, zp_gR r2 (k := 5) (v := some z.2) rfl, Option.bind_some, hzA.ck]
    obtain ⟨τ1, σ1, a1, i1, i2, i3⟩ := kc_copy (ρ := ρ) (t := T) (n := n + 40) hzA hAok (by omega) hz.1 hz.2 r13 hw hca hG hfu
    have hk1 := i2.src
    have hw1 := i2.2.2.1
    have hT1 : ∀ b, τ1 b < T + 200 := fun b => by
      have := i2.2.2.2.2.2 b
      have := r13 b
      omega
    obtain ⟨s1, s2, s3, ⟨s4, s5, s6⟩, s7, s8, s9, s10, s11, s12, s13, s14⟩ := hr0.keep hp hk1 hT1 (by omega)
    obtain ⟨σ2, e2⟩ : ∃ s, s = zz_set σ1 x (xcell fa ad d tb a1 (some z.2) l S) := ⟨_, rfl⟩
    have l2 : zp_le (fun b => b = x) 0 σ1 σ2 := by rw [e2]; exact zp_set_le (hw1.1.lt s2) rfl
    have hpf : zz_pf σ1 (some x) 1 9 4 (va_rf (some a1)) = some σ2 := by rw [e2]; exact zq_pf (N := 9) s2 rfl rfl
    have hk2 : zo_k (fun t => t ≠ 0 ∧ t ≠ 2) τ1 σ1 τ1 σ2 := fun b hb => ⟨rfl, l2.keep (hw1.lt hb.1) fun h => by rw [h, s1] at hb; omega⟩
    have hx2 : σ2.2.2 x = some (true, xcell fa ad d tb a1 (some z.2) l S) := by rw [e2]; exact zp_set_at
    have s6' := s6.keep (hk2 d (by rw [s4]; decide)).2 (hk2 e (by rw [s5]; decide)).2
    have hw2 := hw1.le l2
    obtain ⟨σ3, j1, j2, j3⟩ := jd_clear (ρ := ρ) s6' hw2.1 hfu
    have hk3 : zo_k (fun t => t ≠ 0 ∧ t ≠ 4) τ1 σ2 τ1 σ3 := fun b hb => ⟨rfl, j2.keep (hw2.lt hb.1) fun h => by
      rcases h with h | h <;> (rw [h] at hb; omega)⟩
    have hk23 : zo_k (fun t => t ≠ 0 ∧ t ≠ 2 ∧ t ≠ 4) τ1 σ1 τ1 σ3 := (hk2.trans hk3).mono fun t ht => ⟨⟨ht.1, ht.2.1⟩, ht.1, ht.2.2⟩
    have hx3 := (hk3 x (by rw [s1]; decide)).2.trans hx2
    have i3' := i3.keep1 hAok hk23 (by decide) fun t h1 h2 => by omega
    obtain ⟨am, m1, m2, m3⟩ := i3'.motCount (ρ := ρ)
    rw [i1, cc_R, hpf, Option.bind_some, zp_gR hx2 (k := 2) (v := some d) rfl, Option.bind_some, s6'.ck, j1, cc_V, zp_gR hx3 (k := 4) (v := some a1) rfl, Option.bind_some, m1, Option.bind_some, m2, m3, cc_I, hu]
    have hown : pOwn ((T, a1) :: [] ++ [z]) (T + 200) := by
      refine ⟨fun q hq => ?_, ?_⟩
      · have : q = (T, a1) ∨ q = z := by simpa using hq
        rcases this with h | h
        · rw [h]; exact ⟨r14, Nat.le_refl _⟩
        · rw [h]; exact ⟨hz.1, by have := hz.2; omega⟩
      · show List.Pairwise _ [(T, a1), z]
        rw [List.pairwise_cons]
        refine ⟨fun q hq => ?_, List.pairwise_singleton _ _⟩
        have : q = z := by simpa using hq
        right; rw [this]; exact hz.2
    refine ⟨τ1, σ3, T + 200, ⟨hw2.le j2, (hk1.trans hk23).mono fun t ht => by unfold kX at ht; omega, fun n hn => j2.gas (n := n) (l2.gas (n := n) (i2.2.2.2.1.gas (n := n) hn)), by have := i2.2.2.2.1.2.1; have := l2.2.1; have := j2.2.1; omega⟩, ⟨fa, ad, d, e, 0, tb, l, T, a1, [], some z, s1, hx3, s3.keep hk23 (by decide), ⟨s4, s5, j3⟩, s7.keep hk23 (by decide), s8.keep hk23 (by decide), i3', ⟨rfl, fun i p B hi => by simp at hi⟩, ⟨?_, fun z' A' hz' hA' => ?_⟩, hown, hT1, by omega⟩, rfl⟩
    · show true = S.2.2.1.isSome; rw [hS]; rfl
    · have e1 : z' = z := (Option.some.inj hz').symm
      have hA' : S.2.2.1 = some A' := hA'
      have e3 : A' = A := by rw [hS] at hA'; exact (Option.some.inj hA').symm
      subst e1 e3
      have := hz.1
      exact (s11.2 z' A' rfl hS).keep1 hAok hk23 (by decide) fun t h1 h2 => by omega
end CSV
