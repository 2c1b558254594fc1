/-! ===== undo, save, restore ===== -/
section CUN
variable {ρ : zz_C} {σ σ' : zz_S} {τ τ' : Nat → Nat}
/-- a call's answer: a value or the class of what was thrown; the state behind it -/
def xA (ρ : zz_C) (τ : Nat → Nat) (σ : zz_S) (x : Nat) (S' : pa_S) (k : Nat) (r : Int32 ⊕ Nat) (F : zz_R) : Prop := ∃ τ' σ' T', xStep τ σ τ' σ' k ∧ rS ρ τ' σ' x S' T' ∧ (match r with | .inl v => F = zz_rI v σ' | .inr c => ∃ b, F = zz_thr (c, b) σ' ∧ σ'.2.2 b = some (true, .inr (c, [])))
theorem xO.xA {L : List Nat} {x k : Nat} {S : pa_S} {o : pa_O} {F : zz_R} (h : xO L ρ τ σ x S o k F) : xA ρ τ σ x (pa_after S o) k (match o with | .inl q => .inl (.ofNat q.1) | .inr p => .inr (kcls L p)) F := by
  cases o with
  | inl q =>
    obtain ⟨τ', σ', T', h1, h2, h3⟩ := h
    exact ⟨τ', σ', T', h2, h3, h1⟩
  | inr p =>
    obtain ⟨τ', σ', T', b, h1, h2, h3, h4⟩ := h
    exact ⟨τ', σ', T', h2, h3, b, h1, h4⟩
/-- a throw of the component, nothing changed -/
theorem xA.thr {x c cc k T : Nat} {S : pa_S} {F : zz_R} (h : zthr F cc k σ) (hr : rS ρ τ σ x S T) (hp : pS S c) (hw : zo_wf τ σ) : xA ρ τ σ x S k (.inr cc) F := by
  obtain ⟨b, σ2, f1, f2, f3⟩ := h
  have hk : zo_k (fun t => t ≠ 0) τ σ τ σ2 := zo_k.of_le hw f2 (by simp) fun _ h => h.elim
  obtain ⟨fa, ad, d, e, h, tb, l, g0, a0, H, Z, hr⟩ := hr
  exact ⟨τ, σ2, T, ⟨hw.le f2, hk.mono fun t ht => by unfold kX at ht; omega, fun n hn => f2.gas (n := n) hn, f2.2.1⟩, ⟨fa, ad, d, e, h, tb, l, g0, a0, H, Z, hr.keep hp hk hr.2.2.2.2.2.2.2.2.2.2.1 (Nat.le_refl _)⟩, b, f1, f3⟩
/-- a value, nothing changed -/
theorem xA.val {x c k T : Nat} {v : Int32} {S : pa_S} {F : zz_R} (h : ∃ σ', F = zz_rI v σ' ∧ zp_le zp_no k σ σ') (hr : rS ρ τ σ x S T) (hp : pS S c) (hw : zo_wf τ σ) : xA ρ τ σ x S k (.inl v) F := by
  obtain ⟨σ2, f1, f2⟩ := h
  have hk : zo_k (fun t => t ≠ 0) τ σ τ σ2 := zo_k.of_le hw f2 (by simp) fun _ h => h.elim
  obtain ⟨fa, ad, d, e, h, tb, l, g0, a0, H, Z, hr⟩ := hr
  exact ⟨τ, σ2, T, ⟨hw.le f2, hk.mono fun t ht => by unfold kX at ht; omega, fun n hn => f2.gas (n := n) hn, f2.2.1⟩, ⟨fa, ad, d, e, h, tb, l, g0, a0, H, Z, hr.keep hp hk hr.2.2.2.2.2.2.2.2.2.2.1 (Nat.le_refl _)⟩, f1⟩
def pa_undo (S : pa_S) : pa_S := match S.2.1.getLast? with
  | some A => (A, S.2.1.dropLast, S.2.2)
  | none => S
def pa_save (S : pa_S) : pa_S := (S.1, S.2.1, some S.1, S.2.2.2)
def pa_restore (S : pa_S) : pa_S := match S.2.2.1 with
  | some A => (A, [], S.2.2)
  | none => S
theorem pOwn.sub {L L' : List (Nat × Nat)} {T : Nat} (h : pOwn L T) (hs : List.Sublist L' L) : pOwn L' T := ⟨fun q hq => h.1 q (hs.subset hq), h.2.sublist hs⟩
theorem kx_undo {x T c n : Nat} {S : pa_S} (hh : xH ρ τ σ x S T c n) : xA ρ τ σ x (pa_undo S) 1 (if S.2.1.length = 0 then .inr 138 else .inl (.ofNat (S.2.1.length - 1))) (zF_X1_undo ρ x σ) := by
  obtain ⟨hr, hp, hc, hw, hca, hG, hfu⟩ := hh
  have hr00 := hr
  obtain ⟨fa, ad, d, e, h, tb, l, g0, a0, H, Z, hr⟩ := hr
  have hr0 := hr
  obtain ⟨r1, r2, r3, ⟨r4, r5, r6⟩, r7, r8, r9, r10, r11, r12, r13, r14⟩ := hr
  have hl := r10.1
  unfold zF_X1_undo zJ_X1_undo_15
  rw [zp_gR r2 (k := 2) (v := some d) rfl, Option.bind_some, r6.ck, jd_isEmpty r6, cc_I, List.length_map, hl]
  by_cases h0 : S.2.1.length = 0
  · rw [if_pos h0, if_pos h0, if_neg n10]
    have : pa_undo S = S := by
      have : S.2.1 = [] := List.length_eq_zero_iff.mp h0
      unfold pa_undo
      rw [this]; rfl
    rw [this]
    exact xA.thr ((jk_state_no (g := n + 259) hG).cV) hr00 hp hw
  · rw [if_neg h0, if_neg h0, if_pos z00, jk_state_yes, cc_V, zp_gR r2 (k := 2) (v := some d) rfl, Option.bind_some, r6.ck]
    obtain ⟨H', z, rfl⟩ : ∃ H' z, H = H' ++ [z] := by
      have hne : H ≠ [] := fun h => by rw [h] at hl; exact h0 hl.symm
      exact ⟨H.dropLast, H.getLast hne, (List.dropLast_concat_getLast hne).symm⟩
    obtain ⟨Hs, A, hHs⟩ : ∃ Hs A, S.2.1 = Hs ++ [A] := by
      have hne : S.2.1 ≠ [] := fun h => h0 (by rw [h]; rfl)
      exact ⟨S.2.1.dropLast, S.2.1.getLast hne, (List.dropLast_concat_getLast hne).symm⟩
    have hl' : H'.length = Hs.length := by rw [hHs] at hl; simpa using hl
    rw [List.map_append] at r6
    obtain ⟨σ1, i1, i2, i3⟩ := jd_removeLast (ρ := ρ) (x := z.2) (X := H'.map (·.2)) r6 hw.1
    have hk1 : zo_k (fun t => t ≠ 0 ∧ t ≠ 4) τ σ τ σ1 := fun b hb => ⟨rfl, i2.keep (hw.lt hb.1) fun h => by
      rcases h with h | h <;> (rw [h] at hb; omega)⟩
    have hzA : rAs τ σ z.1 z.2 A := r10.2 H'.length z A (by simp) (by rw [hHs, hl']; simp)
    have hAok : pa_ok A c := hp.2.1 A (by rw [hHs]; simp)
    have hz1 := (r12.1 z (by simp)).1
    have hzA1 := hzA.keep1 hAok hk1 (by decide) fun t h1 h2 => by omega
    have hx1 := (hk1 x (by rw [r1]; decide)).2.trans r2
    have hcast : zz_ok σ1 (some z.2) [2] = true := by
      obtain ⟨af, ac, am, F, C, Mo, k0, k1, -⟩ := hzA1
      simp [zz_ok, zz_cl, k1]
    obtain ⟨s2, e2⟩ : ∃ s, s = zz_set σ1 x (xcell fa ad d tb z.2 (Z.map (·.2)) l S) := ⟨_, rfl⟩
    have hw1 := hw.le i2
    have l2 : zp_le (fun b => b = x) 0 σ1 s2 := by rw [e2]; exact zp_set_le (hw1.1.lt hx1) rfl
    have hpf : zz_pf σ1 (some x) 1 9 4 (va_rf (some z.2)) = some s2 := by rw [e2]; exact zq_pf (N := 9) hx1 rfl rfl
    have hk2 : zo_k (fun t => t ≠ 0 ∧ t ≠ 2) τ σ1 τ s2 := fun b hb => ⟨rfl, l2.keep (hw1.lt hb.1) fun h => by rw [h, r1] at hb; omega⟩
    have hk12 : zo_k (fun t => t ≠ 0 ∧ t ≠ 2 ∧ t ≠ 4) τ σ τ s2 := (hk1.trans hk2).mono fun t ht => ⟨⟨ht.1, ht.2.2⟩, ht.1, ht.2.1⟩
    have hx2 : s2.2.2 x = some (true, xcell fa ad d tb z.2 (Z.map (·.2)) l S) := by rw [e2]; exact zp_set_at
    have i3' : cD s2 d e h (H'.map (·.2)) := i3.keep (hk2 d (by rw [r4]; decide)).2 (hk2 e (by rw [r5]; decide)).2
    rw [i1, cc_R, if_neg (fun h => h hcast), hpf, Option.bind_some, zp_gR hx2 (k := 2) (v := some d) rfl, Option.bind_some, i3'.ck, jd_size i3', cc_I, List.length_map]
    have hlast : S.2.1.getLast? = some A := by rw [hHs]; simp
    have hu : pa_undo S = (A, Hs, S.2.2) := by
      unfold pa_undo
      rw [hlast, hHs]
      simp
    have hS1 : S.2.1.length - 1 = H'.length := by rw [hHs, hl']; simp
    rw [hu, hS1]
    have hown : pOwn (z :: H' ++ Z.toList) T := by
      obtain ⟨p1, p2⟩ := r12
      refine ⟨fun q hq => p1 q ?_, ?_⟩
      · rw [List.cons_append, List.mem_cons, List.mem_append] at hq
        rw [List.cons_append, List.mem_cons, List.mem_append, List.mem_append, List.mem_singleton]
        rcases hq with hq | hq | hq
        · exact .inr (.inl (.inr hq))
        · exact .inr (.inl (.inl hq))
        · exact .inr (.inr hq)
      · rw [List.cons_append, List.pairwise_cons, List.pairwise_append, List.pairwise_append] at p2
        obtain ⟨-, ⟨q1, -, q3⟩, q4, q5⟩ := p2
        rw [List.cons_append, List.pairwise_cons, List.pairwise_append]
        refine ⟨fun q hq => ?_, q1, q4, fun p hp q hq => q5 p (List.mem_append_left _ hp) q hq⟩
        rcases List.mem_append.mp hq with hq | hq
        · exact (q3 q hq z List.mem_cons_self).symm
        · exact q5 z (by simp) q hq
    have hmem : ∀ p, p ∈ H' ++ [z] → 1000 ≤ p.1 := fun p hp' => (r12.1 p (by rw [List.cons_append]; exact List.mem_cons_of_mem _ (List.mem_append_left _ hp'))).1
    refine ⟨τ, s2, T, ⟨hw1.le l2, hk12.mono fun t ht => by unfold kX at ht; omega, fun n hn => l2.gas (n := n) (i2.gas (n := n) (hn.le (Nat.le_succ n))), by have := i2.2.1; have := l2.2.1; omega⟩, ⟨fa, ad, d, e, h, tb, l, z.1, z.2, H', Z, r1, hx2, r3.keep hk12 (by decide), ⟨r4, r5, i3'⟩, r7.keep hk12 (by decide), r8.keep hk12 (by decide), hzA.keep1 hAok hk12 (by decide) (fun t h1 h2 => by omega), ?_, ⟨r11.1, fun z' A' hz hA => ?_⟩, hown, r13, r14⟩, rfl⟩
    · refine ⟨hl', fun i p B hi hB => ?_⟩
      have hil := (List.getElem?_eq_some_iff.mp hi).1
      have h1 := hmem p (List.mem_append_left _ (List.mem_of_getElem? hi))
      exact (r10.2 i p B (by rw [List.getElem?_append_left hil]; exact hi) (by rw [hHs, List.getElem?_append_left (by omega)]; exact hB)).keep1 (hp.2.1 B (by rw [hHs]; exact List.mem_append_left _ (List.mem_of_getElem? hB))) hk12 (by decide) fun t h2 _ => by omega
    · have h1 := (r12.1 z' (by rw [hz, List.cons_append]; exact List.mem_cons_of_mem _ (List.mem_append_right _ (by simp)))).1
      exact (r11.2 z' A' hz hA).keep1 (hp.2.2.2.1 A' hA) hk12 (by decide) fun t h2 _ => by omega
end CUN
