/-! ===== THE COMPONENT's OPERATIONS ON MOTIONS, first ===== -/
section CX
variable {ρ : zz_C} {σ : zz_S} {τ : Nat → Nat}
theorem pa_okM.f100 {A : pa_A} {c : Nat} {x : pa_Mo} (h : pa_okM A c x) (h12 : A.1.length ≤ 12) : (∀ r, r ∈ x.2.1 → r.1 < 100) ∧ (∀ k, k ∈ x.2.2 → k.1 < 100) := ⟨fun r hr => by have := (h.2.2.2.2.2.2.2.1 r hr).1; omega, fun k hk => by have := (h.2.2.2.2.2.2.2.2.2.2.1 k hk).1; omega⟩
/-- a new motion -/
theorem kc_initM {p m ponds gm n : Nat} {fr : List pa_F} (hc : σ.2.2 p = some (true, .inr (6, [.int 0, .int 0, .null, .null, .null, .int 0, .int 0, .int 0, .int 0]))) (hp : τ p = 0) (hw : zo_wf τ σ) (hg : zp_gas (n + 4) σ) (hgm : 1 < gm) :
    ∃ τ' σ', zF_X6_init_2 ρ p (.ofNat m) (.ofNat ponds) σ = zz_rV σ' ∧ zp_le (fun b => b = p) 4 σ σ' ∧ zo_wf τ' σ' ∧ (∀ b, τ b ≠ 0 → τ' b = τ b) ∧ (∀ b, τ' b = τ b ∨ ((b = p ∨ σ.1.1 ≤ b) ∧ gm ≤ τ' b ∧ τ' b < gm + 4)) ∧ rMo τ' σ' fr gm p m ((ponds, 0, 0, 0, 0, 0), [], []) := by
  have hpl := hw.1.lt hc
  unfold zF_X6_init_2
  rw [zp_al_eq (n := n + 3) hg (by decide)]
  obtain ⟨s1, e1⟩ : ∃ s, s = zp_al σ (.inr (140, [.int 0, .int 0, .null, .null])) 4 := ⟨_, rfl⟩
  have l1 : zp_le zp_no 1 σ s1 := by rw [e1]; exact zp_al_le (by decide)
  have n1 : s1.1.1 = σ.1.1 + 1 := by rw [e1]; rfl
  rw [← e1]
  have w1 := l1.wf hw.1
  obtain ⟨s2, i2, l2, c2⟩ := jl_init (ρ := ρ) (a := σ.1.1) (σ := s1) (by rw [e1]; exact zp_al_new) w1
  have w2 := l2.wf w1
  have n2 := l2.2.1
  have p2 : s2.2.2 p = some (true, .inr (6, [.int 0, .int 0, .null, .null, .null, .int 0, .int 0, .int 0, .int 0])) := by rw [l2.keep (by omega) (by show ¬ p = _; omega), l1.keep hpl (fun h => h)]; exact hc
  rw [i2, cc_V, zq_pf (N := 9) p2 rfl (fs' := [.int 0, .int 0, .ref σ.1.1, .null, .null, .int 0, .int 0, .int 0, .int 0]) rfl, Option.bind_some]
  obtain ⟨s3, e3⟩ : ∃ s, s = zz_set s2 p (.inr (6, [.int 0, .int 0, .ref σ.1.1, .null, .null, .int 0, .int 0, .int 0, .int 0])) := ⟨_, rfl⟩
  have l3 : zp_le (fun b => b = p) 0 s2 s3 := by rw [e3]; exact zp_set_le (by omega) rfl
  have n3 : s3.1.1 = s2.1.1 := by rw [e3]; rfl
  have w3 := l3.wf w2
  have p3 : s3.2.2 p = some (true, .inr (6, [.int 0, .int 0, .ref σ.1.1, .null, .null, .int 0, .int 0, .int 0, .int 0])) := by rw [e3]; exact zp_set_at
  have g3 : zp_gas (n + 3) s3 := l3.gas (n := n + 3) (l2.gas (n := n + 3) (l1.gas (n := n + 3) hg))
  rw [← e3, zp_al_eq (n := n + 2) g3 (by decide)]
  obtain ⟨s4, e4⟩ : ∃ s, s = zp_al s3 (.inr (140, [.int 0, .int 0, .null, .null])) 4 := ⟨_, rfl⟩
  have l4 : zp_le zp_no 1 s3 s4 := by rw [e4]; exact zp_al_le (by decide)
  have n4 : s4.1.1 = s3.1.1 + 1 := by rw [e4]; rfl
  rw [← e4]
  have w4 := l4.wf w3
  obtain ⟨s5, i5, l5, c5⟩ := jl_init (ρ := ρ) (a := s3.1.1) (σ := s4) (by rw [e4]; exact zp_al_new) w4
  have w5 := l5.wf w4
  have n5 := l5.2.1
  have p5 : s5.2.2 p = some (true, .inr (6, [.int 0, .int 0, .ref σ.1.1, .null, .null, .int 0, .int 0, .int 0, .int 0])) := by rw [l5.keep (by omega) (by show ¬ p = _; omega), l4.keep (by omega) (fun h => h)]; exact p3
  rw [i5, cc_V, zq_pf (N := 9) p5 rfl (fs' := [.int 0, .int 0, .ref σ.1.1, .ref s3.1.1, .null, .int 0, .int 0, .int 0, .int 0]) rfl, Option.bind_some]
  obtain ⟨s6, e6⟩ : ∃ s, s = zz_set s5 p (.inr (6, [.int 0, .int 0, .ref σ.1.1, .ref s3.1.1, .null, .int 0, .int 0, .int 0, .int 0])) := ⟨_, rfl⟩
  have l6 : zp_le (fun b => b = p) 0 s5 s6 := by rw [e6]; exact zp_set_le (by omega) rfl
  have n6 : s6.1.1 = s5.1.1 := by rw [e6]; rfl
  have w6 := l6.wf w5
  have p6 : s6.2.2 p = some (true, .inr (6, [.int 0, .int 0, .ref σ.1.1, .ref s3.1.1, .null, .int 0, .int 0, .int 0, .int 0])) := by rw [e6]; exact zp_set_at
  have g6 : zp_gas (n + 2) s6 := l6.gas (n := n + 2) (l5.gas (n := n + 2) (l4.gas (n := n + 2) g3))
  rw [← e6, zp_al_eq (n := n + 1) g6 (by decide)]
  obtain ⟨s7, e7⟩ : ∃ s, s = zp_al s6 (.inr (141, [.null, .int 0, .int 0])) 3 := ⟨_, rfl⟩
  have l7 : zp_le zp_no 1 s6 s7 := by rw [e7]; exact zp_al_le (by decide)
  have n7 : s7.1.1 = s6.1.1 + 1 := by rw [e7]; rfl
  rw [← e7]
  have w7 := l7.wf w6
  obtain ⟨s8, i8, l8, c8⟩ := jb_init (ρ := ρ) (a := s6.1.1) (g := n) (σ := s7) (by rw [e7]; exact zp_al_new) w7 (l7.gas (n := n + 1) g6)
  have w8 := l8.wf w7
  have n8 := l8.2.1
  have n8' : s7.1.1 < s8.1.1 := by obtain ⟨_, _, g, h3, _⟩ := c8; exact w8.lt h3
  have p8 : s8.2.2 p = some (true, .inr (6, [.int 0, .int 0, .ref σ.1.1, .ref s3.1.1, .null, .int 0, .int 0, .int 0, .int 0])) := by rw [l8.keep (by omega) (by show ¬ p = _; omega), l7.keep (by omega) (fun h => h)]; exact p6
  rw [i8, cc_V, zq_pf (N := 9) p8 rfl (fs' := [.int 0, .int 0, .ref σ.1.1, .ref s3.1.1, .ref s6.1.1, .int 0, .int 0, .int 0, .int 0]) rfl, Option.bind_some, zq_pf (N := 9) zp_set_at rfl (fs' := [.int 0, .int 0, .ref σ.1.1, .ref s3.1.1, .ref s6.1.1, .int 0, .int 0, .int 0, .int 0]) rfl, Option.bind_some, cs_set_set, zq_pf (N := 9) zp_set_at rfl (fs' := [.int (.ofNat m), .int 0, .ref σ.1.1, .ref s3.1.1, .ref s6.1.1, .int 0, .int 0, .int 0, .int 0]) rfl, Option.bind_some, cs_set_set, zq_pf (N := 9) zp_set_at rfl (fs' := [.int (.ofNat m), .int (.ofNat ponds), .ref σ.1.1, .ref s3.1.1, .ref s6.1.1, .int 0, .int 0, .int 0, .int 0]) rfl, Option.bind_some, cs_set_set]
  obtain ⟨s9, e9⟩ : ∃ s, s = zz_set s8 p (.inr (6, [.int (.ofNat m), .int (.ofNat ponds), .ref σ.1.1, .ref s3.1.1, .ref s6.1.1, .int 0, .int 0, .int 0, .int 0])) := ⟨_, rfl⟩
  have l9 : zp_le (fun b => b = p) 0 s8 s9 := by rw [e9]; exact zp_set_le (by omega) rfl
  have n9 : s9.1.1 = s8.1.1 := by rw [e9]; rfl
  rw [← e9]
  have lall : zp_le (fun b => b = p) 4 σ s9 := by
    have h1 : zp_le (fun b => b = p) (1 + 0) σ s2 := (l1.none (M := fun b => b = p) (Nat.le_refl _)).trans l2 fun b hb h => by omega
    have h2 := h1.trans l3 fun _ _ h => h
    have h3 := h2.trans l4 fun _ _ h => h.elim
    have h4 := h3.trans l5 fun b hb h => by omega
    have h5 := h4.trans l6 fun _ _ h => h
    have h6 := h5.trans l7 fun _ _ h => h.elim
    have h7 := h6.trans l8 fun b hb h => by omega
    exact (h7.trans l9 fun _ _ h => h).mono (fun _ _ h => h) (by omega)
  -- the tags
  refine ⟨zo_tg (zo_tg (zo_tg (zo_tg (zo_tg τ p gm) σ.1.1 (gm + 1)) s3.1.1 (gm + 2)) s6.1.1 (gm + 3)) s7.1.1 (gm + 3), s9, rfl, lall, ?_, fun b hb => ?_, fun b => ?_, ?_, σ.1.1, s3.1.1, s6.1.1, [], [], by rw [e9]; exact zp_set_at, ?_, ?_, ?_, rfl, fun j a r h => by simp at h, rfl, fun j a r h => by simp at h⟩
  · exact ((((((hw.le lall).tg (by omega)).tg (by omega)).tg (by omega)).tg (by omega)).tg (by omega))
  · have h0 := hw.lt hb
    have hbp : b ≠ p := fun h => hb (h ▸ hp)
    rw [zo_tg_ne (by omega), zo_tg_ne (by omega), zo_tg_ne (by omega), zo_tg_ne (by omega), zo_tg_ne hbp]
  · unfold zo_tg
    split
    · right; omega
    · split
      · right; omega
      · split
        · right; omega
        · split
          · right; omega
          · split
            · right; omega
            · left; rfl
  · rw [zo_tg_ne (by omega), zo_tg_ne (by omega), zo_tg_ne (by omega), zo_tg_ne (by omega), zo_tg_at]
  · refine ⟨[], by rw [zo_tg_ne (by omega), zo_tg_ne (by omega), zo_tg_ne (by omega), zo_tg_at], fun n hn => by simp at hn, c2.keep ?_ fun n hn => by simp at hn⟩
    rw [l9.keep (by omega) (by show ¬ _ = p; omega), l8.keep (by omega) (by show ¬ _ = s6.1.1; omega), l7.keep (by omega) (fun h => h), l6.keep (by omega) (by show ¬ _ = p; omega), l5.keep (by omega) (by show ¬ _ = s3.1.1; omega), l4.keep (by omega) (fun h => h), l3.keep (by omega) (by show ¬ _ = p; omega)]
  · refine ⟨[], by rw [zo_tg_ne (by omega), zo_tg_ne (by omega), zo_tg_at], fun n hn => by simp at hn, c5.keep ?_ fun n hn => by simp at hn⟩
    rw [l9.keep (by omega) (by show ¬ _ = p; omega), l8.keep (by omega) (by show ¬ _ = s6.1.1; omega), l7.keep (by omega) (fun h => h), l6.keep (by omega) (by show ¬ _ = p; omega)]
  · refine ⟨s7.1.1, by rw [zo_tg_ne (by omega), zo_tg_at], zo_tg_at _ _ _, c8.keep ?_ ?_⟩
    · rw [l9.keep (by omega) (by show ¬ _ = p; omega)]
    · rw [l9.keep (by omega) (by show ¬ _ = p; omega)]
theorem kc_addMotion {g a n : Nat} {A : pa_A} (x : Int32) (h : rAs τ σ g a A) (ho : pw A) (hg2 : 1000 ≤ g) (hw : zo_wf τ σ) (hg : zp_gas (n + 5) σ) : cO [106, 138] τ σ g a (pa_addMotion x A) 5 (zF_X2_addMotion ρ a x σ) := by
  unfold zF_X2_addMotion pa_addMotion
  cases hx : pd x 1 16 with
  | none => 
    rw [jk_between_no (lo := 1) (n := 16) 1 15 rfl (by decide) (by decide) (by decide) hx, cc_I]
    exact ((jk_arg_no (g := n + 4) hg).mono (by omega)).cV
  | some w =>
    obtain ⟨hw1, hw2, rfl⟩ := pd_some hx
    obtain ⟨af, ac, am, F, C, Mo, hX⟩ := h
    obtain ⟨f1, f2, f3, f4, f5, f6, f7, f8, f9⟩ := hX.fl (ρ := ρ)
    have h6 := ho.2.2.1
    rw [jk_between_yes (lo := 1) (n := 16) 1 15 rfl (by decide) (by decide) hw1 hw2, cc_I, jk_arg_yes, cc_V, f3, Option.bind_some, f6, f9, cc_I]
    show cO _ τ σ g a (if A.2.2.1.length = 6 then .inr 2 else _) 5 _
    unfold zJ_X2_addMotion_27
    by_cases h3 : A.2.2.1.length = 6
    · rw [if_pos h3, if_pos (show (6 : Int32) ≤ _ from by rw [h3]; decide)]
      exact ((jk_state_no (g := n + 4) hg).mono (by omega)).cV
    · rw [if_neg h3, if_neg (show ¬ (6 : Int32) ≤ _ from by rw [show (6 : Int32) = Int32.ofNat 6 from rfl, ci_le (by decide) (by omega)]; omega), jk_state_yes, cc_V, f3, Option.bind_some, zp_al_eq (n := n + 4) hg (by decide)]
      have l1 : zp_le zp_no 1 σ (zp_al σ (.inr (6, [.int 0, .int 0, .null, .null, .null, .int 0, .int 0, .int 0, .int 0])) 9) := zp_al_le (by decide)
      have hX1 := hX.al ho (by omega) hw l1
      have hw1' := hw.le l1
      obtain ⟨f1', f2', f3', f4', f5', f6', f7', f8', f9'⟩ := hX1.fl (ρ := ρ)
      obtain ⟨τ2, σ2, i1, i2, i3, i4, i5, i6⟩ := kc_initM (ρ := ρ) (p := σ.1.1) (m := A.2.2.1.length) (ponds := w) (gm := g + 100 + 10 * A.2.2.1.length) (n := n) (fr := A.1) (τ := τ) (σ := zp_al σ (.inr (6, [.int 0, .int 0, .null, .null, .null, .int 0, .int 0, .int 0, .int 0])) 9) zp_al_new hw.new hw1' (l1.gas (n := n + 4) hg) (by omega)
      have hk2 : zo_k (fun t => t ≠ 0) τ (zp_al σ (.inr (6, [.int 0, .int 0, .null, .null, .null, .int 0, .int 0, .int 0, .int 0])) 9) τ2 σ2 := fun b hb => ⟨i4 b hb, i2.keep (hw1'.lt hb) fun h => hb (h ▸ hw.new)⟩
      have hX2 : rAx τ2 σ2 g a A af ac am F C Mo := hX1.keep hk2 (by simp) (fun t h1 _ => by omega) ho.1 ho.2.2.1
      obtain ⟨-, -, -, -, -, f6'', -, -, -⟩ := hX2.fl (ρ := ρ)
      obtain ⟨σ', s1, s2, s3, s4⟩ := kx_addM (ρ := ρ) hX2 ho (by omega) hg2 i3 i6
      obtain ⟨-, -, q3, -, -, q6, -, -, q9⟩ := s4.fl (ρ := ρ)
      have hlen : ((A.1, A.2.1, A.2.2.1 ++ [((w, 0, 0, 0, 0, 0), [], [])], A.2.2.2) : pa_A).2.2.1.length = A.2.2.1.length + 1 := by simp
      rw [f3', Option.bind_some, f6', f9', cc_I, i1, cc_V, f6'', s1, cc_I, q3, Option.bind_some, q6, q9, cc_I, hlen, show (1 : Int32) = Int32.ofNat 1 from rfl, ci_sub (by omega)]
      refine ⟨τ2, σ', rfl, ?_, s3, ⟨i4, fun T h1 h2 h3 b => ?_⟩, af, ac, am, F, C, _, s4⟩
      · have l12 : zp_le zp_no 5 σ σ2 := (l1.trans (M := zp_no) (k' := 4) (i2.mono (M' := fun b => b = σ.1.1) (fun _ _ h => h) (Nat.le_refl _)) fun b hb he => by omega).mono (fun _ _ h => h) (by omega)
        refine (l12.none (M := fun b => g ≤ τ b ∧ τ b < g + 200) (Nat.le_refl 5)).trans s2 fun b hb hb2 => ?_
        have hb2 : τ2 b = g + 3 := hb2
        have : τ b = g + 3 := by
          rcases i5 b with h | h
          · omega
          · omega
        constructor <;> omega
      · rcases i5 b with h | h
        · rw [h]; exact h3 b
        · omega
end CX
