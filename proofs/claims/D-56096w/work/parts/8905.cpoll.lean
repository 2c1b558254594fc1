/-! ===== PriorityQueue: poll, peek; the comparator ===== -/
section PP
variable {ρ : zz_C} {σ : zz_S} {τ : Nat → Nat}
theorem jq_peek {q qa c n : Nat} {g : Nat → Nat} (h : cPQ σ q qa c n g) (hn : 0 < n) : zF_J21_peek ρ q σ = zz_rR (some (g 0)) σ := by
  obtain ⟨h0, ⟨mc, h1⟩, f, h2, h3⟩ := h
  unfold zF_J21_peek
  rw [zp_gR h1 (k := 0) (v := some qa) rfl, Option.bind_some, show (0 : Int32) = Int32.ofNat 0 from rfl, jq_aR h2 (by decide) (h3 0 hn), Option.bind_some]
theorem jq_isEmpty {q qa c n : Nat} {g : Nat → Nat} (h : cPQ σ q qa c n g) : zF_J0_isEmpty_at_J21 ρ q σ = zz_rI (if n = 0 then 1 else 0) σ := by
  have hh := h
  obtain ⟨h0, ⟨mc, h1⟩, f, h2, h3⟩ := h
  unfold zF_J0_isEmpty_at_J21 zF_J21_size
  rw [hh.ck, zp_gI h1 (k := 1) (v := .ofNat n) rfl, Option.bind_some, cc_I]
  by_cases hn : n = 0
  · rw [if_pos hn, if_pos (by rw [hn]; rfl)]; rfl
  · rw [if_neg hn, if_neg (show ¬ Int32.ofNat n = 0 from by rw [show (0 : Int32) = Int32.ofNat 0 from rfl, ci_eq (by omega) (by decide)]; exact hn)]; rfl
theorem jl_down {n0 c qa n : Nat} {κ : Nat → Nat} {E : Nat → Prop} (hqa : n0 ≤ qa) (hqc : qa ≠ c) (hn : n ≤ 11) (hn0 : 0 < n) :
    ∀ (fu k : Nat) (g : Nat → Nat) (f : Nat → Option Nat) (σ : zz_S), n - k < fu → k < n → kCmp ρ n0 σ c κ E → (∀ i, i < n → E (g i)) → hDn κ g n k → σ.2.2 qa = some (true, .inl (5, (11, .inr (.inr (.inr (.inr f)))))) → (∀ i, i < n → i ≠ k → f i = some (g i)) → zp_wf σ →
      ∃ σ' g', zL_J21_siftDownUsingComparator_5 ρ fu (.ofNat k) (some (g k)) (some qa) (.ofNat n) (some c) (.ofNat (n / 2)) σ = zz_rV σ' ∧ zp_le (fun b => b = qa) 0 σ σ' ∧ cQA σ' qa n g' ∧ hHeap κ g' n ∧ (∀ p, hIn g' n p ↔ hIn g n p) ∧ (hInj g n → hInj g' n) := by
  intro fu
  induction fu with
  | zero => intro k g f σ hk; omega
  | succ fu ih =>
    intro k g f σ hk hkn hc hE hu hf hfg hw
    have hc0 := hc
    obtain ⟨⟨a, c1⟩, c2, c3⟩ := hc
    obtain ⟨x1, w, fs, x2⟩ := c2 (g k) (hE k hkn)
    have hql := hw.lt hf
    have fin : (∀ i, 0 < i → i < n → (i - 1) / 2 = k → κ (g k) ≤ κ (g i)) → ∃ σ' g', ((zz_sR σ (some qa) 5 (.ofNat k) (some (g k))).bind fun σ1 => zz_rV σ1) = zz_rV σ' ∧ zp_le (fun b => b = qa) 0 σ σ' ∧ cQA σ' qa n g' ∧ hHeap κ g' n ∧ (∀ p, hIn g' n p ↔ hIn g n p) ∧ (hInj g n → hInj g' n) := fun he => by
      refine ⟨_, g, by rw [jq_sR hf (by omega)]; rfl, zp_set_le hql rfl, ⟨_, zp_set_at, fun i hi => ?_⟩, hDn_end hu he, fun _ => Iff.rfl, fun h => h⟩
      unfold va_up
      by_cases hik : i = k
      · rw [if_pos hik, hik]
      · rw [if_neg hik]; exact hfg i hi hik
    by_cases hhalf : n / 2 ≤ k
    · rw [zL_J21_siftDownUsingComparator_5, if_pos (show Int32.ofNat (n / 2) ≤ Int32.ofNat k from (ci_le (by omega) (by omega)).mpr hhalf), if_neg (show ¬ ¬ (zz_ok σ (some (g k)) zz_cO = true) from fun h => h (jq_okC x2))]
      exact fin fun i i1 i2 i3 => by omega
    · -- the least child
      have step : ∀ ch, 0 < ch → ch < n → (ch - 1) / 2 = k → (∀ i, 0 < i → i < n → (i - 1) / 2 = k → κ (g ch) ≤ κ (g i)) →
          ∃ σ' g', zJ_J21_siftDownUsingComparator_61 ρ (zL_J21_siftDownUsingComparator_5 ρ fu) (.ofNat k) (some (g k)) (some qa) (.ofNat n) (some c) (.ofNat (n / 2)) (.ofNat ch) (some (g ch)) σ = zz_rV σ' ∧ zp_le (fun b => b = qa) 0 σ σ' ∧ cQA σ' qa n g' ∧ hHeap κ g' n ∧ (∀ p, hIn g' n p ↔ hIn g n p) ∧ (hInj g n → hInj g' n) := by
        intro ch hc0' hcn hck hmin
        obtain ⟨d, d1, d2, d3⟩ := c3 σ (fun _ _ => rfl) rfl (g k) (g ch) (hE k hkn) (hE ch hcn)
        obtain ⟨y1, w', fs', y2⟩ := c2 (g ch) (hE ch hcn)
        unfold zJ_J21_siftDownUsingComparator_61
        rw [zp_ck c1, d1, cc_I]
        by_cases hlt : κ (g ch) < κ (g k)
        · rw [if_pos (d3.mpr hlt), if_neg (show ¬ ¬ (zz_ok σ (some (g ch)) zz_cO = true) from fun h => h (jq_okC y2)), jq_sR hf (by omega), Option.bind_some]
          obtain ⟨s1, e1⟩ : ∃ s, s = zz_set σ qa (.inl (5, (11, .inr (.inr (.inr (.inr (va_up f k (some (g ch))))))))) := ⟨_, rfl⟩
          have l1 : zp_le (fun b => b = qa) 0 σ s1 := by rw [e1]; exact zp_set_le hql rfl
          have q1 : s1.2.2 qa = some (true, .inl (5, (11, .inr (.inr (.inr (.inr (va_up f k (some (g ch))))))))) := by rw [e1]; exact zp_set_at
          have hs1 : kSame n0 σ s1 := fun b hb => by rw [e1]; exact zp_set_old (by omega)
          have hcc : s1.2.2 c = σ.2.2 c := by rw [e1]; exact zp_set_old (fun h => hqc h.symm)
          have ek : hSwap g k ch ch = g k := hSwap_b _ _
          obtain ⟨σ', g', i1, i2, i3, i4, i5, i6⟩ := ih ch (hSwap g k ch) _ s1 (by omega) hcn (hc0.same hs1 hcc) (fun i hi => by
              obtain ⟨j, hj, he⟩ := (hSwap_in (g := g) (p := hSwap g k ch i) hkn hcn).mp ⟨i, hi, rfl⟩
              rw [← he]; exact hE j hj) (hDn_step hu hcn hc0' hck (by omega) hmin) q1 (fun i hi hik => by
              unfold va_up
              by_cases h : i = k
              · subst h; rw [if_pos rfl, hSwap_a]
              · rw [if_neg h, hSwap_o h hik]; exact hfg i hi h) (l1.wf hw)
          rw [ek] at i1
          rw [← e1]
          exact ⟨σ', g', i1, l1.trans (k' := 0) i2 fun _ _ h => h, i3, i4, fun p => (i5 p).trans (hSwap_in hkn hcn), fun h => i6 (hSwap_inj hkn hcn h)⟩
        · rw [if_neg (fun h => hlt (d3.mp h)), if_neg (show ¬ ¬ (zz_ok σ (some (g k)) zz_cO = true) from fun h => h (jq_okC x2))]
          exact fin fun i i1 i2 i3 => by have := hmin i i1 i2 i3; omega
      have hch := jq_child k (by omega)
      rw [zL_J21_siftDownUsingComparator_5, if_neg (show ¬ Int32.ofNat (n / 2) ≤ Int32.ofNat k from fun h => hhalf ((ci_le (by omega) (by omega)).mp h)), hch, jq_aR hf (by omega) (hfg (2 * k + 1) (by omega) (by omega)), Option.bind_some, ci_succ]
      by_cases hr : n ≤ 2 * k + 1 + 1
      · rw [if_pos (show Int32.ofNat n ≤ Int32.ofNat (2 * k + 1 + 1) from (ci_le (by omega) (by omega)).mpr hr)]
        exact step (2 * k + 1) (by omega) (by omega) (by omega) fun i i1 i2 i3 => by
          have : i = 2 * k + 1 := by omega
          rw [this]; exact Nat.le_refl _
      · obtain ⟨d, d1, d2, d3⟩ := c3 σ (fun _ _ => rfl) rfl (g (2 * k + 1)) (g (2 * k + 1 + 1)) (hE _ (by omega)) (hE _ (by omega))
        rw [if_neg (show ¬ Int32.ofNat n ≤ Int32.ofNat (2 * k + 1 + 1) from fun h => hr ((ci_le (by omega) (by omega)).mp h)), jq_aR hf (by omega) (hfg (2 * k + 1 + 1) (by omega) (by omega)), Option.bind_some, zp_ck c1, d1, cc_I]
        by_cases hle : κ (g (2 * k + 1 + 1)) < κ (g (2 * k + 1))
        · rw [if_neg (show ¬ d ≤ 0 from fun h => by have := d3.mpr hle; exact absurd (Int32.lt_of_lt_of_le this h) (Int32.lt_irrefl)), jq_aR hf (by omega) (hfg (2 * k + 1 + 1) (by omega) (by omega)), Option.bind_some]
          exact step (2 * k + 1 + 1) (by omega) (by omega) (by omega) fun i i1 i2 i3 => by
            rcases (by omega : i = 2 * k + 1 ∨ i = 2 * k + 1 + 1) with h | h
            · rw [h]; omega
            · rw [h]; exact Nat.le_refl _
        · rw [if_pos (show d ≤ 0 from Int32.not_lt.mp fun h => hle (d3.mp h))]
          exact step (2 * k + 1) (by omega) (by omega) (by omega) fun i i1 i2 i3 => by
            rcases (by omega : i = 2 * k + 1 ∨ i = 2 * k + 1 + 1) with h | h
            · rw [h]; exact Nat.le_refl _
            · rw [h]; omega
theorem jq_poll {n0 q qa c n : Nat} {κ g : Nat → Nat} {E : Nat → Prop} (h : cPQ σ q qa c n g) (hn : 0 < n) (hqa : n0 ≤ qa) (hq : n0 ≤ q) (hqc : qa ≠ c) (hq2 : q ≠ c) (hc : kCmp ρ n0 σ c κ E) (hE : ∀ i, i < n → E (g i)) (hh : hHeap κ g n) (hi : hInj g n) (hw : zp_wf σ) (hfu : 100 ≤ ρ.2) :
    ∃ σ' g', zF_J21_poll ρ q σ = zz_rR (some (g 0)) σ' ∧ zp_le (fun b => b = q ∨ b = qa) 0 σ σ' ∧ cPQ σ' q qa c (n - 1) g' ∧ hHeap κ g' (n - 1) ∧ (∀ p, hIn g' (n - 1) p ↔ hIn g n p ∧ p ≠ g 0) ∧ hInj g' (n - 1) := by
  obtain ⟨h0, ⟨mc, h1⟩, f, h2, h3⟩ := h
  have hc0 := hc
  have hqq : q ≠ qa := fun he => by rw [he, h2] at h1; cases h1
  have hql := hw.lt h1
  have hqal := hw.lt h2
  have ea0 : zz_aR σ (some qa) 5 (0 : Int32) = some (some (g 0)) := jq_aR (i := 0) h2 (by decide) (h3 0 hn)
  unfold zF_J21_poll
  rw [zp_gR h1 (k := 0) (v := some qa) rfl, Option.bind_some, ea0, Option.bind_some, cn_some, zp_gI h1 (k := 3) (v := mc) rfl, Option.bind_some, zq_pf (N := 4) h1 rfl (fs' := [.ref qa, .int (.ofNat n), .ref c, .int (mc + 1)]) rfl, Option.bind_some, zp_gI zp_set_at (k := 1) (v := .ofNat n) rfl, Option.bind_some, show (1 : Int32) = Int32.ofNat 1 from rfl, ci_sub (by omega), zq_pf (N := 4) zp_set_at rfl (fs' := [.ref qa, .int (.ofNat (n - 1)), .ref c, .int (mc + .ofNat 1)]) rfl, Option.bind_some, cs_set_set]
  obtain ⟨s1, e1⟩ : ∃ s, s = zz_set σ q (.inr (121, [.ref qa, .int (.ofNat (n - 1)), .ref c, .int (mc + .ofNat 1)])) := ⟨_, rfl⟩
  have l1 : zp_le (fun b => b = q ∨ b = qa) 0 σ s1 := by rw [e1]; exact zp_set_le hql (.inl rfl)
  have q1 : s1.2.2 q = some (true, .inr (121, [.ref qa, .int (.ofNat (n - 1)), .ref c, .int (mc + .ofNat 1)])) := by rw [e1]; exact zp_set_at
  have a1 : s1.2.2 qa = some (true, .inl (5, (11, .inr (.inr (.inr (.inr f)))))) := by rw [e1, zp_set_old hqq.symm]; exact h2
  have hs1 : kSame n0 σ s1 := fun b hb => by rw [e1]; exact zp_set_old (by omega)
  have hcc : s1.2.2 c = σ.2.2 c := by rw [e1]; exact zp_set_old (fun h => hq2 h.symm)
  have hw1 := l1.wf hw
  rw [← e1, jq_aR a1 (by omega) (h3 (n - 1) (by omega)), Option.bind_some, if_neg (show ¬ ¬ (zz_ok s1 none zz_cO = true) from fun h => h rfl), jq_sR a1 (by omega), Option.bind_some]
  obtain ⟨s2, e2⟩ : ∃ s, s = zz_set s1 qa (.inl (5, (11, .inr (.inr (.inr (.inr (va_up f (n - 1) none))))))) := ⟨_, rfl⟩
  have l2 : zp_le (fun b => b = q ∨ b = qa) 0 σ s2 := by rw [e2]; exact l1.trans (k' := 0) (zp_set_le (M := fun b => b = q ∨ b = qa) (hw1.lt a1) (.inr rfl)) fun _ _ h => h
  have q2 : s2.2.2 q = some (true, .inr (121, [.ref qa, .int (.ofNat (n - 1)), .ref c, .int (mc + .ofNat 1)])) := by rw [e2, zp_set_old hqq]; exact q1
  have a2 : s2.2.2 qa = some (true, .inl (5, (11, .inr (.inr (.inr (.inr (va_up f (n - 1) none))))))) := by rw [e2]; exact zp_set_at
  have hs2 : kSame n0 σ s2 := hs1.trans fun b hb => by rw [e2]; exact zp_set_old (by omega)
  have hcc2 : s2.2.2 c = σ.2.2 c := by rw [e2, zp_set_old (fun h => hqc h.symm)]; exact hcc
  have hw2 := l2.wf hw
  rw [← e2]
  by_cases hn1 : n = 1
  · subst hn1
    rw [if_pos (by decide)]
    refine ⟨s2, g, rfl, l2, ⟨by omega, ⟨_, q2⟩, _, a2, fun i hi => by omega⟩, fun i h1 h2 => by omega, fun p => ⟨fun ⟨i, hi, _⟩ => by omega, fun ⟨⟨i, hi, he⟩, hne⟩ => ?_⟩, fun i j h1 => by omega⟩
    have : i = 0 := by omega
    subst this
    exact absurd he.symm hne
  · rw [if_neg (show ¬ Int32.ofNat (n - 1) ≤ 0 from by rw [show (0 : Int32) = Int32.ofNat 0 from rfl, ci_le (by omega) (by decide)]; omega), zp_gR q2 (k := 2) (v := some c) rfl, Option.bind_some, cn_some]
    have eg : ∀ i, 0 < i → (fun i => if i = 0 then g (n - 1) else g i) i = g i := fun i hi => if_neg (by omega)
    obtain ⟨σ', g', i1, i2, i3, i4, i5, i6⟩ := jl_down (ρ := ρ) (n0 := n0) (n := n - 1) (κ := κ) (E := E) hqa hqc (by omega) (by omega) ρ.2 0 (fun i => if i = 0 then g (n - 1) else g i) (va_up f (n - 1) none) s2 (by omega) (by omega) (hc0.same hs2 hcc2) (fun i hi => by
        show E (if i = 0 then g (n - 1) else g i)
        split
        · exact hE _ (by omega)
        · exact hE _ (by omega)) ⟨fun i i1 i2 i3 => by
          show κ (if _ then _ else _) ≤ κ (if _ then _ else _)
          rw [if_neg (by omega), if_neg (by omega)]
          exact hh i i1 (by omega), fun i i1 i2 i3 i4 => by omega⟩ a2 (fun i hi hi0 => by
          show va_up f (n - 1) none i = some (if i = 0 then g (n - 1) else g i)
          unfold va_up
          rw [if_neg (by omega), if_neg hi0]
          exact h3 i (by omega)) hw2
    rw [if_pos rfl] at i1
    have es : zF_J21_siftDownUsingComparator ρ (0 : Int32) (some (g (n - 1))) (some qa) (.ofNat (n - 1)) (some c) s2 = zz_rV σ' := by
      unfold zF_J21_siftDownUsingComparator
      rw [jq_half (n - 1) (by omega)]
      exact i1
    rw [es, cc_V]
    refine ⟨σ', g', rfl, l2.trans (k' := 0) i2 fun b _ hb => .inr hb, ⟨by omega, ⟨_, by rw [i2.keep (hw2.lt q2) hqq]; exact q2⟩, i3⟩, i4, fun p => ?_, i6 fun i j h1 h2 he => ?_⟩
    · rw [i5 p]
      constructor
      · rintro ⟨i, h1, he⟩
        have he : (if i = 0 then g (n - 1) else g i) = p := he
        by_cases h0 : i = 0
        · rw [if_pos h0] at he
          exact ⟨⟨n - 1, by omega, he⟩, fun h => by have := hi (n - 1) 0 (by omega) hn (he.trans h); omega⟩
        · rw [if_neg h0] at he
          exact ⟨⟨i, by omega, he⟩, fun h => by have := hi i 0 (by omega) hn (he.trans h); omega⟩
      · rintro ⟨⟨i, h1, he⟩, hne⟩
        have h0 : i ≠ 0 := fun h => hne (by rw [← he, h])
        by_cases hl : i = n - 1
        · exact ⟨0, by omega, by show (if (0 : Nat) = 0 then g (n - 1) else g 0) = p; rw [if_pos rfl, ← hl]; exact he⟩
        · exact ⟨i, by omega, by show (if i = 0 then g (n - 1) else g i) = p; rw [if_neg h0]; exact he⟩
    · have he : (if i = 0 then g (n - 1) else g i) = (if j = 0 then g (n - 1) else g j) := he
      by_cases h3 : i = 0
      · by_cases h4 : j = 0
        · omega
        · rw [if_pos h3, if_neg h4] at he
          have := hi (n - 1) j (by omega) (by omega) he; omega
      · by_cases h4 : j = 0
        · rw [if_neg h3, if_pos h4] at he
          have := hi i (n - 1) (by omega) (by omega) he; omega
        · rw [if_neg h3, if_neg h4] at he
          exact hi i j (by omega) (by omega) he
end PP
