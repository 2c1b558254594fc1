/-! ===== A MOTION IS COPIED ===== -/
section MC
variable {ρ : zz_C}
/-- a loop that puts a list's elements behind another list -/
theorem kl_copyL {L : Nat → zz_S → zz_R} {E : zz_S → zz_R} {it p fld cl ls gl l : Nat} {N R : List Nat} {fs : List Value}
    (hL : ∀ n σ, L (n + 1) σ = zz_ck σ (some it) 126 fun a1 => zz_cI (zF_J26_hasNext ρ a1 σ) (fun v4 σ5 => if v4 = 0 then E σ5 else zz_ck σ5 (some it) 126 fun a12 => zz_cR (zF_J26_next ρ a12 σ5) (fun v15 σ16 => if ¬ (zz_ok σ16 v15 [cl] = true) then none else (zz_gR σ16 (some p) 6 fld).bind fun v17 => zz_ck σ16 v17 140 fun a18 => zz_cV (zF_J40_addLast ρ a18 v15 σ16) (fun σ22 => L n σ22) zz_P) zz_P) zz_P)
    (hf : fs[fld]? = some (.ref l)) (hgl : gl ≠ 0) :
    ∀ (r k n g : Nat) (τ : Nat → Nat) (σ : zz_S), k + r = R.length → r < n → zo_wf τ σ → zp_gas (g + r) σ → cL σ ls N R → (∀ b, b = ls ∨ b ∈ N ∨ b ∈ R → τ b ≠ 0 ∧ τ b ≠ gl) → (∀ a, a ∈ R → ∃ w fs, σ.2.2 a = some (w, .inr (cl, fs))) → τ it = 0 → cN σ it ls N k → σ.2.2 p = some (true, .inr (6, fs)) → τ p ≠ 0 → τ p ≠ gl → rL τ σ gl l (R.take k) →
      ∃ τ' σ', L n σ = E σ' ∧ zp_le (fun b => b = it ∨ τ b = gl) r σ σ' ∧ zo_wf τ' σ' ∧ (∀ b, b < σ.1.1 → τ' b = τ b) ∧ (∀ b, τ' b = τ b ∨ τ' b = gl) ∧ rL τ' σ' gl l R := by
  intro r
  induction r with
  | zero =>
    intro k n g τ σ hk hn hw hg hc hs he hit hi hp hp0 hp1 hr
    obtain ⟨n, rfl⟩ : ∃ m, n = m + 1 := ⟨n - 1, by omega⟩
    rw [hL, hi.ck, jl_hasNext hi hc (by omega), if_pos (by omega), cc_I, if_pos z00]
    rw [List.take_of_length_le (by omega)] at hr
    exact ⟨τ, σ, rfl, zp_le.refl _ _ _, hw, fun _ _ => rfl, fun _ => .inl rfl, hr⟩
  | succ r ih =>
    intro k n g τ σ hk hn hw hg hc hs he hit hi hp hp0 hp1 hr
    obtain ⟨n, rfl⟩ : ∃ m, n = m + 1 := ⟨n - 1, by omega⟩
    have hk1 : k < R.length := by omega
    obtain ⟨a, ha⟩ : ∃ a, R[k]? = some a := ⟨_, List.getElem?_eq_getElem hk1⟩
    have ham := List.mem_of_getElem? ha
    have hi0 := hi
    obtain ⟨σ1, n1, n2, n3⟩ := jl_next (ρ := ρ) hi hc ha hw.1
    have hitl : it < σ.1.1 := by obtain ⟨_, _, _, _, q1, _⟩ := hi0; exact hw.1.lt q1
    have hw1 := hw.le n2
    have k1 : ∀ b, τ b ≠ 0 → σ1.2.2 b = σ.2.2 b := fun b hb => n2.keep (hw.lt hb) (fun h => hb (h ▸ hit))
    have hc1 : cL σ1 ls N R := hc.keep (k1 ls (hs ls (.inl rfl)).1) fun m hm => k1 m (hs m (.inr (.inl hm))).1
    have hp' := (k1 p hp0).trans hp
    obtain ⟨w, fa, hfa⟩ := he a ham
    have hfa1 := (k1 a (hs a (.inr (.inr ham))).1).trans hfa
    have hr1 : rL τ σ1 gl l (R.take k) := hr.keep (G := fun t => t ≠ 0) (fun b hb => ⟨rfl, k1 b hb⟩) hgl
    have hlen := hc.2.2.2.1
    obtain ⟨σ2, a1, a2, a3, a4⟩ := kq_addLast (ρ := ρ) (x := a) (n := g + r) hr1 hw1 (n2.gas (n := g + (r + 1)) hg) (by rw [List.length_take]; omega) hgl
    have t2 : ∀ b, b < σ1.1.1 → zo_tg τ σ1.1.1 gl b = τ b := fun b hb => zo_tg_ne (by omega)
    have t2' : ∀ b, τ b ≠ 0 → zo_tg τ σ1.1.1 gl b = τ b := fun b hb => t2 b (hw1.lt hb)
    have k2 : ∀ b, τ b ≠ 0 → τ b ≠ gl → σ2.2.2 b = σ1.2.2 b := fun b hb hb' => a2.keep (hw1.lt hb) hb'
    have hitl1 : it < σ1.1.1 := by have := n2.2.1; omega
    obtain ⟨τ', σ', i1, i2, i3, i4, i5, i6⟩ := ih (k + 1) n g (zo_tg τ σ1.1.1 gl) σ2 (by omega) (by omega) a3 (a2.gas (n := g + r) (n2.gas (n := g + (r + 1)) hg)) (hc1.keep (k2 _ (hs ls (.inl rfl)).1 (hs ls (.inl rfl)).2) fun m hm => k2 m (hs m (.inr (.inl hm))).1 (hs m (.inr (.inl hm))).2)
      (fun b hb => by rw [t2' b (hs b hb).1]; exact hs b hb) (fun b hb => by
        obtain ⟨w, fb, hfb⟩ := he b hb
        have := hs b (.inr (.inr hb))
        exact ⟨w, fb, (k2 b this.1 this.2).trans ((k1 b this.1).trans hfb)⟩) ((t2 it hitl1).trans hit) (n3.keep (a2.keep hitl1 (by show ¬ τ it = gl; omega)) (k2 _ (hs ls (.inl rfl)).1 (hs ls (.inl rfl)).2)) ((k2 p hp0 hp1).trans hp') (by rw [t2' p hp0]; exact hp0) (by rw [t2' p hp0]; exact hp1) (by
        rw [show R.take (k + 1) = R.take k ++ [a] from by rw [List.take_succ, ha]; rfl]; exact a4)
    refine ⟨τ', σ', ?_, ?_, i3, fun b hb => (i4 b (by have := n2.2.1; have := a2.2.1; omega)).trans (t2 b (by have := n2.2.1; omega)), fun b => ?_, i6⟩
    · rw [hL, hi.ck, jl_hasNext hi hc (by omega), if_neg (by omega), cc_I, if_neg n10, hi.ck, n1, cc_R, if_neg (show ¬ ¬ (zz_ok σ1 (some a) [cl] = true) from fun h => h (by simp [zz_ok, zz_cl, hfa1])), zp_gR hp' (k := fld) (v := some l) hf, Option.bind_some, hr1.ck, a1, cc_V, i1]
    · have n2' : zp_le (fun b => b = it ∨ τ b = gl) 0 σ σ1 := n2.mono (fun b _ h => .inl h) (Nat.le_refl _)
      refine ((n2'.trans a2 fun b _ h => .inr h).trans i2 fun b hb h => ?_).mono (fun _ _ h => h) (by omega)
      have h : b = it ∨ zo_tg τ σ1.1.1 gl b = gl := h
      rw [t2 b (by have := n2.2.1; omega)] at h
      exact h
    · rcases i5 b with h | h
      · by_cases hb : b = σ1.1.1
        · right; rw [h, hb, zo_tg_at]
        · left; rw [h, zo_tg_ne hb]
      · exact .inr h
theorem jn_step {n k j : Nat} (hj : n.testBit j = true) (hkj : k ≤ j) (h : ∀ i, k ≤ i → i < j → n.testBit i = false) : (n % 2 ^ k) ||| 2 ^ j = n % 2 ^ (j + 1) := by
  apply Nat.eq_of_testBit_eq
  intro i
  rw [Nat.testBit_or, Nat.testBit_mod_two_pow, Nat.testBit_mod_two_pow, Nat.testBit_two_pow]
  by_cases h1 : i < k
  · simp [h1, show i < j + 1 by omega, show ¬ j = i by omega]
  · by_cases h2 : i < j
    · simp [h1, show i < j + 1 by omega, show ¬ j = i by omega, h i (by omega) h2]
    · by_cases h3 : i = j
      · subst h3; simp [hj]
      · simp [h1, show ¬ i < j + 1 by omega, show ¬ j = i by omega]
theorem jn_end {n k : Nat} (h : ∀ i, k ≤ i → n.testBit i = false) : n % 2 ^ k = n := by
  apply Nat.eq_of_testBit_eq
  intro i
  rw [Nat.testBit_mod_two_pow]
  by_cases h1 : i < k
  · simp [h1]
  · simp [h1, h i (by omega)]
theorem jn_cmp {j : Nat} (h : j < 100) : ¬ Int32.ofNat j < 0 := by
  rw [show (0 : Int32) = Int32.ofNat 0 from rfl, ci_lt (by omega) (by decide)]; omega
theorem kl_copyB0 {p s m b gb bs l q ls qs : Nat} {x0 x : pa_Mo} {τ : Nat → Nat} (hgb : gb ≠ 0) (hx0 : x0.1.1 = x.1.1) (hcl : x.1.2.1 ≤ 1) (hp0 : τ p ≠ 0 ∧ τ p ≠ gb) (hsp : τ s ≠ τ p) (n : Nat) (σ : zz_S) (hw : zo_wf τ σ) (hs : σ.2.2 s = some (true, mcell m x ls qs bs)) (hp : σ.2.2 p = some (true, mcell m x0 l q b)) (hb : rB τ σ gb b x.1.2.2.2.1) :
    ∃ σ', zL_X6_init_97 ρ (n + 1) p (some s) (-1) σ = zz_rV σ' ∧ zp_le (fun c => c = p ∨ τ c = gb) 0 σ σ' ∧ σ'.2.2 p = some (true, mcell m x l q b) ∧ rB τ σ' gb b x.1.2.2.2.1 := by
  have hne : s ≠ p := fun h => hsp (h ▸ rfl)
  have gs : ∀ e, (zz_set σ p e).2.2 s = some (true, mcell m x ls qs bs) := fun e => (zp_set_old hne).trans hs
  have hfit : zz_fit .boolean (Int32.ofNat x.1.2.1) = true := by
    rcases (show x.1.2.1 = 0 ∨ x.1.2.1 = 1 by omega) with h | h <;> rw [h] <;> rfl
  rw [zL_X6_init_97, if_pos (by decide)]
  unfold zz_pfN
  rw [zp_gI hs (k := 5) (v := .ofNat x.1.2.2.2.2.1) rfl, Option.bind_some, zp_pf (N := 9) hp rfl, Option.bind_some,
    zp_gI (gs _) (k := 6) (v := .ofNat x.1.2.2.2.2.2) rfl, Option.bind_some, zp_pf (N := 9) zp_set_at rfl, Option.bind_some, cs_set_set,
    zp_gI (gs _) (k := 7) (v := .ofNat x.1.2.2.1) rfl, Option.bind_some, zp_pf (N := 9) zp_set_at rfl, Option.bind_some, cs_set_set,
    zp_gI (gs _) (k := 8) (v := .ofNat x.1.2.1) rfl, Option.bind_some, if_pos hfit, zp_pf (N := 9) zp_set_at rfl, Option.bind_some, cs_set_set]
  refine ⟨_, rfl, zp_set_le (hw.lt hp0.1) (.inl rfl), zp_set_at.trans (by rw [mcell, ← hx0]; rfl), ?_⟩
  exact hb.keep (G := fun t => t = gb) (fun c hc => ⟨rfl, zp_set_old (a := p) fun h => hp0.2 (by rw [← h]; exact hc)⟩) rfl
/-- the loop over the backers, to the end -/
theorem kl_copyB {p s m b gb bs ws l q ls qs : Nat} {x0 x : pa_Mo} {τ : Nat → Nat} (hgb : gb ≠ 0) (hx0 : x0.1.1 = x.1.1) (hcl : x.1.2.1 ≤ 1) (hs0 : τ s ≠ 0 ∧ τ s ≠ gb) (hp0 : τ p ≠ 0 ∧ τ p ≠ gb) (hb0 : τ bs ≠ 0 ∧ τ bs ≠ gb ∧ τ ws ≠ 0 ∧ τ ws ≠ gb) (hsp : τ s ≠ τ p) (hfu : 1 ≤ ρ.2) :
    ∀ (r k n : Nat) (σ : zz_S), 12 ≤ k + r → k ≤ 12 → r < n → zo_wf τ σ → cB σ bs ws x.1.2.2.2.1 → σ.2.2 s = some (true, mcell m x ls qs bs) → σ.2.2 p = some (true, mcell m x0 l q b) → rB τ σ gb b (x.1.2.2.2.1 % 2 ^ k) →
      ∃ σ', zz_cI (zF_J41_nextSetBit ρ bs (.ofNat k) σ) (fun v19 σ20 => zL_X6_init_97 ρ n p (some s) v19 σ20) zz_P = zz_rV σ' ∧ zp_le (fun c => c = p ∨ τ c = gb) 0 σ σ' ∧ σ'.2.2 p = some (true, mcell m x l q b) ∧ rB τ σ' gb b x.1.2.2.2.1 := by
  intro r
  induction r with
  | zero =>
    intro k n σ hk hk12 hn hw hc hs hp hb
    obtain ⟨n, rfl⟩ : ∃ m, n = m + 1 := ⟨n - 1, by omega⟩
    rcases jb_nextSetBit (ρ := ρ) hc (k := k) (by omega) hfu with ⟨h1, h2⟩ | ⟨j, h1, h2, -⟩
    · rw [h2, cc_I]
      exact kl_copyB0 hgb hx0 hcl hp0 hsp n σ hw hs hp (by rw [jn_end h1] at hb; exact hb)
    · omega
  | succ r ih =>
    intro k n σ hk hk12 hn hw hc hs hp hb
    obtain ⟨n, rfl⟩ : ∃ m, n = m + 1 := ⟨n - 1, by omega⟩
    rcases jb_nextSetBit (ρ := ρ) hc (k := k) (by omega) hfu with ⟨h1, h2⟩ | ⟨j, h1, h2, h3, h4, h5⟩
    · rw [h2, cc_I]
      exact kl_copyB0 hgb hx0 hcl hp0 hsp n σ hw hs hp (by rw [jn_end h1] at hb; exact hb)
    · obtain ⟨w, b1, b2, b3⟩ := hb
      obtain ⟨σ1, s1, s2, s3⟩ := jb_set (ρ := ρ) b3 h2 hw.1
      have s2' : zp_le (fun c => c = p ∨ τ c = gb) 0 σ σ1 := s2.mono (fun c _ h => by rcases h with rfl | rfl <;> simp [b1, b2]) (Nat.le_refl _)
      have kk : ∀ c, τ c ≠ 0 → τ c ≠ gb → σ1.2.2 c = σ.2.2 c := fun c h0 h1 => s2.keep (hw.lt h0) fun h => by rcases h with rfl | rfl <;> omega
      have hc1 : cB σ1 bs ws x.1.2.2.2.1 := hc.keep (kk _ hb0.1 hb0.2.1) (kk _ hb0.2.2.1 hb0.2.2.2)
      have hs1 := (kk s hs0.1 hs0.2).trans hs
      have hp1 := (kk p hp0.1 hp0.2).trans hp
      rw [jn_step h3 h1 h4] at s3
      obtain ⟨σ', i1, i2, i3, i4⟩ := ih (j + 1) n σ1 (by omega) (by omega) (by omega) (hw.le s2) hc1 hs1 hp1 ⟨w, b1, b2, s3⟩
      refine ⟨σ', ?_, s2'.trans i2 fun _ _ h => h, i3, i4⟩
      rw [h5, cc_I, zL_X6_init_97, if_neg (jn_cmp (by omega)), zp_gR hp (k := 4) (v := some b) rfl, Option.bind_some, b3.ck, s1, cc_V, zp_gR hs1 (k := 4) (v := some bs) rfl, Option.bind_some, hc1.ck, ci_succ, i1]
theorem kc_copyM {p s m gs gm n c : Nat} {A : pa_A} {x : pa_Mo} {τ : Nat → Nat} {σ : zz_S} (hc : σ.2.2 p = some (true, .inr (6, [.int 0, .int 0, .null, .null, .null, .int 0, .int 0, .int 0, .int 0]))) (hp : τ p = 0) (hw : zo_wf τ σ) (hg : zp_gas (n + 30) σ) (hgm : 1 < gm) (hgs : 1 < gs) (hd : gs + 4 ≤ gm ∨ gm + 4 ≤ gs) (hM : rMo τ σ A.1 gs s m x) (hx : pa_okM A c x) (hx12 : x.2.1.length ≤ 12 ∧ x.2.2.length ≤ 12) (hfr : ∀ b, ¬ (gm ≤ τ b ∧ τ b < gm + 4)) (hfu : 100 ≤ ρ.2) :
    ∃ τ' σ', zF_X6_init ρ p (some s) σ = zz_rV σ' ∧ zp_le (fun b => b = p) 30 σ σ' ∧ zo_wf τ' σ' ∧ (∀ b, τ b ≠ 0 → τ' b = τ b) ∧ (∀ b, τ' b = τ b ∨ ((b = p ∨ σ.1.1 ≤ b) ∧ gm ≤ τ' b ∧ τ' b < gm + 4)) ∧ rMo τ' σ' A.1 gm p m x := by
  obtain ⟨τ1, σ1, i1, i2, i3, i4, i5, i6⟩ := kc_initM (ρ := ρ) (m := m) (ponds := x.1.1) (gm := gm) (n := n + 26) (fr := A.1) hc hp hw hg hgm
  have hM1 : rMo τ1 σ1 A.1 gs s m x := hM.keep (G := fun t => t ≠ 0) (fun b hb => ⟨i4 b hb, i2.keep (hw.lt hb) fun h => hb (h ▸ hp)⟩) (by decide) (fun t h1 _ => by omega)
  obtain ⟨-, ls0, qs0, bs0, -, -, cs0, -⟩ := hM
  obtain ⟨ts, ls, qs, bs, R, K, cs, ⟨N, tl, tN, cl⟩, ⟨NK, tq, tNK, cq⟩, ⟨ws, tb, tw, cb⟩, eR, aR, eK, aK⟩ := hM1
  obtain ⟨tp, l, q, b, R0, K0, cp, rl, rq, rb, eR0, -, eK0, -⟩ := i6
  have hR0 : R0 = [] := List.length_eq_zero_iff.mp eR0
  have hK0 : K0 = [] := List.length_eq_zero_iff.mp eK0
  subst hR0 hK0
  have aR' : ∀ a, a ∈ R → τ1 a = 1 ∧ ∃ w fs, σ1.2.2 a = some (w, .inr (7, fs)) := fun a ha => by
    obtain ⟨j, hj⟩ := List.getElem?_of_mem ha
    have hjl := (List.getElem?_eq_some_iff.mp hj).1
    obtain ⟨h1, w, h2⟩ := aR j a _ hj (List.getElem?_eq_getElem (eR ▸ hjl))
    exact ⟨h1, w, _, h2⟩
  have aK' : ∀ a, a ∈ K → τ1 a = 1 ∧ ∃ w fs, σ1.2.2 a = some (w, .inr (8, fs)) := fun a ha => by
    obtain ⟨j, hj⟩ := List.getElem?_of_mem ha
    have hjl := (List.getElem?_eq_some_iff.mp hj).1
    obtain ⟨h1, w, h2⟩ := aK j a _ hj (List.getElem?_eq_getElem (eK ▸ hjl))
    exact ⟨h1, w, _, h2⟩
  have g1 : zp_gas (n + 26) σ1 := i2.gas (n := n + 26) hg
  -- the requests
  obtain ⟨σ2, a1, a2, a3⟩ := jl_iterator (ρ := ρ) (f := ρ.2 - 1) cl i3.1 g1 (by omega)
  have w2 := i3.le a2
  have k12 : zo_k (fun t => t ≠ 0) τ1 σ1 τ1 σ2 := zo_k.of_le i3 a2 (by simp) fun _ h => h.elim
  have hLen := cl.2.2.2.1
  obtain ⟨τ3, σ3, b1, b2, b3, b4, b5, b6⟩ := kl_copyL (ρ := ρ) (L := fun n σ => zL_X6_init_20 ρ n p (some s) (some σ1.1.1) σ) (E := fun σ5 => (zz_gR σ5 (some s) 6 3).bind fun v6 => zz_ck σ5 v6 140 fun a7 => zz_cR (zF_J39_iterator ρ a7 σ5) (fun v10 σ11 => zL_X6_init_58 ρ ρ.2 p (some s) v10 σ11) zz_P) (it := σ1.1.1) (p := p) (fld := 2) (cl := 7) (ls := ls) (gl := gm + 1) (l := l) (N := N) (R := R) (fun n σ => rfl) rfl (by omega) R.length 0 ρ.2 (n + 25 - R.length) τ1 σ2 (Nat.zero_add _) (by omega) w2 (by rw [Nat.sub_add_cancel (by omega)]; exact a2.gas (n := n + 25) g1)
    (cl.keep (k12 ls (by simp [tl])).2 fun m hm => (k12 m (by simp [tN m hm])).2)
    (fun b hb => by
      rcases hb with rfl | hb | hb
      · omega
      · have := tN b hb; omega
      · have := (aR' b hb).1; omega)
    (fun a ha => by obtain ⟨h1, w, fs, h2⟩ := aR' a ha; exact ⟨w, fs, (k12 a (by simp [h1])).2.trans h2⟩)
    i3.new a3 ((k12 p (by simp [tp]; omega)).2.trans cp) (by omega) (by omega) (by rw [List.take_zero]; exact rl.keep k12 (by simp))
  have h13 : zo_k (fun t => t ≠ 0 ∧ t ≠ gm + 1) τ1 σ1 τ3 σ3 := fun b hb => by
    have hbl := i3.lt hb.1
    exact ⟨b4 b (by have := a2.2.1; omega), (b2.keep (by have := a2.2.1; omega) fun h => by rcases h with h | h <;> omega).trans (k12 b hb.1).2⟩
  have g3 : zp_gas (n + 13) σ3 := (b2.gas (n := n + 25 - R.length) (by rw [Nat.sub_add_cancel (by omega)]; exact a2.gas (n := n + 25) g1)).le (by omega)
  -- the croaks
  have cq3 : cL σ3 qs NK K := cq.keep (h13 qs ⟨by omega, by omega⟩).2 fun m hm => (h13 m (by have := tNK m hm; omega)).2
  obtain ⟨σ4, d1, d2, d3⟩ := jl_iterator (ρ := ρ) (f := ρ.2 - 1) cq3 b3.1 g3 (by omega)
  have w4 := b3.le d2
  have k34 : zo_k (fun t => t ≠ 0) τ3 σ3 τ3 σ4 := zo_k.of_le b3 d2 (by simp) fun _ h => h.elim
  have k14 : zo_k (fun t => t ≠ 0 ∧ t ≠ gm + 1) τ1 σ1 τ3 σ4 := (h13.trans k34).mono fun t h => ⟨h, h.1⟩
  obtain ⟨τ5, σ5, e1, e2, e3, e4, e5, e6⟩ := kl_copyL (ρ := ρ) (L := fun n σ => zL_X6_init_58 ρ n p (some s) (some σ3.1.1) σ) (E := fun σ5 => (zz_gR σ5 (some s) 6 4).bind fun v6 => zz_ck σ5 v6 141 fun a7 => zz_cI (zF_J41_nextSetBit ρ a7 (0 : Int32) σ5) (fun v10 σ11 => zL_X6_init_97 ρ ρ.2 p (some s) v10 σ11) zz_P) (it := σ3.1.1) (p := p) (fld := 3) (cl := 8) (ls := qs) (gl := gm + 2) (l := q) (N := NK) (R := K) (fun n σ => rfl) rfl (by omega) K.length 0 ρ.2 (n + 12 - K.length) τ3 σ4 (Nat.zero_add _) (by omega) w4 (by rw [Nat.sub_add_cancel (by omega)]; exact d2.gas (n := n + 12) g3)
    (cq3.keep (k34 qs (by rw [(h13 qs ⟨by omega, by omega⟩).1]; omega)).2 fun m hm => (k34 m (by have := tNK m hm; rw [(h13 m ⟨by omega, by omega⟩).1]; omega)).2)
    (fun b hb => by
      have : τ1 b ≠ 0 ∧ τ1 b ≠ gm + 1 ∧ τ1 b ≠ gm + 2 := by
        rcases hb with rfl | hb | hb
        · omega
        · have := tNK b hb; omega
        · have := (aK' b hb).1; omega
      rw [(h13 b ⟨this.1, this.2.1⟩).1]; exact ⟨this.1, this.2.2⟩)
    (fun a ha => by obtain ⟨h1, w, fs, h2⟩ := aK' a ha; exact ⟨w, fs, (k14 a (by omega)).2.trans h2⟩)
    b3.new d3 ((k14 p (by omega)).2.trans cp) (by rw [(h13 p (by omega)).1]; omega) (by rw [(h13 p (by omega)).1]; omega) (by rw [List.take_zero]; exact (rq.keep h13 (by omega)).keep k34 (by omega))
  have h15 : zo_k (fun t => t ≠ 0 ∧ t ≠ gm + 1 ∧ t ≠ gm + 2) τ1 σ1 τ5 σ5 := fun b hb => by
    have hbl := i3.lt hb.1
    have h3 := h13 b ⟨hb.1, hb.2.1⟩
    have hbl3 := b3.lt (show τ3 b ≠ 0 by omega)
    exact ⟨(e4 b (by have := d2.2.1; omega)).trans h3.1, (e2.keep (by have := d2.2.1; omega) fun h => by rcases h with h | h <;> omega).trans (k14 b ⟨hb.1, hb.2.1⟩).2⟩
  have hl5 : rL τ5 σ5 (gm + 1) l R := by
    have : zo_k (fun t => t = gm + 1) τ3 σ3 τ5 σ5 := fun b hb => by
      have hbl3 := b3.lt (show τ3 b ≠ 0 by omega)
      exact ⟨e4 b (by have := d2.2.1; omega), (e2.keep (by have := d2.2.1; omega) fun h => by rcases h with h | h <;> omega).trans (k34 b (by omega)).2⟩
    exact b6.keep this rfl
  -- the backers
  obtain ⟨σ6, f1, f2, f3, f4⟩ := kl_copyB (ρ := ρ) (p := p) (s := s) (m := m) (b := b) (gb := gm + 3) (bs := bs) (ws := ws) (l := l) (q := q) (ls := ls) (qs := qs) (x0 := ((x.1.1, 0, 0, 0, 0, 0), [], [])) (x := x) (τ := τ5) (by omega) rfl hx.2.2.1 (by rw [(h15 s (by omega)).1]; omega) (by rw [(h15 p (by omega)).1]; omega) (by rw [(h15 bs (by omega)).1, (h15 ws (by omega)).1]; omega) (by rw [(h15 s (by omega)).1, (h15 p (by omega)).1]; omega) (by omega) 12 0 ρ.2 σ5 (by decide) (by decide) (by omega) e3 (cb.keep (h15 bs (by omega)).2 (h15 ws (by omega)).2) ((h15 s (by omega)).2.trans cs) ((h15 p (by omega)).2.trans cp) (by
    rw [Nat.pow_zero, Nat.mod_one]; exact rb.keep h15 (by omega))
  have p5 := h15 p (by omega)
  have k56 : zo_k (fun t => t ≠ 0 ∧ t ≠ gm ∧ t ≠ gm + 3) τ5 σ5 τ5 σ6 := fun c hc => ⟨rfl, f2.keep (e3.lt hc.1) fun h => by
    rcases h with h | h
    · rw [h, p5.1] at hc; omega
    · omega⟩
  have h16 := (h15.trans k56).mono (G' := fun t => t = 1) fun t h => by subst h; omega
  have old : ∀ b, τ b ≠ 0 → τ1 b ≠ gm + 1 ∧ τ1 b ≠ gm + 2 ∧ τ1 b ≠ gm + 3 ∧ τ1 b ≠ 0 ∧ τ1 b ≠ gm := fun b hb => by
    have h1 := i4 b hb
    have h2 := hfr b
    omega
  refine ⟨τ5, σ6, ?_, ?_, e3.le f2, fun b hb => ?_, fun b => ?_, ?_⟩
  · unfold zF_X6_init
    rw [zp_gI cs0 (k := 0) (v := .ofNat m) rfl, Option.bind_some, zp_gI cs0 (k := 1) (v := .ofNat x.1.1) rfl, Option.bind_some, i1, cc_V, zp_gR cs (k := 2) (v := some ls) rfl, Option.bind_some, cl.ck, a1, cc_R]
    refine b1.trans ?_
    rw [zp_gR ((h13 s (by omega)).2.trans cs) (k := 3) (v := some qs) rfl, Option.bind_some, cq3.ck, d1, cc_R]
    refine e1.trans ?_
    rw [zp_gR ((h15 s (by omega)).2.trans cs) (k := 4) (v := some bs) rfl, Option.bind_some, (cb.keep (h15 bs (by omega)).2 (h15 ws (by omega)).2).ck]
    exact f1
  · have o1 : ∀ b, b < σ.1.1 → b ≠ p → τ1 b = τ b := fun b hb hbp => by
      rcases i5 b with h | h
      · exact h
      · omega
    have q3 := (i2.trans a2 fun _ _ h => h.elim).trans b2 fun b hb h => by
      by_cases h0 : b = p
      · exact h0
      · have := o1 b hb h0
        have := hfr b
        rcases h with h | h
        · have := i2.2.1; omega
        · omega
    have q4 := q3.trans d2 fun _ _ h => h.elim
    have q5 := q4.trans e2 fun b hb h => by
      by_cases h0 : b = p
      · exact h0
      · have := o1 b hb h0
        have := hfr b
        have h3 := b4 b (by have := i2.2.1; have := a2.2.1; omega)
        rcases h with h | h
        · have := i2.2.1; have := b2.2.1; have := a2.2.1; omega
        · omega
    have q6 := q5.trans f2 fun b hb h => by
      by_cases h0 : b = p
      · exact h0
      · have := o1 b hb h0
        have := hfr b
        have h3 := b4 b (by have := i2.2.1; have := a2.2.1; omega)
        have h4 := e4 b (by have := i2.2.1; have := a2.2.1; have := b2.2.1; have := d2.2.1; omega)
        omega
    exact q6.mono (fun _ _ h => h) (by omega)
  · have := old b hb
    exact ((h15 b (by omega)).1).trans (i4 b hb)
  · by_cases hbl : b < σ.1.1
    · have h3 := b4 b (by have := i2.2.1; have := a2.2.1; omega)
      have h4 := e4 b (by have := i2.2.1; have := a2.2.1; have := b2.2.1; have := d2.2.1; omega)
      have := i5 b
      omega
    · have := i5 b
      have := b5 b
      have := e5 b
      omega
  · exact ⟨p5.1.trans tp, l, q, b, R, K, f3, hl5.keep k56 (by omega), e6.keep k56 (by omega), f4, eR, fun j a r ha hr => (aR j a r ha hr).keep h16 rfl, eK, fun j a r ha hr => (aK j a r ha hr).keep h16 rfl⟩
end MC
