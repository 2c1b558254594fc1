/-! ===== AN ASSEMBLY IS COPIED: pads, motions ===== -/
section CPZ
variable {ρ : zz_C}
theorem kl_copy62 {t g a a' it G af0 ac0 am0 af ac am : Nat} {A : pa_A} {F0 C0 M0 F : List Nat} {τ0 : Nat → Nat} {σ0 : zz_S} (hs : rAx τ0 σ0 g a A af0 ac0 am0 F0 C0 M0) (ho : pw A) (hg : 1000 ≤ g) (ht : 1000 ≤ t) (hG : zp_gas G σ0) (hc : rCache ρ τ0 σ0) :
    ∀ (r k n k0 : Nat) (τ : Nat → Nat) (σ : zz_S) (C : List Nat), k + r = A.2.1.length → r < n → kQ t τ0 σ0 τ σ (t + 100) k0 → k0 ≤ G → τ it = 0 → cI σ it ac0 k → rAx τ σ t a' (A.1, A.2.1.take k, [], 0, 0) af ac am F C [] →
      ∃ τ' σ' C', zL_X2_copy_62 ρ n a (some a') (some it) σ = ((zz_gR σ' (some a) 2 2).bind fun v6 => zz_ck σ' v6 102 fun a7 => zz_cR (zF_J2_iterator ρ a7 σ') (fun v10 σ11 => zL_X2_copy_107 ρ ρ.2 a (some a') v10 σ11) zz_P) ∧ kQ t τ0 σ0 τ' σ' (t + 100) k0 ∧ rAx τ' σ' t a' (A.1, A.2.1, [], 0, 0) af ac am F C' [] := by
  have hpart : ∀ j, pw (A.1, A.2.1.take j, [], 0, 0) := fun j => by
    have := ho.part A.1.length j
    rw [List.take_length] at this
    exact this
  intro r
  induction r with
  | zero =>
    intro k n k0 τ σ C hk hn hq hk0 hit hi hx
    obtain ⟨n, rfl⟩ : ∃ m, n = m + 1 := ⟨n - 1, by omega⟩
    have hS := hs.keep0 ho hg hq.src
    obtain ⟨-, -, -, ⟨⟨e, -, -, cC⟩, eC, -⟩, -⟩ := hS
    rw [List.take_of_length_le (by omega)] at hx
    rw [zL_X2_copy_62, hi.ck, ja_hasNext hi cC (by omega), if_pos (by omega), cc_I, if_pos z00]
    exact ⟨τ, σ, C, rfl, hq, hx⟩
  | succ r ih =>
    intro k n k0 τ σ C hk hn hq hk0 hit hi hx
    obtain ⟨n, rfl⟩ : ∃ m, n = m + 1 := ⟨n - 1, by omega⟩
    have hS := hs.keep0 ho hg hq.src
    obtain ⟨-, -, -, ⟨⟨e, tf, te, cC⟩, eC, kC⟩, -⟩ := hS
    have hk1 : k < A.2.1.length := by omega
    obtain ⟨s, hsC⟩ : ∃ s, C0[k]? = some s := ⟨_, List.getElem?_eq_getElem (eC ▸ hk1 : k < C0.length)⟩
    have hx1 := List.getElem?_eq_getElem hk1
    obtain ⟨ts, ⟨w, cs⟩⟩ := kC k s _ hsC hx1
    have hr5 := ho.2.2.2.2.1 _ (List.getElem_mem hk1)
    have hfr : ∀ b, τ0 b < t := hq.1
    have hw := hq.2.2.1
    obtain ⟨σ1, n1, n2, n3⟩ := ja_next (ρ := ρ) hi cC hsC hw.1
    have hitl : it < σ.1.1 := by obtain ⟨_, _, _, _, q1, _⟩ := hi; exact hw.1.lt q1
    have hw1 := hw.le n2
    have k1 : zo_k (fun u => u ≠ 0) τ σ τ σ1 := fun b hb => ⟨rfl, n2.keep (hw.lt hb) fun h => hb (h ▸ hit)⟩
    have hX1 := hx.keep0 (hpart k) ht k1
    obtain ⟨-, f2, -, -, f5, -, -, -, -⟩ := hX1.fl (ρ := ρ)
    have hint : cInt σ1 s (.ofNat A.2.1[k]) := ⟨w, (k1 s (by omega)).2.trans cs⟩
    have hc1 : rCache ρ τ σ1 := (hc.keep hq.src (by decide)).keep k1 (by decide)
    obtain ⟨p, v1, v2, v3⟩ := ji_small (n := A.2.1[k]) hc1 (by omega)
    have hlen : (A.2.1.take k).length = k := by rw [List.length_take]; omega
    obtain ⟨s4, a1, a2, a3, a4⟩ := kx_addC (ρ := ρ) hX1 (hpart k) (by show (A.2.1.take k).length < _; have := ho.2.1; omega) (by omega) (by omega) hw1 v2 v3 ht
    dsimp only at a1 a2 a3 a4
    have q1 : kQ t τ0 σ0 τ σ1 (t + 100) (k0 + 0) := hq.step n2 (fun b h => .inl (by rw [h]; exact hit)) hw1 (fun _ _ => rfl) (fun _ => .inl rfl) (Nat.le_refl _)
    have q14 : kQ t τ0 σ0 τ s4 (t + 100) (k0 + 0 + 0) := q1.step a2 (fun b h => .inr (by have h : τ b = t + 2 := h; omega)) a3 (fun b hb => rfl) (fun b => .inl rfl) (Nat.le_refl _)
    have hitl1 : it < σ1.1.1 := by have := n2.2.1; omega
    have hi4 : cI s4 it ac0 (k + 1) := by
      have htf : τ ac0 ≠ 0 ∧ τ ac0 ≠ t + 2 := by
        have h1 := hq.2.2.2.2.1 ac0
        have h2 := hs.2.2.2.1.1
        obtain ⟨e', h3, -⟩ := h2
        have := hfr ac0
        omega
      have hafl := hw1.lt htf.1
      refine n3.keep ?_ ?_
      · rw [a2.keep hitl1 (by show ¬ τ it = _; omega)]
      · rw [a2.keep hafl (by show ¬ τ ac0 = _; omega)]
    rw [take_snoc hx1] at a4
    obtain ⟨τ', σ', C', c1, c2, c3⟩ := ih (k + 1) n k0 _ s4 _ (by omega) (by omega) q14 (by omega) hit hi4 a4
    refine ⟨τ', σ', C', ?_, c2, c3⟩
    rw [zL_X2_copy_62, hi.ck, ja_hasNext hi cC (by omega), if_neg (by omega), cc_I, if_neg n10, hi.ck, n1, cc_R, if_neg (fun h => h hint.cast), hint.ck, ji_intValue hint, cc_I, f2, Option.bind_some, v1, cc_R, f5, a1, cc_I, c1]
theorem kl_copy107 {t g a a' it G af0 ac0 am0 af ac am c : Nat} {A : pa_A} {F0 C0 M0 F C : List Nat} {τ0 : Nat → Nat} {σ0 : zz_S} (hs : rAx τ0 σ0 g a A af0 ac0 am0 F0 C0 M0) (hok : pa_ok A c) (hcc : c ≤ 1000) (hg : 1000 ≤ g) (ht : g + 200 ≤ t) (hG : zp_gas G σ0) (hfu : 100 ≤ ρ.2) :
    ∀ (r k n k0 : Nat) (τ : Nat → Nat) (σ : zz_S) (Mo : List Nat), k + r = A.2.2.1.length → r < n → kQ t τ0 σ0 τ σ (t + 100 + 10 * k) k0 → k0 + 31 * r ≤ G → τ it = 0 → cI σ it am0 k → rAx τ σ t a' (A.1, A.2.1, A.2.2.1.take k, 0, 0) af ac am F C Mo →
      ∃ τ' σ' Mo', zL_X2_copy_107 ρ n a (some a') (some it) σ = zz_rR (some a') σ' ∧ kQ t τ0 σ0 τ' σ' (t + 200) (k0 + 31 * r) ∧ rAx τ' σ' t a' A af ac am F C Mo' := by
  have ho := hok.w hcc
  intro r
  induction r with
  | zero =>
    intro k n k0 τ σ Mo hk hn hq hk0 hit hi hx
    obtain ⟨n, rfl⟩ : ∃ m, n = m + 1 := ⟨n - 1, by omega⟩
    have hS := hs.keep0 ho hg hq.src
    have hS2 := hS.2.1
    obtain ⟨-, -, -, -, ⟨e, -, -, cM⟩, eM, -⟩ := hS
    rw [List.take_of_length_le (by omega)] at hx
    have hne : a ≠ a' := fun h => by
      have h1 := hx.1
      have h2 := hq.2.2.2.2.1 a
      have h3 := hs.1
      rw [← h] at h1
      omega
    have hX2 := hx.2.1
    have gs : ∀ e, (zz_set σ a' e).2.2 a = _ := fun e => (zp_set_old hne).trans hS2
    rw [zL_X2_copy_107, hi.ck, ja_hasNext hi cM (by omega), if_pos (by omega), cc_I, if_pos z00, zp_gI hS2 (k := 3) (v := .ofNat A.2.2.2.1) rfl, Option.bind_some, zp_pf (N := 5) hX2 rfl, Option.bind_some, zp_gI (gs _) (k := 4) (v := .ofNat A.2.2.2.2) rfl, Option.bind_some, zp_pf (N := 5) zp_set_at rfl, Option.bind_some, cs_set_set]
    have hc1 := hx.cellA (sp := A.2.2.2.1) (ms := A.2.2.2.2) ⟨ho.1, ho.2.1, ho.2.2.1, ho.2.2.2.1, ho.2.2.2.2.1, ho.2.2.2.2.2⟩ (by omega)
    refine ⟨τ, _, Mo, rfl, ?_, hc1⟩
    have hM6 := ho.2.2.1
    exact hq.step (M := fun b => b = a') (j := 0) (zp_set_le (hq.2.2.1.1.lt hX2) rfl) (fun b h => .inr (by rw [h, hx.1]; exact Nat.le_refl _)) (hq.2.2.1.le (M := fun b => b = a') (k := 0) (zp_set_le (hq.2.2.1.1.lt hX2) rfl)) (fun _ _ => rfl) (fun _ => .inl rfl) (by omega)
  | succ r ih =>
    intro k n k0 τ σ Mo hk hn hq hk0 hit hi hx
    obtain ⟨n, rfl⟩ : ∃ m, n = m + 1 := ⟨n - 1, by omega⟩
    have hS := hs.keep0 ho hg hq.src
    obtain ⟨-, -, -, -, ⟨e, tf, te, cM⟩, eM, kM⟩ := hS
    have hk1 : k < A.2.2.1.length := by omega
    obtain ⟨s, hsM⟩ : ∃ s, M0[k]? = some s := ⟨_, List.getElem?_eq_getElem (eM ▸ hk1 : k < M0.length)⟩
    have hx1 := List.getElem?_eq_getElem hk1
    have hM := kM k s _ hsM hx1
    have hfr : ∀ b, τ0 b < t := hq.1
    have hw := hq.2.2.1
    have hM6 := ho.2.2.1
    obtain ⟨σ1, n1, n2, n3⟩ := ja_next (ρ := ρ) hi cM hsM hw.1
    have hitl : it < σ.1.1 := by obtain ⟨_, _, _, _, q1, _⟩ := hi; exact hw.1.lt q1
    have hw1 := hw.le n2
    have k1 : zo_k (fun u => u ≠ 0) τ σ τ σ1 := fun b hb => ⟨rfl, n2.keep (hw.lt hb) fun h => hb (h ▸ hit)⟩
    have hX1 := hx.keep0 (ho.partM k) (by omega) k1
    obtain ⟨-, -, f3, -, -, f6, -, -, -⟩ := hX1.fl (ρ := ρ)
    have hMs := hM
    obtain ⟨-, ls, qs, bs, -, -, cs, -⟩ := hMs
    have cs1 := (k1 s (by rw [hM.1]; omega)).2.trans cs
    have hcast : zz_ok σ1 (some s) [6] = true := by simp [zz_ok, zz_cl, cs1, mcell]
    have g1 : zp_gas (30 + 1) σ1 := n2.gas (n := 30 + 1) (hq.gas (n := 31) hG (by omega))
    obtain ⟨s2, e2⟩ : ∃ s2, s2 = zp_al σ1 (.inr (6, [.int 0, .int 0, .null, .null, .null, .int 0, .int 0, .int 0, .int 0])) 9 := ⟨_, rfl⟩
    have l2 : zp_le zp_no 1 σ1 s2 := by rw [e2]; exact zp_al_le (by decide)
    have n2' : s2.1.1 = σ1.1.1 + 1 := by rw [e2]; rfl
    have hw2 := hw1.le l2
    have hp0 : τ σ1.1.1 = 0 := hw1.new
    have k2 : zo_k (fun u => u ≠ 0) τ σ1 τ s2 := fun b hb => ⟨rfl, l2.keep (hw1.lt hb) fun h => h⟩
    have hM2 : rMo τ s2 A.1 (g + 100 + 10 * k) s k A.2.2.1[k] := (hM.keep k1 (by decide) (fun t h1 _ => by omega)).keep k2 (by decide) (fun t h1 _ => by omega)
    have hMok := hok.2.2.2.2.2.1 _ (List.getElem_mem hk1)
    have hl12 : (A.2.2.1[k]).2.1.length ≤ 12 ∧ (A.2.2.1[k]).2.2.length ≤ 12 := ho.ll hx1
    obtain ⟨τ3, s3, i1, i2, i3, i4, i5, i6⟩ := kc_copyM (ρ := ρ) (p := σ1.1.1) (s := s) (m := k) (gs := g + 100 + 10 * k) (gm := t + 100 + 10 * k) (n := 0) (c := c) (A := A) (x := A.2.2.1[k]) (τ := τ) (σ := s2) (by rw [e2]; exact zp_al_new) hp0 hw2 (by rw [Nat.zero_add]; exact l2.gas (n := 30) g1) (by omega) (by omega) (by omega) hM2 hMok hl12 (fun b => by
      have := hq.2.2.2.2.2 b
      have := hfr b
      omega) hfu
    have k23 : zo_k (fun u => u ≠ 0) τ s2 τ3 s3 := fun b hb => ⟨i4 b hb, i2.keep (hw2.lt hb) fun h => hb (by rw [h]; exact hp0)⟩
    have hX3 := (hX1.keep0 (ho.partM k) (by omega) k2).keep0 (ho.partM k) (by omega) k23
    have hlen : (A.2.2.1.take k).length = k := by rw [List.length_take]; omega
    obtain ⟨s4, a1, a2, a3, a4⟩ := kx_addM (ρ := ρ) (x := A.2.2.1[k]) hX3 (ho.partM k) (by show (A.2.2.1.take k).length < _; omega) (by omega) i3 (by
      show rMo τ3 s3 A.1 (t + 100 + 10 * (A.2.2.1.take k).length) σ1.1.1 (A.2.2.1.take k).length A.2.2.1[k]
      rw [hlen]; exact i6)
    obtain ⟨-, -, -, -, -, f6', -, -, -⟩ := hX3.fl (ρ := ρ)
    dsimp only at a1 a2 a3 a4
    have q2 : kQ t τ0 σ0 τ s2 (t + 100 + 10 * k) (k0 + 1) := hq.step (j := 0 + 1) ((n2.mono (M' := fun b => τ b = 0) (fun b _ h => by rw [h]; exact hit) (Nat.le_refl _)).trans l2 fun _ _ h => h.elim) (fun b h => .inl h) hw2 (fun _ _ => rfl) (fun _ => .inl rfl) (Nat.le_refl _)
    have q3 : kQ t τ0 σ0 τ3 s3 (t + 100 + 10 * (k + 1)) (k0 + 1 + 30) := q2.step i2 (fun b h => .inl (by rw [h]; exact hp0)) i3 i4 (fun b => by have := i5 b; omega) (by omega)
    have q4 : kQ t τ0 σ0 τ3 s4 (t + 100 + 10 * (k + 1)) (k0 + 1 + 30 + 0) := q3.step a2 (fun b h => .inr (by have h : τ3 b = t + 3 := h; omega)) a3 (fun b hb => rfl) (fun b => .inl rfl) (Nat.le_refl _)
    have hitl1 : it < σ1.1.1 := by have := n2.2.1; omega
    have hit3 : τ3 it = 0 := by
      have := i5 it
      have := l2.2.1
      omega
    have hi4 : cI s4 it am0 (k + 1) := by
      have htf : τ am0 ≠ 0 ∧ τ am0 < t := by
        have h1 := hq.2.2.2.2.1 am0
        have h2 := hs.2.2.2.2.1
        obtain ⟨e', h3, -⟩ := h2
        have := hfr am0
        omega
      have hafl := hw1.lt htf.1
      refine n3.keep ?_ ?_
      · rw [a2.keep (by have := l2.2.1; have := i2.2.1; omega) (by show ¬ τ3 it = _; omega), i2.keep (by omega) (by show ¬ it = _; omega), l2.keep hitl1 fun h => h]
      · rw [a2.keep (by have := l2.2.1; have := i2.2.1; omega) (by show ¬ τ3 am0 = _; have := i4 am0 htf.1; omega), i2.keep (by omega) (by show ¬ am0 = _; omega), l2.keep hafl fun h => h]
    rw [take_snoc hx1] at a4
    obtain ⟨τ', σ', Mo', c1, c2, c3⟩ := ih (k + 1) n (k0 + 1 + 30) _ s4 _ (by omega) (by omega) q4 (by omega) hit3 hi4 a4
    refine ⟨τ', σ', Mo', ?_, by rw [show k0 + 31 * (r + 1) = k0 + 1 + 30 + 31 * r by omega]; exact c2, c3⟩
    rw [zL_X2_copy_107, hi.ck, ja_hasNext hi cM (by omega), if_neg (by omega), cc_I, if_neg n10, hi.ck, n1, cc_R, if_neg (fun h => h hcast), f3, Option.bind_some, zp_al_eq g1 (by decide), ← e2, i1, cc_V, f6', a1, cc_I, c1]
/-- copy -/
theorem kc_copy {t g a c n : Nat} {A : pa_A} {τ : Nat → Nat} {σ : zz_S} (h : rAs τ σ g a A) (hok : pa_ok A c) (hcc : c ≤ 1000) (hg : 1000 ≤ g) (ht : g + 200 ≤ t) (hT : ∀ b, τ b < t) (hw : zo_wf τ σ) (hc : rCache ρ τ σ) (hG : zp_gas (n + 220) σ) (hfu : 100 ≤ ρ.2) :
    ∃ τ' σ' a', zF_X2_copy ρ a σ = zz_rR (some a') σ' ∧ kQ t τ σ τ' σ' (t + 200) 220 ∧ rAs τ' σ' t a' A := by
  have ho := hok.w hcc
  obtain ⟨af0, ac0, am0, F0, C0, M0, hs⟩ := h
  have h12 := ho.1
  have h6 := ho.2.1
  have hM6 := ho.2.2.1
  have hq0 : kQ t τ σ τ σ t 0 := ⟨hT, hw, hw, zp_le.refl _ _ _, fun _ _ => rfl, fun _ => .inl rfl⟩
  unfold zF_X2_copy
  rw [zp_al_eq (n := n + 219) hG (by decide)]
  obtain ⟨s1, e1⟩ : ∃ s, s = zp_al σ (.inr (2, [.null, .null, .null, .int 0, .int 0])) 5 := ⟨_, rfl⟩
  have l1 : zp_le zp_no 1 σ s1 := by rw [e1]; exact zp_al_le (by decide)
  have hw1 := hw.le l1
  rw [← e1]
  obtain ⟨τ2, s2, af, ac, am, i1, i2, i3, i4, i5, i6⟩ := kc_init2 (ρ := ρ) (a := σ.1.1) (g := t) (n := n + 213) (τ := τ) (σ := s1) (by rw [e1]; exact zp_al_new) hw.new (by omega) hw1 (l1.gas (n := n + 219) hG)
  have q1 := hq0.step l1 (fun _ h => h.elim) hw1 (fun _ _ => rfl) (fun _ => .inl rfl) (Nat.le_refl t)
  have q2 : kQ t τ σ τ2 s2 (t + 100) (0 + 1 + 6) := q1.step i2 (fun b h => .inl (by rw [h]; exact hw.new)) i3 i4 (fun b => by have := i5 b; omega) (by omega)
  have hS2 := hs.keep0 ho hg q2.src
  obtain ⟨f1, f2, f3, f4, f5, f6, -, -, -⟩ := hS2.fl (ρ := ρ)
  obtain ⟨-, -, ⟨⟨e, -, -, cF⟩, eF, -⟩, -⟩ := hS2
  rw [i1, cc_V, f1, Option.bind_some, f4]
  obtain ⟨s3, j1, j2, j3⟩ := ja_iterator (ρ := ρ) cF i3.1 (q2.gas (n := n + 212 + 1) hG (by omega))
  have w3 := i3.le j2
  have q3 := q2.step j2 (fun _ h => h.elim) w3 (fun _ _ => rfl) (fun _ => .inl rfl) (Nat.le_refl _)
  rw [j1, cc_R]
  have k23 : zo_k (fun u => u ≠ 0) τ2 s2 τ2 s3 := fun b hb => ⟨rfl, j2.keep (i3.lt hb) fun h => h⟩
  obtain ⟨τ4, s4, F, c1, c2, c3⟩ := kl_copy16 (ρ := ρ) (af := af) (ac := ac) (am := am) hs ho hg (by omega : 1000 ≤ t) hG A.1.length 0 ρ.2 _ τ2 s3 [] (Nat.zero_add _) (by omega) q3 (by omega) i3.new j3 (by
    rw [List.take_zero]
    exact i6.keep0 ⟨by simp, by simp, by simp, by simp, by simp, by simp⟩ (by omega) k23)
  rw [c1]
  have hS4 := hs.keep0 ho hg c2.src
  obtain ⟨-, g2, -, -, g5, -, -, -, -⟩ := hS4.fl (ρ := ρ)
  obtain ⟨-, -, -, ⟨⟨e', -, -, cC⟩, eC, -⟩, -⟩ := hS4
  rw [g2, Option.bind_some, g5]
  obtain ⟨s5, m1, m2, m3⟩ := ja_iterator (ρ := ρ) cC c2.2.2.1.1 (c2.gas (n := n + 199 + 1) hG (by omega))
  have w5 := c2.2.2.1.le m2
  have q5 := c2.step m2 (fun _ h => h.elim) w5 (fun _ _ => rfl) (fun _ => .inl rfl) (Nat.le_refl _)
  rw [m1, cc_R]
  have k45 : zo_k (fun u => u ≠ 0) τ4 s4 τ4 s5 := fun b hb => ⟨rfl, m2.keep (c2.2.2.1.lt hb) fun h => h⟩
  have hp45 : pw (A.1, [], [], 0, 0) := by
    have := ho.part A.1.length 0
    rw [List.take_length] at this
    exact this
  obtain ⟨τ6, s6, C, d1, d2, d3⟩ := kl_copy62 (ρ := ρ) hs ho hg (by omega : 1000 ≤ t) hG hc A.2.1.length 0 ρ.2 _ τ4 s5 [] (Nat.zero_add _) (by omega) q5 (by omega) c2.2.2.1.new m3 (by
    rw [List.take_zero]
    exact c3.keep0 hp45 (by omega) k45)
  rw [d1]
  have hS6 := hs.keep0 ho hg d2.src
  obtain ⟨-, -, g3, -, -, g6, -, -, -⟩ := hS6.fl (ρ := ρ)
  obtain ⟨-, -, -, -, ⟨e'', -, -, cM⟩, eM, -⟩ := hS6
  rw [g3, Option.bind_some, g6]
  obtain ⟨s7, p1, p2, p3⟩ := ja_iterator (ρ := ρ) cM d2.2.2.1.1 (d2.gas (n := n + 198 + 1) hG (by omega))
  have w7 := d2.2.2.1.le p2
  have q7 := d2.step p2 (fun _ h => h.elim) w7 (fun _ _ => rfl) (fun _ => .inl rfl) (Nat.le_refl _)
  rw [p1, cc_R]
  have k67 : zo_k (fun u => u ≠ 0) τ6 s6 τ6 s7 := fun b hb => ⟨rfl, p2.keep (d2.2.2.1.lt hb) fun h => h⟩
  have hp67 : pw (A.1, A.2.1, [], 0, 0) := by
    have := ho.partM 0
    rw [List.take_zero] at this
    exact this
  obtain ⟨τ8, s8, Mo, u1, u2, u3⟩ := kl_copy107 (ρ := ρ) hs hok hcc hg ht hG hfu A.2.2.1.length 0 ρ.2 _ τ6 s7 [] (Nat.zero_add _) (by omega) q7 (by omega) d2.2.2.1.new p3 (by
    rw [List.take_zero]
    exact d3.keep0 hp67 (by omega) k67)
  refine ⟨τ8, s8, σ.1.1, u1, ?_, af, ac, am, F, C, Mo, u3⟩
  obtain ⟨q1, q2, q3, q4, q5⟩ := u2
  exact ⟨q1, q2, q3, q4.mono (fun _ _ h => h) (by omega), q5⟩
end CPZ
