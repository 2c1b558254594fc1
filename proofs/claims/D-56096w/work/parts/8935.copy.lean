/-! ===== AN ASSEMBLY IS COPIED ===== -/
section CPY
variable {ρ : zz_C}
theorem cs_same {σ : zz_S} {a : Nat} {e : zz_E} (h : σ.2.2 a = some (true, e)) : zz_set σ a e = σ := by
  unfold zz_set zz_up
  refine Prod.ext rfl (Prod.ext rfl (funext fun q => ?_))
  by_cases hq : q = a
  · subst hq; exact (if_pos rfl).trans h.symm
  · exact if_neg hq
theorem kc_copyF {p s k : Nat} {x : pa_F} {σ : zz_S} {v0 v1 v2 v3 : Value} (h : σ.2.2 p = some (true, .inr (5, [v0, v1, v2, v3, .int 0]))) (hs : σ.2.2 s = some (true, fcell k x)) (hw : zp_wf σ) (hne : s ≠ p) :
    ∃ σ', zF_X5_init ρ p (some s) σ = zz_rV σ' ∧ zp_le (fun b => b = p) 0 σ σ' ∧ σ'.2.2 p = some (true, fcell k x) := by
  obtain ⟨σ1, i1, i2, i3⟩ := kc_initF (ρ := ρ) (k := k) (pond := x.1) (weight := x.2.1) h hw
  have hs1 : σ1.2.2 s = some (true, fcell k x) := (i2.keep (hw.lt hs) hne).trans hs
  have gs : ∀ e, (zz_set σ1 p e).2.2 s = some (true, fcell k x) := fun e => (zp_set_old hne).trans hs1
  unfold zF_X5_init
  rw [kf_num hs, Option.bind_some, kf_pond hs, Option.bind_some, kf_weight hs, Option.bind_some, i1, cc_V, kf_pad hs1, Option.bind_some, zp_pf (N := 5) i3 rfl, Option.bind_some, kf_spoke (gs _), Option.bind_some, zp_pf (N := 5) zp_set_at rfl, Option.bind_some, cs_set_set]
  have hl := (i2.wf hw).lt i3
  exact ⟨_, rfl, i2.trans (k' := 0) (zp_set_le (M := fun b => b = p) hl rfl) fun _ _ h => h, zp_set_at⟩
theorem pw.part {A : pa_A} (h : pw A) (i j : Nat) : pw (A.1.take i, A.2.1.take j, [], 0, 0) := by
  refine ⟨?_, ?_, by simp, fun x hx => h.2.2.2.1 x (List.mem_of_mem_take hx), fun r hr => h.2.2.2.2.1 r (List.mem_of_mem_take hr), fun x hx => by simp at hx⟩
  · have := h.1; show (A.1.take i).length ≤ _; rw [List.length_take]; omega
  · have := h.2.1; show (A.2.1.take j).length ≤ _; rw [List.length_take]; omega
theorem pw.partM {A : pa_A} (h : pw A) (i : Nat) : pw (A.1, A.2.1, A.2.2.1.take i, 0, 0) := by
  refine ⟨h.1, h.2.1, ?_, h.2.2.2.1, h.2.2.2.2.1, fun x hx => h.2.2.2.2.2 x (List.mem_of_mem_take hx)⟩
  have := h.2.2.1; show (A.2.2.1.take i).length ≤ _; rw [List.length_take]; omega
theorem take_snoc {α : Type} {L : List α} {k : Nat} {x : α} (h : L[k]? = some x) : L.take k ++ [x] = L.take (k + 1) := by rw [List.take_succ, h]; rfl
/-- a new ArrayList -/
theorem ja_init {a cap n : Nat} {σ : zz_S} (h : σ.2.2 a = some (true, .inr (102, [.int 0, .null, .int 0]))) (hw : zp_wf σ) (hg : zp_gas (n + 1) σ) (hc : 0 < cap ∧ cap ≤ 100) :
    ∃ σ', zF_J2_init ρ a (.ofNat cap) σ = zz_rV σ' ∧ zp_le (fun b => b = a) 1 σ σ' ∧ σ'.1.1 = σ.1.1 + 1 ∧ cA σ' a σ.1.1 cap [] := by
  have hne : a ≠ σ.1.1 := Nat.ne_of_lt (hw.lt h)
  unfold zF_J2_init zF_J1_init_at_J2 zF_J0_init_at_J2
  rw [cc_V, zq_pf (N := 3) h rfl (fs' := [.int 0, .null, .int 0]) rfl, Option.bind_some, cs_same h, cc_V, if_neg (show ¬ Int32.ofNat cap ≤ 0 from by rw [show (0 : Int32) = Int32.ofNat 0 from rfl, ci_le (by omega) (by decide)]; omega), zp_na_eq hg (by omega)]
  have a1 : (zp_al σ (zz_z 5 cap) cap).2.2 a = some (true, .inr (102, [.int 0, .null, .int 0])) := (zp_al_old hne).trans h
  rw [zq_pf (N := 3) a1 rfl (fs' := [.int 0, .ref σ.1.1, .int 0]) rfl, Option.bind_some]
  refine ⟨_, rfl, (zp_al_le (M := fun b => b = a) (by omega)).trans (k' := 0) (zp_set_le (M := fun b => b = a) (by show a < σ.1.1 + 1; have := hw.lt h; omega) rfl) (fun _ _ h => h), rfl, ⟨0, zp_set_at⟩, ⟨fun _ => none, ?_, fun k x hk => by simp at hk⟩, by simp, hc.2⟩
  rw [zp_set_old (fun h => hne h.symm)]
  exact zp_al_new
/-- one new list of an assembly under way -/
theorem kc_initA {g a n : Nat} {σ : zz_S} {τ : Nat → Nat} {fs : List Value} (k cap : Nat) (hc : σ.2.2 a = some (true, .inr (2, fs))) (hl : fs.length = 5) (ha : τ a = g) (hg0 : 1000 ≤ g) (hw : zo_wf τ σ) (hg : zp_gas (n + 2) σ) (hcap : 0 < cap ∧ cap ≤ 100) (K : zz_S → zz_R) (T : Nat) (hT : g < T) :
    ∃ af τ' σ', (zz_al σ (.inr (102, [.int 0, .null, .int 0])) 3 fun a1 σ2 => zz_cV (zF_J2_init ρ a1 (.ofNat cap) σ2) (fun σ6 => (zz_pf σ6 (some a) 2 5 k (va_rf (some a1))).bind fun σ7 => K σ7) zz_P) = K σ' ∧ zp_le (fun b => b = a) 2 σ σ' ∧ zo_wf τ' σ' ∧ (∀ b, τ b ≠ 0 → τ' b = τ b) ∧ (∀ b, τ' b = τ b ∨ τ' b = T) ∧ rA τ' σ' T af cap [] ∧ σ'.2.2 a = some (true, .inr (2, fs.set k (.ref af))) := by
  have hal : a < σ.1.1 := hw.1.lt hc
  rw [zp_al_eq (n := n + 1) hg (by decide)]
  obtain ⟨s1, e1⟩ : ∃ s, s = zp_al σ (.inr (102, [.int 0, .null, .int 0])) 3 := ⟨_, rfl⟩
  have l1 : zp_le zp_no 1 σ s1 := by rw [e1]; exact zp_al_le (by decide)
  have n1 : s1.1.1 = σ.1.1 + 1 := by rw [e1]; rfl
  rw [← e1]
  obtain ⟨s2, i1, i2, i3, i4⟩ := ja_init (ρ := ρ) (a := σ.1.1) (σ := s1) (cap := cap) (n := n) (by rw [e1]; exact zp_al_new) (l1.wf hw.1) (l1.gas (n := n + 1) hg) hcap
  have hc2 : s2.2.2 a = some (true, .inr (2, fs)) := by rw [i2.keep (by omega) (by show ¬ a = _; omega), l1.keep hal (fun h => h)]; exact hc
  rw [i1, cc_V, zp_pf (N := 5) hc2 hl, Option.bind_some]
  obtain ⟨s3, e3⟩ : ∃ s, s = zz_set s2 a (.inr (2, fs.set k (va_rf (some σ.1.1)))) := ⟨_, rfl⟩
  have l3 : zp_le (fun b => b = a) 0 s2 s3 := by rw [e3]; exact zp_set_le (by omega) rfl
  have n3 : s3.1.1 = s2.1.1 := by rw [e3]; rfl
  rw [← e3]
  have l03 : zp_le (fun b => b = a) 2 σ s3 := by
    have h1 : zp_le (fun b => b = a) 1 σ s1 := l1.none (Nat.le_refl _)
    exact (h1.trans i2 fun b hb h => by omega).trans (k' := 0) l3 fun _ _ h => h
  refine ⟨σ.1.1, zo_tg (zo_tg τ σ.1.1 T) s1.1.1 T, s3, rfl, l03, ((hw.le l03).tg (by omega)).tg (by omega), fun b hb => ?_, fun b => ?_, ⟨s1.1.1, ?_, zo_tg_at _ _ _, i4.keep ?_ ?_⟩, by rw [e3]; exact zp_set_at⟩
  · have := hw.lt hb
    rw [zo_tg_ne (by omega), zo_tg_ne (by omega)]
  · unfold zo_tg
    split
    · exact .inr rfl
    · split
      · exact .inr rfl
      · exact .inl rfl
  · rw [zo_tg_ne (by omega), zo_tg_at]
  · exact l3.keep (by omega) (by show ¬ _ = a; omega)
  · exact l3.keep (by omega) (by show ¬ _ = a; omega)
/-- a new, empty assembly -/
theorem kc_init2 {g a n : Nat} {σ : zz_S} {τ : Nat → Nat} (hc : σ.2.2 a = some (true, .inr (2, [.null, .null, .null, .int 0, .int 0]))) (ha : τ a = 0) (hg0 : 1000 ≤ g) (hw : zo_wf τ σ) (hg : zp_gas (n + 6) σ) :
    ∃ τ' σ' af ac am, zF_X2_init ρ a σ = zz_rV σ' ∧ zp_le (fun b => b = a) 6 σ σ' ∧ zo_wf τ' σ' ∧ (∀ b, τ b ≠ 0 → τ' b = τ b) ∧ (∀ b, τ' b = τ b ∨ (g ≤ τ' b ∧ τ' b < g + 4)) ∧ rAx τ' σ' g a ([], [], [], 0, 0) af ac am [] [] [] := by
  have hal : a < σ.1.1 := hw.1.lt hc
  have w0 := hw.tg (t := g) hal
  have t0 : ∀ b, τ b ≠ 0 → zo_tg τ a g b = τ b := fun b hb => zo_tg_ne fun h => hb (h ▸ ha)
  obtain ⟨af, τ1, σ1, i1, i2, i3, i4, i5, i6, i7⟩ := kc_initA (ρ := ρ) (n := n + 4) (g := g) (τ := zo_tg τ a g) 0 12 hc rfl (zo_tg_at _ _ _) hg0 w0 hg (by decide) (fun σ7 => zz_al σ7 (.inr (102, [.int 0, .null, .int 0])) 3 fun a8 σ9 => zz_cV (zF_J2_init ρ a8 (6 : Int32) σ9) (fun σ13 => (zz_pf σ13 (some a) 2 5 1 (va_rf (some a8))).bind fun σ14 => zz_al σ14 (.inr (102, [.int 0, .null, .int 0])) 3 fun a15 σ16 => zz_cV (zF_J2_init ρ a15 (6 : Int32) σ16) (fun σ20 => (zz_pf σ20 (some a) 2 5 2 (va_rf (some a15))).bind fun σ21 => zz_rV σ21) zz_P) zz_P) (g + 1) (by omega)
  have a1 : τ1 a = g := (i4 a (by rw [zo_tg_at]; omega)).trans (zo_tg_at _ _ _)
  obtain ⟨ac, τ2, σ2, j1, j2, j3, j4, j5, j6, j7⟩ := kc_initA (ρ := ρ) (n := n + 2) (g := g) (τ := τ1) 1 6 i7 rfl a1 hg0 i3 (i2.gas (n := n + 4) hg) (by decide) (fun σ14 => zz_al σ14 (.inr (102, [.int 0, .null, .int 0])) 3 fun a15 σ16 => zz_cV (zF_J2_init ρ a15 (6 : Int32) σ16) (fun σ20 => (zz_pf σ20 (some a) 2 5 2 (va_rf (some a15))).bind fun σ21 => zz_rV σ21) zz_P) (g + 2) (by omega)
  have a2 : τ2 a = g := (j4 a (by omega)).trans a1
  obtain ⟨am, τ3, σ3, k1, k2, k3, k4, k5, k6, k7⟩ := kc_initA (ρ := ρ) (n := n) (g := g) (τ := τ2) 2 6 j7 rfl a2 hg0 j3 (j2.gas (n := n + 2) (i2.gas (n := n + 4) hg)) (by decide) (fun σ21 => zz_rV σ21) (g + 3) (by omega)
  have a3 : τ3 a = g := (k4 a (by omega)).trans a2
  have q12 : zo_k (fun t => t ≠ 0 ∧ t ≠ g) τ1 σ1 τ2 σ2 := fun b hb => ⟨j4 b hb.1, j2.keep (i3.lt hb.1) fun h => by rw [h, a1] at hb; omega⟩
  have q23 : zo_k (fun t => t ≠ 0 ∧ t ≠ g) τ2 σ2 τ3 σ3 := fun b hb => ⟨k4 b hb.1, k2.keep (j3.lt hb.1) fun h => by rw [h, a2] at hb; omega⟩
  refine ⟨τ3, σ3, af, ac, am, ?_, ?_, k3, fun b hb => ?_, fun b => ?_, a3, k7, ⟨(i6.keep q12 (by omega)).keep q23 (by omega), rfl, fun k p x h => by simp at h⟩, ⟨j6.keep q23 (by omega), rfl, fun k p x h => by simp at h⟩, k6, rfl, fun k p x h => by simp at h⟩
  · exact i1.trans (j1.trans k1)
  · exact (i2.trans j2 fun _ _ h => h).trans (k' := 2) k2 fun _ _ h => h
  · have h0 := t0 b hb
    have h1 := i4 b (by omega)
    have h2 := j4 b (by omega)
    exact (k4 b (by omega)).trans (h2.trans (h1.trans h0))
  · have h0 : zo_tg τ a g b = τ b ∨ zo_tg τ a g b = g := by
      unfold zo_tg
      split
      · exact .inr rfl
      · exact .inl rfl
    rcases k5 b with h | h
    · rcases j5 b with h' | h'
      · rcases i5 b with h'' | h''
        · rcases h0 with h0 | h0
          · left; omega
          · right; omega
        · right; omega
      · right; omega
    · right; omega
/-- under way: what had an owner is as it was; the new owners' numbers are t .. T - 1 -/
def kQ (t : Nat) (τ0 : Nat → Nat) (σ0 : zz_S) (τ : Nat → Nat) (σ : zz_S) (T k : Nat) : Prop := (∀ b, τ0 b < t) ∧ zo_wf τ0 σ0 ∧ zo_wf τ σ ∧ zp_le (fun b => τ0 b = 0) k σ0 σ ∧ (∀ b, τ0 b ≠ 0 → τ b = τ0 b) ∧ (∀ b, τ b = τ0 b ∨ (t ≤ τ b ∧ τ b < T))
theorem kQ.step {t T T' k j : Nat} {τ0 τ τ' : Nat → Nat} {σ0 σ σ' : zz_S} {M : Nat → Prop} (h : kQ t τ0 σ0 τ σ T k) (hl : zp_le M j σ σ') (hM : ∀ b, M b → τ b = 0 ∨ t ≤ τ b) (hw : zo_wf τ' σ') (h1 : ∀ b, τ b ≠ 0 → τ' b = τ b) (h2 : ∀ b, τ' b = τ b ∨ (t ≤ τ' b ∧ τ' b < T')) (hT : T ≤ T') : kQ t τ0 σ0 τ' σ' T' (k + j) := by
  obtain ⟨q1, q2, q3, q4, q5, q6⟩ := h
  refine ⟨q1, q2, hw, q4.trans hl fun b _ hb => ?_, fun b hb => (h1 b (by rw [q5 b hb]; exact hb)).trans (q5 b hb), fun b => ?_⟩
  · by_cases h0 : τ0 b = 0
    · exact h0
    · have := q5 b h0
      have := q1 b
      have := hM b hb
      omega
  · have := h2 b
    have := q6 b
    omega
theorem kQ.src {t T k : Nat} {τ0 τ : Nat → Nat} {σ0 σ : zz_S} (h : kQ t τ0 σ0 τ σ T k) : zo_k (fun u => u ≠ 0) τ0 σ0 τ σ := fun b hb => ⟨h.2.2.2.2.1 b hb, h.2.2.2.1.keep (h.2.1.lt hb) hb⟩
theorem kQ.gas {t T k n G : Nat} {τ0 τ : Nat → Nat} {σ0 σ : zz_S} (h : kQ t τ0 σ0 τ σ T k) (hg : zp_gas G σ0) (hG : n + k ≤ G) : zp_gas n σ := h.2.2.2.1.gas (n := n) (hg.le hG)
theorem rAx.keep0 {g a : Nat} {A : pa_A} {af ac am : Nat} {F C Mo : List Nat} {τ τ' : Nat → Nat} {σ σ' : zz_S} (h : rAx τ σ g a A af ac am F C Mo) (ho : pw A) (hg : 1000 ≤ g) (hk : zo_k (fun u => u ≠ 0) τ σ τ' σ') : rAx τ' σ' g a A af ac am F C Mo :=
  h.keep hk (by decide) (fun t h1 _ => by omega) ho.1 ho.2.2.1
theorem kl_copy16 {t g a a' it G af0 ac0 am0 af ac am : Nat} {A : pa_A} {F0 C0 M0 : List Nat} {τ0 : Nat → Nat} {σ0 : zz_S} (hs : rAx τ0 σ0 g a A af0 ac0 am0 F0 C0 M0) (ho : pw A) (hg : 1000 ≤ g) (ht : 1000 ≤ t) (hG : zp_gas G σ0) :
    ∀ (r k n k0 : Nat) (τ : Nat → Nat) (σ : zz_S) (F : List Nat), k + r = A.1.length → r < n → kQ t τ0 σ0 τ σ (t + 100) k0 → k0 + r ≤ G → τ it = 0 → cI σ it af0 k → rAx τ σ t a' (A.1.take k, [], [], 0, 0) af ac am F [] [] →
      ∃ τ' σ' F', zL_X2_copy_16 ρ n a (some a') (some it) σ = ((zz_gR σ' (some a) 2 1).bind fun v6 => zz_ck σ' v6 102 fun a7 => zz_cR (zF_J2_iterator ρ a7 σ') (fun v10 σ11 => zL_X2_copy_62 ρ ρ.2 a (some a') v10 σ11) zz_P) ∧ kQ t τ0 σ0 τ' σ' (t + 100) (k0 + r) ∧ rAx τ' σ' t a' (A.1, [], [], 0, 0) af ac am F' [] [] := by
  intro r
  induction r with
  | zero =>
    intro k n k0 τ σ F hk hn hq hk0 hit hi hx
    obtain ⟨n, rfl⟩ : ∃ m, n = m + 1 := ⟨n - 1, by omega⟩
    have hS := hs.keep0 ho hg hq.src
    obtain ⟨-, -, ⟨⟨e, -, -, cF⟩, eF, -⟩, -⟩ := hS
    rw [List.take_of_length_le (by omega)] at hx
    rw [zL_X2_copy_16, hi.ck, ja_hasNext hi cF (by omega), if_pos (by omega), cc_I, if_pos z00]
    exact ⟨τ, σ, F, rfl, hq, hx⟩
  | succ r ih =>
    intro k n k0 τ σ F hk hn hq hk0 hit hi hx
    obtain ⟨n, rfl⟩ : ∃ m, n = m + 1 := ⟨n - 1, by omega⟩
    have hS := hs.keep0 ho hg hq.src
    obtain ⟨-, -, ⟨⟨e, tf, te, cF⟩, eF, kF⟩, -⟩ := hS
    have hk1 : k < A.1.length := by omega
    obtain ⟨s, hsF⟩ : ∃ s, F0[k]? = some s := ⟨_, List.getElem?_eq_getElem (eF ▸ hk1 : k < F0.length)⟩
    have hx1 := List.getElem?_eq_getElem hk1
    obtain ⟨ts, cs⟩ := kF k s _ hsF hx1
    have hfr : ∀ b, τ0 b < t := hq.1
    have hw := hq.2.2.1
    obtain ⟨σ1, n1, n2, n3⟩ := ja_next (ρ := ρ) hi cF hsF hw.1
    have hitl : it < σ.1.1 := by obtain ⟨_, _, _, _, q1, _⟩ := hi; exact hw.1.lt q1
    have hw1 := hw.le n2
    have k1 : zo_k (fun u => u ≠ 0) τ σ τ σ1 := fun b hb => ⟨rfl, n2.keep (hw.lt hb) fun h => hb (h ▸ hit)⟩
    have hX1 := hx.keep0 (ho.part k 0) ht k1
    obtain ⟨f1, -, -, f4, -, -, -, -, -⟩ := hX1.fl (ρ := ρ)
    have cs1 := (k1 s (by omega)).2.trans cs
    have g1 : zp_gas (0 + 1) σ1 := n2.gas (n := 0 + 1) (hq.gas (n := 1) hG (by omega))
    obtain ⟨s2, e2⟩ : ∃ s2, s2 = zp_al σ1 (.inr (5, [.int 0, .int 0, .int 0, .int 0, .int 0])) 5 := ⟨_, rfl⟩
    have l2 : zp_le zp_no 1 σ1 s2 := by rw [e2]; exact zp_al_le (by decide)
    have n2' : s2.1.1 = σ1.1.1 + 1 := by rw [e2]; rfl
    have hsl : s < σ1.1.1 := hw1.1.lt cs1
    obtain ⟨s3, i1, i2, i3⟩ := kc_copyF (ρ := ρ) (p := σ1.1.1) (s := s) (k := k) (x := A.1[k]) (σ := s2) (by rw [e2]; exact zp_al_new) ((l2.keep hsl (fun h => h)).trans cs1) (l2.wf hw1.1) (by omega)
    have hp0 : τ σ1.1.1 = 0 := hw1.new
    have l13 : zp_le zp_no 1 σ1 s3 := l2.trans (k' := 0) i2 fun b hb h => by omega
    have hw3 := hw1.le l13
    have k13 : zo_k (fun u => u ≠ 0) τ σ1 τ s3 := fun b hb => ⟨rfl, l13.keep (hw1.lt hb) fun h => h⟩
    have hX3 := hX1.keep0 (ho.part k 0) ht k13
    have hlen : (A.1.take k).length = k := by rw [List.length_take]; omega
    obtain ⟨s4, a1, a2, a3, a4⟩ := kx_addF (ρ := ρ) (x := A.1[k]) hX3 (ho.part k 0) (by show (A.1.take k).length < _; have := ho.1; omega) (by omega) (by omega) hw3 hp0 (by rw [hlen]; exact i3)
    obtain ⟨-, -, -, f4', -, -, -, -, -⟩ := hX3.fl (ρ := ρ)
    dsimp only at a1 a2 a3 a4
    rw [hlen] at a3 a4
    have hpne : ∀ b, τ b ≠ 0 → b ≠ σ1.1.1 := fun b hb h => hb (h ▸ hp0)
    have q13 : kQ t τ0 σ0 τ s3 (t + 100) (k0 + 1) := hq.step (T' := t + 100) (j := 1) ((n2.mono (M' := fun b => τ b = 0) (fun b _ h => by rw [h]; exact hit) (Nat.le_refl _)).trans l13 fun _ _ h => h.elim) (fun b h => .inl h) hw3 (fun _ _ => rfl) (fun _ => .inl rfl) (Nat.le_refl _)
    have q14 : kQ t τ0 σ0 (zo_tg τ σ1.1.1 (t + 10 + k)) s4 (t + 100) (k0 + 1 + 0) := q13.step a2 (fun b h => .inr (by have h : τ b = t + 1 := h; omega)) a3 (fun b hb => zo_tg_ne (hpne b hb)) (fun b => by
      have := ho.1
      by_cases hb : b = σ1.1.1
      · right; rw [hb, zo_tg_at]; omega
      · left; exact zo_tg_ne hb) (Nat.le_refl _)
    have hitl1 : it < σ1.1.1 := by have := n2.2.1; omega
    have hi4 : cI s4 it af0 (k + 1) := by
      have htf : τ af0 ≠ 0 ∧ τ af0 ≠ t + 1 := by
        have h1 := hq.2.2.2.2.1 af0
        have h2 := hs.2.2.1.1
        obtain ⟨e', h3, -⟩ := h2
        have := hfr af0
        omega
      have hafl := hw1.lt htf.1
      refine n3.keep ?_ ?_
      · rw [a2.keep (by have := l13.2.1; omega) (by show ¬ τ it = _; omega), l13.keep hitl1 fun h => h]
      · rw [a2.keep (by have := l13.2.1; omega) (by show ¬ τ af0 = _; omega), l13.keep hafl fun h => h]
    rw [take_snoc hx1] at a4
    obtain ⟨τ', σ', F', c1, c2, c3⟩ := ih (k + 1) n (k0 + 1) _ s4 _ (by omega) (by omega) q14 (by omega) (by rw [zo_tg_ne (by omega)]; exact hit) hi4 a4
    refine ⟨τ', σ', F', ?_, by rw [show k0 + (r + 1) = k0 + 1 + r by omega]; exact c2, c3⟩
    rw [zL_X2_copy_16, hi.ck, ja_hasNext hi cF (by omega), if_neg (by omega), cc_I, if_neg n10, hi.ck, n1, cc_R, if_neg (fun h => h (kf_cast cs1)), f1, Option.bind_some, zp_al_eq g1 (by decide), ← e2, i1, cc_V, f4', a1, cc_I, c1]
end CPY
