/-! ===== THE COMPONENT's OBSERVERS: sitting, adopted, strongest ===== -/
section COC
variable {ρ : zz_C} {σ : zz_S} {τ : Nat → Nat}
theorem kl_byPads {g a G : Nat} {A : pa_A} (h : rAs τ σ g a A) (ho : pw A) (hg : 1000 ≤ g) (hw : zo_wf τ σ) (hG : zp_gas G σ) (hfu : 100 ≤ ρ.2) :
    ∀ (r k n j acc : Nat) (σ1 : zz_S), k + r = A.2.1.length → r < n → zp_le zp_no j σ σ1 → j + 2 * r ≤ G →
      ∃ σ', zL_X2_sittingByPads_4 ρ n a (.ofNat acc) (.ofNat k) σ1 = zz_rI (.ofNat (acc + (((List.range A.2.1.length).drop k).map fun p => pa_on A p).sum)) σ' ∧ zp_le zp_no (j + 2 * r) σ σ' := by
  have h6 := ho.2.1
  intro r
  induction r with
  | zero =>
    intro k n j acc σ1 hk hn hl hj
    obtain ⟨n, rfl⟩ : ∃ m, n = m + 1 := ⟨n - 1, by omega⟩
    have hA := h.al ho.1 ho.2.2.1 (by omega) hw hl
    obtain ⟨af, ac, am, F, C, Mo, hX⟩ := hA
    obtain ⟨-, f2, -, -, f5, -, -, f8, -⟩ := hX.fl (ρ := ρ)
    rw [zL_X2_sittingByPads_4, f2, Option.bind_some, f5, f8, cc_I, if_pos (by rw [ci_le (by omega) (by omega)]; omega), ps_end _ (by simp; omega)]
    exact ⟨σ1, rfl, hl⟩
  | succ r ih =>
    intro k n j acc σ1 hk hn hl hj
    obtain ⟨n, rfl⟩ : ∃ m, n = m + 1 := ⟨n - 1, by omega⟩
    have hA := h.al ho.1 ho.2.2.1 (by omega) hw hl
    have hA0 := hA
    obtain ⟨af, ac, am, F, C, Mo, hX⟩ := hA
    obtain ⟨-, f2, -, -, f5, -, -, f8, -⟩ := hX.fl (ρ := ρ)
    obtain ⟨s2, c1, c2⟩ := kc_frogsOn (ρ := ρ) (p := k) (n := 0) hA0 ho (by omega) (hw.le hl) (hl.gas (n := 0 + 2) (hG.le (by omega))) hfu (by omega)
    obtain ⟨s3, d1, d2⟩ := ih (k + 1) n (j + 2) (acc + pa_on A k) s2 (by omega) (by omega) (hl.trans c2 fun _ _ h => h) (by omega)
    rw [zL_X2_sittingByPads_4, f2, Option.bind_some, f5, f8, cc_I, if_neg (by rw [ci_le (by omega) (by omega)]; omega), hA0.ck, c1, cc_I, ci_add, ci_succ, d1, drop_range (show k < A.2.1.length by omega), List.map_cons, List.sum_cons, Nat.add_assoc]
    exact ⟨s3, rfl, d2.mono (fun _ _ h => h) (by omega)⟩
/-- who sits, sits on some pad -/
theorem pa_sit_pads (F : List pa_F) (n : Nat) (hF : ∀ x, x ∈ F → x.2.2.1 ≤ n) : ((List.range n).map fun p => (F.map fun x => if x.2.2.1 = p + 1 then 1 else 0).sum).sum = (F.map fun x => if x.2.2.1 = 0 then 0 else 1).sum := by
  induction F with
  | nil =>
    simp only [List.map_nil, List.sum_nil]
    induction n with
    | zero => rfl
    | succ n ih => rw [List.range_succ, List.map_append, List.sum_append, ih (fun x hx => by simp at hx)]; rfl
  | cons x F ih =>
    have ih' := ih fun y hy => hF y (List.mem_cons_of_mem _ hy)
    have hx := hF x List.mem_cons_self
    simp only [List.map_cons, List.sum_cons]
    have e : ∀ L : List Nat, (L.map fun p => (if x.2.2.1 = p + 1 then 1 else 0) + (F.map fun x => if x.2.2.1 = p + 1 then 1 else 0).sum).sum = (L.map fun p => if x.2.2.1 = p + 1 then 1 else 0).sum + (L.map fun p => (F.map fun x => if x.2.2.1 = p + 1 then 1 else 0).sum).sum := fun L => by
      induction L with
      | nil => rfl
      | cons y L ihL => simp only [List.map_cons, List.sum_cons, ihL]; omega
    rw [e, ih']
    have e2 : ∀ m, ((List.range m).map fun p => if x.2.2.1 = p + 1 then 1 else 0).sum = if x.2.2.1 = 0 then 0 else if x.2.2.1 ≤ m then 1 else 0 := fun m => by
      induction m with
      | zero => by_cases h0 : x.2.2.1 = 0 <;> simp [h0]
      | succ m ihm =>
        rw [List.range_succ, List.map_append, List.sum_append, ihm]
        simp only [List.map_cons, List.map_nil, List.sum_cons, List.sum_nil, Nat.add_zero]
        by_cases h0 : x.2.2.1 = 0
        · simp [h0]
        · by_cases h1 : x.2.2.1 = m + 1
          · simp [h1]
          · by_cases h2 : x.2.2.1 ≤ m
            · simp [h0, h1, h2, show x.2.2.1 ≤ m + 1 by omega]
            · simp [h0, h1, h2, show ¬ x.2.2.1 ≤ m + 1 by omega]
    rw [e2, if_pos hx]
theorem kc_byPads {g a n cc : Nat} {A : pa_A} (h : rAs τ σ g a A) (hok : pa_ok A cc) (hcc : cc ≤ 1000) (hg : 1000 ≤ g) (hw : zo_wf τ σ) (hG : zp_gas (n + 12) σ) (hfu : 100 ≤ ρ.2) :
    ∃ σ', zF_X2_sittingByPads ρ a σ = zz_rI (.ofNat (pa_sit A)) σ' ∧ zp_le zp_no 12 σ σ' := by
  have ho := hok.w hcc
  have h6 := ho.2.1
  obtain ⟨σ', s1, s2⟩ := kl_byPads (ρ := ρ) h ho hg hw hG hfu A.2.1.length 0 ρ.2 0 0 σ (Nat.zero_add _) (by omega) (zp_le.refl _ _ _) (by omega)
  refine ⟨σ', ?_, s2.mono (fun _ _ h => h) (by omega)⟩
  unfold zF_X2_sittingByPads
  refine s1.trans ?_
  rw [Nat.zero_add, List.drop_zero]
  unfold pa_on pa_sit
  rw [pa_sit_pads A.1 A.2.1.length fun x hx => (hok.2.2.2.1 x hx).2.2.2.1]
/-- the mask of those that sit among the first k -/
theorem pop_set {A : pa_A} (h12 : A.1.length ≤ 12) {m k : Nat} (hm : ∀ i, m.testBit i = (decide (i < k) && decide ((pa_frog A i).2.2.1 ≠ 0))) (hk : k = A.1.length) : pop12 m = pa_sit A := by
  have e1 : pop12 m = ((List.range 12).map fun i => if i < A.1.length then (if (pa_frog A i).2.2.1 = 0 then 0 else 1) else 0).sum := by
    unfold pop12
    congr 1
    apply List.map_congr_left
    intro i _
    rw [hm i, hk]
    by_cases h1 : i < A.1.length <;> by_cases h2 : (pa_frog A i).2.2.1 = 0 <;> simp [h1, h2]
  have e2 : ∀ n, n ≥ A.1.length → ((List.range n).map fun i => if i < A.1.length then (if (pa_frog A i).2.2.1 = 0 then 0 else 1) else 0).sum = ((List.range A.1.length).map fun i => if (pa_frog A i).2.2.1 = 0 then 0 else 1).sum := fun n hn => by
    induction n with
    | zero => rw [show A.1.length = 0 by omega]; rfl
    | succ n ih =>
      rcases Nat.lt_or_ge n A.1.length with h1 | h1
      · have : n + 1 = A.1.length := by omega
        rw [← this]
        congr 1
        apply List.map_congr_left
        intro i hi
        rw [if_pos (by simpa using hi)]
      · rw [List.range_succ, List.map_append, List.sum_append, ih h1]
        simp [show ¬ n < A.1.length by omega]
  rw [e1, e2 12 h12, pa_range (A := A) fun x => if x.2.2.1 = 0 then 0 else 1]
  rfl
theorem kl_bySet {g a it b bw : Nat} {A : pa_A} {af ac am : Nat} {F C Mo : List Nat} (h : rAx τ σ g a A af ac am F C Mo) (ho : pw A) (hg : 1000 ≤ g) (hw : zo_wf τ σ) (hfu : 100 ≤ ρ.2) (hit0 : σ.1.1 ≤ it) (hb0 : σ.1.1 ≤ b ∧ σ.1.1 ≤ bw ∧ it ≠ b ∧ it ≠ bw) :
    ∀ (r k n j m : Nat) (σ1 : zz_S), k + r = A.1.length → r < n → zp_le zp_no j σ σ1 → cI σ1 it af k → cB σ1 b bw m → (∀ i, m.testBit i = (decide (i < k) && decide ((pa_frog A i).2.2.1 ≠ 0))) →
      ∃ σ', zL_X2_sittingBySet_16 ρ n (some b) (some it) σ1 = zz_rI (.ofNat (pa_sit A)) σ' ∧ zp_le zp_no j σ σ' := by
  have h12 := ho.1
  intro r
  induction r with
  | zero =>
    intro k n j m σ1 hk hn hl hi hb hm
    obtain ⟨n, rfl⟩ : ∃ m, n = m + 1 := ⟨n - 1, by omega⟩
    have hX := h.al ho (by omega) hw hl
    obtain ⟨⟨e, cF⟩, eF, -⟩ := hX.frogs
    rw [zL_X2_sittingBySet_16, hi.ck, ja_hasNext hi cF (by omega), if_pos (by omega), cc_I, if_pos z00, hb.ck, jb_cardinality hb (by omega), cc_I, pop_set h12 hm (by omega)]
    exact ⟨σ1, rfl, hl⟩
  | succ r ih =>
    intro k n j m σ1 hk hn hl hi hb hm
    obtain ⟨n, rfl⟩ : ∃ m, n = m + 1 := ⟨n - 1, by omega⟩
    have hX := h.al ho (by omega) hw hl
    obtain ⟨⟨e, cF⟩, eF, kF⟩ := hX.frogs
    have hk1 : k < A.1.length := by omega
    obtain ⟨p, hp⟩ : ∃ p, F[k]? = some p := ⟨_, List.getElem?_eq_getElem (eF ▸ hk1 : k < F.length)⟩
    have hw1 := hw.le hl
    obtain ⟨σ2, n1, n2, n3⟩ := ja_next (ρ := ρ) hi cF hp hw1.1
    have l2 : zp_le zp_no j σ σ2 := (hl.trans n2 fun b hb h => by omega).mono (fun _ _ h => h) (by omega)
    have hw2 := hw.le l2
    have hX2 := h.al ho (by omega) hw l2
    obtain ⟨-, -, kF2⟩ := hX2.frogs
    have cp2 := (kF2 k p hp hk1).2
    have hbl : b < σ1.1.1 ∧ bw < σ1.1.1 := by
      obtain ⟨q0, ⟨u, q1, q2⟩, gg, q3, q4⟩ := hb
      exact ⟨hw1.1.lt q2, hw1.1.lt q3⟩
    have hb2 : cB σ2 b bw m := hb.keep (n2.keep hbl.1 (by show ¬ b = it; omega)) (n2.keep hbl.2 (by show ¬ bw = it; omega))
    rw [zL_X2_sittingBySet_16, hi.ck, ja_hasNext hi cF (by omega), if_neg (by omega), cc_I, if_neg n10, hi.ck, n1, cc_R, if_neg (fun h => h (kf_cast cp2)), kf_ck cp2, kf_sits cp2 (ho.fr hk1).2.2.1, cc_I]
    by_cases hs : (pa_frog A k).2.2.1 = 0
    · rw [if_pos (by rw [if_pos hs])]
      exact ih (k + 1) n j m σ2 (by omega) (by omega) l2 n3 hb2 fun i => by
        rw [hm i]
        by_cases h1 : i = k
        · subst h1; simp [hs]
        · rw [show (decide (i < k + 1)) = decide (i < k) by congr 1; exact propext (by omega)]
    · rw [if_neg (by rw [if_neg hs]; decide)]
      obtain ⟨σ3, b1, b2, b3⟩ := jb_set (ρ := ρ) hb2 (by omega : k < 12) hw2.1
      have hi3 : cI σ3 it af (k + 1) := by
        obtain ⟨lr, mc, w, rr, t1, t2⟩ := n3
        have hil := hw2.1.lt t1
        have hal := hw2.1.lt t2
        have hafl : af < σ.1.1 := by
          obtain ⟨-, -, ⟨⟨e', q1, -⟩, -⟩, -⟩ := h
          exact hw.lt (by omega)
        refine cI.keep ⟨lr, mc, w, rr, t1, t2⟩ ?_ ?_
        · exact b2.keep hil fun h => by omega
        · exact b2.keep hal fun h => by omega
      have l3 : zp_le zp_no j σ σ3 := (l2.trans b2 fun c hc h => by omega).mono (fun _ _ h => h) (by omega)
      rw [kf_num cp2, Option.bind_some, hb2.ck, b1, cc_V]
      exact ih (k + 1) n j _ σ3 (by omega) (by omega) l3 hi3 b3 fun i => by
        rw [Nat.testBit_or, hm i, Nat.testBit_two_pow]
        by_cases h1 : i = k
        · subst h1; simp [hs]
        · rw [show (decide (i < k + 1)) = decide (i < k) by congr 1; exact propext (by omega)]
          simp [show ¬ k = i by omega]
theorem kc_bySet {g a n : Nat} {A : pa_A} (h : rAs τ σ g a A) (ho : pw A) (hg : 1000 ≤ g) (hw : zo_wf τ σ) (hG : zp_gas (n + 3) σ) (hfu : 100 ≤ ρ.2) :
    ∃ σ', zF_X2_sittingBySet ρ a σ = zz_rI (.ofNat (pa_sit A)) σ' ∧ zp_le zp_no 3 σ σ' := by
  have h12 := ho.1
  unfold zF_X2_sittingBySet
  rw [zp_al_eq (n := n + 2) hG (by decide)]
  obtain ⟨s1, e1⟩ : ∃ s, s = zp_al σ (.inr (141, [.null, .int 0, .int 0])) 3 := ⟨_, rfl⟩
  have l1 : zp_le zp_no 1 σ s1 := by rw [e1]; exact zp_al_le (by decide)
  have n1 : s1.1.1 = σ.1.1 + 1 := by rw [e1]; rfl
  have w1 := l1.wf hw.1
  obtain ⟨s2, i2, l2, c2⟩ := jb_init (ρ := ρ) (a := σ.1.1) (g := n + 1) (σ := s1) (by rw [e1]; exact zp_al_new) w1 (l1.gas (n := n + 2) hG)
  have l02 : zp_le zp_no 2 σ s2 := l1.trans l2 fun b hb h => by omega
  obtain ⟨af, ac, am, F, C, Mo, hX⟩ := h
  have hX2 := hX.al ho (by omega) hw l02
  obtain ⟨f1, -, -, f4, -, -, -, -, -⟩ := hX2.fl (ρ := ρ)
  obtain ⟨⟨e, cF⟩, eF, -⟩ := hX2.frogs
  obtain ⟨s3, i3, l3, c3⟩ := ja_iterator (ρ := ρ) cF (l2.wf w1) (l02.gas (n := n + 1) hG)
  have n2 : s1.1.1 < s2.1.1 := by obtain ⟨_, _, g', h3, _⟩ := c2; exact (l2.wf w1).lt h3
  have c2' : cB s3 σ.1.1 s1.1.1 0 := c2.keep (l3.keep (by omega) fun h => h) (l3.keep n2 fun h => h)
  obtain ⟨s4, j1, j2⟩ := kl_bySet (ρ := ρ) hX ho hg hw hfu (it := s2.1.1) (b := σ.1.1) (bw := s1.1.1) (by have := l02.2.1; omega) ⟨by omega, by omega, by have := l02.2.1; omega, by omega⟩ A.1.length 0 ρ.2 3 0 s3 (Nat.zero_add _) (by omega) (l02.trans l3 fun _ _ h => h) c3 c2' fun i => by simp
  rw [← e1, i2, cc_V, f1, Option.bind_some, f4, i3, cc_R, j1]
  exact ⟨s4, rfl, j2⟩
end COC
