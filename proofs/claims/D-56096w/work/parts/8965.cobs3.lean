/-! ===== THE COMPONENT's OBSERVERS: adopted, strongestFrog, shareFor, meanSittingWeight ===== -/
section COE
variable {ρ : zz_C} {σ : zz_S} {τ : Nat → Nat}
def pa_adopted (A : pa_A) : Nat := (A.2.2.1.map fun x => if x.1.2.2.1 = 1 then 1 else 0).sum
theorem rAx.mots {g a : Nat} {A : pa_A} {af ac am : Nat} {F C Mo : List Nat} (h : rAx τ σ g a A af ac am F C Mo) : (∃ e, cA σ am e 6 Mo) ∧ Mo.length = A.2.2.1.length ∧ (∀ k p, Mo[k]? = some p → k < A.2.2.1.length → rMo τ σ A.1 (g + 100 + 10 * k) p k (pa_mot A k)) := by
  obtain ⟨-, -, -, -, ⟨e, -, -, k2⟩, k3, k4⟩ := h
  exact ⟨⟨e, k2⟩, k3, fun k p hp hk => k4 k p _ hp (pa_mot_eq hk)⟩
theorem pa_range_mo {A : pa_A} (G : pa_Mo → Nat) : ((List.range A.2.2.1.length).map fun k => G (pa_mot A k)) = A.2.2.1.map G := by
  apply List.ext_getElem
  · simp
  · intro i h1 h2
    have hi : i < A.2.2.1.length := by simpa using h2
    simp [pa_mot, hi]
theorem kl_adopted {g a it : Nat} {A : pa_A} {af ac am : Nat} {F C Mo : List Nat} {c : Nat} (h : rAx τ σ g a A af ac am F C Mo) (hok : pa_ok A c) (hcc : c ≤ 1000) (hg : 1000 ≤ g) (hw : zo_wf τ σ) (hit0 : σ.1.1 ≤ it) :
    ∀ (r k n j acc : Nat) (σ1 : zz_S), k + r = A.2.2.1.length → r < n → zp_le zp_no j σ σ1 → cI σ1 it am k →
      ∃ σ', zL_X2_adopted_10 ρ n (.ofNat acc) (some it) σ1 = zz_rI (.ofNat (acc + (((List.range A.2.2.1.length).drop k).map fun m => if (pa_mot A m).1.2.2.1 = 1 then 1 else 0).sum)) σ' ∧ zp_le zp_no j σ σ' := by
  have ho := hok.w hcc
  intro r
  induction r with
  | zero =>
    intro k n j acc σ1 hk hn hl hi
    obtain ⟨n, rfl⟩ : ∃ m, n = m + 1 := ⟨n - 1, by omega⟩
    have hX := h.al ho (by omega) hw hl
    obtain ⟨⟨e, cF⟩, eF, -⟩ := hX.mots
    rw [zL_X2_adopted_10, hi.ck, ja_hasNext hi cF (by omega), if_pos (by omega), cc_I, if_pos z00, ps_end _ (by simp; omega)]
    exact ⟨σ1, rfl, hl⟩
  | succ r ih =>
    intro k n j acc σ1 hk hn hl hi
    obtain ⟨n, rfl⟩ : ∃ m, n = m + 1 := ⟨n - 1, by omega⟩
    have hX := h.al ho (by omega) hw hl
    obtain ⟨⟨e, cF⟩, eF, kF⟩ := hX.mots
    have hk1 : k < A.2.2.1.length := by omega
    obtain ⟨p, hp⟩ : ∃ p, Mo[k]? = some p := ⟨_, List.getElem?_eq_getElem (eF ▸ hk1 : k < Mo.length)⟩
    have hw1 := hw.le hl
    obtain ⟨σ2, n1, n2, n3⟩ := ja_next (ρ := ρ) hi cF hp hw1.1
    have l2 : zp_le zp_no j σ σ2 := (hl.trans n2 fun b hb h => by omega).mono (fun _ _ h => h) (by omega)
    have hX2 := h.al ho (by omega) hw l2
    obtain ⟨-, -, kF2⟩ := hX2.mots
    obtain ⟨-, l, q, b, -, -, cp, -⟩ := kF2 k p hp hk1
    have hs := (hok.mo hk1).2.2.2.1
    have hcast : zz_ok σ2 (some p) [6] = true := by simp [zz_ok, zz_cl, cp, mcell]
    obtain ⟨s3, d1, d2⟩ := ih (k + 1) n j (acc + if (pa_mot A k).1.2.2.1 = 1 then 1 else 0) σ2 (by omega) (by omega) l2 n3
    refine ⟨s3, ?_, d2⟩
    rw [zL_X2_adopted_10, hi.ck, ja_hasNext hi cF (by omega), if_neg (by omega), cc_I, if_neg n10, hi.ck, n1, cc_R, if_neg (fun h => h hcast), zp_gI cp (k := 7) (v := .ofNat (pa_mot A k).1.2.2.1) rfl, Option.bind_some, drop_range hk1, List.map_cons, List.sum_cons, ← Nat.add_assoc, ← d1]
    unfold zJ_X2_adopted_43
    by_cases he : (pa_mot A k).1.2.2.1 = 1
    · rw [if_pos (by rw [he]; rfl), if_pos he, ci_succ]
    · rw [if_neg (show ¬ Int32.ofNat (pa_mot A k).1.2.2.1 = 1 from by rw [show (1 : Int32) = Int32.ofNat 1 from rfl, ci_eq (by omega) (by decide)]; exact he), if_neg he, Int32.add_zero, Nat.add_zero]
theorem kc_adopted {g a n c : Nat} {A : pa_A} (h : rAs τ σ g a A) (hok : pa_ok A c) (hcc : c ≤ 1000) (hg : 1000 ≤ g) (hw : zo_wf τ σ) (hG : zp_gas (n + 1) σ) (hfu : 100 ≤ ρ.2) :
    ∃ σ', zF_X2_adopted ρ a σ = zz_rI (.ofNat (pa_adopted A)) σ' ∧ zp_le zp_no 1 σ σ' := by
  have ho := hok.w hcc
  have h6 := ho.2.2.1
  obtain ⟨af, ac, am, F, C, Mo, hX⟩ := h
  obtain ⟨-, -, f3, -, -, f6, -, -, -⟩ := hX.fl (ρ := ρ)
  obtain ⟨⟨e, cF⟩, eF, -⟩ := hX.mots
  obtain ⟨s1, i1, i2, i3⟩ := ja_iterator (ρ := ρ) cF hw.1 hG
  obtain ⟨s2, j1, j2⟩ := kl_adopted (ρ := ρ) hX hok hcc hg hw (Nat.le_refl _) A.2.2.1.length 0 ρ.2 1 0 s1 (Nat.zero_add _) (by omega) i2 i3
  unfold zF_X2_adopted
  rw [f3, Option.bind_some, f6, i1, cc_R]
  refine ⟨s2, j1.trans ?_, j2⟩
  rw [Nat.zero_add, List.drop_zero, pa_range_mo (A := A) fun x => if x.1.2.2.1 = 1 then 1 else 0]
  rfl
/-! strongestFrog -/
def pa_best (S : List Nat) : Nat := (List.range S.length).foldl (fun b j => if S[b]?.getD 0 < S[j]?.getD 0 then j else b) 0
def pa_strengths (A : pa_A) (K : List pa_K) : List Nat := K.map (pa_strength A)
theorem kl_strongest {n0 l it : Nat} {A : pa_A} {N R : List Nat} {L : List pa_K} (hit : n0 ≤ it) (hB : ∀ k, k ∈ L → pa_strength A k < 2 ^ 31) :
    ∀ (r k n b xb : Nat) (σ : zz_S), k + r = L.length → r < n → kCros n0 σ A.1 l N R L → zp_wf σ → cN σ it l N k → R[b]? = some xb →
      ∃ σ2, zL_X6_strongestFrog_37 ρ n (some xb) (some it) σ = zz_rI (.ofNat (L[((List.range L.length).drop k).foldl (fun b j => if (pa_strengths A L)[b]?.getD 0 < (pa_strengths A L)[j]?.getD 0 then j else b) b]?.getD (0, 0, 0)).1) σ2 ∧ zp_le (fun b => b = it) 0 σ σ2 := by
  have hS : ∀ (j : Nat) (k : pa_K), L[j]? = some k → (pa_strengths A L)[j]?.getD 0 = pa_strength A k := fun j k h => by simp [pa_strengths, h]
  intro r
  induction r with
  | zero =>
    intro k n b xb σ hk hn hq hw hi hb
    obtain ⟨n, rfl⟩ : ∃ m, n = m + 1 := ⟨n - 1, by omega⟩
    obtain ⟨q1, q2, q3, q4, q5⟩ := hq
    have hbl : b < L.length := q2 ▸ (List.getElem?_eq_some_iff.mp hb).1
    obtain ⟨w1, w, w2⟩ := q5 b xb _ hb (List.getElem?_eq_getElem hbl)
    rw [zL_X6_strongestFrog_37, hi.ck, jl_hasNext hi q1 (by omega), if_pos (by omega), cc_I, if_pos z00, zp_gI w2 (k := 0) (v := .ofNat (L[b]).1) rfl, Option.bind_some, List.drop_eq_nil_of_le (by simp; omega), List.foldl_nil, List.getElem?_eq_getElem hbl]
    exact ⟨σ, rfl, zp_le.refl _ _ _⟩
  | succ r ih =>
    intro k n b xb σ hk hn hq hw hi hb
    obtain ⟨n, rfl⟩ : ∃ m, n = m + 1 := ⟨n - 1, by omega⟩
    have hq0 := hq
    obtain ⟨q1, q2, q3, q4, q5⟩ := hq
    have hk1 : k < L.length := by omega
    have hbl : b < L.length := q2 ▸ (List.getElem?_eq_some_iff.mp hb).1
    obtain ⟨a, ha⟩ : ∃ a, R[k]? = some a := ⟨_, List.getElem?_eq_getElem (q2 ▸ hk1 : k < R.length)⟩
    obtain ⟨σ2, n1, n2, n3, n4⟩ := kn_step (ρ := ρ) q3 hit q1 hi hw ha
    have hq2 := hq0.same n4
    obtain ⟨w1, w, w2⟩ := hq2.2.2.2.2 k a _ ha (List.getElem?_eq_getElem hk1)
    obtain ⟨v1, w', v2⟩ := hq2.2.2.2.2 b xb _ hb (List.getElem?_eq_getElem hbl)
    have s1 := hB _ (List.getElem_mem hk1)
    have s2 := hB _ (List.getElem_mem hbl)
    rw [zL_X6_strongestFrog_37, hi.ck, jl_hasNext hi q1 (by omega), if_neg (by omega), cc_I, if_neg n10, hi.ck, n1, cc_R, if_neg (show ¬ ¬ (zz_ok σ2 (some a) [8] = true) from fun h => h (by simp [zz_ok, zz_cl, w2])), zp_gI w2 (k := 2) (v := .ofNat (pa_strength A L[k])) rfl, Option.bind_some, zp_gI v2 (k := 2) (v := .ofNat (pa_strength A L[b])) rfl, Option.bind_some, drop_range hk1, List.foldl_cons, hS b _ (List.getElem?_eq_getElem hbl), hS k _ (List.getElem?_eq_getElem hk1)]
    unfold zJ_X6_strongestFrog_72
    by_cases hd : pa_strength A L[b] < pa_strength A L[k]
    · rw [if_neg (by rw [ci_le (by omega) (by omega)]; omega), if_pos hd]
      obtain ⟨σ3, m1, m2⟩ := ih (k + 1) n k a σ2 (by omega) (by omega) hq2 (n2.wf hw) n3 ha
      exact ⟨σ3, m1, n2.trans (k' := 0) m2 fun _ _ h => h⟩
    · rw [if_pos (by rw [ci_le (by omega) (by omega)]; omega), if_neg hd]
      obtain ⟨σ3, m1, m2⟩ := ih (k + 1) n b xb σ2 (by omega) (by omega) hq2 (n2.wf hw) n3 hb
      exact ⟨σ3, m1, n2.trans (k' := 0) m2 fun _ _ h => h⟩
theorem kc_strongest {p m l q b n : Nat} {A : pa_A} {x : pa_Mo} {N R : List Nat} (hm : σ.2.2 p = some (true, mcell m x l q b)) (hq : kCros σ.1.1 σ A.1 q N R x.2.2) (hB : ∀ k, k ∈ x.2.2 → pa_strength A k < 2 ^ 31) (hw : zp_wf σ) (hg : zp_gas (n + 1) σ) (hfu : 100 ≤ ρ.2) (h12 : x.2.2.length ≤ 12) :
    if x.2.2.isEmpty then zthr (zF_X6_strongestFrog ρ p σ) 119 1 σ else ∃ σ', zF_X6_strongestFrog ρ p σ = zz_rI (.ofNat (x.2.2[pa_best (pa_strengths A x.2.2)]?.getD (0, 0, 0)).1) σ' ∧ zp_le zp_no 1 σ σ' := by
  have hq0 := hq
  obtain ⟨q1, q2, q3, q4, q5⟩ := hq
  unfold zF_X6_strongestFrog zJ_X6_strongestFrog_15
  rw [zp_gR hm (k := 3) (v := some q) rfl, Option.bind_some, q1.ck, jl_isEmpty q1]
  cases hx : x.2.2 with
  | nil =>
    rw [if_pos (show R.length = 0 from by rw [q2, hx]; rfl), cc_I, if_neg n10, if_pos (show ([] : List pa_K).isEmpty = true from rfl)]
    exact (jk_elem_no hg).cV
  | cons k0 K =>
    have hl0 : R.length ≠ 0 := by rw [q2, hx]; simp
    rw [if_neg hl0, cc_I, if_pos z00, if_neg (by simp), jk_elem_yes, cc_V, zp_gR hm (k := 3) (v := some q) rfl, Option.bind_some, q1.ck]
    obtain ⟨y, R', hR⟩ : ∃ y R', R = y :: R' := by
      cases R with
      | nil => exact absurd rfl hl0
      | cons y R' => exact ⟨y, R', rfl⟩
    have hcL := q1
    rw [hR] at hcL
    have hy8 : zz_ok σ (some y) [8] = true := by
      obtain ⟨w1, w, w2⟩ := q5 0 y k0 (by rw [hR]; rfl) (by rw [hx]; rfl)
      simp [zz_ok, zz_cl, w2]
    obtain ⟨σ1, i1, i2, i3⟩ := jl_iterator (ρ := ρ) (f := ρ.2 - 1) q1 hw hg (by omega)
    obtain ⟨σ2, s1, s2⟩ := kl_strongest (ρ := ρ) (n0 := σ.1.1) (it := σ.1.1) (A := A) (Nat.le_refl _) hB x.2.2.length 0 ρ.2 0 y σ1 (Nat.zero_add _) (by omega) (hq0.same (i2.same (Nat.le_refl _) fun _ _ h => h)) (i2.wf hw) i3 (by rw [hR]; rfl)
    rw [jl_getFirst hcL, cc_R, if_neg (fun h => h hy8), zp_gR hm (k := 3) (v := some q) rfl, Option.bind_some, q1.ck, i1, cc_R]
    refine ⟨σ2, s1.trans ?_, i2.trans (k' := 0) s2 fun b hb he => by omega⟩
    rw [List.drop_zero, ← hx]
    unfold pa_best
    rw [show (pa_strengths A x.2.2).length = x.2.2.length by simp [pa_strengths]]
/-! shareFor, meanSittingWeight -/
theorem jk_div_no {g : Nat} (hg : zp_gas (g + 1) σ) : zthr (zF_X1_checkDivisor ρ 0 σ) 144 1 σ := by
  unfold zF_X1_checkDivisor
  rw [if_pos z00]; exact jk_throw hg
theorem jk_div_yes {n : Nat} (h0 : n ≠ 0) (hn : n < 2 ^ 31) : zF_X1_checkDivisor ρ (.ofNat n) σ = zz_rV σ := by
  unfold zF_X1_checkDivisor
  rw [if_neg (show ¬ Int32.ofNat n = 0 from by rw [show (0 : Int32) = Int32.ofNat 0 from rfl, ci_eq hn (by decide)]; exact h0)]
theorem ps_sum_le {α : Type} (g : α → Nat) (B : Nat) : ∀ (L : List α), (∀ x, x ∈ L → g x ≤ B) → (L.map g).sum ≤ B * L.length
  | [], _ => by simp
  | y :: L, h => by
    have h1 := ps_sum_le g B L fun x hx => h x (List.mem_cons_of_mem _ hx)
    have h2 := h y List.mem_cons_self
    rw [List.map_cons, List.sum_cons, List.length_cons, Nat.mul_add]; omega
theorem pa_str_le {A : pa_A} (ho : pw A) {k : pa_K} (hk : k.2.1 < 10) : pa_strength A k ≤ 81 := by
  unfold pa_strength
  have h1 : (pa_frog A k.1).2.1 ≤ 9 := by
    rcases Nat.lt_or_ge k.1 A.1.length with h | h
    · have := (ho.fr h).2.1; omega
    · unfold pa_frog
      rw [List.getElem?_eq_none h]
      decide
  exact Nat.mul_le_mul (show k.2.1 ≤ 9 by omega) h1
theorem pa_sum_1000 {A : pa_A} (ho : pw A) {K : List pa_K} (hK : ∀ k, k ∈ K → k.2.1 < 10) (h12 : K.length ≤ 12) : pa_sum A K 1 + pa_sum A K 0 ≤ 1000 := by
  have e : pa_sum A K 1 + pa_sum A K 0 ≤ (K.map fun k => pa_strength A k).sum := by
    clear h12
    unfold pa_sum
    induction K with
    | nil => simp
    | cons k K ih =>
      have := ih fun k hk => hK k (List.mem_cons_of_mem _ hk)
      simp only [List.map_cons, List.sum_cons]
      by_cases h1 : k.2.2 = 1
      · rw [if_pos h1, if_neg (by omega)]; omega
      · rw [if_neg h1]
        split <;> omega
  have h2 := ps_sum_le (fun k => pa_strength A k) 81 K fun k hk => pa_str_le ho (hK k hk)
  have : 81 * K.length ≤ 81 * 12 := Nat.mul_le_mul_left _ h12
  omega
theorem kc_shareFor {g a p m n : Nat} {A : pa_A} {x : pa_Mo} (ho : pw A) (hM : rMo τ σ A.1 g p m x) (hg0 : g ≠ 0) (hL : ∀ k, k ∈ x.2.2 → k.2.1 < 10 ∧ k.2.2 ≤ 1) (hw : zo_wf τ σ) (hg : zp_gas (n + 3) σ) (hfu : 100 ≤ ρ.2) (h12 : x.2.2.length ≤ 12) :
    if pa_sum A x.2.2 1 + pa_sum A x.2.2 0 = 0 then zthr (zF_X2_shareFor ρ a (some p) σ) 144 3 σ else ∃ σ', zF_X2_shareFor ρ a (some p) σ = zz_rF (FP.fdiv (FP.i2f (.ofNat (pa_sum A x.2.2 1))) (FP.i2f (.ofNat (pa_sum A x.2.2 1 + pa_sum A x.2.2 0)))) σ' ∧ zp_le zp_no 3 σ σ' := by
  obtain ⟨l, q, b, N, R, k1, k2, k3, k4⟩ := hM.cros hw
  obtain ⟨σ1, i1, l1⟩ := kc_strengths (ρ := ρ) (A := A) (s := 1) (n := n + 2) k1 k3 (Nat.le_refl _) (fun k hk => (hL k hk).2) hw.1 hg hfu h12
  have hw1 := hw.le l1
  have hM1 : rMo τ σ1 A.1 g p m x := hM.keep (G := fun t => t ≠ 0) (zo_k.of_le hw l1 (by simp) fun _ h => h.elim) (by decide) (fun t h1 _ => by omega)
  obtain ⟨l', q', b', N', R', k1', k2', k3', k4'⟩ := hM1.cros hw1
  have g1 : zp_gas (n + 2) σ1 := l1.gas (n := n + 2) hg
  obtain ⟨σ2, i2, l2⟩ := kc_strengths (ρ := ρ) (A := A) (s := 0) (n := n + 1) k1' k3' (by decide) (fun k hk => (hL k hk).2) hw1.1 g1 hfu h12
  have g2 : zp_gas (n + 1) σ2 := l2.gas (n := n + 1) g1
  have l02 := l1.trans l2 fun _ _ h => h
  have h1000 := pa_sum_1000 ho (fun k hk => (hL k hk).1) h12
  have i1 : zF_X6_strengths ρ p 1 σ = zz_rI (.ofNat (pa_sum A x.2.2 1)) σ1 := i1
  have i2 : zF_X6_strengths ρ p 0 σ1 = zz_rI (.ofNat (pa_sum A x.2.2 0)) σ2 := i2
  unfold zF_X2_shareFor
  rw [zp_ck k1, i1, cc_I, zp_ck k1', i2, cc_I, ci_add]
  by_cases h0 : pa_sum A x.2.2 1 + pa_sum A x.2.2 0 = 0
  · rw [if_pos h0, h0]
    exact (((jk_div_no (ρ := ρ) g2).cV).after l02).mono (by omega)
  · rw [if_neg h0, jk_div_yes h0 (by omega), cc_V, if_neg (fun h => h (fp_n32 (by omega) h1000 h0))]
    exact ⟨σ2, rfl, l02.mono (fun _ _ h => h) (by omega)⟩
theorem kc_mean {g a n y : Nat} {A : pa_A} (h : rAs τ σ g a A) (ho : pw A) (hg : 1000 ≤ g) (hw : zo_wf τ σ) (hG : zp_gas (n + 5) σ) (hfu : 100 ≤ ρ.2) (hy : ρ.1 221 = some y) (hyt : τ y = 1) (hyc : ∃ w, σ.2.2 y = some (w, .inr (221, []))) :
    if pa_sit A = 0 then zthr (zF_X2_meanSittingWeight ρ a σ) 144 5 σ else ∃ σ', zF_X2_meanSittingWeight ρ a σ = zz_rD (FP.ddiv (FP.i2d (.ofNat (A.1.map fun x => if x.2.2.1 = 0 then 0 else x.2.1).sum)) (FP.i2d (.ofNat (pa_sit A)))) σ' ∧ zp_le zp_no 5 σ σ' := by
  have h12 := ho.1
  obtain ⟨σ1, i1, l1⟩ := kc_bySet (ρ := ρ) (n := n + 2) h ho hg hw hG hfu
  have hw1 := hw.le l1
  have g1 : zp_gas (n + 2) σ1 := l1.gas (n := n + 2) hG
  have hA1 := h.al ho.1 ho.2.2.1 (by omega) hw l1
  obtain ⟨w, hyc⟩ := hyc
  have hyl := hw.1.lt hyc
  have hyc1 := (l1.keep hyl fun h => h).trans hyc
  have hyl1 := hw1.1.lt hyc1
  unfold zF_X2_meanSittingWeight
  rw [h.ck, i1, cc_I]
  have hs : pa_sit A ≤ 1 * A.1.length := ps_sum_le _ 1 A.1 fun x _ => by split <;> omega
  by_cases h0 : pa_sit A = 0
  · rw [if_pos h0, h0]
    exact (((jk_div_no (ρ := ρ) (g := n + 1) g1).cV).after l1).mono (by omega)
  · obtain ⟨σ2, i2, l2⟩ := kc_weight (ρ := ρ) (n := n + 1) (y := y) hA1 ho.1 ho.2.2.1 (by omega) hw1 g1 hfu (kl_21 (fun k hk => ho.seat k hk) hyl1 hyc1)
    have e : ((List.range A.1.length).map fun k => if decide ((pa_frog A k).2.2.1 ≠ 0) = true then (pa_frog A k).2.1 else 0).sum = (A.1.map fun x => if x.2.2.1 = 0 then 0 else x.2.1).sum := by
      rw [← pa_range (A := A) fun x => if x.2.2.1 = 0 then 0 else x.2.1]
      congr 1
      apply List.map_congr_left
      intro k _
      by_cases h : (pa_frog A k).2.2.1 = 0 <;> simp [h]
    rw [e] at i2
    have hwt : (A.1.map fun x => if x.2.2.1 = 0 then 0 else x.2.1).sum ≤ 9 * A.1.length := ps_sum_le _ 9 A.1 fun x hx => by
      have := (ho.2.2.2.1 x hx).2.1
      split <;> omega
    rw [if_neg h0, jk_div_yes h0 (by omega), cc_V, hA1.ck, hy, i2, cc_I, if_neg (fun h => h (fp_n64 (by omega) (by omega) h0))]
    exact ⟨σ2, rfl, (l1.trans l2 fun _ _ h => h).mono (fun _ _ h => h) (by omega)⟩
end COE
