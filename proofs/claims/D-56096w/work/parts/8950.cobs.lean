/-! ===== THE COMPONENT's OBSERVERS: frogAtRank, sitting ===== -/
section COB
variable {ρ : zz_C} {σ : zz_S} {τ : Nat → Nat}
def pa_rank (A : pa_A) (f : Nat) : Nat := ((List.range A.1.length).map fun k => if pa_isAhead A k f then 1 else 0).sum
def pa_frogAt (A : pa_A) (x : Int32) : Option Nat := (List.range A.1.length).find? fun f => Int32.ofNat (pa_rank A f) == x
def pa_sit (A : pa_A) : Nat := (A.1.map fun x => if x.2.2.1 = 0 then 0 else 1).sum
theorem rAx.frogs {g a : Nat} {A : pa_A} {af ac am : Nat} {F C Mo : List Nat} (h : rAx τ σ g a A af ac am F C Mo) : (∃ e, cA σ af e 12 F) ∧ F.length = A.1.length ∧ (∀ k p, F[k]? = some p → k < A.1.length → τ p = g + 10 + k ∧ σ.2.2 p = some (true, fcell k (pa_frog A k))) := by
  obtain ⟨-, -, ⟨⟨e, -, -, k2⟩, k3, k4⟩, -⟩ := h
  exact ⟨⟨e, k2⟩, k3, fun k p hp hk => k4 k p _ hp (pa_frog_eq hk)⟩
theorem drop_range {n k : Nat} (h : k < n) : (List.range n).drop k = k :: (List.range n).drop (k + 1) := by
  rw [List.drop_eq_getElem_cons (by simpa using h)]
  simp
theorem kl_frogAt {g a it G : Nat} {A : pa_A} {af ac am : Nat} {F C Mo : List Nat} (x : Int32) (h : rAx τ σ g a A af ac am F C Mo) (ho : pw A) (hg : 1000 ≤ g) (hw : zo_wf τ σ) (hG : zp_gas G σ) (hfu : 100 ≤ ρ.2) (hit0 : σ.1.1 ≤ it) :
    ∀ (r k n j : Nat) (σ1 : zz_S), k + r = A.1.length → r < n → zp_le zp_no j σ σ1 → j + 2 * r + 1 ≤ G → cI σ1 it af k → 
      match ((List.range A.1.length).drop k).find? fun f => Int32.ofNat (pa_rank A f) == x with
      | none => zthr (zL_X2_frogAtRank_8 ρ n a x (some it) σ1) 119 (j + 2 * r + 1) σ
      | some f => ∃ σ', zL_X2_frogAtRank_8 ρ n a x (some it) σ1 = zz_rI (.ofNat f) σ' ∧ zp_le zp_no (j + 2 * r + 1) σ σ' := by
  intro r
  induction r with
  | zero =>
    intro k n j σ1 hk hn hl hj hi
    obtain ⟨n, rfl⟩ : ∃ m, n = m + 1 := ⟨n - 1, by omega⟩
    have hX := h.al ho (by omega) hw hl
    obtain ⟨⟨e, cF⟩, eF, -⟩ := hX.frogs
    rw [List.drop_eq_nil_of_le (by simp; omega)]
    show zthr _ _ _ _
    rw [zL_X2_frogAtRank_8, hi.ck, ja_hasNext hi cF (by omega), if_pos (by omega), cc_I, if_pos z00]
    exact ((jk_throw (g := 0) (hl.gas (n := 0 + 1) (hG.le (by omega)))).after hl).mono (by omega)
  | succ r ih =>
    intro k n j σ1 hk hn hl hj hi
    obtain ⟨n, rfl⟩ : ∃ m, n = m + 1 := ⟨n - 1, by omega⟩
    have hX := h.al ho (by omega) hw hl
    obtain ⟨⟨e, cF⟩, eF, kF⟩ := hX.frogs
    have hk1 : k < A.1.length := by omega
    obtain ⟨p, hp⟩ : ∃ p, F[k]? = some p := ⟨_, List.getElem?_eq_getElem (eF ▸ hk1 : k < F.length)⟩
    obtain ⟨tp, cp⟩ := kF k p hp hk1
    have hw1 := hw.le hl
    obtain ⟨σ2, n1, n2, n3⟩ := ja_next (ρ := ρ) hi cF hp hw1.1
    have l2 : zp_le zp_no j σ σ2 := (hl.trans n2 fun b hb h => by omega).mono (fun _ _ h => h) (by omega)
    have hw2 := hw.le l2
    have hX2 := h.al ho (by omega) hw l2
    obtain ⟨-, -, kF2⟩ := hX2.frogs
    have cp2 := (kF2 k p hp hk1).2
    have hpl : p < σ2.1.1 := hw2.1.lt cp2
    have g2 : zp_gas (0 + 2) σ2 := l2.gas (n := 0 + 2) (hG.le (by omega))
    obtain ⟨s3, e3⟩ : ∃ s, s = zp_al σ2 (.inr (215, [va_rf (some p)])) 1 := ⟨_, rfl⟩
    have l3 : zp_le zp_no 1 σ2 s3 := by rw [e3]; exact zp_al_le (by decide)
    have c3 : s3.2.2 σ2.1.1 = some (true, .inr (215, [.ref p])) := by rw [e3]; exact zp_al_new
    have n3' : s3.1.1 = σ2.1.1 + 1 := by rw [e3]; rfl
    have l03 := l2.trans l3 fun _ _ h => h
    have hX3 := h.al ho (by omega) hw l03
    have hA3 : rAs τ s3 g a A := ⟨af, ac, am, F, C, Mo, hX3⟩
    have cp3 := (l3.keep hpl fun h => h).trans cp2
    obtain ⟨s4, c1, c2⟩ := kc_count (ρ := ρ) (n := 0) (y := σ2.1.1) hA3 ho.1 ho.2.2.1 (by omega) (hw.le l03) (l3.gas (n := 0 + 1) g2) hfu (kl_15 (fun k hk => ⟨(ho.fr hk).2.1, (ho.fr hk).2.2.2⟩) ho.1 hk1 (by omega) (by omega) c3 cp3)
    have c1 : zF_X2_count ρ a (some σ2.1.1) s3 = zz_rI (.ofNat (pa_rank A k)) s4 := c1
    have l04 := l03.trans c2 fun _ _ h => h
    have cp4 := (c2.keep (by omega) fun h => h).trans cp3
    rw [zL_X2_frogAtRank_8, hi.ck, ja_hasNext hi cF (by omega), if_neg (by omega), cc_I, if_neg n10, hi.ck, n1, cc_R, if_neg (fun h => h (kf_cast cp2)), zp_al_eq (n := 0 + 1) g2 (by decide), ← e3, hA3.ck, c1, cc_I, drop_range hk1, List.find?_cons]
    by_cases hv : Int32.ofNat (pa_rank A k) = x
    · rw [show (Int32.ofNat (pa_rank A k) == x) = true by simpa using hv, if_pos hv, kf_num cp4, Option.bind_some]
      exact ⟨s4, rfl, l04.mono (fun _ _ h => h) (by omega)⟩
    · rw [show (Int32.ofNat (pa_rank A k) == x) = false by simpa using hv, if_neg hv]
      have hi4 : cI s4 it af (k + 1) := by
        obtain ⟨lr, mc, w, rr, t1, t2⟩ := n3
        have hil := hw2.1.lt t1
        have hal := hw2.1.lt t2
        refine cI.keep ⟨lr, mc, w, rr, t1, t2⟩ ?_ ?_
        · rw [c2.keep (by omega) fun h => h, l3.keep hil fun h => h]
        · rw [c2.keep (by omega) fun h => h, l3.keep hal fun h => h]
      have := ih (k + 1) n (j + 1 + 1) s4 (by omega) (by omega) l04 (by omega) hi4
      rw [show j + 1 + 1 + 2 * r + 1 = j + 2 * (r + 1) + 1 by omega] at this
      exact this
theorem kc_frogAt {g a n : Nat} {A : pa_A} (x : Int32) (h : rAs τ σ g a A) (ho : pw A) (hg : 1000 ≤ g) (hw : zo_wf τ σ) (hG : zp_gas (n + 26) σ) (hfu : 100 ≤ ρ.2) :
    match pa_frogAt A x with
    | none => zthr (zF_X2_frogAtRank ρ a x σ) 119 26 σ
    | some f => ∃ σ', zF_X2_frogAtRank ρ a x σ = zz_rI (.ofNat f) σ' ∧ zp_le zp_no 26 σ σ' := by
  obtain ⟨af, ac, am, F, C, Mo, hX⟩ := h
  obtain ⟨f1, -, -, f4, -, -, -, -, -⟩ := hX.fl (ρ := ρ)
  obtain ⟨⟨e, cF⟩, eF, -⟩ := hX.frogs
  have h12 := ho.1
  obtain ⟨s1, i1, i2, i3⟩ := ja_iterator (ρ := ρ) cF hw.1 (hG.le (show 25 + 1 ≤ _ by omega))
  have := kl_frogAt (ρ := ρ) x hX ho hg hw hG hfu (Nat.le_refl _) A.1.length 0 ρ.2 1 s1 (Nat.zero_add _) (by omega) i2 (by omega) i3
  rw [List.drop_zero] at this
  unfold zF_X2_frogAtRank
  rw [f1, Option.bind_some, f4, i1, cc_R]
  unfold pa_frogAt
  split at this
  · exact this.mono (by omega)
  · obtain ⟨σ', t1, t2⟩ := this
    exact ⟨σ', t1, t2.mono (fun _ _ h => h) (by omega)⟩
end COB
