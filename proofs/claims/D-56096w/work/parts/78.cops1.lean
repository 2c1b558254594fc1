/-! ===== frogsOn, closureWeight, entitledWeight, padWeight ===== -/
section CP
variable {ρ : zz_C} {σ : zz_S} {τ : Nat → Nat}
/-- the sums of the loops are those of the abstract assembly -/
theorem pa_on_range (A : pa_A) (p : Nat) : ((List.range A.1.length).map fun k => if decide ((pa_frog A k).2.2.1 = p + 1) = true then 1 else 0).sum = pa_on A p := by
  unfold pa_on
  rw [← pa_range fun x : pa_F => if x.2.2.1 = p + 1 then 1 else 0]
  simp
theorem pw.seat {A : pa_A} (ho : pw A) : ∀ k, k < A.1.length → (pa_frog A k).2.2.1 ≤ 6 := fun _ hk => (ho.fr hk).2.2.1
theorem kc_frogsOn {g a p n : Nat} {A : pa_A} (h : rAs τ σ g a A) (ho : pw A) (hg0 : g ≠ 0) (hw : zo_wf τ σ) (hg : zp_gas (n + 2) σ) (hf : 100 ≤ ρ.2) (hp : p ≤ 100) :
    ∃ σ', zF_X2_frogsOn ρ a (.ofNat p) σ = zz_rI (.ofNat (pa_on A p)) σ' ∧ zp_le zp_no 2 σ σ' := by
  have l1 : zp_le zp_no 1 σ (zp_al σ (.inr (205, [.int (.ofNat p)])) 1) := zp_al_le (by decide)
  have h1 := h.al ho.1 ho.2.2.1 hg0 hw l1
  obtain ⟨σ', e1, e2⟩ := kc_count (ρ := ρ) (n := n) h1 ho.1 ho.2.2.1 hg0 (hw.le l1) (l1.gas (n := n + 1) hg) hf (kl_5 (A := A) (g := g) (w := true) ho.seat hp (Nat.lt_succ_self σ.1.1) zp_al_new)
  refine ⟨σ', ?_, l1.trans (k' := 1) e2 fun _ _ h => h⟩
  unfold zF_X2_frogsOn
  rw [zp_al_eq (n := n + 1) hg (by decide), h1.ck, e1, cc_I, pa_on_range]
theorem kc_padWeight {g a p n y : Nat} {A : pa_A} (h : rAs τ σ g a A) (ho : pw A) (hg0 : g ≠ 0) (hw : zo_wf τ σ) (hg : zp_gas (n + 1) σ) (hf : 100 ≤ ρ.2) (hp : p ≤ 100) (hyn : y < σ.1.1) (hy : σ.2.2 y = some (true, .inr (210, [.int (.ofNat p)]))) :
    ∃ σ', zF_X2_weight ρ a (some y) σ = zz_rI (.ofNat (A.1.map fun x => if x.2.2.1 = p + 1 then x.2.1 else 0).sum) σ' ∧ zp_le zp_no 1 σ σ' := by
  obtain ⟨σ', e1, e2⟩ := kc_weight (ρ := ρ) (n := n) h ho.1 ho.2.2.1 hg0 hw hg hf (kl_10 (A := A) (g := g) ho.seat hp hyn hy)
  refine ⟨σ', ?_, e2⟩
  rw [e1, ← pa_range fun x : pa_F => if x.2.2.1 = p + 1 then x.2.1 else 0]
  simp
/-- a motion's picture, cell and mask -/
theorem rMo.lt {fr : List pa_F} {g p m : Nat} {x : pa_Mo} (h : rMo τ σ fr g p m x) (hg0 : g ≠ 0) (hw : zo_wf τ σ) : p < σ.1.1 := hw.lt (by rw [h.1]; exact hg0)
theorem kc_closureWeight {g a p m n : Nat} {A : pa_A} {x : pa_Mo} (h : rAs τ σ g a A) (hm : rMo τ σ A.1 (g + 100 + 10 * m) p m x) (ho : pw A) (hg0 : g ≠ 0) (hw : zo_wf τ σ) (hg : zp_gas (n + 2) σ) (hf : 100 ≤ ρ.2) :
    ∃ σ', zF_X2_closureWeight ρ a (some p) σ = zz_rI (.ofNat (pa_backing A x)) σ' ∧ zp_le zp_no 2 σ σ' := by
  have hpl := hm.lt (by omega) hw
  obtain ⟨m0, l, q, b, R, K, m1, -, -, ⟨bw, b1, b2, b3⟩, -⟩ := hm
  have hbl : b < σ.1.1 := hw.lt (by rw [b1]; omega)
  have hwl : bw < σ.1.1 := hw.lt (by rw [b2]; omega)
  have l1 : zp_le zp_no 1 σ (zp_al σ (.inr (217, [va_rf (some p)])) 1) := zp_al_le (by decide)
  have h1 := h.al ho.1 ho.2.2.1 hg0 hw l1
  obtain ⟨σ', e1, e2⟩ := kc_weight (ρ := ρ) (n := n) h1 ho.1 ho.2.2.1 hg0 (hw.le l1) (l1.gas (n := n + 1) hg) hf (kl_17 (A := A) (g := g) (w := true) (p := p) (x := x) (b := b) (bw := bw) (l := l) (q := q) (m := m) ho.1 (Nat.lt_succ_self σ.1.1) (Nat.lt_succ_of_lt hpl) (Nat.lt_succ_of_lt hbl) (Nat.lt_succ_of_lt hwl) zp_al_new ((zp_al_old (Nat.ne_of_lt hpl)).trans m1) (b3.keep (zp_al_old (Nat.ne_of_lt hbl)) (zp_al_old (Nat.ne_of_lt hwl))))
  refine ⟨σ', ?_, l1.trans (k' := 1) e2 fun _ _ h => h⟩
  unfold zF_X2_closureWeight
  rw [zp_al_eq (n := n + 1) hg (by decide), h1.ck, e1, cc_I]
  rfl
theorem kc_entitledWeight {g a p m n : Nat} {A : pa_A} {x : pa_Mo} (h : rAs τ σ g a A) (hm : rMo τ σ A.1 (g + 100 + 10 * m) p m x) (hx : x.1.1 < 16) (ho : pw A) (hg0 : g ≠ 0) (hw : zo_wf τ σ) (hg : zp_gas (n + 2) σ) (hf : 100 ≤ ρ.2) :
    ∃ σ', zF_X2_entitledWeight ρ a (some p) σ = zz_rI (.ofNat (pa_entitled A x)) σ' ∧ zp_le zp_no 2 σ σ' := by
  have hpl := hm.lt (by omega) hw
  obtain ⟨m0, l, q, b, R, K, m1, -⟩ := hm
  have l1 : zp_le zp_no 1 σ (zp_al σ (.inr (218, [va_rf (some p)])) 1) := zp_al_le (by decide)
  have h1 := h.al ho.1 ho.2.2.1 hg0 hw l1
  obtain ⟨σ', e1, e2⟩ := kc_weight (ρ := ρ) (n := n) h1 ho.1 ho.2.2.1 hg0 (hw.le l1) (l1.gas (n := n + 1) hg) hf (kl_18 (A := A) (g := g) (w := true) (p := p) (x := x) (b := b) (l := l) (q := q) (m := m) hx (fun k hk => (ho.fr hk).1) (Nat.lt_succ_self σ.1.1) (Nat.lt_succ_of_lt hpl) zp_al_new ((zp_al_old (Nat.ne_of_lt hpl)).trans m1))
  refine ⟨σ', ?_, l1.trans (k' := 1) e2 fun _ _ h => h⟩
  unfold zF_X2_entitledWeight
  rw [zp_al_eq (n := n + 1) hg (by decide), h1.ck, e1, cc_I]
  unfold pa_entitled
  rw [← pa_range fun f : pa_F => if pa_for x f then f.2.1 else 0]
/-! a motion's flags -/
theorem km_isOpen {p m : Nat} {x : pa_Mo} {l q b : Nat} (hp : σ.2.2 p = some (true, mcell m x l q b)) (hs : x.1.2.2.1 ≤ 2) : zF_X6_isOpen ρ p σ = zz_rI (if x.1.2.2.1 = 0 then 1 else 0) σ := by
  unfold zF_X6_isOpen
  rw [zp_gI hp (k := 7) (v := .ofNat x.1.2.2.1) rfl, Option.bind_some]
  by_cases h : x.1.2.2.1 = 0
  · rw [if_pos (by rw [h]; rfl), if_pos h]; rfl
  · rw [if_neg (by rw [show (0 : Int32) = Int32.ofNat 0 from rfl, ci_eq (by omega) (by omega)]; exact h), if_neg h]; rfl
theorem km_isReady {p m gl : Nat} {x : pa_Mo} {l q b : Nat} {R : List Nat} (hp : σ.2.2 p = some (true, mcell m x l q b)) (hl : rL τ σ gl l R) (hR : R.length = x.2.1.length) (hs : x.1.2.2.1 ≤ 2) (hc : x.1.2.1 ≤ 1) : zF_X6_isReady ρ p σ = zz_rI (if pa_due x then 1 else 0) σ := by
  obtain ⟨N, l1, l2, l3⟩ := hl
  unfold zF_X6_isReady
  rw [zp_ck hp, km_isOpen hp hs, cc_I]
  by_cases h : x.1.2.2.1 = 0
  · rw [if_pos h, if_neg n10, zp_gI hp (k := 8) (v := .ofNat x.1.2.1) rfl, Option.bind_some]
    by_cases h1 : x.1.2.1 = 1
    · rw [if_neg (by rw [h1]; decide), zp_gR hp (k := 2) (v := some l) rfl, Option.bind_some, l3.ck, jl_isEmpty l3, cc_I, hR]
      cases hx : x.2.1 with
      | nil => rw [show (if ([] : List pa_R).length = 0 then (1 : Int32) else 0) = 1 from rfl, if_neg n10, if_pos (by simp [pa_due, h, h1, hx])]; rfl
      | cons r L => rw [if_neg (show ¬ (r :: L).length = 0 from by simp), if_pos z00, if_neg (by simp [pa_due, hx])]; rfl
    · rw [if_pos (by rw [(by omega : x.1.2.1 = 0)]; rfl), if_neg (by simp [pa_due, h1])]; rfl
  · rw [if_neg h, if_pos z00, if_neg (by simp [pa_due, h])]; rfl
end CP
