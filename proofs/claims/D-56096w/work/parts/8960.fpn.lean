/-! ===== QUOTIENTS OF SMALL NUMBERS ARE NUMBERS ===== -/
section FPN
theorem fp_round (f : FP.Core.Fmt) (h2 : f.tails < 2 ^ f.p) (hq : f.qmin ≤ f.qmax) (n d : Nat) (e : Int) : FP.Core.roundRatio f false n d e = .inf false ∨ ∃ c q, FP.Core.roundRatio f false n d e = .fin false c q ∧ c < 2 ^ f.p ∧ q ≤ f.qmax := by
  unfold FP.Core.roundRatio
  split
  · exact .inr ⟨0, f.qmin, rfl, Nat.two_pow_pos _, hq⟩
  · unfold FP.Core.roundAt FP.Core.settle FP.Core.bound
    split
    · split
      · next h1 h3 => exact .inr ⟨_, _, rfl, h1, h3⟩
      · exact .inl rfl
    · split
      · next h3 => exact .inr ⟨_, _, rfl, h2, h3⟩
      · exact .inl rfl
theorem fp_enc (f : FP.Core.Fmt) (E : Nat) (hE : f.exps = E + 2) (h2 : f.tails + f.tails = 2 ^ f.p) (hq : f.qmin ≤ f.qmax) (hr : (f.qmax - f.qmin).toNat + 1 ≤ E) (h0 : 0 < f.tails) (n d : Nat) (e : Int) : FP.Core.encode f (FP.Core.roundRatio f false n d e) ≤ (E + 1) * f.tails := by
  rcases fp_round f (by omega) hq n d e with h | ⟨c, q, h, h3, h4⟩
  · rw [h]
    unfold FP.Core.encode FP.Core.assemble
    simp [hE]
  · rw [h]
    show (if c < f.tails then FP.Core.assemble f false 0 c else FP.Core.assemble f false ((q - f.qmin).toNat + 1) (c - f.tails)) ≤ _
    split
    · next h5 =>
      unfold FP.Core.assemble
      rw [show (false.toNat * f.exps + 0) * f.tails = 0 by simp]
      have : (E + 1) * f.tails = E * f.tails + f.tails := Nat.succ_mul _ _
      omega
    · next h5 =>
      unfold FP.Core.assemble
      have h6 : (q - f.qmin).toNat + 1 ≤ E := by omega
      have h7 := Nat.mul_le_mul_right f.tails h6
      have : (E + 1) * f.tails = E * f.tails + f.tails := Nat.succ_mul _ _
      rw [show false.toNat * f.exps + ((q - f.qmin).toNat + 1) = (q - f.qmin).toNat + 1 by simp]
      omega
def fpt (f : FP.Core.Fmt) (x n : Nat) : Bool := match FP.Core.decode f x with | .fin false c _ => decide (c = 0) == decide (n = 0) | _ => false
theorem fp_tab32 : ((List.range 1001).all fun n => fpt FP.Core.b32 (FP.i2f (Int32.ofNat n)).toNat n) = true := by decide +kernel
theorem fp_tab64 : ((List.range 1001).all fun n => fpt FP.Core.b64 (FP.i2d (Int32.ofNat n)).toNat n) = true := by decide +kernel
theorem fp_div {f : FP.Core.Fmt} {x y n t : Nat} (hx : fpt f x n = true) (hy : fpt f y t = true) (ht : t ≠ 0) : ∃ a b e, FP.Core.div f x y = FP.Core.encode f (FP.Core.roundRatio f false a b e) := by
  unfold fpt at hx hy
  split at hx
  · next c q h1 =>
    split at hy
    · next d r h2 =>
      have hd : d ≠ 0 := by
        intro h
        rw [h] at hy
        simp [ht] at hy
      refine ⟨c, d, q - r, ?_⟩
      unfold FP.Core.div
      rw [h1, h2]
      show FP.Core.encode f (if d = 0 then _ else FP.Core.roundRatio f (false != false) c d (q - r)) = _
      rw [if_neg hd]
      rfl
    · exact absurd hy (by simp)
  · exact absurd hx (by simp)
theorem fp_n32 {n t : Nat} (hn : n ≤ 1000) (ht : t ≤ 1000) (h0 : t ≠ 0) : zz_n32 (FP.fdiv (FP.i2f (.ofNat n)) (FP.i2f (.ofNat t))) = true := by
  have h1 := List.all_eq_true.mp fp_tab32 n (List.mem_range.mpr (by omega))
  have h2 := List.all_eq_true.mp fp_tab32 t (List.mem_range.mpr (by omega))
  obtain ⟨a, b, e, h3⟩ := fp_div h1 h2 h0
  have h4 := fp_enc FP.Core.b32 254 (by decide) (by decide) (by decide) (by decide) (by decide) a b e
  rw [← h3] at h4
  have h5 : (254 + 1) * FP.Core.b32.tails = 2139095040 := by decide
  rw [h5] at h4
  unfold zz_n32
  rw [decide_eq_true_eq, UInt32.le_iff_toNat_le, UInt32.toNat_and]
  refine Nat.le_trans Nat.and_le_left ?_
  have key : ∀ D, D ≤ 2139095040 → (UInt32.ofNat D).toNat ≤ 2139095040 := fun D hD => Nat.le_trans (show (UInt32.ofNat D).toNat ≤ D from Nat.mod_le _ _) hD
  exact key _ h4
theorem fp_n64 {n t : Nat} (hn : n ≤ 1000) (ht : t ≤ 1000) (h0 : t ≠ 0) : zz_n64 (FP.ddiv (FP.i2d (.ofNat n)) (FP.i2d (.ofNat t))) = true := by
  have h1 := List.all_eq_true.mp fp_tab64 n (List.mem_range.mpr (by omega))
  have h2 := List.all_eq_true.mp fp_tab64 t (List.mem_range.mpr (by omega))
  obtain ⟨a, b, e, h3⟩ := fp_div h1 h2 h0
  have h4 := fp_enc FP.Core.b64 2046 (by decide) (by decide) (by decide) (by decide) (by decide) a b e
  rw [← h3] at h4
  have h5 : (2046 + 1) * FP.Core.b64.tails = 9218868437227405312 := by decide
  rw [h5] at h4
  unfold zz_n64
  rw [decide_eq_true_eq, UInt64.le_iff_toNat_le, UInt64.toNat_and]
  refine Nat.le_trans Nat.and_le_left ?_
  have key : ∀ D, D ≤ 9218868437227405312 → (UInt64.ofNat D).toNat ≤ 9218868437227405312 := fun D hD => Nat.le_trans (show (UInt64.ofNat D).toNat ≤ D from Nat.mod_le _ _) hD
  exact key _ h4
end FPN
