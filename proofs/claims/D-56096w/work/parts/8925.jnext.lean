/-! ===== BitSet.nextSetBit, cardinality ===== -/
section JN
variable {ρ : zz_C} {σ : zz_S}
def jn62 (x0 x1 : Int32) : Int32 := if x0 ≤ (4 : Int32) then x1 + ((x0.toUInt32 >>> ((1 : Int32).toUInt32 &&& Int32.toUInt32 31)).toInt32) else (x1 + (2 : Int32)) + ((((x0.toUInt32 >>> ((2 : Int32).toUInt32 &&& Int32.toUInt32 31)).toInt32).toUInt32 >>> ((1 : Int32).toUInt32 &&& Int32.toUInt32 31)).toInt32)
def jn49 (x0 x1 : Int32) : Int32 := if x0 ≤ (16 : Int32) then jn62 x0 x1 else jn62 ((x0.toUInt32 >>> ((4 : Int32).toUInt32 &&& Int32.toUInt32 31)).toInt32) (x1 + (4 : Int32))
def jn34 (x0 x1 : Int32) : Int32 := if x0 ≤ (256 : Int32) then jn49 x0 x1 else jn49 ((x0.toUInt32 >>> ((8 : Int32).toUInt32 &&& Int32.toUInt32 31)).toInt32) (x1 + (8 : Int32))
def jn17b (m : Int32) : Int32 := if 0 < m then (if m ≤ (65536 : Int32) then jn34 m (1 : Int32) else jn34 ((m.toUInt32 >>> ((16 : Int32).toUInt32 &&& Int32.toUInt32 31)).toInt32) ((1 : Int32) + (16 : Int32))) else m &&& (32 : Int32)
def jn17 (x0 : Int32) : Int32 := jn17b ((x0 ^^^ (-1 : Int32)) &&& (x0 - (1 : Int32)))
theorem jn62_eq (x0 x1 : Int32) : zJ_J17_numberOfTrailingZeros_62 ρ x0 x1 σ = zz_rI (jn62 x0 x1) σ := by
  unfold zJ_J17_numberOfTrailingZeros_62 jn62
  split <;> rfl
theorem jn49_eq (x0 x1 : Int32) : zJ_J17_numberOfTrailingZeros_49 ρ x0 x1 σ = zz_rI (jn49 x0 x1) σ := by
  unfold zJ_J17_numberOfTrailingZeros_49 jn49
  split <;> exact jn62_eq _ _
theorem jn34_eq (x0 x1 : Int32) : zJ_J17_numberOfTrailingZeros_34 ρ x0 x1 σ = zz_rI (jn34 x0 x1) σ := by
  unfold zJ_J17_numberOfTrailingZeros_34 jn34
  split <;> exact jn49_eq _ _
theorem jn17_eq (x0 : Int32) : zF_J17_numberOfTrailingZeros ρ x0 σ = zz_rI (jn17 x0) σ := by
  unfold zF_J17_numberOfTrailingZeros jn17 jn17b
  split
  · split <;> exact jn34_eq _ _
  · rfl
theorem jn_table : ((List.range 4096).all fun w => w == 0 || (List.range 12).any fun j => (jn17 (Int32.ofNat w) == Int32.ofNat j) && (w % 2 ^ (j + 1) == 2 ^ j)) = true := by decide +kernel
theorem jn_low {w : Nat} (h : w < 4096) : (Int64.ofNat w).toInt32 = Int32.ofNat w := by
  apply Int32.toInt.inj
  rw [Int64.toInt_toInt32, Int64.toInt_ofNat_of_lt (by omega), ci_int (by omega)]
  exact Int.bmod_eq_of_le (by omega) (by omega)
theorem jn_spec {w : Nat} (h : w < 4096) (h0 : w ≠ 0) : ∃ j, j < 12 ∧ zF_J31_numberOfTrailingZeros ρ (Int64.ofNat w) σ = zz_rI (.ofNat j) σ ∧ w.testBit j = true ∧ ∀ i, i < j → w.testBit i = false := by
  have h1 := List.all_eq_true.mp jn_table w (List.mem_range.mpr h)
  simp only [Bool.or_eq_true, beq_iff_eq, List.any_eq_true, Bool.and_eq_true, List.mem_range] at h1
  rcases h1 with h1 | ⟨j, hj, h2, h3⟩
  · exact absurd h1 h0
  refine ⟨j, hj, ?_, ?_, fun i hi => ?_⟩
  · unfold zF_J31_numberOfTrailingZeros
    rw [jn_low h, if_neg (show ¬ Int32.ofNat w = 0 from by rw [show (0 : Int32) = Int32.ofNat 0 from rfl, ci_eq (by omega) (by decide)]; exact h0), jn17_eq, cc_I, h2]
  · have := Nat.testBit_mod_two_pow w (j + 1) j
    rw [h3, Nat.testBit_two_pow_self] at this
    simpa using this.symm
  · have := Nat.testBit_mod_two_pow w (j + 1) i
    rw [h3, Nat.testBit_two_pow_of_ne (by omega)] at this
    simp [show i < j + 1 by omega] at this
    exact this
theorem jn_mask : ∀ k, k < 13 → ((-1 : Int64) <<< ((Int32.ofNat k).toInt64 &&& 63)) = Int64.ofNat ((2 ^ (64 - k) - 1) <<< k) := by decide
theorem jb_nextSetBit {b w n k : Nat} (h : cB σ b w n) (hk : k ≤ 12) (hf : 1 ≤ ρ.2) :
    ((∀ i, k ≤ i → n.testBit i = false) ∧ zF_J41_nextSetBit ρ b (.ofNat k) σ = zz_rI (-1) σ) ∨ ∃ j, k ≤ j ∧ j < 12 ∧ n.testBit j = true ∧ (∀ i, k ≤ i → i < j → n.testBit i = false) ∧ zF_J41_nextSetBit ρ b (.ofNat k) σ = zz_rI (.ofNat j) σ := by
  have hck := fun K => h.ck (K := K)
  have hj := jb_aJ h
  obtain ⟨h0, ⟨u, h1, h2⟩, g, h3, h4⟩ := h
  have hge : (0 : Int32) ≤ Int32.ofNat k := by rw [show (0 : Int32) = Int32.ofNat 0 from rfl, ci_le (by omega) (by omega)]; omega
  obtain ⟨fu, hfu⟩ : ∃ fu, ρ.2 = fu + 1 := ⟨ρ.2 - 1, by omega⟩
  have hbits : ∀ i, (n &&& ((2 ^ (64 - k) - 1) <<< k)).testBit i = (n.testBit i && decide (k ≤ i)) := fun i => by
    rw [Nat.testBit_and, Nat.testBit_shiftLeft, Nat.testBit_two_pow_sub_one]
    by_cases hi : i < 12
    · by_cases hki : k ≤ i
      · simp [hki]; omega
      · simp [hki]
    · have : n.testBit i = false := Nat.testBit_lt_two_pow (Nat.lt_of_lt_of_le h0 (Nat.pow_le_pow_right (n := 2) (by decide) (show 12 ≤ i by omega)))
      rw [this]; rfl
  have hlt : n &&& ((2 ^ (64 - k) - 1) <<< k) < 4096 := Nat.lt_of_le_of_lt Nat.and_le_left h0
  have red : zF_J41_nextSetBit ρ b (.ofNat k) σ = if Int32.ofNat 0 < Int32.ofNat u then zL_J41_nextSetBit_63 ρ (fu + 1) b 0 (Int64.ofNat (n &&& ((2 ^ (64 - k) - 1) <<< k))) σ else zz_rI (-1) σ := by
    unfold zF_J41_nextSetBit zF_J41_checkInvariants zJ_J41_checkInvariants_37 zJ_J41_checkInvariants_70 zF_J41_wordIndex
    rw [if_pos hge, hck, cc_V, cc_I, jb_word k (by omega), zp_gI h2 (k := 1) (v := .ofNat u) rfl, Option.bind_some, zp_gR h2 (k := 0) (v := some w) rfl, Option.bind_some, hj, Option.bind_some, jn_mask k (by omega), jb_and, hfu]
    rfl
  rcases h1 with ⟨rfl, rfl⟩ | rfl
  · left
    refine ⟨fun i _ => Nat.zero_testBit i, ?_⟩
    rw [red, if_neg (by decide)]
  · rw [red, if_pos (by decide)]
    by_cases hz : n &&& ((2 ^ (64 - k) - 1) <<< k) = 0
    · left
      refine ⟨fun i hi => ?_, ?_⟩
      · have := hbits i
        rw [hz, Nat.zero_testBit] at this
        simpa [hi] using this.symm
      · rw [zL_J41_nextSetBit_63, if_pos ((jb_cmp (by omega)).mpr hz), zp_gI h2 (k := 1) (v := .ofNat 1) rfl, Option.bind_some, if_pos (by decide)]
    · right
      obtain ⟨j, hj1, hj2, hj3, hj4⟩ := jn_spec (ρ := ρ) (σ := σ) hlt hz
      rw [hbits j] at hj3
      simp only [Bool.and_eq_true, decide_eq_true_eq] at hj3
      refine ⟨j, hj3.2, hj1, hj3.1, fun i hi1 hi2 => ?_, ?_⟩
      · have := hj4 i hi2
        rw [hbits i] at this
        simpa [hi1] using this
      · rw [zL_J41_nextSetBit_63, if_neg (fun hh => hz ((jb_cmp (by omega)).mp hh)), hj2, cc_I]
        show zz_rI (0 * 64 + Int32.ofNat j) σ = _
        rw [show (0 : Int32) * 64 = 0 from by decide, Int32.zero_add]
end JN
