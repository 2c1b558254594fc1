/-! ===== BitSet.cardinality ===== -/
section JCD
variable {ρ : zz_C} {σ : zz_S}
def pop12 (n : Nat) : Nat := ((List.range 12).map fun i => if n.testBit i then 1 else 0).sum
def jc_v (F : zz_R) : Int32 := match F with | some (.inl (some (.int v)), _) => v | _ => 0
def jc (x : Int64) : Int32 := jc_v (zF_J31_bitCount (fun _ => none, 0) x ((0, 0), (0, 0), fun _ => none))
theorem jc_table : ((List.range 4096).all fun w => jc (Int64.ofNat w) == Int32.ofNat (pop12 w)) = true := by decide +kernel
theorem jc_eq (x : Int64) : zF_J31_bitCount ρ x σ = zz_rI (jc x) σ := rfl
theorem jc_pop {w : Nat} (h : w < 4096) : jc (Int64.ofNat w) = Int32.ofNat (pop12 w) := by
  have h1 := List.all_eq_true.mp jc_table w (List.mem_range.mpr h)
  exact eq_of_beq h1
theorem jb_cardinality {b w n : Nat} (h : cB σ b w n) (hfu : 2 ≤ ρ.2) : zF_J41_cardinality ρ b σ = zz_rI (.ofNat (pop12 n)) σ := by
  have hj := jb_aJ h
  obtain ⟨h0, ⟨u, h1, h2⟩, g, h3, h4⟩ := h
  obtain ⟨fu, hfu⟩ : ∃ fu, ρ.2 = fu + 2 := ⟨ρ.2 - 2, by omega⟩
  unfold zF_J41_cardinality
  rw [hfu, zL_J41_cardinality_4, zp_gI h2 (k := 1) (v := .ofNat u) rfl, Option.bind_some]
  rcases h1 with ⟨rfl, rfl⟩ | rfl
  · rw [if_pos (by decide)]
    rfl
  · rw [if_neg (by decide), zp_gR h2 (k := 0) (v := some w) rfl, Option.bind_some, hj, Option.bind_some, jc_eq, cc_I, zL_J41_cardinality_4, zp_gI h2 (k := 1) (v := .ofNat 1) rfl, Option.bind_some, if_pos (by decide), jc_pop h0, Int32.zero_add]
end JCD
