/-! ===== THE TWIN's STATE AS A LENS: its object at m, its nine arrays at ma 5 .. ma 13, all over a state σ ===== -/
/-- int fields by number (0..4, 14..19); arrays by field number (5..13) -/
abbrev zt_M : Type := (Nat → Int32) × (Nat → Nat → Int32)
def zt_n : Nat → Nat := fun k => match k with
  | 5 => 407 | 6 => 407 | 7 => 407 | 8 => 3256 | 9 => 60 | 10 => 60 | 11 => 11 | 12 => 59 | _ => 12
def zt_fs (ma : Nat → Nat) (I : Nat → Int32) : List Value := [.int (I 0), .int (I 1), .int (I 2), .int (I 3), .int (I 4), .ref (ma 5), .ref (ma 6), .ref (ma 7), .ref (ma 8), .ref (ma 9), .ref (ma 10), .ref (ma 11), .ref (ma 12), .ref (ma 13), .int (I 14), .int (I 15), .int (I 16), .int (I 17), .int (I 18), .int (I 19)]
def zt_ok (m : Nat) (ma : Nat → Nat) : Prop := (∀ i j, 5 ≤ i → i ≤ 13 → 5 ≤ j → j ≤ 13 → ma i = ma j → i = j) ∧ ∀ i, 5 ≤ i → i ≤ 13 → ma i ≠ m
/-- where an address is the twin's array -/
def zt_ix (ma : Nat → Nat) (q : Nat) : Option Nat := [5, 6, 7, 8, 9, 10, 11, 12, 13].find? fun k => ma k == q
def zt (σ : zz_S) (m : Nat) (ma : Nat → Nat) (M : zt_M) : zz_S := (σ.1, σ.2.1, fun q => if q = m then some (true, .inr (4, zt_fs ma M.1)) else match zt_ix ma q with
  | some k => some (true, .inl (0, (zt_n k, .inl (M.2 k))))
  | none => σ.2.2 q)
def zt_uI (M : zt_M) (k : Nat) (v : Int32) : zt_M := (fun j => if j = k then v else M.1 j, M.2)
def zt_uA (M : zt_M) (k : Nat) (i : Nat) (v : Int32) : zt_M := (M.1, fun j => if j = k then upd (M.2 k) i v else M.2 j)
section ZT2
variable {σ : zz_S} {m : Nat} {ma : Nat → Nat} {M : zt_M}
theorem zt_ix_at (h : zt_ok m ma) {k : Nat} (h1 : 5 ≤ k) (h2 : k ≤ 13) : zt_ix ma (ma k) = some k := by
  unfold zt_ix
  have hk : k ∈ [5, 6, 7, 8, 9, 10, 11, 12, 13] := by
    rcases (by omega : k = 5 ∨ k = 6 ∨ k = 7 ∨ k = 8 ∨ k = 9 ∨ k = 10 ∨ k = 11 ∨ k = 12 ∨ k = 13) with rfl | rfl | rfl | rfl | rfl | rfl | rfl | rfl | rfl <;> decide
  cases hf : [5, 6, 7, 8, 9, 10, 11, 12, 13].find? fun j => ma j == ma k with
  | none => exact absurd (List.find?_eq_none.mp hf k hk) (by simp)
  | some j =>
    have e := List.find?_some hf
    have hj := List.mem_of_find?_eq_some hf
    have hj' : 5 ≤ j ∧ j ≤ 13 := by simp at hj; omega
    exact congrArg some (h.1 j k hj'.1 hj'.2 h1 h2 (by simpa using e))
theorem zt_m : (zt σ m ma M).2.2 m = some (true, .inr (4, zt_fs ma M.1)) := if_pos rfl
theorem zt_a (h : zt_ok m ma) {k : Nat} (h1 : 5 ≤ k) (h2 : k ≤ 13) : (zt σ m ma M).2.2 (ma k) = some (true, .inl (0, (zt_n k, .inl (M.2 k)))) := by
  show (if ma k = m then _ else _) = _
  rw [if_neg (h.2 k h1 h2), zt_ix_at h h1 h2]
theorem zt_gR {k : Nat} (h1 : 5 ≤ k) (h2 : k ≤ 13) : zz_gR (zt σ m ma M) (some m) 4 k = some (some (ma k)) := by
  refine zp_gR (v := some (ma k)) zt_m ?_
  rcases (by omega : k = 5 ∨ k = 6 ∨ k = 7 ∨ k = 8 ∨ k = 9 ∨ k = 10 ∨ k = 11 ∨ k = 12 ∨ k = 13) with rfl | rfl | rfl | rfl | rfl | rfl | rfl | rfl | rfl <;> rfl
theorem zt_gI {k : Nat} (h : k ≤ 4 ∨ (14 ≤ k ∧ k ≤ 19)) : zz_gI (zt σ m ma M) (some m) 4 k = some (M.1 k) := by
  refine zp_gI zt_m ?_
  rcases (by omega : k = 0 ∨ k = 1 ∨ k = 2 ∨ k = 3 ∨ k = 4 ∨ k = 14 ∨ k = 15 ∨ k = 16 ∨ k = 17 ∨ k = 18 ∨ k = 19) with rfl | rfl | rfl | rfl | rfl | rfl | rfl | rfl | rfl | rfl | rfl <;> rfl
theorem zt_ck {K : Nat → zz_R} : zz_ck (zt σ m ma M) (some m) 4 K = K m := zp_ck zt_m
theorem zt_aI (h : zt_ok m ma) {k : Nat} {i : Int32} (h1 : 5 ≤ k) (h2 : k ≤ 13) (hi : zz_inb i (zt_n k) = true) : zz_aI (zt σ m ma M) (some (ma k)) 0 i = some (M.2 k i.toNatClampNeg) := by
  unfold zz_aI zz_ar
  simp [zt_a h h1 h2, hi]
theorem zt_len (h : zt_ok m ma) {k : Nat} (h1 : 5 ≤ k) (h2 : k ≤ 13) : zz_len (zt σ m ma M) (some (ma k)) = some (Int32.ofNat (zt_n k)) := zp_len (zt_a h h1 h2)
theorem zt_pf {k : Nat} {v : Int32} (h : k ≤ 4 ∨ (14 ≤ k ∧ k ≤ 19)) : zz_pf (zt σ m ma M) (some m) 4 20 k (.int v) = some (zt σ m ma (zt_uI M k v)) := by
  rw [zp_pf (N := 20) zt_m rfl]
  refine congrArg some ?_
  unfold zz_set zt
  refine congrArg (fun g => (σ.1, σ.2.1, g)) (funext fun q => ?_)
  unfold zz_up
  by_cases hq : q = m
  · subst hq
    simp only [if_pos]
    rcases (by omega : k = 0 ∨ k = 1 ∨ k = 2 ∨ k = 3 ∨ k = 4 ∨ k = 14 ∨ k = 15 ∨ k = 16 ∨ k = 17 ∨ k = 18 ∨ k = 19) with rfl | rfl | rfl | rfl | rfl | rfl | rfl | rfl | rfl | rfl | rfl <;> rfl
  · simp only [if_neg hq]
    rfl
theorem zt_sI (h : zt_ok m ma) {k : Nat} {i v : Int32} (h1 : 5 ≤ k) (h2 : k ≤ 13) (hi : zz_inb i (zt_n k) = true) : zz_sI (zt σ m ma M) (some (ma k)) 0 .int i v = some (zt σ m ma (zt_uA M k i.toNatClampNeg v)) := by
  unfold zz_sI zz_ar
  simp only [zt_a h h1 h2, if_true, hi]
  refine congrArg some ?_
  unfold zz_set zt zz_ad
  refine congrArg (fun g => (σ.1, σ.2.1, g)) (funext fun q => ?_)
  simp only [zz_up, Option.getD_some]
  by_cases hq : q = ma k
  · subst hq
    rw [if_pos rfl, if_neg (h.2 k h1 h2), zt_ix_at h h1 h2]
    simp only [zt_uA, if_true]
    rfl
  · rw [if_neg hq]
    by_cases hm : q = m
    · rw [if_pos hm, if_pos hm]; rfl
    · rw [if_neg hm, if_neg hm]
      cases hx : zt_ix ma q with
      | none => rfl
      | some j =>
        have hj : ma j = q := by
          have := List.find?_some hx
          simpa using this
        have hjk : j ≠ k := fun e => hq (by rw [← hj, e])
        simp only [zt_uA, if_neg hjk]
end ZT2
