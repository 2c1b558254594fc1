/-! ===== NUMBERS, AND THE ABSTRACT ASSEMBLY ===== -/
theorem tw_nat {a : Nat} (h : a < 2 ^ 31) : (Int32.ofNat a).toNatClampNeg = a := Int32.toNatClampNeg_ofNat_of_lt h
theorem tw_inb {a n : Nat} (h : a < n) (hn : n ≤ 100000) : zz_inb (Int32.ofNat a) n = true := by
  unfold zz_inb
  rw [tw_nat (by omega)]
  simp only [h, decide_true, Bool.and_true, decide_eq_true_eq, Bool.and_eq_true, and_true]
  have h0 : (0 : Int32) = Int32.ofNat 0 := rfl
  rw [h0, Int32.ofNat_lt_iff_lt (by omega) (by omega)]
  omega
theorem ci_lt {a b : Nat} (ha : a < 2 ^ 31) (hb : b < 2 ^ 31) : (Int32.ofNat a < Int32.ofNat b) ↔ a < b := Int32.ofNat_lt_iff_lt ha hb
theorem ci_le {a b : Nat} (ha : a < 2 ^ 31) (hb : b < 2 ^ 31) : (Int32.ofNat a ≤ Int32.ofNat b) ↔ a ≤ b := Int32.ofNat_le_iff_le ha hb
theorem ci_eq {a b : Nat} (ha : a < 2 ^ 31) (hb : b < 2 ^ 31) : (Int32.ofNat a = Int32.ofNat b) ↔ a = b := by
  constructor
  · intro h
    rcases Nat.lt_trichotomy a b with h1 | h1 | h1
    · have h2 := (ci_lt ha hb).mpr h1
      rw [h] at h2
      exact (Int32.lt_irrefl h2).elim
    · exact h1
    · have h2 := (ci_lt hb ha).mpr h1
      rw [h] at h2
      exact (Int32.lt_irrefl h2).elim
  · intro h; rw [h]
theorem ci_add (a b : Nat) : Int32.ofNat a + Int32.ofNat b = Int32.ofNat (a + b) := (Int32.ofNat_add a b).symm
theorem ci_succ (a : Nat) : Int32.ofNat a + 1 = Int32.ofNat (a + 1) := (Int32.ofNat_add a 1).symm
theorem ci_mul (a b : Nat) : Int32.ofNat a * Int32.ofNat b = Int32.ofNat (a * b) := (Int32.ofNat_mul a b).symm
theorem ci_sub {a b : Nat} (h : b ≤ a) : Int32.ofNat a - Int32.ofNat b = Int32.ofNat (a - b) := by
  have e : Int32.ofNat (a - b) + Int32.ofNat b = Int32.ofNat a := by rw [ci_add, Nat.sub_add_cancel h]
  rw [← e]
  simp
theorem ci_int {a : Nat} (h : a < 2 ^ 31) : (Int32.ofNat a).toInt = a := Int32.toInt_ofNat_of_lt h
/-- a number that isn't negative is a natural number's -/
theorem ci_ex {x : Int32} (h : ¬ x < 0) : ∃ k, k < 2 ^ 31 ∧ x = Int32.ofNat k := by
  have h0 : 0 ≤ x.toInt := by
    rw [Int32.lt_iff_toInt_lt] at h
    have : (0 : Int32).toInt = 0 := rfl
    omega
  have h1 : x.toInt < 2 ^ 31 := Int32.toInt_lt x
  refine ⟨x.toInt.toNat, by omega, ?_⟩
  apply Int32.toInt.inj
  rw [ci_int (by omega)]
  omega
/-- x as a number of lo .. n - 1 -/
def pd (x : Int32) (lo n : Nat) : Option Nat := if x < 0 then none else if x.toNatClampNeg < lo then none else if x.toNatClampNeg < n then some x.toNatClampNeg else none
theorem pd_some {x : Int32} {lo n k : Nat} (h : pd x lo n = some k) : lo ≤ k ∧ k < n ∧ x = Int32.ofNat k := by
  unfold pd at h
  split at h
  · cases h
  · next h0 =>
    obtain ⟨j, hj, rfl⟩ := ci_ex h0
    rw [tw_nat hj] at h
    split at h
    · cases h
    · split at h
      · cases h
        exact ⟨by omega, by omega, rfl⟩
      · cases h
theorem pd_none {x : Int32} {lo n : Nat} (hl : lo < 2 ^ 31) (hn : n < 2 ^ 31) (h : pd x lo n = none) : x < Int32.ofNat lo ∨ (Int32.ofNat n - 1) < x := by
  unfold pd at h
  by_cases h0 : x < 0
  · left
    rw [Int32.lt_iff_toInt_lt] at h0 ⊢
    rw [ci_int hl]
    have : (0 : Int32).toInt = 0 := rfl
    omega
  · rw [if_neg h0] at h
    obtain ⟨j, hj, rfl⟩ := ci_ex h0
    rw [tw_nat hj] at h
    by_cases h1 : j < lo
    · left; exact (ci_lt hj hl).mpr h1
    · right
      rw [if_neg h1] at h
      have h2 : ¬ j < n := fun h2 => by rw [if_pos h2] at h; cases h
      cases n with
      | zero =>
        rw [show Int32.ofNat 0 - 1 = (-1 : Int32) from rfl, Int32.lt_iff_toInt_lt, ci_int hj]
        have : (-1 : Int32).toInt = -1 := rfl
        omega
      | succ n =>
        rw [show (1 : Int32) = Int32.ofNat 1 from rfl, ci_sub (by omega), ci_lt (by omega) hj]
        omega
theorem pd_in {lo n k : Nat} (hn : n < 2 ^ 31) (hl : lo ≤ k) (hk : k < n) : ¬ (Int32.ofNat k < Int32.ofNat lo) ∧ ¬ ((Int32.ofNat n - 1) < Int32.ofNat k) := by
  constructor
  · rw [ci_lt (by omega) (by omega)]; omega
  · rw [show (1 : Int32) = Int32.ofNat 1 from rfl, ci_sub (by omega), ci_lt (by omega) (by omega)]; omega
/-! the abstract assembly: frogs (pond, weight, seat: 0 water, p + 1 pad p; speeches), room of the pads, motions ((ponds, closed, state, backers, tickets, talks), list of (frog, ticket), croaks (frog, loudness, side)), spoken, missed -/
abbrev pa_F : Type := Nat × Nat × Nat × Nat
abbrev pa_R : Type := Nat × Nat
abbrev pa_K : Type := Nat × Nat × Nat
abbrev pa_Mo : Type := (Nat × Nat × Nat × Nat × Nat × Nat) × List pa_R × List pa_K
abbrev pa_A : Type := List pa_F × List Nat × List pa_Mo × Nat × Nat
/-- value and new assembly, or the place of the failing check -/
abbrev pa_O : Type := (Nat × pa_A) ⊕ Nat
def pa_frog (A : pa_A) (f : Nat) : pa_F := A.1[f]?.getD (0, 1, 0, 0)
def pa_mot (A : pa_A) (m : Nat) : pa_Mo := A.2.2.1[m]?.getD ((1, 0, 0, 0, 0, 0), [], [])
/-- a motion is changed -/
def pa_setM (A : pa_A) (m : Nat) (x : pa_Mo) : pa_A := (A.1, A.2.1, A.2.2.1.set m x, A.2.2.2)
def pa_setF (A : pa_A) (f : Nat) (x : pa_F) : pa_A := (A.1.set f x, A.2)
def pa_on (A : pa_A) (p : Nat) : Nat := (A.1.map fun x => if x.2.2.1 = p + 1 then 1 else 0).sum
def pa_for (x : pa_Mo) (f : pa_F) : Bool := x.1.1.testBit f.1
def pa_shut (x : pa_Mo) : Bool := decide (x.1.2.2.1 ≠ 0) || decide (x.1.2.1 = 1)
def pa_due (x : pa_Mo) : Bool := decide (x.1.2.2.1 = 0) && decide (x.1.2.1 = 1) && x.2.1.isEmpty
def pa_place (L : List pa_R) (f : Nat) : Option Nat := L.findIdx? fun r => r.1 == f
/-- the speeches of those on a list -/
def pa_sk (A : pa_A) (L : List pa_R) : List Nat := L.map fun r => (pa_frog A r.1).2.2.2
/-- place j is called ahead of place k -/
def pa_lt (S : List Nat) (j k : Nat) : Bool := decide (S[j]?.getD 0 < S[k]?.getD 0) || (decide (S[j]?.getD 0 = S[k]?.getD 0) && decide (j < k))
def pa_ahead (S : List Nat) (k : Nat) : Nat := ((List.range S.length).map fun j => if pa_lt S j k then 1 else 0).sum
def pa_ranked (S : List Nat) (r : Nat) : Option Nat := (List.range S.length).find? fun k => pa_ahead S k == r
def pa_backing (A : pa_A) (x : pa_Mo) : Nat := ((List.range A.1.length).map fun f => if x.1.2.2.2.1.testBit f then (pa_frog A f).2.1 else 0).sum
def pa_entitled (A : pa_A) (x : pa_Mo) : Nat := (A.1.map fun f => if pa_for x f then f.2.1 else 0).sum
def pa_strength (A : pa_A) (k : pa_K) : Nat := k.2.1 * (pa_frog A k.1).2.1
def pa_sum (A : pa_A) (K : List pa_K) (side : Nat) : Nat := (K.map fun k => if k.2.2 = side then pa_strength A k else 0).sum
def pa_croaked (K : List pa_K) (f : Nat) : Bool := K.any fun k => k.1 == f
/-! the operations -/
def pa_addFrog (pond weight : Int32) (A : pa_A) : pa_O :=
  match pd pond 0 4 with
  | none => .inr 1
  | some p => match pd weight 1 10 with
    | none => .inr 2
    | some w => if A.1.length = 12 then .inr 3 else .inl (A.1.length, (A.1 ++ [(p, w, 0, 0)], A.2))
def pa_addPad (capacity : Int32) (A : pa_A) : pa_O :=
  match pd capacity 1 5 with
  | none => .inr 1
  | some c => if A.2.1.length = 6 then .inr 2 else .inl (A.2.1.length, (A.1, A.2.1 ++ [c], A.2.2))
def pa_hop (frog pad : Int32) (A : pa_A) : pa_O :=
  match pd frog 0 A.1.length with
  | none => .inr 1
  | some f => match pd pad 0 A.2.1.length with
    | none => .inr 1
    | some p =>
      if (pa_frog A f).2.2.1 = p + 1 ∨ pa_on A p = A.2.1[p]?.getD 0 then .inr 2 else
      let A' := pa_setF A f ((pa_frog A f).1, (pa_frog A f).2.1, p + 1, (pa_frog A f).2.2.2)
      .inl (pa_on A' p, A')
def pa_dive (frog : Int32) (A : pa_A) : pa_O :=
  match pd frog 0 A.1.length with
  | none => .inr 1
  | some f =>
    if (pa_frog A f).2.2.1 = 0 then .inr 2 else
    .inl ((pa_frog A f).2.2.1 - 1, pa_setF A f ((pa_frog A f).1, (pa_frog A f).2.1, 0, (pa_frog A f).2.2.2))
def pa_addMotion (ponds : Int32) (A : pa_A) : pa_O :=
  match pd ponds 1 16 with
  | none => .inr 1
  | some p => if A.2.2.1.length = 6 then .inr 2 else .inl (A.2.2.1.length, (A.1, A.2.1, A.2.2.1 ++ [((p, 0, 0, 0, 0, 0), [], [])], A.2.2.2))
/-- a motion and a frog that are there -/
def pa_both (motion frog : Int32) (A : pa_A) (K : Nat → Nat → pa_O) : pa_O :=
  match pd motion 0 A.2.2.1.length with
  | none => .inr 1
  | some m => match pd frog 0 A.1.length with
    | none => .inr 1
    | some f => K m f
def pa_signUp (motion frog : Int32) (A : pa_A) : pa_O := pa_both motion frog A fun m f =>
  let x := pa_mot A m
  if pa_for x (pa_frog A f) = false then .inr 2 else
  if pa_shut x = true then .inr 3 else
  if (pa_place x.2.1 f).isSome = true then .inr 4 else
  .inl (x.2.1.length + 1, pa_setM A m ((x.1.1, x.1.2.1, x.1.2.2.1, x.1.2.2.2.1, x.1.2.2.2.2.1 + 1, x.1.2.2.2.2.2), x.2.1 ++ [(f, x.1.2.2.2.2.1)], x.2.2))
def pa_strike (motion frog : Int32) (A : pa_A) : pa_O := pa_both motion frog A fun m f =>
  let x := pa_mot A m
  match pa_place x.2.1 f with
  | none => .inr 2
  | some k => .inl (x.2.1.length - 1, pa_setM A m (x.1, x.2.1.eraseIdx k, x.2.2))
def pa_call (motion : Int32) (A : pa_A) : pa_O :=
  match pd motion 0 A.2.2.1.length with
  | none => .inr 1
  | some m =>
    let x := pa_mot A m
    match pa_ranked (pa_sk A x.2.1) 0 with
    | none => .inr 2
    | some k =>
      let f := (x.2.1[k]?.getD (0, 0)).1
      let y := pa_frog A f
      if y.2.2.1 = 0 then .inl (0, (A.1, A.2.1, A.2.2.1.set m (x.1, x.2.1.eraseIdx k, x.2.2), A.2.2.2.1, A.2.2.2.2 + 1)) else
      .inl (1, (A.1.set f (y.1, y.2.1, y.2.2.1, y.2.2.2 + 1), A.2.1, A.2.2.1.set m ((x.1.1, x.1.2.1, x.1.2.2.1, x.1.2.2.2.1, x.1.2.2.2.2.1, x.1.2.2.2.2.2 + 1), x.2.1.eraseIdx k, x.2.2), A.2.2.2.1 + 1, A.2.2.2.2))
def pa_back (motion frog : Int32) (A : pa_A) : pa_O := pa_both motion frog A fun m f =>
  let x := pa_mot A m
  if pa_for x (pa_frog A f) = false then .inr 2 else
  if pa_shut x = true then .inr 3 else
  if (pa_frog A f).2.2.1 = 0 then .inr 4 else
  let b := x.1.2.2.2.1 ||| 2 ^ f
  let y : pa_Mo := ((x.1.1, x.1.2.1, x.1.2.2.1, b, x.1.2.2.2.2), x.2)
  let c := if 2 * pa_backing A y > pa_entitled A y then 1 else 0
  .inl (c, pa_setM A m ((x.1.1, c, x.1.2.2.1, b, x.1.2.2.2.2), x.2))
def pa_croak (motion frog loudness : Int32) (side : Nat) (A : pa_A) : pa_O := pa_both motion frog A fun m f =>
  let x := pa_mot A m
  match pd loudness 1 10 with
  | none => .inr 2
  | some l =>
    if pa_for x (pa_frog A f) = false then .inr 2 else
    if pa_due x = false then .inr 3 else
    if (pa_frog A f).2.2.1 = 0 ∨ pa_croaked x.2.2 f = true then .inr 4 else
    let K := x.2.2 ++ [(f, l, side)]
    .inl (pa_sum A K side, pa_setM A m (x.1, x.2.1, K))
def pa_decide (motion : Int32) (A : pa_A) : pa_O :=
  match pd motion 0 A.2.2.1.length with
  | none => .inr 1
  | some m =>
    let x := pa_mot A m
    if pa_due x = false then .inr 2 else
    let c := if pa_sum A x.2.2 1 > pa_sum A x.2.2 0 then 1 else 0
    .inl (c, pa_setM A m ((x.1.1, x.1.2.1, 2 - c, x.1.2.2.2), x.2))
/-! what is kept of every assembly that has seen at most c calls -/
def pa_okF (A : pa_A) (c : Nat) (x : pa_F) : Prop := x.1 < 4 ∧ 1 ≤ x.2.1 ∧ x.2.1 < 10 ∧ x.2.2.1 ≤ A.2.1.length ∧ x.2.2.2 ≤ c
def pa_okM (A : pa_A) (c : Nat) (x : pa_Mo) : Prop :=
  1 ≤ x.1.1 ∧ x.1.1 < 16 ∧ x.1.2.1 ≤ 1 ∧ x.1.2.2.1 ≤ 2 ∧ x.1.2.2.2.1 < 2 ^ A.1.length ∧ x.1.2.2.2.2.1 ≤ c ∧ x.1.2.2.2.2.2 ≤ c ∧
  (∀ r, r ∈ x.2.1 → r.1 < A.1.length ∧ r.2 < x.1.2.2.2.2.1) ∧ (x.2.1.map (·.1)).Nodup ∧ x.2.1.Pairwise (fun r s => r.2 < s.2) ∧
  (∀ k, k ∈ x.2.2 → k.1 < A.1.length ∧ 1 ≤ k.2.1 ∧ k.2.1 < 10 ∧ k.2.2 ≤ 1) ∧ (x.2.2.map (·.1)).Nodup
/-- frogs, motions and requests: at most one more by a call -/
def pa_phi (A : pa_A) : Nat := A.1.length + A.2.2.1.length + (A.2.2.1.map fun x => x.2.1.length).sum
def pa_ok (A : pa_A) (c : Nat) : Prop :=
  A.1.length ≤ 12 ∧ A.2.1.length ≤ 6 ∧ A.2.2.1.length ≤ 6 ∧ (∀ x, x ∈ A.1 → pa_okF A c x) ∧ (∀ r, r ∈ A.2.1 → 1 ≤ r ∧ r < 5) ∧ (∀ x, x ∈ A.2.2.1 → pa_okM A c x) ∧
  (∀ p, pa_on A p ≤ A.2.1[p]?.getD 0) ∧ A.2.2.2.1 ≤ c ∧ A.2.2.2.2 ≤ c ∧ A.2.2.2.1 = (A.2.2.1.map fun x => x.1.2.2.2.2.2).sum ∧ pa_phi A ≤ c
