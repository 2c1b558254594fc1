def zz_wB (σ : zz_S) (x : Option Nat) : Bool := match zz_ar σ x 1 with
  | some (true, _) => true
  | _ => false
