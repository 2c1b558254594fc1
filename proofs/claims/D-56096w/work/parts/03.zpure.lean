/-! ===== THE PURE WORLD: a ghost heap, its operations, the combinators of the printed functions f.. ===== -/
/-- a cell: an array (kind, length and contents), or an object (class number, fields) -/
abbrev zz_E : Type := (Nat × vp_A) ⊕ (Nat × List Value)
/-- (next address, slots used), (limits of both), the cells (true: may be written) -/
abbrev zz_S : Type := (Nat × Nat) × (Nat × Nat) × (Nat → Option (Bool × zz_E))
/-- returned (a value or nothing), or thrown (class number, address) -/
abbrev zz_O : Type := Option Value ⊕ (Nat × Nat)
abbrev zz_R : Type := Option (zz_O × zz_S)
/-- constants: addresses of statics, strings, single lambdas; the loops' fuel -/
abbrev zz_C : Type := (Nat → Option Nat) × Nat
def zz_up (G : Nat → Option (Bool × zz_E)) (a : Nat) (e : zz_E) : Nat → Option (Bool × zz_E) := fun q => if q = a then some (true, e) else G q
def zz_set (σ : zz_S) (a : Nat) (e : zz_E) : zz_S := (σ.1, σ.2.1, zz_up σ.2.2 a e)
def zz_al (σ : zz_S) (e : zz_E) (sz : Nat) (K : Nat → zz_S → zz_R) : zz_R :=
  if σ.1.1 < σ.2.1.1 ∧ σ.1.2 + sz ≤ σ.2.1.2 then K σ.1.1 ((σ.1.1 + 1, σ.1.2 + sz), σ.2.1, zz_up σ.2.2 σ.1.1 e) else none
/-! objects -/
def zz_ob (σ : zz_S) (x : Option Nat) (c : Nat) : Option (List Value) := match x with
  | some a => (match σ.2.2 a with
    | some (_, .inr (c', fs)) => if c' = c then some fs else none
    | _ => none)
  | none => none
def zz_vI (v : Option Value) : Option Int32 := match v with | some (.int i) => some i | _ => none
def zz_vJ (v : Option Value) : Option Int64 := match v with | some (.long i) => some i | _ => none
def zz_vR (v : Option Value) : Option (Option Nat) := match v with | some (.ref a) => some (some a) | some .null => some none | _ => none
def zz_gI (σ : zz_S) (x : Option Nat) (c k : Nat) : Option Int32 := (zz_ob σ x c).bind fun fs => zz_vI fs[k]?
def zz_gJ (σ : zz_S) (x : Option Nat) (c k : Nat) : Option Int64 := (zz_ob σ x c).bind fun fs => zz_vJ fs[k]?
def zz_gR (σ : zz_S) (x : Option Nat) (c k : Nat) : Option (Option Nat) := (zz_ob σ x c).bind fun fs => zz_vR fs[k]?
/-- a field is written -/
def zz_pf (σ : zz_S) (x : Option Nat) (c N k : Nat) (v : Value) : Option zz_S := match x with
  | some a => (match σ.2.2 a with
    | some (true, .inr (c', fs)) => if c' = c ∧ fs.length = N then some (zz_set σ a (.inr (c, fs.set k v))) else none
    | _ => none)
  | none => none
/-- .. of a small type: the value fits -/
def zz_fit (ty : FieldType) (v : Int32) : Bool := fits ty (.int v) && (vp_nar ty v == v)
def zz_pfN (σ : zz_S) (x : Option Nat) (c N k : Nat) (ty : FieldType) (v : Int32) : Option zz_S := if zz_fit ty v = true then zz_pf σ x c N k (.int v) else none
/-- the class number of an object -/
def zz_cl (σ : zz_S) (x : Option Nat) : Option Nat := match x with
  | some a => (match σ.2.2 a with
    | some (_, .inr (c, _)) => some c
    | _ => none)
  | none => none
/-! arrays; kinds: 0 int, 1 byte, 2 boolean, 3 long, 4 double, 5 Object, 6 Finder, 7 Adder, 8 String, 9 Integer -/
def zz_ar (σ : zz_S) (x : Option Nat) (kd : Nat) : Option (Bool × vp_A) := match x with
  | some a => (match σ.2.2 a with
    | some (w, .inl (kd', v)) => if kd' = kd then some (w, v) else none
    | _ => none)
  | none => none
def zz_len (σ : zz_S) (x : Option Nat) : Option Int32 := match x with
  | some a => (match σ.2.2 a with
    | some (_, .inl (_, v)) => some (Int32.ofNat v.1)
    | _ => none)
  | none => none
def zz_in (i : Int32) (n : Nat) : Prop := ¬ i < 0 ∧ i.toNatClampNeg < n
def zz_inb (i : Int32) (n : Nat) : Bool := decide (¬ i < 0) && decide (i.toNatClampNeg < n)
def zz_aI (σ : zz_S) (x : Option Nat) (kd : Nat) (i : Int32) : Option Int32 := match zz_ar σ x kd with
  | some (_, (n, .inl f)) => if zz_inb i n = true then some (f i.toNatClampNeg) else none
  | _ => none
def zz_aJ (σ : zz_S) (x : Option Nat) (kd : Nat) (i : Int32) : Option Int64 := match zz_ar σ x kd with
  | some (_, (n, .inr (.inl f))) => if zz_inb i n = true then some (f i.toNatClampNeg) else none
  | _ => none
def zz_aD (σ : zz_S) (x : Option Nat) (kd : Nat) (i : Int32) : Option UInt64 := match zz_ar σ x kd with
  | some (_, (n, .inr (.inr (.inr (.inl f))))) => if zz_inb i n = true then some (f i.toNatClampNeg) else none
  | _ => none
def zz_aR (σ : zz_S) (x : Option Nat) (kd : Nat) (i : Int32) : Option (Option Nat) := match zz_ar σ x kd with
  | some (_, (n, .inr (.inr (.inr (.inr f))))) => if zz_inb i n = true then some (f i.toNatClampNeg) else none
  | _ => none
def zz_ad (x : Option Nat) : Nat := x.getD 0
def zz_sI (σ : zz_S) (x : Option Nat) (kd : Nat) (ty : FieldType) (i v : Int32) : Option zz_S := match zz_ar σ x kd with
  | some (true, (n, .inl f)) => if zz_inb i n = true then some (zz_set σ (zz_ad x) (.inl (kd, (n, .inl (upd f i.toNatClampNeg (vp_nar ty v)))))) else none
  | _ => none
def zz_sJ (σ : zz_S) (x : Option Nat) (kd : Nat) (i : Int32) (v : Int64) : Option zz_S := match zz_ar σ x kd with
  | some (true, (n, .inr (.inl f))) => if zz_inb i n = true then some (zz_set σ (zz_ad x) (.inl (kd, (n, .inr (.inl (vp_updL f i.toNatClampNeg v)))))) else none
  | _ => none
def zz_sD (σ : zz_S) (x : Option Nat) (kd : Nat) (i : Int32) (v : UInt64) : Option zz_S := match zz_ar σ x kd with
  | some (true, (n, .inr (.inr (.inr (.inl f))))) => if zz_inb i n = true then some (zz_set σ (zz_ad x) (.inl (kd, (n, .inr (.inr (.inr (.inl (va_up f i.toNatClampNeg v)))))))) else none
  | _ => none
def zz_sR (σ : zz_S) (x : Option Nat) (kd : Nat) (i : Int32) (v : Option Nat) : Option zz_S := match zz_ar σ x kd with
  | some (true, (n, .inr (.inr (.inr (.inr f))))) => if zz_inb i n = true then some (zz_set σ (zz_ad x) (.inl (kd, (n, .inr (.inr (.inr (.inr (va_up f i.toNatClampNeg v)))))))) else none
  | _ => none
/-- a new array of a kind, all zero -/
def zz_z (kd : Nat) (n : Nat) : zz_E := .inl (kd, (n, if kd ≤ 2 then .inl (fun _ => 0) else if kd = 3 then .inr (.inl (fun _ => 0)) else if kd = 4 then .inr (.inr (.inr (.inl (fun _ => 0)))) else .inr (.inr (.inr (.inr (fun _ => none))))))
def zz_na (σ : zz_S) (kd : Nat) (n : Int32) (K : Nat → zz_S → zz_R) : zz_R :=
  if ¬ n < 0 ∧ n.toNatClampNeg ≤ 100000 then zz_al σ (zz_z kd n.toNatClampNeg) n.toNatClampNeg K else none
/-- bytes are copied (System.arraycopy of two byte arrays) -/
def zz_cpB (σ : zz_S) (x : Option Nat) (i : Int32) (y : Option Nat) (j n : Int32) : Option zz_S := match zz_ar σ x 1, zz_ar σ y 1 with
  | some (_, (nx, .inl f)), some (true, (ny, .inl g)) =>
    if ¬ i < 0 ∧ ¬ j < 0 ∧ ¬ n < 0 ∧ i.toNatClampNeg + n.toNatClampNeg ≤ nx ∧ j.toNatClampNeg + n.toNatClampNeg ≤ ny then
      some (zz_set σ (zz_ad y) (.inl (1, (ny, .inl (va_cpy f g i.toNatClampNeg j.toNatClampNeg n.toNatClampNeg))))) else none
  | _, _ => none
/-- a byte array's clone -/
def zz_clB (σ : zz_S) (x : Option Nat) (K : Nat → zz_S → zz_R) : zz_R := match zz_ar σ x 1 with
  | some (true, v) => zz_al σ (.inl (1, v)) v.1 K
  | _ => none
/-! what a call gives on: its value and state, or what it threw -/
def zz_cV (F : zz_R) (K : zz_S → zz_R) (X : Nat × Nat → zz_S → zz_R) : zz_R := match F with
  | some (.inl none, σ) => K σ
  | some (.inr q, σ) => X q σ
  | _ => none
def zz_cI (F : zz_R) (K : Int32 → zz_S → zz_R) (X : Nat × Nat → zz_S → zz_R) : zz_R := match F with
  | some (.inl (some (.int v)), σ) => K v σ
  | some (.inr q, σ) => X q σ
  | _ => none
def zz_cJ (F : zz_R) (K : Int64 → zz_S → zz_R) (X : Nat × Nat → zz_S → zz_R) : zz_R := match F with
  | some (.inl (some (.long v)), σ) => K v σ
  | some (.inr q, σ) => X q σ
  | _ => none
def zz_cF (F : zz_R) (K : UInt32 → zz_S → zz_R) (X : Nat × Nat → zz_S → zz_R) : zz_R := match F with
  | some (.inl (some (.float v)), σ) => K v σ
  | some (.inr q, σ) => X q σ
  | _ => none
def zz_cD (F : zz_R) (K : UInt64 → zz_S → zz_R) (X : Nat × Nat → zz_S → zz_R) : zz_R := match F with
  | some (.inl (some (.double v)), σ) => K v σ
  | some (.inr q, σ) => X q σ
  | _ => none
def zz_cR (F : zz_R) (K : Option Nat → zz_S → zz_R) (X : Nat × Nat → zz_S → zz_R) : zz_R := match F with
  | some (.inl (some (.ref a)), σ) => K (some a) σ
  | some (.inl (some .null), σ) => K none σ
  | some (.inr q, σ) => X q σ
  | _ => none
/-- not caught here -/
def zz_P : Nat × Nat → zz_S → zz_R := fun q σ => some (.inr q, σ)
/-- throw x -/
def zz_th (σ : zz_S) (x : Option Nat) (X : Nat × Nat → zz_S → zz_R) : zz_R := match x with
  | some a => (match σ.2.2 a with
    | some (true, .inr (c, _)) => X (c, a) σ
    | _ => none)
  | none => none
def zz_rV (σ : zz_S) : zz_R := some (.inl none, σ)
def zz_rI (v : Int32) (σ : zz_S) : zz_R := some (.inl (some (.int v)), σ)
def zz_rJ (v : Int64) (σ : zz_S) : zz_R := some (.inl (some (.long v)), σ)
def zz_rF (v : UInt32) (σ : zz_S) : zz_R := some (.inl (some (.float v)), σ)
def zz_rD (v : UInt64) (σ : zz_S) : zz_R := some (.inl (some (.double v)), σ)
def zz_rR (x : Option Nat) (σ : zz_S) : zz_R := some (.inl (some (va_rf x)), σ)
/-- an answer of a small type -/
def zz_rN (ty : FieldType) (v : Int32) (σ : zz_S) : zz_R := if (vp_nar ty v == v) = true then zz_rI v σ else none
def zz_nul (x : Option Nat) (A : zz_R) (B : Nat → zz_R) : zz_R := match x with | none => A | some a => B a
def zz_n32 (r : UInt32) : Bool := decide (r &&& 0x7fffffff ≤ 0x7f800000)
def zz_n64 (r : UInt64) : Bool := decide (r &&& 0x7fffffffffffffff ≤ 0x7ff0000000000000)
/-- null, or an object of one of these classes -/
def zz_ok (σ : zz_S) (v : Option Nat) (cs : List Nat) : Bool := match v with
  | none => true
  | some a => (match zz_cl σ (some a) with
    | some c => cs.contains c
    | none => false)
def zz_is (σ : zz_S) (v : Option Nat) (ys ns : List Nat) : Option Int32 := match v with
  | none => some 0
  | some a => (match zz_cl σ (some a) with
    | some c => if ys.contains c = true then some 1 else if ns.contains c = true then some 0 else none
    | none => none)
/-- the receiver is an object of class c -/
def zz_ck (σ : zz_S) (x : Option Nat) (c : Nat) (K : Nat → zz_R) : zz_R := match x with
  | some a => if zz_cl σ (some a) = some c then K a else none
  | none => none
/-- the receiver is an object; its class number -/
def zz_dp (σ : zz_S) (x : Option Nat) (K : Nat → Nat → zz_R) : zz_R := match x with
  | some a => (match zz_cl σ (some a) with
    | some c => K a c
    | none => none)
  | none => none
