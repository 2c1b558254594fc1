/-! ===== MIRRORS: the twin's methods as functions of its state alone ===== -/
abbrev zg_R : Type := Option (Option Value × zt_M)
def zg_lift (σ : zz_S) (m : Nat) (ma : Nat → Nat) (r : zg_R) : zz_R := r.map fun q => (.inl q.1, zt σ m ma q.2)
def zg_aI (M : zt_M) (k : Nat) (i : Int32) : Option Int32 := if zz_inb i (zt_n k) = true then some (M.2 k i.toNatClampNeg) else none
def zg_sI (M : zt_M) (k : Nat) (i v : Int32) : Option zt_M := if zz_inb i (zt_n k) = true then some (zt_uA M k i.toNatClampNeg v) else none
def zg_pfN (M : zt_M) (k : Nat) (v : Int32) : Option zt_M := if zz_fit .boolean v = true then some (zt_uI M k v) else none
def zg_cI (F : zg_R) (K : Int32 → zt_M → zg_R) : zg_R := match F with
  | some (some (.int v), M) => K v M
  | _ => none
def zg_cV (F : zg_R) (K : zt_M → zg_R) : zg_R := match F with
  | some (none, M) => K M
  | _ => none
def zg_rV (M : zt_M) : zg_R := some (none, M)
def zg_rI (v : Int32) (M : zt_M) : zg_R := some (some (.int v), M)
def zg_rF (v : UInt32) (M : zt_M) : zg_R := some (some (.float v), M)
def zg_rD (v : UInt64) (M : zt_M) : zg_R := some (some (.double v), M)
def zg_rN (ty : FieldType) (v : Int32) (M : zt_M) : zg_R := if (vp_nar ty v == v) = true then zg_rI v M else none
section ZG
variable {σ : zz_S} {m : Nat} {ma : Nat → Nat} {M : zt_M}
theorem gl_none : (none : zz_R) = zg_lift σ m ma none := rfl
theorem gl_rV : zz_rV (zt σ m ma M) = zg_lift σ m ma (zg_rV M) := rfl
theorem gl_rI {v : Int32} : zz_rI v (zt σ m ma M) = zg_lift σ m ma (zg_rI v M) := rfl
theorem gl_rF {v : UInt32} : zz_rF v (zt σ m ma M) = zg_lift σ m ma (zg_rF v M) := rfl
theorem gl_rD {v : UInt64} : zz_rD v (zt σ m ma M) = zg_lift σ m ma (zg_rD v M) := rfl
theorem gl_rN {ty : FieldType} {v : Int32} : zz_rN ty v (zt σ m ma M) = zg_lift σ m ma (zg_rN ty v M) := by
  unfold zz_rN zg_rN
  split <;> rfl
theorem gl_ite {c : Prop} [Decidable c] {A B : zz_R} {A' B' : zg_R} (ha : A = zg_lift σ m ma A') (hb : B = zg_lift σ m ma B') : (if c then A else B) = zg_lift σ m ma (if c then A' else B') := by
  split <;> assumption
theorem gl_gI {k : Nat} {K : Int32 → zz_R} {K' : zg_R} (h : k ≤ 4 ∨ (14 ≤ k ∧ k ≤ 19)) (hk : K (M.1 k) = zg_lift σ m ma K') : (zz_gI (zt σ m ma M) (some m) 4 k).bind K = zg_lift σ m ma K' := by
  rw [zt_gI h]; exact hk
theorem gl_gR {k : Nat} {K : Option Nat → zz_R} {K' : zg_R} (h1 : 5 ≤ k) (h2 : k ≤ 13) (hk : K (some (ma k)) = zg_lift σ m ma K') : (zz_gR (zt σ m ma M) (some m) 4 k).bind K = zg_lift σ m ma K' := by
  rw [zt_gR h1 h2]; exact hk
theorem gl_aI (h : zt_ok m ma) {k : Nat} {i : Int32} {K : Int32 → zz_R} {K' : Int32 → zg_R} (h1 : 5 ≤ k) (h2 : k ≤ 13) (hk : ∀ v, K v = zg_lift σ m ma (K' v)) : (zz_aI (zt σ m ma M) (some (ma k)) 0 i).bind K = zg_lift σ m ma ((zg_aI M k i).bind K') := by
  unfold zg_aI
  by_cases hi : zz_inb i (zt_n k) = true
  · rw [zt_aI h h1 h2 hi, if_pos hi]; exact hk _
  · rw [if_neg hi]
    have : zz_aI (zt σ m ma M) (some (ma k)) 0 i = none := by
      unfold zz_aI zz_ar
      simp [zt_a h h1 h2, hi]
    rw [this]; rfl
theorem gl_sI (h : zt_ok m ma) {k : Nat} {i v : Int32} {K : zz_S → zz_R} {K' : zt_M → zg_R} (h1 : 5 ≤ k) (h2 : k ≤ 13) (hk : ∀ M, K (zt σ m ma M) = zg_lift σ m ma (K' M)) : (zz_sI (zt σ m ma M) (some (ma k)) 0 .int i v).bind K = zg_lift σ m ma ((zg_sI M k i v).bind K') := by
  unfold zg_sI
  by_cases hi : zz_inb i (zt_n k) = true
  · rw [zt_sI h h1 h2 hi, if_pos hi]; exact hk _
  · rw [if_neg hi]
    have : zz_sI (zt σ m ma M) (some (ma k)) 0 .int i v = none := by
      unfold zz_sI zz_ar
      simp [zt_a h h1 h2, hi]
    rw [this]; rfl
theorem gl_pf {k : Nat} {v : Int32} {K : zz_S → zz_R} {K' : zg_R} (h : k ≤ 4 ∨ (14 ≤ k ∧ k ≤ 19)) (hk : K (zt σ m ma (zt_uI M k v)) = zg_lift σ m ma K') : (zz_pf (zt σ m ma M) (some m) 4 20 k (.int v)).bind K = zg_lift σ m ma K' := by
  rw [zt_pf h]; exact hk
theorem gl_pfN {k : Nat} {v : Int32} {K : zz_S → zz_R} {K' : zt_M → zg_R} (h : k ≤ 4 ∨ (14 ≤ k ∧ k ≤ 19)) (hk : ∀ M, K (zt σ m ma M) = zg_lift σ m ma (K' M)) : (zz_pfN (zt σ m ma M) (some m) 4 20 k .boolean v).bind K = zg_lift σ m ma ((zg_pfN M k v).bind K') := by
  unfold zz_pfN zg_pfN
  split
  · rw [zt_pf h]; exact hk _
  · rfl
theorem gl_ck {K : Nat → zz_R} {K' : zg_R} (hk : K m = zg_lift σ m ma K') : zz_ck (zt σ m ma M) (some m) 4 K = zg_lift σ m ma K' := by
  rw [zt_ck]; exact hk
theorem gl_cI {F : zz_R} {F' : zg_R} {K : Int32 → zz_S → zz_R} {K' : Int32 → zt_M → zg_R} (hF : F = zg_lift σ m ma F') (hk : ∀ v M, K v (zt σ m ma M) = zg_lift σ m ma (K' v M)) : zz_cI F K zz_P = zg_lift σ m ma (zg_cI F' K') := by
  subst hF
  cases F' with
  | none => rfl
  | some q =>
    obtain ⟨v, M⟩ := q
    cases v with
    | none => rfl
    | some v => cases v <;> first | rfl | exact hk _ _
theorem gl_cV {F : zz_R} {F' : zg_R} {K : zz_S → zz_R} {K' : zt_M → zg_R} (hF : F = zg_lift σ m ma F') (hk : ∀ M, K (zt σ m ma M) = zg_lift σ m ma (K' M)) : zz_cV F K zz_P = zg_lift σ m ma (zg_cV F' K') := by
  subst hF
  cases F' with
  | none => rfl
  | some q =>
    obtain ⟨v, M⟩ := q
    cases v with
    | none => exact hk _
    | some v => cases v <;> rfl
end ZG
