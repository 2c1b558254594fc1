/-! ===== THE PLAIN SIDE: frames and room of the ghost heap ===== -/
/-- nothing lies at the next address or beyond -/
def zp_wf (σ : zz_S) : Prop := ∀ a, σ.1.1 ≤ a → σ.2.2 a = none
/-- room for n more cells of at most 128 slots each -/
def zp_gas (n : Nat) (σ : zz_S) : Prop := σ.1.1 + n ≤ σ.2.1.1 ∧ σ.1.2 + 128 * n ≤ σ.2.1.2
/-- from σ to σ' at most k new cells; of the old ones only those in M were changed -/
def zp_le (M : Nat → Prop) (k : Nat) (σ σ' : zz_S) : Prop :=
  σ'.2.1 = σ.2.1 ∧ σ.1.1 ≤ σ'.1.1 ∧ σ'.1.1 ≤ σ.1.1 + k ∧ σ'.1.2 ≤ σ.1.2 + 128 * k ∧ (∀ a, a < σ.1.1 → ¬ M a → σ'.2.2 a = σ.2.2 a) ∧ (zp_wf σ → zp_wf σ')
theorem zp_le.refl (M : Nat → Prop) (k : Nat) (σ : zz_S) : zp_le M k σ σ := ⟨rfl, Nat.le_refl _, by omega, by omega, fun _ _ _ => rfl, fun h => h⟩
theorem zp_le.trans {M M' : Nat → Prop} {k k' : Nat} {σ σ1 σ2 : zz_S} (h : zp_le M k σ σ1) (h' : zp_le M' k' σ1 σ2) (hM : ∀ a, a < σ.1.1 → M' a → M a) : zp_le M (k + k') σ σ2 := by
  obtain ⟨a1, a2, a3, a4, a5, a6⟩ := h
  obtain ⟨b1, b2, b3, b4, b5, b6⟩ := h'
  exact ⟨b1.trans a1, by omega, by omega, by omega, fun a ha hn => (b5 a (by omega) (fun h => hn (hM a ha h))).trans (a5 a ha hn), fun h => b6 (a6 h)⟩
theorem zp_le.mono {M M' : Nat → Prop} {k k' : Nat} {σ σ' : zz_S} (h : zp_le M k σ σ') (hM : ∀ a, a < σ.1.1 → M a → M' a) (hk : k ≤ k') : zp_le M' k' σ σ' := by
  obtain ⟨a1, a2, a3, a4, a5, a6⟩ := h
  exact ⟨a1, a2, by omega, by omega, fun a ha hn => a5 a ha (fun h => hn (hM a ha h)), a6⟩
theorem zp_le.gas {M : Nat → Prop} {k n : Nat} {σ σ' : zz_S} (h : zp_le M k σ σ') (hg : zp_gas (n + k) σ) : zp_gas n σ' := by
  obtain ⟨a1, a2, a3, a4, -, -⟩ := h
  obtain ⟨g1, g2⟩ := hg
  exact ⟨by rw [a1]; omega, by rw [a1]; omega⟩
theorem zp_wf.lt {σ : zz_S} (h : zp_wf σ) {a : Nat} {x : Bool × zz_E} (ha : σ.2.2 a = some x) : a < σ.1.1 := by
  rcases Nat.lt_or_ge a σ.1.1 with h1 | h1
  · exact h1
  · rw [h a h1] at ha; cases ha
/-- a kept cell -/
theorem zp_le.at {M : Nat → Prop} {k : Nat} {σ σ' : zz_S} (h : zp_le M k σ σ') (hw : zp_wf σ) {a : Nat} {x : Bool × zz_E} (ha : σ.2.2 a = some x) (hn : ¬ M a) : σ'.2.2 a = some x := by
  rw [h.2.2.2.2.1 a (hw.lt ha) hn]; exact ha
/-- the state behind a new cell -/
def zp_al (σ : zz_S) (e : zz_E) (sz : Nat) : zz_S := ((σ.1.1 + 1, σ.1.2 + sz), σ.2.1, zz_up σ.2.2 σ.1.1 e)
theorem zp_al_eq {σ : zz_S} {e : zz_E} {sz n : Nat} {K : Nat → zz_S → zz_R} (h : zp_gas (n + 1) σ) (hs : sz ≤ 128) : zz_al σ e sz K = K σ.1.1 (zp_al σ e sz) := by
  unfold zz_al
  obtain ⟨h1, h2⟩ := h
  rw [if_pos ⟨by omega, by omega⟩]
  rfl
theorem zp_al_le {M : Nat → Prop} {σ : zz_S} {e : zz_E} {sz : Nat} (hs : sz ≤ 128) : zp_le M 1 σ (zp_al σ e sz) := by
  refine ⟨rfl, by show _ ≤ σ.1.1 + 1; omega, Nat.le_refl _, by show σ.1.2 + sz ≤ _; omega, fun a ha _ => ?_, fun h a ha => ?_⟩
  · show (if a = σ.1.1 then _ else _) = _
    rw [if_neg (by omega)]
  · show (if a = σ.1.1 then _ else _) = _
    have : σ.1.1 + 1 ≤ a := ha
    rw [if_neg (by omega)]
    exact h a (by omega)
theorem zp_al_new {σ : zz_S} {e : zz_E} {sz : Nat} : (zp_al σ e sz).2.2 σ.1.1 = some (true, e) := if_pos rfl
theorem zp_al_old {σ : zz_S} {e : zz_E} {sz a : Nat} (h : a ≠ σ.1.1) : (zp_al σ e sz).2.2 a = σ.2.2 a := if_neg h
theorem zp_set_le {M : Nat → Prop} {σ : zz_S} {a : Nat} {e : zz_E} (ha : a < σ.1.1) (hM : M a) : zp_le M 0 σ (zz_set σ a e) := by
  refine ⟨rfl, Nat.le_refl _, Nat.le_refl _, Nat.le_refl _, fun b hb hn => ?_, fun h b hb => ?_⟩
  · show (if b = a then _ else _) = _
    rw [if_neg (fun h => hn (by rw [h]; exact hM))]
  · have hb' : σ.1.1 ≤ b := hb
    show (if b = a then _ else _) = _
    rw [if_neg (by omega)]
    exact h b hb'
theorem zp_set_at {σ : zz_S} {a : Nat} {e : zz_E} : (zz_set σ a e).2.2 a = some (true, e) := if_pos rfl
theorem zp_set_old {σ : zz_S} {a b : Nat} {e : zz_E} (h : b ≠ a) : (zz_set σ a e).2.2 b = σ.2.2 b := if_neg h
/-! reads and writes at a known cell -/
theorem zp_gI {σ : zz_S} {a c k : Nat} {w : Bool} {fs : List Value} {v : Int32} (h : σ.2.2 a = some (w, .inr (c, fs))) (hv : fs[k]? = some (.int v)) : zz_gI σ (some a) c k = some v := by
  simp [zz_gI, zz_ob, h, zz_vI, hv]
theorem zp_gR {σ : zz_S} {a c k : Nat} {w : Bool} {fs : List Value} {v : Option Nat} (h : σ.2.2 a = some (w, .inr (c, fs))) (hv : fs[k]? = some (va_rf v)) : zz_gR σ (some a) c k = some v := by
  cases v <;> simp [zz_gR, zz_ob, h, zz_vR, hv, va_rf]
theorem zp_pf {σ : zz_S} {a c N k : Nat} {fs : List Value} {v : Value} (h : σ.2.2 a = some (true, .inr (c, fs))) (hN : fs.length = N) : zz_pf σ (some a) c N k v = some (zz_set σ a (.inr (c, fs.set k v))) := by
  simp [zz_pf, h, hN]
theorem zp_ck {σ : zz_S} {a c : Nat} {w : Bool} {fs : List Value} {K : Nat → zz_R} (h : σ.2.2 a = some (w, .inr (c, fs))) : zz_ck σ (some a) c K = K a := by
  simp [zz_ck, zz_cl, h]
theorem zp_dp {σ : zz_S} {a c : Nat} {w : Bool} {fs : List Value} {K : Nat → Nat → zz_R} (h : σ.2.2 a = some (w, .inr (c, fs))) : zz_dp σ (some a) K = K a c := by
  simp [zz_dp, zz_cl, h]
theorem zp_len {σ : zz_S} {a kd : Nat} {w : Bool} {v : vp_A} (h : σ.2.2 a = some (w, .inl (kd, v))) : zz_len σ (some a) = some (Int32.ofNat v.1) := by
  simp [zz_len, h]
