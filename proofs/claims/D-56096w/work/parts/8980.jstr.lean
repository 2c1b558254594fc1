/-! ===== java.lang.String; StringBuilder.append of a String, of a number; toString ===== -/
section JST
variable {ρ : zz_C} {σ : zz_S}
/-- a String at s over the bytes v -/
def cStr (σ : zz_S) (s v : Nat) (X : List Nat) : Prop := (∃ w hh hz, σ.2.2 s = some (w, .inr (109, [.ref v, .int 0, hh, hz]))) ∧ (∃ (w : Bool) (f : Nat → Int32), σ.2.2 v = some (w, .inl (1, (X.length, .inl f))) ∧ ∀ i ch, X[i]? = some ch → f i = .ofNat ch) ∧ (∀ ch, ch ∈ X → ch < 128) ∧ X.length ≤ 70
theorem cStr.keep {σ' : zz_S} {s v : Nat} {X : List Nat} (h : cStr σ s v X) (hs : σ'.2.2 s = σ.2.2 s) (hv : σ'.2.2 v = σ.2.2 v) : cStr σ' s v X := by
  obtain ⟨⟨w, hh, hz, h1⟩, ⟨w', f, h2, h3⟩, h4⟩ := h
  exact ⟨⟨w, hh, hz, hs.trans h1⟩, ⟨w', f, hv.trans h2, h3⟩, h4⟩
theorem cStr.ck {s v : Nat} {X : List Nat} {K : Nat → zz_R} (h : cStr σ s v X) : zz_ck σ (some s) 109 K = K s := by
  obtain ⟨⟨w, hh, hz, h1⟩, -⟩ := h
  exact zp_ck h1
theorem jt_coder {s v : Nat} {X : List Nat} (h : cStr σ s v X) : zF_J9_coder ρ s σ = zz_rI 0 σ := by
  obtain ⟨⟨w, hh, hz, h1⟩, -⟩ := h
  unfold zF_J9_coder
  rw [zp_gI h1 (k := 1) (v := 0) rfl, Option.bind_some]
  rfl
theorem jt_length {s v : Nat} {X : List Nat} (h : cStr σ s v X) : zF_J9_length ρ s σ = zz_rI (.ofNat X.length) σ := by
  have hck := fun K => h.ck (K := K)
  have hco := jt_coder (ρ := ρ) h
  obtain ⟨⟨w, hh, hz, h1⟩, ⟨w', f, h2, h3⟩, h4⟩ := h
  unfold zF_J9_length
  rw [zp_gR h1 (k := 0) (v := some v) rfl, Option.bind_some, zp_len h2, Option.bind_some, hck, hco, cc_I, sh0r]
theorem jt_char : ∀ c, c < 128 → (((Int32.ofNat c &&& (255 : Int32)).toUInt32 % 65536).toInt32 = Int32.ofNat c) ∧ vp_nar .char (Int32.ofNat c) = Int32.ofNat c := by decide +kernel
theorem jt_rN {c : Nat} (h : c < 128) : zz_rN .char (Int32.ofNat c) σ = zz_rI (.ofNat c) σ := by
  unfold zz_rN
  rw [if_pos (by rw [(jt_char c h).2]; exact beq_self_eq_true _)]
theorem jt_aI {v n k : Nat} {w : Bool} {f : Nat → Int32} (h : σ.2.2 v = some (w, .inl (1, (n, .inl f)))) (hk : k < n) (hn : n ≤ 100000) : zz_aI σ (some v) 1 (.ofNat k) = some (f k) := by
  unfold zz_aI zz_ar
  simp only [h, if_true, tw_inb hk hn, ci_nat (show k < 2 ^ 31 by omega)]
theorem jn_cmp' {j : Nat} (h : j < 2 ^ 31) : ¬ Int32.ofNat j < 0 := by
  rw [show (0 : Int32) = Int32.ofNat 0 from rfl, ci_lt h (by decide)]; omega
theorem jt_check {k n : Nat} (hk : k < n) (hn : n < 2 ^ 31) : zF_J9_checkIndex ρ (.ofNat k) (.ofNat n) σ = zz_rV σ := by
  unfold zF_J9_checkIndex zF_J14_checkIndex
  rw [if_neg (jn_cmp' (by omega)), if_pos ((ci_lt (by omega) (by omega)).mpr hk), cc_I]
theorem jt_charAt {s v k c : Nat} {X : List Nat} (h : cStr σ s v X) (hc : X[k]? = some c) : zF_J9_charAt ρ s (.ofNat k) σ = zz_rI (.ofNat c) σ := by
  have hck := fun K => h.ck (K := K)
  obtain ⟨⟨w, hh, hz, h1⟩, ⟨w', f, h2, h3⟩, h4, h5⟩ := h
  have hk := (List.getElem?_eq_some_iff.mp hc).1
  have hcl := h4 c (List.mem_of_getElem? hc)
  unfold zF_J9_charAt zF_J9_isLatin1 zF_J15_charAt
  rw [hck, zp_gI h1 (k := 1) (v := 0) rfl, Option.bind_some, if_pos z00, cb_b1, cc_I, if_neg n10, zp_gR h1 (k := 0) (v := some v) rfl, Option.bind_some, zp_len h2, Option.bind_some, jt_check hk (by omega), cc_V, jt_aI h2 hk (by omega), Option.bind_some, h3 k c hc, (jt_char c hcl).1, jt_rN hcl, cc_I, jt_rN hcl]
theorem jS_charAt {b v cap k c : Nat} {X : List Nat} (h : cSB σ b v cap X) (hc : X[k]? = some c) : zF_J8_charAt ρ b (.ofNat k) σ = zz_rI (.ofNat c) σ := by
  have hck := fun K => h.ck (K := K)
  obtain ⟨⟨m, h1⟩, ⟨f, h2, h3, h3', h3''⟩, h4, h5⟩ := h
  have hk := (List.getElem?_eq_some_iff.mp hc).1
  have hcl := h5 c (List.mem_of_getElem? hc)
  unfold zF_J8_charAt zF_J7_charAt zF_J12_min
  rw [hck, zp_gI h1 (k := 1) (v := 0) rfl, Option.bind_some, zp_gR h1 (k := 0) (v := some v) rfl, Option.bind_some, zp_gI h1 (k := 3) (v := .ofNat X.length) rfl, Option.bind_some, zp_len h2, Option.bind_some, sh0r, if_neg (show ¬ Int32.ofNat cap < Int32.ofNat X.length from by rw [ci_lt (by omega) (by omega)]; omega), cc_I, jt_check hk (by omega), cc_V, if_pos z00, jt_aI h2 (by omega) (by omega), Option.bind_some, h3 k c hc, (jt_char c hcl).1, jt_rN hcl, cc_I, jt_rN hcl]
theorem jt_cpB {x y nx ny i j n : Nat} {w : Bool} {f g : Nat → Int32} (hx : σ.2.2 x = some (w, .inl (1, (nx, .inl f)))) (hy : σ.2.2 y = some (true, .inl (1, (ny, .inl g)))) (h1 : i + n ≤ nx) (h2 : j + n ≤ ny) (h3 : nx ≤ 100 ∧ ny ≤ 100) : zz_cpB σ (some x) (.ofNat i) (some y) (.ofNat j) (.ofNat n) = some (zz_set σ y (.inl (1, (ny, .inl (va_cpy f g i j n))))) := by
  unfold zz_cpB zz_ar
  simp only [hx, hy, if_true]
  rw [ci_nat (show i < 2 ^ 31 by omega), ci_nat (show j < 2 ^ 31 by omega), ci_nat (show n < 2 ^ 31 by omega), if_pos ⟨jn_cmp' (by omega), jn_cmp' (by omega), jn_cmp' (by omega), h1, h2⟩]
  rfl
/-- a String is put behind -/
theorem jS_appendS {b v cap s sv g : Nat} {X Y : List Nat} (h : cSB σ b v cap X) (hs : cStr σ s sv Y) (hY : Y.length ≤ 2) (hd : s ≠ b ∧ s ≠ v ∧ sv ≠ b ∧ sv ≠ v) (hw : zp_wf σ) (hg : zp_gas (g + 1) σ) (hn70 : X.length + Y.length ≤ 70) :
    ∃ σ' v' cap', zF_J8_append ρ b (some s) σ = zz_rR (some b) σ' ∧ zp_le (fun a => a = b ∨ a = v) 1 σ σ' ∧ cSB σ' b v' cap' (X ++ Y) ∧ (v' = v ∨ (v' = σ.1.1 ∧ σ.1.1 < σ'.1.1)) := by
  have hck0 := fun K => h.ck (K := K)
  have hlen : X.length ≤ cap := h.2.1.choose_spec.2.2.1
  obtain ⟨σ1, v', cap', e1, e2, e3, e4, e5⟩ := jS_ensure (ρ := ρ) (n := X.length + Y.length) h hw hg (by omega) (by omega)
  have hck1 := fun K => e3.ck (K := K)
  have hne := e3.ne
  have hsl : s < σ.1.1 := by obtain ⟨⟨w, hh, hz, h1⟩, -⟩ := hs; exact hw.lt h1
  have hsvl : sv < σ.1.1 := by obtain ⟨-, ⟨w', f, h2, -⟩, -⟩ := hs; exact hw.lt h2
  have hs1 : cStr σ1 s sv Y := hs.keep (e2.keep hsl hd.1) (e2.keep hsvl hd.2.2.1)
  have hls := jt_length (ρ := ρ) hs
  have hcs := jt_coder (ρ := ρ) hs1
  have hsk := fun K => hs.ck (K := K)
  have hsk1 := fun K => hs1.ck (K := K)
  obtain ⟨⟨m0, h1⟩, -⟩ := h
  obtain ⟨⟨m, b1⟩, ⟨f, b2, b3, b3', b3''⟩, b4, b5⟩ := e3
  obtain ⟨⟨w, hh, hz, t1⟩, ⟨w', fs, t2, t3⟩, t4, t5⟩ := hs1
  have w1 := e2.wf hw
  have hv'sv : v' ≠ sv := by
    intro h
    rcases e5 with e5 | e5
    · exact hd.2.2.2 (by rw [← h, e5])
    · omega
  have ecp := jt_cpB (i := 0) (j := X.length) (n := Y.length) t2 b2 (by omega) (by omega) ⟨by omega, by omega⟩
  obtain ⟨s2, q2⟩ : ∃ s, s = zz_set σ1 v' (.inl (1, (cap', .inl (va_cpy fs f 0 X.length Y.length)))) := ⟨_, rfl⟩
  have c2 : s2.2.2 b = _ := (show s2.2.2 b = σ1.2.2 b by rw [q2]; exact zp_set_old hne).trans b1
  have d2 : s2.2.2 v' = some (true, .inl (1, (cap', .inl (va_cpy fs f 0 X.length Y.length)))) := by rw [q2]; exact zp_set_at
  have l2 : zp_le (fun a => a = v') 0 σ1 s2 := by rw [q2]; exact zp_set_le (w1.lt b2) rfl
  rw [← q2] at ecp
  have ecp' : zz_cpB σ1 (some sv) (0 : Int32) (some v') (.ofNat X.length) (.ofNat Y.length) = some s2 := ecp
  unfold zF_J8_append zF_J7_append zF_J7_putStringAt zF_J7_inflateIfNeededFor zF_J9_getBytes
  rw [hck0, cn_some, hsk, hls, cc_I, zp_gI h1 (k := 3) (v := .ofNat X.length) rfl, Option.bind_some, hck0, ci_add, e1, cc_V, zp_gI b1 (k := 3) (v := .ofNat X.length) rfl, Option.bind_some, hck1, hck1, zp_gI b1 (k := 1) (v := 0) rfl, Option.bind_some, hsk1, hcs, cc_I, if_pos z00, cc_V, zp_gR b1 (k := 0) (v := some v') rfl, Option.bind_some, zp_gI b1 (k := 1) (v := 0) rfl, Option.bind_some, hsk1, hsk1, hcs, cc_I, if_pos z00, zp_gR t1 (k := 0) (v := some sv) rfl, Option.bind_some, Option.bind_some, zp_len t2, Option.bind_some, sh0l, ecp', Option.bind_some, cc_V, cc_V, zp_gI c2 (k := 3) (v := .ofNat X.length) rfl, Option.bind_some, ci_add, zq_pf (N := 4) c2 rfl (fs' := [.ref v', .int 0, m, .int (.ofNat (X.length + Y.length))]) rfl, Option.bind_some, cc_R]
  have l02 : zp_le (fun a => a = b ∨ a = v) 1 σ s2 := (e2.mono (M' := fun a => a = b ∨ a = v) (fun a _ h => .inl h) (Nat.le_refl _)).trans (k' := 0) l2 fun a ha h => by
    rcases e5 with e5 | e5
    · right; rw [h, e5]
    · omega
  have hbl : b < s2.1.1 := (l02.wf hw).lt c2
  refine ⟨_, v', cap', rfl, l02.trans (k' := 0) (zp_set_le (M := fun a => a = b ∨ a = v) hbl (.inl rfl)) fun _ _ h => h, ⟨⟨m, zp_set_at.trans (by rw [List.length_append])⟩, ⟨_, (zp_set_old hne.symm).trans d2, fun i ch hi => ?_, by simp; omega, b3''⟩, b4, fun ch h => ?_⟩, ?_⟩
  · have hil := (List.getElem?_eq_some_iff.mp hi).1
    simp at hil
    unfold va_cpy
    by_cases hi2 : X.length ≤ i
    · rw [if_pos ⟨hi2, hil⟩, Nat.zero_add]
      rw [List.getElem?_append_right hi2] at hi
      exact t3 _ ch hi
    · rw [if_neg (by omega)]
      rw [List.getElem?_append_left (by omega)] at hi
      exact b3 i ch hi
  · rcases List.mem_append.mp h with h | h
    · exact b5 ch h
    · exact t4 ch h
  · rcases e5 with e5 | ⟨e5, e6⟩
    · exact .inl e5
    · right
      refine ⟨e5, ?_⟩
      show _ < s2.1.1
      have := l2.2.1
      omega
end JST
