/-! ===== java.lang.StringBuilder: characters ===== -/
section JSB
variable {ρ : zz_C} {σ : zz_S}
theorem sh0r (x : Int32) : x >>> ((0 : Int32) &&& 31) = x := by
  rw [show ((0 : Int32) &&& 31) = 0 from rfl]
  exact Int32.shiftRight_zero
theorem sh0l (x : Int32) : x <<< ((0 : Int32) &&& 31) = x := by
  rw [show ((0 : Int32) &&& 31) = 0 from rfl]
  exact Int32.shiftLeft_zero
/-- bytes: a Latin-1 array that begins with X -/
def cBy (σ : zz_S) (v cap : Nat) (X : List Nat) : Prop := ∃ f : Nat → Int32, σ.2.2 v = some (true, .inl (1, (cap, .inl f))) ∧ (∀ i ch, X[i]? = some ch → f i = .ofNat ch) ∧ X.length ≤ cap ∧ cap ≤ 70
/-- a StringBuilder at b over the bytes v -/
def cSB (σ : zz_S) (b v cap : Nat) (X : List Nat) : Prop := (∃ m, σ.2.2 b = some (true, .inr (108, [.ref v, .int 0, m, .int (.ofNat X.length)]))) ∧ cBy σ v cap X ∧ (cap = 16 ∨ cap = 34 ∨ cap = 70) ∧ ∀ ch, ch ∈ X → ch < 128
theorem cSB.keep {σ' : zz_S} {b v cap : Nat} {X : List Nat} (h : cSB σ b v cap X) (hb : σ'.2.2 b = σ.2.2 b) (hv : σ'.2.2 v = σ.2.2 v) : cSB σ' b v cap X := by
  obtain ⟨⟨m, h1⟩, ⟨f, h2, h3⟩, h4⟩ := h
  exact ⟨⟨m, hb.trans h1⟩, ⟨f, hv.trans h2, h3⟩, h4⟩
theorem cSB.ne {b v cap : Nat} {X : List Nat} (h : cSB σ b v cap X) : b ≠ v := by
  obtain ⟨⟨m, h1⟩, ⟨f, h2, h3⟩, h4⟩ := h
  intro he
  rw [he, h2] at h1
  cases h1
theorem cSB.ck {b v cap : Nat} {X : List Nat} {K : Nat → zz_R} (h : cSB σ b v cap X) : zz_ck σ (some b) 108 K = K b := by
  obtain ⟨⟨m, h1⟩, -⟩ := h
  exact zp_ck h1
theorem cSB.len {b v cap : Nat} {X : List Nat} (h : cSB σ b v cap X) : zF_J8_length ρ b σ = zz_rI (.ofNat X.length) σ := by
  have hck := fun K => h.ck (K := K)
  obtain ⟨⟨m, h1⟩, -⟩ := h
  unfold zF_J8_length zF_J7_length
  rw [hck, zp_gI h1 (k := 3) (v := .ofNat X.length) rfl, Option.bind_some, cc_I]
theorem jS_init {a n : Nat} (h : σ.2.2 a = some (true, .inr (108, [.null, .int 0, .int 0, .int 0]))) (hw : zp_wf σ) (hg : zp_gas (n + 1) σ) :
    ∃ σ', zF_J8_init ρ a σ = zz_rV σ' ∧ zp_le (fun b => b = a) 1 σ σ' ∧ σ'.1.1 = σ.1.1 + 1 ∧ cSB σ' a σ.1.1 16 [] := by
  have hne : a ≠ σ.1.1 := Nat.ne_of_lt (hw.lt h)
  unfold zF_J8_init zF_J7_init zz_pfN
  rw [show (16 : Int32) = Int32.ofNat 16 from rfl, zp_na_eq hg (by decide)]
  have a1 : (zp_al σ (zz_z 1 16) 16).2.2 a = some (true, .inr (108, [.null, .int 0, .int 0, .int 0])) := (zp_al_old hne).trans h
  rw [zq_pf (N := 4) a1 rfl (fs' := [.ref σ.1.1, .int 0, .int 0, .int 0]) rfl, Option.bind_some, if_pos (show zz_fit .byte 0 = true from rfl), zq_pf (N := 4) zp_set_at rfl (fs' := [.ref σ.1.1, .int 0, .int 0, .int 0]) rfl, Option.bind_some, cs_set_set, cc_V]
  refine ⟨_, rfl, (zp_al_le (M := fun b => b = a) (by decide)).trans (k' := 0) (zp_set_le (M := fun b => b = a) (by show a < σ.1.1 + 1; have := hw.lt h; omega) rfl) (fun _ _ h => h), rfl, ⟨.int 0, zp_set_at⟩, ⟨fun _ => 0, ?_, fun k x hk => by simp at hk, by decide, by decide⟩, .inl rfl, fun ch h => by simp at h⟩
  rw [zp_set_old (fun h => hne h.symm)]
  exact zp_al_new
theorem jS_cap {cap n : Nat} (hc : cap = 16 ∨ cap = 34) (h1 : cap < n) (h2 : n ≤ cap + 2) : zF_J11_newLength ρ (.ofNat cap) (Int32.ofNat n - Int32.ofNat cap) (Int32.ofNat cap + ((2 : Int32) <<< ((0 : Int32) &&& 31))) σ = zz_rI (.ofNat (2 * cap + 2)) σ := by
  unfold zF_J11_newLength zF_J12_max
  rw [ci_sub (by omega), sh0l, show (2 : Int32) = Int32.ofNat 2 from rfl, ci_add, if_pos ((ci_lt (by omega) (by omega)).mpr (by omega)), cc_I, ci_add, if_neg (show ¬ Int32.ofNat (cap + (cap + 2)) ≤ (0 : Int32) from by rw [show (0 : Int32) = Int32.ofNat 0 from rfl, ci_le (by omega) (by decide)]; omega), if_neg (show ¬ (2147483639 : Int32) < Int32.ofNat (cap + (cap + 2)) from by rw [show (2147483639 : Int32) = Int32.ofNat 2147483639 from rfl, ci_lt (by decide) (by omega)]; omega), show cap + (cap + 2) = 2 * cap + 2 by omega]
/-- room for n characters -/
theorem jS_ensure {b v cap n g : Nat} {X : List Nat} (h : cSB σ b v cap X) (hw : zp_wf σ) (hg : zp_gas (g + 1) σ) (hn : n ≤ cap + 2) (hn70 : n ≤ 70) :
    ∃ σ' v' cap', zF_J7_ensureCapacityInternal ρ b (.ofNat n) σ = zz_rV σ' ∧ zp_le (fun c => c = b) 1 σ σ' ∧ cSB σ' b v' cap' X ∧ n ≤ cap' ∧ (v' = v ∨ (v' = σ.1.1 ∧ σ.1.1 < σ'.1.1)) := by
  have hne := h.ne
  have h0 := h
  have hck := fun K => h.ck (K := K)
  obtain ⟨⟨m, h1⟩, ⟨f, h2, h3, h3', h3''⟩, h4, h5⟩ := h
  unfold zF_J7_ensureCapacityInternal
  rw [zp_gR h1 (k := 0) (v := some v) rfl, Option.bind_some, zp_len h2, Option.bind_some, zp_gI h1 (k := 1) (v := 0) rfl, Option.bind_some, sh0r]
  by_cases hle : n ≤ cap
  · have e : Int32.ofNat n - Int32.ofNat cap ≤ 0 := by
      rw [Int32.le_iff_toInt_le, ci_diff (by omega) (by omega)]
      have : (0 : Int32).toInt = 0 := rfl
      omega
    rw [if_pos e]
    exact ⟨σ, v, cap, rfl, zp_le.refl _ _ _, h0, hle, .inl rfl⟩
  · have e : ¬ Int32.ofNat n - Int32.ofNat cap ≤ 0 := by
      rw [Int32.le_iff_toInt_le, ci_diff (by omega) (by omega)]
      have : (0 : Int32).toInt = 0 := rfl
      omega
    have hcap : cap = 16 ∨ cap = 34 := by omega
    have hbl := hw.lt h1
    have hvl := hw.lt h2
    unfold zF_J7_newCapacity zF_J13_copyOf zF_J12_min
    rw [if_neg e, Option.bind_some, hck, zp_gR h1 (k := 0) (v := some v) rfl, Option.bind_some, zp_len h2, Option.bind_some, zp_gI h1 (k := 1) (v := 0) rfl, Option.bind_some, Option.bind_some, sh0l, jS_cap hcap (by omega) hn, cc_I, if_neg (show ¬ Int32.ofNat (2 * cap + 2) = (2147483647 : Int32) from by rw [show (2147483647 : Int32) = Int32.ofNat 2147483647 from rfl, ci_eq (by omega) (by decide)]; omega), zp_gI h1 (k := 1) (v := 0) rfl, Option.bind_some, sh0r, cc_I, zp_gI h1 (k := 1) (v := 0) rfl, Option.bind_some, sh0l, zp_len h2, Option.bind_some, if_neg (show ¬ Int32.ofNat (2 * cap + 2) = Int32.ofNat cap from by rw [ci_eq (by omega) (by omega)]; omega), zp_na_eq hg (by omega)]
    obtain ⟨s1, e1⟩ : ∃ s, s = zp_al σ (zz_z 1 (2 * cap + 2)) (2 * cap + 2) := ⟨_, rfl⟩
    have l1 : zp_le zp_no 1 σ s1 := by rw [e1]; exact zp_al_le (by omega)
    have n1 : s1.1.1 = σ.1.1 + 1 := by rw [e1]; rfl
    have v1 : s1.2.2 v = some (true, .inl (1, (cap, .inl f))) := (l1.keep hvl fun h => h).trans h2
    have b1 : s1.2.2 b = _ := (l1.keep hbl fun h => h).trans h1
    have a1 : s1.2.2 σ.1.1 = some (true, .inl (1, (2 * cap + 2, .inl (fun _ => 0)))) := by rw [e1]; exact zp_al_new
    rw [← e1, zp_len v1, Option.bind_some, if_neg (show ¬ Int32.ofNat (2 * cap + 2) < Int32.ofNat cap from by rw [ci_lt (by omega) (by omega)]; omega), cc_I]
    have ecp : zz_cpB s1 (some v) (0 : Int32) (some σ.1.1) (0 : Int32) (Int32.ofNat cap) = some (zz_set s1 σ.1.1 (.inl (1, (2 * cap + 2, .inl (va_cpy f (fun _ => 0) 0 0 cap))))) := by
      unfold zz_cpB zz_ar
      simp only [v1, a1, if_true]
      have e0 : (0 : Int32).toNatClampNeg = 0 := rfl
      have hcn : ¬ Int32.ofNat cap < 0 := jn_cmp (by omega)
      rw [e0, ci_nat (show cap < 2 ^ 31 by omega), if_pos ⟨by decide, by decide, hcn, by omega, by omega⟩]
      rfl
    rw [ecp, Option.bind_some, cc_R]
    obtain ⟨s2, e2⟩ : ∃ s, s = zz_set s1 σ.1.1 (.inl (1, (2 * cap + 2, .inl (va_cpy f (fun _ => 0) 0 0 cap)))) := ⟨_, rfl⟩
    have l2 : zp_le (fun c => c = σ.1.1) 0 s1 s2 := by rw [e2]; exact zp_set_le (by omega) rfl
    have b2 : s2.2.2 b = _ := (l2.keep (by omega) (by show ¬ b = _; omega)).trans b1
    have a2 : s2.2.2 σ.1.1 = some (true, .inl (1, (2 * cap + 2, .inl (va_cpy f (fun _ => 0) 0 0 cap)))) := by rw [e2]; exact zp_set_at
    rw [← e2, zq_pf (N := 4) b2 rfl (fs' := [.ref σ.1.1, .int 0, m, .int (.ofNat X.length)]) rfl, Option.bind_some]
    have l02 : zp_le (fun c => c = b) 1 σ s2 := (l1.none (Nat.le_refl _)).trans (k' := 0) l2 fun c hc h => by omega
    refine ⟨_, σ.1.1, 2 * cap + 2, rfl, l02.trans (k' := 0) (zp_set_le (M := fun c => c = b) (l02.lt hbl) rfl) fun _ _ h => h, ⟨⟨m, zp_set_at⟩, ⟨_, (zp_set_old (by omega)).trans a2, fun i ch hi => ?_, by omega, by omega⟩, by omega, h5⟩, by omega, .inr ⟨rfl, by show _ < s2.1.1; have := l2.2.1; omega⟩⟩
    have hil := (List.getElem?_eq_some_iff.mp hi).1
    unfold va_cpy
    rw [if_pos ⟨Nat.zero_le _, by omega⟩, Nat.zero_add, Nat.sub_zero]
    exact h3 i ch hi
theorem jS_nar : ∀ c, c < 128 → vp_nar .byte ((Int32.ofNat c).toInt8.toInt32) = Int32.ofNat c := by decide +kernel
theorem jS_nar' : ∀ c, c < 128 → vp_nar .byte (Int32.ofNat c) = Int32.ofNat c := by decide +kernel
theorem jS_sI {v cap k : Nat} {f : Nat → Int32} {x y : Int32} (h : σ.2.2 v = some (true, .inl (1, (cap, .inl f)))) (hk : k < cap) (hc : cap ≤ 100) (hx : vp_nar .byte x = y) : zz_sI σ (some v) 1 .byte (.ofNat k) x = some (zz_set σ v (.inl (1, (cap, .inl (upd f k y))))) := by
  unfold zz_sI zz_ar
  simp only [h, if_true, tw_inb hk (by omega), ci_nat (show k < 2 ^ 31 by omega), hx]
  rfl
/-- a character is put behind -/
theorem jS_append {b v cap c g : Nat} {X : List Nat} (h : cSB σ b v cap X) (hw : zp_wf σ) (hg : zp_gas (g + 1) σ) (hc : c < 128) (hn70 : X.length < 70) :
    ∃ σ' v' cap', zF_J8_append_3 ρ b (.ofNat c) σ = zz_rR (some b) σ' ∧ zp_le (fun a => a = b ∨ a = v) 1 σ σ' ∧ cSB σ' b v' cap' (X ++ [c]) ∧ (v' = v ∨ (v' = σ.1.1 ∧ σ.1.1 < σ'.1.1)) := by
  have hck0 := fun K => h.ck (K := K)
  have hlen : X.length ≤ cap := h.2.1.choose_spec.2.2.1
  obtain ⟨σ1, v', cap', e1, e2, e3, e4, e5⟩ := jS_ensure (ρ := ρ) (n := X.length + 1) h hw hg (by omega) (by omega)
  have hck1 := fun K => e3.ck (K := K)
  have hne := e3.ne
  obtain ⟨⟨m0, h1⟩, -⟩ := h
  obtain ⟨⟨m, b1⟩, ⟨f, b2, b3, b3', b3''⟩, b4, b5⟩ := e3
  have w1 := e2.wf hw
  unfold zF_J8_append_3 zF_J7_append_3 zF_J7_isLatin1 zF_J15_canEncode
  rw [hck0, zp_gI h1 (k := 3) (v := .ofNat X.length) rfl, Option.bind_some, hck0, ci_succ, e1, cc_V, hck1, zp_gI b1 (k := 1) (v := 0) rfl, Option.bind_some, if_pos z00, cb_b1, cc_I, if_neg n10, if_neg (show ¬ (255 : Int32) < Int32.ofNat c from by rw [show (255 : Int32) = Int32.ofNat 255 from rfl, ci_lt (by decide) (by omega)]; omega), cb_b1, cc_I, if_neg n10, zp_gR b1 (k := 0) (v := some v') rfl, Option.bind_some, zp_gI b1 (k := 3) (v := .ofNat X.length) rfl, Option.bind_some, zq_pf (N := 4) b1 rfl (fs' := [.ref v', .int 0, m, .int (Int32.ofNat X.length + 1)]) rfl, Option.bind_some]
  obtain ⟨s2, q2⟩ : ∃ s, s = zz_set σ1 b (.inr (108, [.ref v', .int 0, m, .int (Int32.ofNat X.length + 1)])) := ⟨_, rfl⟩
  have c2 : s2.2.2 b = some (true, .inr (108, [.ref v', .int 0, m, .int (Int32.ofNat X.length + 1)])) := by rw [q2]; exact zp_set_at
  have d2 : s2.2.2 v' = some (true, .inl (1, (cap', .inl f))) := by rw [q2]; exact (zp_set_old hne.symm).trans b2
  have l2 : zp_le (fun a => a = b ∨ a = v) 0 σ1 s2 := by rw [q2]; exact zp_set_le (w1.lt b1) (.inl rfl)
  rw [← q2, jS_sI d2 (by omega) (by omega) (jS_nar c hc), Option.bind_some, cc_R]
  have l02 : zp_le (fun a => a = b ∨ a = v) 1 σ s2 := (e2.mono (fun a _ h => .inl h) (Nat.le_refl _)).trans (k' := 0) l2 fun _ _ h => h
  have hvl : v' < s2.1.1 := (l02.wf hw).lt d2
  refine ⟨_, v', cap', rfl, l02.trans (M' := fun a => a = v') (k' := 0) (zp_set_le hvl rfl) fun a ha h => ?_, ⟨⟨m, (zp_set_old hne).trans (c2.trans ?_)⟩, ⟨_, zp_set_at, fun i ch hi => ?_, by simp; omega, b3''⟩, b4, fun ch h => ?_⟩, ?_⟩
  · rcases e5 with e5 | e5
    · right; rw [h, e5]
    · omega
  · rw [ci_succ]; simp
  · have hil := (List.getElem?_eq_some_iff.mp hi).1
    simp at hil
    by_cases hi2 : i = X.length
    · subst hi2
      rw [upd_at]
      have : ch = c := by simpa using hi.symm
      rw [this]
    · rw [upd_ne hi2]
      rw [List.getElem?_append_left (by omega)] at hi
      exact b3 i ch hi
  · rcases List.mem_append.mp h with h | h
    · exact b5 ch h
    · have : ch = c := by simpa using h
      omega
  · rcases e5 with e5 | ⟨e5, e6⟩
    · exact .inl e5
    · right
      refine ⟨e5, ?_⟩
      show _ < s2.1.1
      have := l2.2.1
      omega
/-- emptied -/
theorem jS_clear {b v cap g : Nat} {X : List Nat} (h : cSB σ b v cap X) (hw : zp_wf σ) (hg : zp_gas (g + 1) σ) :
    ∃ σ', zF_J8_setLength ρ b (0 : Int32) σ = zz_rV σ' ∧ zp_le (fun a => a = b) 1 σ σ' ∧ ∃ v' cap', cSB σ' b v' cap' [] ∧ (v' = v ∨ v' = σ.1.1) := by
  have hck0 := fun K => h.ck (K := K)
  obtain ⟨σ1, v', cap', e1, e2, e3, e4, e5⟩ := jS_ensure (ρ := ρ) (n := 0) h hw hg (by omega) (by omega)
  have hne := e3.ne
  obtain ⟨⟨m, b1⟩, ⟨f, b2, b3, b3', b3''⟩, b4, b5⟩ := e3
  have w1 := e2.wf hw
  have e1 : zF_J7_ensureCapacityInternal ρ b (0 : Int32) σ = zz_rV σ1 := e1
  have hv5 : v' = v ∨ v' = σ.1.1 := by rcases e5 with h | h; exact .inl h; exact .inr h.1
  unfold zF_J8_setLength zF_J7_setLength zz_pfN
  rw [hck0, if_pos (by decide), hck0, e1, cc_V, zp_gI b1 (k := 3) (v := .ofNat X.length) rfl, Option.bind_some, if_pos (show (0 : Int32) ≤ Int32.ofNat X.length from by rw [show (0 : Int32) = Int32.ofNat 0 from rfl, ci_le (by decide) (by omega)]; omega), Option.bind_some]
  split
  · rw [zq_pf (N := 4) b1 rfl (fs' := [.ref v', .int 0, m, .int 0]) rfl, Option.bind_some, cc_V]
    exact ⟨_, rfl, e2.trans (k' := 0) (zp_set_le (M := fun a => a = b) (w1.lt b1) rfl) fun _ _ h => h, v', cap', ⟨⟨m, zp_set_at⟩, ⟨f, (zp_set_old hne.symm).trans b2, fun i ch hi => by simp at hi, by simp, b3''⟩, b4, fun ch h => by simp at h⟩, hv5⟩
  · rw [if_pos (show zz_fit .boolean 1 = true from rfl), zq_pf (N := 4) b1 rfl (fs' := [.ref v', .int 0, .int 1, .int (.ofNat X.length)]) rfl, Option.bind_some, zq_pf (N := 4) zp_set_at rfl (fs' := [.ref v', .int 0, .int 1, .int 0]) rfl, Option.bind_some, cs_set_set, cc_V]
    exact ⟨_, rfl, e2.trans (k' := 0) (zp_set_le (M := fun a => a = b) (w1.lt b1) rfl) fun _ _ h => h, v', cap', ⟨⟨.int 1, zp_set_at⟩, ⟨f, (zp_set_old hne.symm).trans b2, fun i ch hi => by simp at hi, by simp, b3''⟩, b4, fun ch h => by simp at h⟩, hv5⟩
end JSB
