/-! ===== StringBuilder.append of a number; toString ===== -/
section JNU
variable {ρ : zz_C} {σ : zz_S} {τ : Nat → Nat}
def pa_num (n : Nat) : List Nat := if n < 10 then [48 + n] else [48 + n / 10, 48 + n % 10]
/-- the digits' tables, never written -/
def rDig (ρ : zz_C) (τ : Nat → Nat) (σ : zz_S) : Prop := ∃ (a1 a2 : Nat) (w1 w2 : Bool) (f1 f2 : Nat → Int32), ρ.1 15 = some a1 ∧ τ a1 = 1 ∧ σ.2.2 a1 = some (w1, .inl (1, (100, .inl f1))) ∧ (∀ n, n < 100 → f1 n = .ofNat (48 + n % 10)) ∧ ρ.1 16 = some a2 ∧ τ a2 = 1 ∧ σ.2.2 a2 = some (w2, .inl (1, (100, .inl f2))) ∧ (∀ n, n < 100 → f2 n = .ofNat (48 + n / 10))
theorem rDig.keep {G : Nat → Prop} {τ' : Nat → Nat} {σ' : zz_S} (h : zo_k G τ σ τ' σ') (h1 : G 1) (hc : rDig ρ τ σ) : rDig ρ τ' σ' := by
  obtain ⟨a1, a2, w1, w2, f1, f2, c1, c2, c3, c4, c5, c6, c7, c8⟩ := hc
  have k1 := h a1 (by rw [c2]; exact h1)
  have k2 := h a2 (by rw [c6]; exact h1)
  exact ⟨a1, a2, w1, w2, f1, f2, c1, k1.1.trans c2, k1.2.trans c3, c4, c5, k2.1.trans c6, k2.2.trans c7, c8⟩
theorem jm_neg : ∀ n, n < 100 → (-(Int32.ofNat n) ≤ (-10 : Int32) ↔ 10 ≤ n) ∧ ¬ (-(Int32.ofNat n) ≤ (10 : Int32) * (-10)) ∧ -(-(Int32.ofNat n)) = Int32.ofNat n ∧ ((-100 : Int32) < -(Int32.ofNat n)) ∧ ((-9 : Int32) ≤ -(Int32.ofNat n) ↔ n < 10) := by decide +kernel
theorem jm_size {n : Nat} (hn : n < 100) (hfu : 3 ≤ ρ.2) : zF_J17_stringSize ρ (.ofNat n) σ = zz_rI (.ofNat (pa_num n).length) σ := by
  obtain ⟨h1, h2, h3, h4, h5⟩ := jm_neg n hn
  obtain ⟨fu, hfu⟩ : ∃ fu, ρ.2 = fu + 2 := ⟨ρ.2 - 2, by omega⟩
  unfold zF_J17_stringSize zJ_J17_stringSize_11 pa_num
  rw [if_neg (jn_cmp' (by omega)), hfu, zL_J17_stringSize_16, if_neg (by decide)]
  by_cases h : n < 10
  · rw [if_neg (fun hh => by have := h1.mp hh; omega), if_pos h]
    rfl
  · rw [if_pos (h1.mpr (by omega)), zL_J17_stringSize_16, if_neg (by decide), if_neg h2, if_neg h]
    rfl
theorem jm_dec {k : Nat} (h : 0 < k) : Int32.ofNat k + (-1 : Int32) = Int32.ofNat (k - 1) := by
  obtain ⟨j, rfl⟩ : ∃ j, k = j + 1 := ⟨k - 1, by omega⟩
  rw [← ci_succ, Int32.add_assoc, show (1 : Int32) + (-1) = 0 from by decide, Int32.add_zero]
  rfl
/-- the characters of n are written, the last at place k - 1 -/
theorem jm_chars {n k v cap : Nat} {f : Nat → Int32} (hn : n < 100) (hd : rDig ρ τ σ) (hv : σ.2.2 v = some (true, .inl (1, (cap, .inl f)))) (htv : τ v ≠ 1) (hk : (pa_num n).length ≤ k ∧ k ≤ cap) (hcap : cap ≤ 100) (hw : zp_wf σ) (hfu : 3 ≤ ρ.2) :
    ∃ σ' f' r, zF_J17_getChars ρ (.ofNat n) (.ofNat k) (some v) σ = zz_rI r σ' ∧ zp_le (fun a => a = v) 0 σ σ' ∧ σ'.2.2 v = some (true, .inl (1, (cap, .inl f'))) ∧ (∀ i, i < k - (pa_num n).length → f' i = f i) ∧ (∀ i ch, (pa_num n)[i]? = some ch → f' (k - (pa_num n).length + i) = .ofNat ch) := by
  obtain ⟨h1, h2, h3, h4, h5⟩ := jm_neg n hn
  obtain ⟨fu, hfu⟩ : ∃ fu, ρ.2 = fu + 1 := ⟨ρ.2 - 1, by omega⟩
  obtain ⟨a1, a2, w1, w2, f1, f2, c1, c2, c3, c4, c5, c6, c7, c8⟩ := hd
  have hge : (0 : Int32) ≤ Int32.ofNat n := by rw [show (0 : Int32) = Int32.ofNat 0 from rfl, ci_le (by omega) (by omega)]; omega
  have hpos : 1 ≤ (pa_num n).length := by unfold pa_num; split <;> simp
  have hva2 : a2 ≠ v := fun h => htv (by rw [← h]; exact c6)
  unfold zF_J17_getChars zJ_J17_getChars_12
  rw [if_pos hge, if_pos z00, hfu, zL_J17_getChars_22, if_pos h4, h3, c1, jt_aI c3 hn (by decide), Option.bind_some, jm_dec (by omega), c4 n hn, jS_sI hv (by omega) hcap (jS_nar' _ (by omega)), Option.bind_some]
  obtain ⟨s1, e1⟩ : ∃ s, s = zz_set σ v (.inl (1, (cap, .inl (upd f (k - 1) (.ofNat (48 + n % 10)))))) := ⟨_, rfl⟩
  have v1 : s1.2.2 v = some (true, .inl (1, (cap, .inl (upd f (k - 1) (.ofNat (48 + n % 10)))))) := by rw [e1]; exact zp_set_at
  have l1 : zp_le (fun a => a = v) 0 σ s1 := by rw [e1]; exact zp_set_le (hw.lt hv) rfl
  rw [← e1]
  by_cases h : n < 10
  · rw [if_pos (h5.mpr h)]
    unfold zJ_J17_getChars_104
    rw [if_pos z00]
    have hp : pa_num n = [48 + n] := if_pos h
    rw [hp]
    refine ⟨s1, _, _, rfl, l1, v1, fun i hi => upd_ne (by simp at hi; omega), fun i ch hi => ?_⟩
    have hi0 : i = 0 := by
      have := (List.getElem?_eq_some_iff.mp hi).1
      simp at this; exact this
    subst hi0
    have : ch = 48 + n := by simpa using hi.symm
    rw [this]
    show upd f (k - 1) _ (k - 1) = _
    rw [upd_at, Nat.mod_eq_of_lt h]
  · rw [if_neg (fun hh => h (h5.mp hh))]
    have hp : pa_num n = [48 + n / 10, 48 + n % 10] := if_neg h
    rw [hp] at hk ⊢
    have hk2 : 2 ≤ k := hk.1
    have c7' : s1.2.2 a2 = _ := (l1.keep (hw.lt c7) hva2).trans c7
    rw [c5, jt_aI c7' hn (by decide), Option.bind_some, jm_dec (show 0 < k - 1 by omega), c8 n hn, jS_sI v1 (by omega) hcap (jS_nar' _ (by omega)), Option.bind_some]
    unfold zJ_J17_getChars_104
    rw [if_pos z00]
    refine ⟨_, _, _, rfl, l1.trans (k' := 0) (zp_set_le (M := fun a => a = v) (l1.lt (hw.lt hv)) rfl) fun _ _ h => h, zp_set_at, fun i hi => ?_, fun i ch hi => ?_⟩
    · simp at hi
      rw [upd_ne (by omega), upd_ne (by omega)]
    · have hil := (List.getElem?_eq_some_iff.mp hi).1
      simp at hil
      have hi01 : i = 0 ∨ i = 1 := by omega
      rcases hi01 with rfl | rfl
      · have : ch = 48 + n / 10 := by simpa using hi.symm
        rw [this]
        show upd _ (k - 1 - 1) _ (k - 2 + 0) = _
        rw [show k - 2 + 0 = k - 1 - 1 by omega, upd_at]
      · have : ch = 48 + n % 10 := by simpa using hi.symm
        rw [this]
        show upd _ (k - 1 - 1) _ (k - 2 + 1) = _
        rw [show k - 2 + 1 = k - 1 by omega, upd_ne (by omega), upd_at]
theorem jS_appendN {b v cap n g : Nat} {X : List Nat} (h : cSB σ b v cap X) (hn : n < 100) (hd : rDig ρ τ σ) (ht : τ b ≠ 1 ∧ τ v ≠ 1) (hw : zo_wf τ σ) (hg : zp_gas (g + 1) σ) (hn70 : X.length + (pa_num n).length ≤ 70) (hfu : 3 ≤ ρ.2) :
    ∃ σ' v' cap', zF_J8_append_2 ρ b (.ofNat n) σ = zz_rR (some b) σ' ∧ zp_le (fun a => a = b ∨ a = v) 1 σ σ' ∧ cSB σ' b v' cap' (X ++ pa_num n) ∧ (v' = v ∨ (v' = σ.1.1 ∧ σ.1.1 < σ'.1.1)) := by
  have hck0 := fun K => h.ck (K := K)
  have hlen : X.length ≤ cap := h.2.1.choose_spec.2.2.1
  have hp2 : (pa_num n).length ≤ 2 := by unfold pa_num; split <;> simp
  obtain ⟨σ1, v', cap', e1, e2, e3, e4, e5⟩ := jS_ensure (ρ := ρ) (n := X.length + (pa_num n).length) h hw.1 hg (by omega) (by omega)
  have hck1 := fun K => e3.ck (K := K)
  have hne := e3.ne
  obtain ⟨⟨m0, h1⟩, -⟩ := h
  obtain ⟨⟨m, b1⟩, ⟨f, b2, b3, b3', b3''⟩, b4, b5⟩ := e3
  have w1 := hw.le e2
  have hd1 : rDig ρ τ σ1 := hd.keep (G := fun t => t = 1) (fun a ha => ⟨rfl, e2.keep (hw.lt (by omega)) fun h => ht.1 (by rw [← h]; exact ha)⟩) rfl
  have htv' : τ v' ≠ 1 := by
    rcases e5 with e5 | e5
    · rw [e5]; exact ht.2
    · rw [e5.1, hw.new]; decide
  obtain ⟨s2, f', r, q1, q2, q3, q4, q5⟩ := jm_chars (ρ := ρ) (k := X.length + (pa_num n).length) hn hd1 b2 htv' ⟨by omega, e4⟩ (by omega) w1.1 hfu
  have c2 : s2.2.2 b = _ := (q2.keep (w1.1.lt b1) hne).trans b1
  unfold zF_J8_append_2 zF_J7_append_2 zF_J7_isLatin1
  rw [hck0, zp_gI h1 (k := 3) (v := .ofNat X.length) rfl, Option.bind_some, jm_size hn hfu, cc_I, hck0, ci_add, e1, cc_V, hck1, zp_gI b1 (k := 1) (v := 0) rfl, Option.bind_some, if_pos z00, cb_b1, cc_I, if_neg n10, zp_gR b1 (k := 0) (v := some v') rfl, Option.bind_some, q1, cc_I, zq_pf (N := 4) c2 rfl (fs' := [.ref v', .int 0, m, .int (.ofNat (X.length + (pa_num n).length))]) rfl, Option.bind_some, cc_R]
  have l02 : zp_le (fun a => a = b ∨ a = v) 1 σ s2 := (e2.mono (M' := fun a => a = b ∨ a = v) (fun a _ h => .inl h) (Nat.le_refl _)).trans (k' := 0) q2 fun a ha h => by
    rcases e5 with e5 | e5
    · right; rw [h, e5]
    · omega
  have hbl : b < s2.1.1 := (l02.wf hw.1).lt c2
  refine ⟨_, v', cap', rfl, l02.trans (k' := 0) (zp_set_le (M := fun a => a = b ∨ a = v) hbl (.inl rfl)) fun _ _ h => h, ⟨⟨m, zp_set_at.trans (by rw [List.length_append])⟩, ⟨f', (zp_set_old hne.symm).trans q3, fun i ch hi => ?_, by simp; omega, b3''⟩, b4, fun ch h => ?_⟩, ?_⟩
  · have hil := (List.getElem?_eq_some_iff.mp hi).1
    simp at hil
    by_cases hi2 : X.length ≤ i
    · rw [List.getElem?_append_right hi2] at hi
      have := q5 _ ch hi
      rw [show X.length + (pa_num n).length - (pa_num n).length + (i - X.length) = i by omega] at this
      exact this
    · rw [List.getElem?_append_left (by omega)] at hi
      rw [q4 i (by omega)]
      exact b3 i ch hi
  · rcases List.mem_append.mp h with h | h
    · exact b5 ch h
    · unfold pa_num at h
      split at h
      · have : ch = 48 + n := by simpa using h
        omega
      · have : ch = 48 + n / 10 ∨ ch = 48 + n % 10 := by simpa using h
        omega
  · rcases e5 with e5 | ⟨e5, e6⟩
    · exact .inl e5
    · right
      refine ⟨e5, ?_⟩
      show _ < s2.1.1
      have := q2.2.1
      omega
/-- toString -/
theorem jS_toString {b v cap g : Nat} {X : List Nat} (h : cSB σ b v cap X) (hw : zp_wf σ) (hg : zp_gas (g + 2) σ) :
    ∃ σ' s v', zF_J8_toString ρ b σ = zz_rR (some s) σ' ∧ zp_le zp_no 2 σ σ' ∧ cStr σ' s v' X ∧ σ.1.1 ≤ s ∧ σ.1.1 ≤ v' ∧ s < σ'.1.1 ∧ v' < σ'.1.1 ∧ s ≠ v' := by
  have hne := h.ne
  obtain ⟨⟨m, h1⟩, ⟨f, h2, h3, h3', h3''⟩, h4, h5⟩ := id h
  have hb := hw.lt h1
  have hv := hw.lt h2
  unfold zF_J8_toString
  rw [zp_al_eq (n := g + 1) hg (by decide)]
  obtain ⟨s1, e1⟩ : ∃ s, s = zp_al σ (.inr (109, [.null, .int 0, .int 0, .int 0])) 4 := ⟨_, rfl⟩
  have l1 : zp_le zp_no 1 σ s1 := by rw [e1]; exact zp_al_le (by decide)
  have n1 : s1.1.1 = σ.1.1 + 1 := by rw [e1]; rfl
  have a1 : s1.2.2 σ.1.1 = some (true, .inr (109, [.null, .int 0, .int 0, .int 0])) := by rw [e1]; exact zp_al_new
  have hS1 : cSB s1 b v cap X := h.keep (l1.keep hb fun h => h) (l1.keep hv fun h => h)
  have b1 := (l1.keep hb fun h => h).trans h1
  have v1 := (l1.keep hv fun h => h).trans h2
  have g1 : zp_gas (g + 1) s1 := l1.gas (n := g + 1) hg
  rw [← e1]
  unfold zF_J9_init zF_J9_init_2 zF_J7_getValue zF_J7_isLatin1 zz_pfN
  rw [hS1.ck, zp_gR b1 (k := 0) (v := some v) rfl, Option.bind_some, cc_R, hS1.ck, hS1.len, cc_I, hS1.ck, zp_gI b1 (k := 1) (v := 0) rfl, Option.bind_some, if_pos z00, cb_b1, cc_I, if_neg n10, if_pos (show zz_fit .byte 0 = true from rfl), zq_pf (N := 4) a1 rfl (fs' := [.null, .int 0, .int 0, .int 0]) rfl, Option.bind_some, cs_same a1]
  unfold zF_J13_copyOfRange
  rw [if_pos z00, zp_len v1, Option.bind_some]
  by_cases hc : X.length = cap
  · rw [if_pos (by rw [hc])]
    have ecl : zz_clB s1 (some v) (fun a6 σ7 => if ¬ (zz_wB σ7 (some a6) = true) then none else zz_rR (some a6) σ7) = zz_rR (some s1.1.1) (zp_al s1 (.inl (1, (cap, .inl f))) cap) := by
      unfold zz_clB zz_ar
      simp only [v1, if_true]
      rw [zp_al_eq (n := g) g1 (by omega)]
      have : zz_wB (zp_al s1 (.inl (1, (cap, .inl f))) cap) (some s1.1.1) = true := by
        unfold zz_wB zz_ar
        simp only [zp_al_new, if_true]
      rw [if_neg (fun h => h this)]
    rw [ecl, cc_R]
    obtain ⟨s2, e2⟩ : ∃ s, s = zp_al s1 (.inl (1, (cap, .inl f))) cap := ⟨_, rfl⟩
    have l2 : zp_le zp_no 1 s1 s2 := by rw [e2]; exact zp_al_le (by omega)
    have n2 : s2.1.1 = s1.1.1 + 1 := by rw [e2]; rfl
    have a2 : s2.2.2 σ.1.1 = _ := (l2.keep (by omega) fun h => h).trans a1
    have d2 : s2.2.2 s1.1.1 = some (true, .inl (1, (cap, .inl f))) := by rw [e2]; exact zp_al_new
    rw [← e2, zq_pf (N := 4) a2 rfl (fs' := [.ref s1.1.1, .int 0, .int 0, .int 0]) rfl, Option.bind_some, cc_V, cc_V]
    refine ⟨_, σ.1.1, s1.1.1, rfl, ((l1.trans l2 fun _ _ h => h).trans (k' := 0) (zp_set_le (M := fun a => a = σ.1.1) (by omega) rfl) fun a ha h => by omega), ⟨⟨_, _, _, zp_set_at⟩, ⟨true, f, (zp_set_old (by omega)).trans (d2.trans (by rw [hc])), h3⟩, h5, by omega⟩, Nat.le_refl _, by omega, ?_, ?_, by omega⟩
    · show _ < s2.1.1; omega
    · show _ < s2.1.1; omega
  · rw [if_neg (show ¬ Int32.ofNat X.length = Int32.ofNat cap from by rw [ci_eq (by omega) (by omega)]; exact hc)]
    unfold zF_J13_copyOfRangeByte zF_J13_checkLength zF_J12_min
    rw [if_pos (show (0 : Int32) ≤ Int32.ofNat X.length from by rw [show (0 : Int32) = Int32.ofNat 0 from rfl, ci_le (by decide) (by omega)]; omega), cc_V, show Int32.ofNat X.length - 0 = Int32.ofNat X.length from Int32.sub_zero _, zp_na_eq (g := g) g1 (by omega)]
    obtain ⟨s2, e2⟩ : ∃ s, s = zp_al s1 (zz_z 1 X.length) X.length := ⟨_, rfl⟩
    have l2 : zp_le zp_no 1 s1 s2 := by rw [e2]; exact zp_al_le (by omega)
    have n2 : s2.1.1 = s1.1.1 + 1 := by rw [e2]; rfl
    have v2 : s2.2.2 v = _ := (l2.keep (by omega) fun h => h).trans v1
    have a2 : s2.2.2 σ.1.1 = _ := (l2.keep (by omega) fun h => h).trans a1
    have d2 : s2.2.2 s1.1.1 = some (true, .inl (1, (X.length, .inl (fun _ => 0)))) := by rw [e2]; exact zp_al_new
    have ecp : zz_cpB s2 (some v) (0 : Int32) (some s1.1.1) (0 : Int32) (.ofNat X.length) = some (zz_set s2 s1.1.1 (.inl (1, (X.length, .inl (va_cpy f (fun _ => 0) 0 0 X.length))))) := jt_cpB (i := 0) (j := 0) (n := X.length) v2 d2 (by omega) (by omega) ⟨by omega, by omega⟩
    rw [← e2, zp_len v2, Option.bind_some, show Int32.ofNat cap - 0 = Int32.ofNat cap from Int32.sub_zero _, if_pos ((ci_lt (by omega) (by omega)).mpr (by omega)), cc_I, ecp, Option.bind_some, cc_R, cc_R]
    obtain ⟨s3, e3⟩ : ∃ s, s = zz_set s2 s1.1.1 (.inl (1, (X.length, .inl (va_cpy f (fun _ => 0) 0 0 X.length)))) := ⟨_, rfl⟩
    have l3 : zp_le (fun a => a = s1.1.1) 0 s2 s3 := by rw [e3]; exact zp_set_le (by omega) rfl
    have n3 : s3.1.1 = s2.1.1 := by rw [e3]; rfl
    have a3 : s3.2.2 σ.1.1 = _ := (l3.keep (by omega) (by show ¬ _ = _; omega)).trans a2
    have d3 : s3.2.2 s1.1.1 = some (true, .inl (1, (X.length, .inl (va_cpy f (fun _ => 0) 0 0 X.length)))) := by rw [e3]; exact zp_set_at
    rw [← e3, zq_pf (N := 4) a3 rfl (fs' := [.ref s1.1.1, .int 0, .int 0, .int 0]) rfl, Option.bind_some, cc_V, cc_V]
    refine ⟨_, σ.1.1, s1.1.1, rfl, (((l1.trans l2 fun _ _ h => h).trans (k' := 0) l3 fun a ha h => by omega).trans (k' := 0) (zp_set_le (M := fun a => a = σ.1.1) (by omega) rfl) fun a ha h => by omega), ⟨⟨_, _, _, zp_set_at⟩, ⟨true, _, (zp_set_old (by omega)).trans d3, fun i ch hi => ?_⟩, h5, by omega⟩, Nat.le_refl _, by omega, ?_, ?_, by omega⟩
    · have hil := (List.getElem?_eq_some_iff.mp hi).1
      unfold va_cpy
      rw [if_pos ⟨Nat.zero_le _, by omega⟩, Nat.zero_add, Nat.sub_zero]
      exact h3 i ch hi
    · show _ < s3.1.1; omega
    · show _ < s3.1.1; omega
end JNU
