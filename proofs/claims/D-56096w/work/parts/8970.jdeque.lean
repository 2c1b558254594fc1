/-! ===== java.util.ArrayDeque of at most sixteen elements ===== -/
section JD
variable {ρ : zz_C} {σ : zz_S}
/-- ArrayDeque at d over the array e (17 places), first place h, elements X -/
def cD (σ : zz_S) (d e h : Nat) (X : List Nat) : Prop :=
  h < 17 ∧ X.length ≤ 16 ∧ σ.2.2 d = some (true, .inr (118, [.ref e, .int (.ofNat h), .int (.ofNat ((h + X.length) % 17))])) ∧
  ∃ f : Nat → Option Nat, σ.2.2 e = some (true, .inl (5, (17, .inr (.inr (.inr (.inr f)))))) ∧ ∀ i x, X[i]? = some x → f ((h + i) % 17) = some x
theorem cD.keep {σ' : zz_S} {d e h : Nat} {X : List Nat} (hc : cD σ d e h X) (hd : σ'.2.2 d = σ.2.2 d) (he : σ'.2.2 e = σ.2.2 e) : cD σ' d e h X := by
  obtain ⟨h1, h2, h3, f, h4, h5⟩ := hc
  exact ⟨h1, h2, hd.trans h3, f, he.trans h4, h5⟩
theorem cD.ck {d e h : Nat} {X : List Nat} {K : Nat → zz_R} (hc : cD σ d e h X) : zz_ck σ (some d) 118 K = K d := zp_ck hc.2.2.1
theorem cD.ne {d e h : Nat} {X : List Nat} (hc : cD σ d e h X) : d ≠ e := by
  obtain ⟨h1, h2, h3, f, h4, h5⟩ := hc
  intro h
  rw [h, h4] at h3
  cases h3
theorem jd_inc {k : Nat} (h : k < 17) : zF_J18_inc ρ (.ofNat k) (.ofNat 17) σ = zz_rI (.ofNat ((k + 1) % 17)) σ := by
  unfold zF_J18_inc
  rw [ci_succ]
  by_cases h1 : k + 1 < 17
  · rw [if_pos ((ci_lt (by omega) (by decide)).mpr h1), Nat.mod_eq_of_lt h1]
  · rw [if_neg (fun h => h1 ((ci_lt (by omega) (by decide)).mp h)), show (k + 1) % 17 = 0 by omega]; rfl
theorem jd_dec {k : Nat} (h : k < 17) : zF_J18_dec ρ (.ofNat k) (.ofNat 17) σ = zz_rI (.ofNat ((k + 16) % 17)) σ := by
  have : ∀ k, k < 17 → (if (0 : Int32) ≤ Int32.ofNat k + (-1 : Int32) then Int32.ofNat k + (-1 : Int32) else Int32.ofNat 17 - 1) = Int32.ofNat ((k + 16) % 17) := by decide
  rw [← this k h]
  unfold zF_J18_dec
  split <;> rfl
theorem jd_size {d e h : Nat} {X : List Nat} (hc : cD σ d e h X) : zF_J18_size ρ d σ = zz_rI (.ofNat X.length) σ := by
  obtain ⟨h1, h2, h3, f, h4, h5⟩ := hc
  have : ∀ h, h < 17 → ∀ n, n ≤ 16 → (if (0 : Int32) ≤ Int32.ofNat ((h + n) % 17) - Int32.ofNat h then Int32.ofNat ((h + n) % 17) - Int32.ofNat h else (Int32.ofNat ((h + n) % 17) - Int32.ofNat h) + Int32.ofNat 17) = Int32.ofNat n := by decide +kernel
  have e1 := this h h1 X.length h2
  unfold zF_J18_size zF_J18_sub
  rw [zp_gI h3 (k := 2) (v := .ofNat ((h + X.length) % 17)) rfl, Option.bind_some, zp_gI h3 (k := 1) (v := .ofNat h) rfl, Option.bind_some, zp_gR h3 (k := 0) (v := some e) rfl, Option.bind_some, zp_len h4, Option.bind_some]
  split at e1
  · next h6 => rw [if_pos h6, cc_I, e1]
  · next h6 => rw [if_neg h6, cc_I, e1]
theorem jd_isEmpty {d e h : Nat} {X : List Nat} (hc : cD σ d e h X) : zF_J18_isEmpty ρ d σ = zz_rI (if X.length = 0 then 1 else 0) σ := by
  obtain ⟨h1, h2, h3, f, h4, h5⟩ := hc
  unfold zF_J18_isEmpty
  rw [zp_gI h3 (k := 1) (v := .ofNat h) rfl, Option.bind_some, zp_gI h3 (k := 2) (v := .ofNat ((h + X.length) % 17)) rfl, Option.bind_some]
  by_cases h0 : X.length = 0
  · rw [if_pos (show Int32.ofNat h = Int32.ofNat ((h + X.length) % 17) from by rw [h0, Nat.add_zero, Nat.mod_eq_of_lt h1]), if_pos h0]; rfl
  · rw [if_neg (show ¬ Int32.ofNat h = Int32.ofNat ((h + X.length) % 17) from by rw [ci_eq (by omega) (by omega)]; omega), if_neg h0]; rfl
theorem jd_sR {e n : Nat} {f : Nat → Option Nat} {k : Nat} {v : Option Nat} (h : σ.2.2 e = some (true, .inl (5, (n, .inr (.inr (.inr (.inr f))))))) (hk : k < n) (hn : n ≤ 100) : zz_sR σ (some e) 5 (.ofNat k) v = some (zz_set σ e (.inl (5, (n, .inr (.inr (.inr (.inr (va_up f k v)))))))) := by
  unfold zz_sR zz_ar
  simp only [h, if_true, tw_inb hk (by omega), ci_nat (show k < 2 ^ 31 by omega)]
  rfl
theorem jd_aR {e n : Nat} {w : Bool} {f : Nat → Option Nat} {k : Nat} (h : σ.2.2 e = some (w, .inl (5, (n, .inr (.inr (.inr (.inr f))))))) (hk : k < n) (hn : n ≤ 100) : zz_aR σ (some e) 5 (.ofNat k) = some (f k) := by
  unfold zz_aR zz_ar
  simp only [h, if_true, tw_inb hk (by omega), ci_nat (show k < 2 ^ 31 by omega)]
theorem jd_init {a n : Nat} (h : σ.2.2 a = some (true, .inr (118, [.null, .int 0, .int 0]))) (hw : zp_wf σ) (hg : zp_gas (n + 1) σ) :
    ∃ σ', zF_J18_init ρ a σ = zz_rV σ' ∧ zp_le (fun b => b = a) 1 σ σ' ∧ σ'.1.1 = σ.1.1 + 1 ∧ cD σ' a σ.1.1 0 [] := by
  have hne : a ≠ σ.1.1 := Nat.ne_of_lt (hw.lt h)
  unfold zF_J18_init zF_J0_init_at_J18
  rw [cc_V, show (17 : Int32) = Int32.ofNat 17 from rfl, zp_na_eq hg (by decide)]
  have a1 : (zp_al σ (zz_z 5 17) 17).2.2 a = some (true, .inr (118, [.null, .int 0, .int 0])) := (zp_al_old hne).trans h
  rw [zq_pf (N := 3) a1 rfl (fs' := [.ref σ.1.1, .int 0, .int 0]) rfl, Option.bind_some]
  refine ⟨_, rfl, (zp_al_le (M := fun b => b = a) (by decide)).trans (k' := 0) (zp_set_le (M := fun b => b = a) (by show a < σ.1.1 + 1; have := hw.lt h; omega) rfl) (fun _ _ h => h), rfl, by decide, by decide, zp_set_at, fun _ => none, ?_, fun k x hk => by simp at hk⟩
  rw [zp_set_old (fun h => hne h.symm)]
  exact zp_al_new
theorem jd_addLast {d e h x : Nat} {X : List Nat} (hc : cD σ d e h X) (hn : X.length < 16) (hx : zz_ok σ (some x) zz_cO = true) (hw : zp_wf σ) :
    ∃ σ', zF_J18_addLast ρ d (some x) σ = zz_rV σ' ∧ zp_le (fun b => b = d ∨ b = e) 0 σ σ' ∧ cD σ' d e h (X ++ [x]) := by
  have hne := hc.ne
  obtain ⟨h1, h2, h3, f, h4, h5⟩ := hc
  have ht : (h + X.length) % 17 < 17 := Nat.mod_lt _ (by decide)
  obtain ⟨s1, e1⟩ : ∃ s, s = zz_set σ e (.inl (5, (17, .inr (.inr (.inr (.inr (va_up f ((h + X.length) % 17) (some x)))))))) := ⟨_, rfl⟩
  have d1 : s1.2.2 d = some (true, .inr (118, [.ref e, .int (.ofNat h), .int (.ofNat ((h + X.length) % 17))])) := by rw [e1]; exact (zp_set_old hne).trans h3
  have a1 : s1.2.2 e = some (true, .inl (5, (17, .inr (.inr (.inr (.inr (va_up f ((h + X.length) % 17) (some x)))))))) := by rw [e1]; exact zp_set_at
  have l1 : zp_le (fun b => b = d ∨ b = e) 0 σ s1 := by rw [e1]; exact zp_set_le (hw.lt h4) (.inr rfl)
  unfold zF_J18_addLast
  rw [cn_some, zp_gR h3 (k := 0) (v := some e) rfl, Option.bind_some, zp_gI h3 (k := 2) (v := .ofNat ((h + X.length) % 17)) rfl, Option.bind_some, if_neg (fun h => h hx), jd_sR h4 ht (by decide), ← e1, Option.bind_some, zp_gI d1 (k := 1) (v := .ofNat h) rfl, Option.bind_some, zp_gI d1 (k := 2) (v := .ofNat ((h + X.length) % 17)) rfl, Option.bind_some, zp_len a1, Option.bind_some, jd_inc ht, cc_I, zp_pf (N := 3) d1 rfl, Option.bind_some, if_neg (show ¬ Int32.ofNat h = Int32.ofNat (((h + X.length) % 17 + 1) % 17) from by rw [ci_eq (by omega) (by omega)]; omega)]
  refine ⟨_, rfl, l1.trans (k' := 0) (zp_set_le (M := fun b => b = d ∨ b = e) (l1.lt (hw.lt h3)) (.inl rfl)) fun _ _ h => h, h1, by simp; omega, zp_set_at.trans ?_, _, (zp_set_old hne.symm).trans a1, fun i y hy => ?_⟩
  · have : ((h + X.length) % 17 + 1) % 17 = (h + (X ++ [x]).length) % 17 := by simp; omega
    rw [this]; rfl
  · have hil := (List.getElem?_eq_some_iff.mp hy).1
    simp at hil
    unfold va_up
    by_cases hi : i = X.length
    · subst hi
      rw [if_pos rfl]
      simpa using hy
    · rw [if_neg (by omega)]
      rw [List.getElem?_append_left (by omega)] at hy
      exact h5 i y hy
theorem jd_removeFirst {d e h x : Nat} {X : List Nat} (hc : cD σ d e h (x :: X)) (hw : zp_wf σ) :
    ∃ σ', zF_J18_removeFirst ρ d σ = zz_rR (some x) σ' ∧ zp_le (fun b => b = d ∨ b = e) 0 σ σ' ∧ cD σ' d e ((h + 1) % 17) X := by
  have hne := hc.ne
  have hck := fun K => hc.ck (K := K)
  obtain ⟨h1, h2, h3, f, h4, h5⟩ := hc
  have h2' : X.length + 1 ≤ 16 := by simpa using h2
  have hfx : f h = some x := by have := h5 0 x rfl; rw [Nat.add_zero, Nat.mod_eq_of_lt h1] at this; exact this
  obtain ⟨s1, e1⟩ : ∃ s, s = zz_set σ e (.inl (5, (17, .inr (.inr (.inr (.inr (va_up f h none))))))) := ⟨_, rfl⟩
  have d1 : s1.2.2 d = some (true, .inr (118, [.ref e, .int (.ofNat h), .int (.ofNat ((h + (x :: X).length) % 17))])) := by rw [e1]; exact (zp_set_old hne).trans h3
  have a1 : s1.2.2 e = some (true, .inl (5, (17, .inr (.inr (.inr (.inr (va_up f h none))))))) := by rw [e1]; exact zp_set_at
  have l1 : zp_le (fun b => b = d ∨ b = e) 0 σ s1 := by rw [e1]; exact zp_set_le (hw.lt h4) (.inr rfl)
  unfold zF_J18_removeFirst zF_J18_pollFirst zF_J18_elementAt
  rw [hck, zp_gR h3 (k := 0) (v := some e) rfl, Option.bind_some, zp_gI h3 (k := 1) (v := .ofNat h) rfl, Option.bind_some, jd_aR h4 h1 (by decide), Option.bind_some, hfx, cc_R, cn_some, if_neg (show ¬ ¬ (zz_ok σ none zz_cO = true) from fun h => h rfl), jd_sR h4 h1 (by decide), ← e1, Option.bind_some, zp_len a1, Option.bind_some, jd_inc h1, cc_I, zp_pf (N := 3) d1 rfl, Option.bind_some, cc_R, cn_some]
  refine ⟨_, rfl, l1.trans (k' := 0) (zp_set_le (M := fun b => b = d ∨ b = e) (l1.lt (hw.lt h3)) (.inl rfl)) fun _ _ h => h, Nat.mod_lt _ (by decide), by omega, zp_set_at.trans ?_, _, (zp_set_old hne.symm).trans a1, fun i y hy => ?_⟩
  · have : (h + (x :: X).length) % 17 = ((h + 1) % 17 + X.length) % 17 := by simp; omega
    rw [this]; rfl
  · have hil := (List.getElem?_eq_some_iff.mp hy).1
    unfold va_up
    rw [if_neg (by omega)]
    have := h5 (i + 1) y hy
    rw [← this]
    congr 1
    omega
theorem jd_removeLast {d e h x : Nat} {X : List Nat} (hc : cD σ d e h (X ++ [x])) (hw : zp_wf σ) :
    ∃ σ', zF_J18_removeLast ρ d σ = zz_rR (some x) σ' ∧ zp_le (fun b => b = d ∨ b = e) 0 σ σ' ∧ cD σ' d e h X := by
  have hne := hc.ne
  have hck := fun K => hc.ck (K := K)
  obtain ⟨h1, h2, h3, f, h4, h5⟩ := hc
  have h2' : X.length + 1 ≤ 16 := by simpa using h2
  have ht : (h + (X ++ [x]).length) % 17 < 17 := Nat.mod_lt _ (by decide)
  have ht2 : ((h + (X ++ [x]).length) % 17 + 16) % 17 = (h + X.length) % 17 := by simp; omega
  have ht3 : (h + X.length) % 17 < 17 := Nat.mod_lt _ (by decide)
  have hfx : f ((h + X.length) % 17) = some x := h5 X.length x (by simp)
  obtain ⟨s1, e1⟩ : ∃ s, s = zz_set σ d (.inr (118, [.ref e, .int (.ofNat h), .int (.ofNat ((h + X.length) % 17))])) := ⟨_, rfl⟩
  have d1 : s1.2.2 d = some (true, .inr (118, [.ref e, .int (.ofNat h), .int (.ofNat ((h + X.length) % 17))])) := by rw [e1]; exact zp_set_at
  have a1 : s1.2.2 e = some (true, .inl (5, (17, .inr (.inr (.inr (.inr f)))))) := by rw [e1]; exact (zp_set_old hne.symm).trans h4
  have l1 : zp_le (fun b => b = d ∨ b = e) 0 σ s1 := by rw [e1]; exact zp_set_le (hw.lt h3) (.inl rfl)
  unfold zF_J18_removeLast zF_J18_pollLast zF_J18_elementAt
  rw [hck, zp_gR h3 (k := 0) (v := some e) rfl, Option.bind_some, zp_gI h3 (k := 2) (v := .ofNat ((h + (X ++ [x]).length) % 17)) rfl, Option.bind_some, zp_len h4, Option.bind_some, jd_dec ht, cc_I, ht2, jd_aR h4 ht3 (by decide), Option.bind_some, hfx, cc_R, cn_some, zq_pf (N := 3) h3 rfl (fs' := [.ref e, .int (.ofNat h), .int (.ofNat ((h + X.length) % 17))]) rfl, ← e1, Option.bind_some, if_neg (show ¬ ¬ (zz_ok s1 none zz_cO = true) from fun h => h rfl), jd_sR a1 ht3 (by decide), Option.bind_some, cc_R, cn_some]
  refine ⟨_, rfl, l1.trans (k' := 0) (zp_set_le (M := fun b => b = d ∨ b = e) (l1.lt (hw.lt h4)) (.inr rfl)) fun _ _ h => h, h1, by omega, (zp_set_old hne).trans d1, _, zp_set_at, fun i y hy => ?_⟩
  have hil := (List.getElem?_eq_some_iff.mp hy).1
  unfold va_up
  rw [if_neg (by omega)]
  exact h5 i y (by rw [List.getElem?_append_left hil]; exact hy)
theorem jl_clear {e : Nat} :
    ∀ (r n k en tt : Nat) (σ : zz_S) (f : Nat → Option Nat), zp_wf σ → σ.2.2 e = some (true, .inl (5, (17, .inr (.inr (.inr (.inr f)))))) → k ≤ 17 → en ≤ 17 → tt ≤ 17 → k ≤ tt → (tt = en → (tt - k) + 1 ≤ r) → (tt ≠ en → (tt - k) + 1 + en + 1 ≤ r) → r ≤ n → 
      ∃ σ' f', zL_J18_circularClear_12 ρ n (some e) (.ofNat k) (.ofNat en) (.ofNat tt) σ = zz_rV σ' ∧ zp_le (fun b => b = e) 0 σ σ' ∧ σ'.2.2 e = some (true, .inl (5, (17, .inr (.inr (.inr (.inr f')))))) := by
  intro r
  induction r with
  | zero =>
    intro n k en tt σ f hw h4 hk hen htt hkt h1 h2 hr
    by_cases h : tt = en
    · have := h1 h; omega
    · have := h2 h; omega
  | succ r ih =>
    intro n k en tt σ f hw h4 hk hen htt hkt h1 h2 hr
    obtain ⟨n, rfl⟩ : ∃ m, n = m + 1 := ⟨n - 1, by omega⟩
    rw [zL_J18_circularClear_12]
    by_cases hle : tt ≤ k
    · rw [if_pos ((ci_le (by omega) (by omega)).mpr hle)]
      by_cases he : tt = en
      · rw [if_pos (by rw [he])]
        exact ⟨σ, f, rfl, zp_le.refl _ _ _, h4⟩
      · rw [if_neg (show ¬ Int32.ofNat tt = Int32.ofNat en from by rw [ci_eq (by omega) (by omega)]; exact he)]
        have := h2 he
        exact ih n 0 en en σ f hw h4 (by omega) hen hen (by omega) (fun _ => by omega) (fun h => absurd rfl h) (by omega)
    · rw [if_neg (fun h => hle ((ci_le (by omega) (by omega)).mp h)), if_neg (show ¬ ¬ (zz_ok σ none zz_cO = true) from fun h => h rfl), jd_sR h4 (by omega) (by decide), Option.bind_some, ci_succ]
      have l1 : zp_le (fun b => b = e) 0 σ (zz_set σ e (.inl (5, (17, .inr (.inr (.inr (.inr (va_up f k none)))))))) := zp_set_le (hw.lt h4) rfl
      obtain ⟨σ', f', i1, i2, i3⟩ := ih n (k + 1) en tt _ _ (l1.wf hw) (zp_set_at (σ := σ) (a := e)) (by omega) hen htt (by omega) (fun h => by have := h1 h; omega) (fun h => by have := h2 h; omega) (by omega)
      exact ⟨σ', f', i1, l1.trans (k' := 0) i2 fun _ _ h => h, i3⟩
theorem jd_clear {d e h : Nat} {X : List Nat} (hc : cD σ d e h X) (hw : zp_wf σ) (hfu : 100 ≤ ρ.2) :
    ∃ σ', zF_J18_clear ρ d σ = zz_rV σ' ∧ zp_le (fun b => b = d ∨ b = e) 0 σ σ' ∧ cD σ' d e 0 [] := by
  have hne := hc.ne
  obtain ⟨h1, h2, h3, f, h4, h5⟩ := hc
  have ht : (h + X.length) % 17 < 17 := Nat.mod_lt _ (by decide)
  have key : ∃ σ' f', zF_J18_circularClear ρ (some e) (.ofNat h) (.ofNat ((h + X.length) % 17)) σ = zz_rV σ' ∧ zp_le (fun b => b = e) 0 σ σ' ∧ σ'.2.2 e = some (true, .inl (5, (17, .inr (.inr (.inr (.inr f')))))) := by
    unfold zF_J18_circularClear zJ_J18_circularClear_11
    by_cases hl : (h + X.length) % 17 < h
    · rw [if_pos ((ci_lt (by omega) (by omega)).mpr hl), zp_len h4, Option.bind_some]
      exact jl_clear 100 ρ.2 h _ 17 σ f hw h4 (by omega) (by omega) (by omega) (by omega) (fun _ => by omega) (fun _ => by omega) hfu
    · rw [if_neg (fun h => hl ((ci_lt (by omega) (by omega)).mp h))]
      exact jl_clear 100 ρ.2 h _ _ σ f hw h4 (by omega) (by omega) (by omega) (by omega) (fun _ => by omega) (fun _ => by omega) hfu
  obtain ⟨s1, f', i1, i2, i3⟩ := key
  have d1 : s1.2.2 d = _ := (i2.keep (hw.lt h3) hne).trans h3
  unfold zF_J18_clear
  rw [zp_gR h3 (k := 0) (v := some e) rfl, Option.bind_some, zp_gI h3 (k := 1) (v := .ofNat h) rfl, Option.bind_some, zp_gI h3 (k := 2) (v := .ofNat ((h + X.length) % 17)) rfl, Option.bind_some, i1, cc_V, zp_pf (N := 3) d1 rfl, Option.bind_some, zp_pf (N := 3) zp_set_at rfl, Option.bind_some, cs_set_set]
  refine ⟨_, rfl, (i2.mono (M' := fun b => b = d ∨ b = e) (fun b _ h => .inr h) (Nat.le_refl _)).trans (k' := 0) (zp_set_le (M := fun b => b = d ∨ b = e) (i2.lt (hw.lt h3)) (.inl rfl)) fun _ _ h => h, by decide, by decide, zp_set_at, f', (zp_set_old hne.symm).trans i3, fun i x hi => by simp at hi⟩
end JD
