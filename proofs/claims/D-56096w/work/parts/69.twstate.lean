/-! ===== THE WHOLE STATE: the current assembly, the history, the snapshot, text, line, the two places ===== -/
abbrev pa_S : Type := pa_A × List pa_A × Option pa_A × List Nat × List Nat × Option Nat × Option Nat
/-- a change: the assembly before it goes to the history, eight of which are kept -/
def pa_push (H : List pa_A) (A : pa_A) : List pa_A := if H.length = 8 then H.drop 1 ++ [A] else H ++ [A]
def pa_after (S : pa_S) (o : pa_O) : pa_S := match o with
  | .inl (_, A') => (A', pa_push S.2.1 S.1, S.2.2)
  | .inr _ => S
def pa_val (o : pa_O) : Nat := match o with
  | .inl (v, _) => v
  | .inr _ => 0
def pa_code (o : pa_O) : Nat := match o with
  | .inl _ => 0
  | .inr p => p
/-- a number or -1 -/
def pa_opt (o : Option Nat) : Int32 := match o with
  | some n => .ofNat n
  | none => -1
def tw_words : List Nat := [102, 114, 111, 103, 32, 112, 97, 100, 32, 104, 111, 112, 32, 100, 105, 118, 101, 32, 109, 111, 116, 105, 111, 110, 32, 108, 105, 115, 116, 32, 115, 116, 114, 105, 107, 101, 32, 99, 97, 108, 108, 32, 101, 110, 100, 32, 99, 114, 111, 97, 107, 32, 100, 101, 99, 105, 100, 101, 32]
def tw_wordAt : List Nat := [0, 5, 9, 13, 18, 25, 30, 37, 42, 46, 52, 59]
/-- the twin holds S -/
def tS (M : zt_M) (S : pa_S) : Prop :=
  pt (M.2 5) S.1 ∧ M.1 1 = .ofNat S.2.1.length ∧ (∀ i A, S.2.1[i]? = some A → pt (fun k => M.2 8 (407 * i + k)) A) ∧
  M.1 4 = (if S.2.2.1.isSome then 1 else 0) ∧ (∀ A, S.2.2.1 = some A → pt (M.2 7) A) ∧
  M.1 14 = .ofNat S.2.2.2.1.length ∧ (∀ i ch, S.2.2.2.1[i]? = some ch → M.2 9 i = .ofNat ch) ∧
  M.1 17 = .ofNat S.2.2.2.2.1.length ∧ (∀ i ch, S.2.2.2.2.1[i]? = some ch → M.2 10 i = .ofNat ch) ∧
  M.1 2 = pa_opt S.2.2.2.2.2.1 ∧ M.1 3 = pa_opt S.2.2.2.2.2.2 ∧
  (∀ i ch, tw_words[i]? = some ch → M.2 12 i = .ofNat ch) ∧ (∀ i n, tw_wordAt[i]? = some n → M.2 13 i = .ofNat n)
/-- the assemblies' numbers are small; there are at most eight in the history -/
def pS (S : pa_S) (c : Nat) : Prop := pa_ok S.1 c ∧ (∀ A, A ∈ S.2.1 → pa_ok A c) ∧ S.2.1.length ≤ 8 ∧ (∀ A, S.2.2.1 = some A → pa_ok A c) ∧ S.2.2.2.1.length ≤ 60
section TS
variable {fu : Nat} {M : zt_M}
theorem pt.congr {A : pa_A} {v v' : Nat → Int32} (hp : pt v A) (ho : pw A) (hv : ∀ b, b < 407 → v' b = v b) : pt v' A := by
  have h12 := ho.1
  have h6 := ho.2.1
  have h7 := ho.2.2.1
  obtain ⟨p0, p1, p2, p3, p4, p5, p6, p7, p8, p9⟩ := hp
  refine ⟨(hv _ (by omega)).trans p0, (hv _ (by omega)).trans p1, (hv _ (by omega)).trans p2, (hv _ (by omega)).trans p3, (hv _ (by omega)).trans p4, fun f x hx => ?_, fun f h1 h2 => ?_, fun p r hr => ?_, fun m x hx => ?_, fun m h1 h2 => ?_⟩
  · have := (List.getElem?_eq_some_iff.mp hx).1
    exact (p5 f x hx).keep fun b hb => hv b (by omega)
  · have := p6 f h1 h2
    exact ⟨(hv _ (by omega)).trans this.1, (hv _ (by omega)).trans this.2⟩
  · have := (List.getElem?_eq_some_iff.mp hr).1
    exact (hv _ (by omega)).trans (p7 p r hr)
  · have hl := ho.ll hx
    have := (List.getElem?_eq_some_iff.mp hx).1
    exact (p8 m x hx).keep hl.1 hl.2 fun b hb => by unfold pt_in at hb; exact hv b (by omega)
  · exact (p9 m h1 h2).keep fun b hb => by unfold pt_in at hb; exact hv b (by omega)
theorem tg_a {k a : Nat} (ha : a < zt_n k) (hk : zt_n k ≤ 100000) : zg_aI M k (Int32.ofNat a) = some (M.2 k a) := by
  unfold zg_aI
  rw [if_pos (tw_inb (n := zt_n k) ha hk), tw_nat (by omega)]
theorem tg_sA {k a : Nat} {x : Int32} (ha : a < zt_n k) (hk : zt_n k ≤ 100000) : zg_sI M k (Int32.ofNat a) x = some (zt_uA M k a x) := by
  unfold zg_sI
  rw [if_pos (tw_inb (n := zt_n k) ha hk), tw_nat (by omega)]
theorem tg_uAt {k a : Nat} {x : Int32} : (zt_uA M k a x).2 k = upd (M.2 k) a x := if_pos rfl
theorem tg_uNe {k j a : Nat} {x : Int32} (h : j ≠ k) : (zt_uA M k a x).2 j = M.2 j := if_neg h
/-- a row is laid over another -/
theorem tl_lays {x0 x1 : Nat} (hne : x1 ≠ x0) (h0 : zt_n x0 = 407) (h1 : zt_n x1 = 407) : ∀ (r k n : Nat) (M : zt_M), k + r = 407 → r < n →
    ∃ M', gL_X4_lays_2 fu n x0 x1 (Int32.ofNat k) M = zg_rV M' ∧ M'.1 = M.1 ∧ (∀ j, j ≠ x0 → M'.2 j = M.2 j) ∧ (∀ i, i < k → M'.2 x0 i = M.2 x0 i) ∧ (∀ i, k ≤ i → i < 407 → M'.2 x0 i = M.2 x1 i)
  | r, k, 0, M, _, hn => absurd hn (Nat.not_lt_zero _)
  | 0, k, n + 1, M, hk, _ => by
    rw [gL_X4_lays_2, if_pos (by rw [show (407 : Int32) = Int32.ofNat 407 from rfl, ci_le (by decide) (by omega)]; omega)]
    exact ⟨M, rfl, rfl, fun _ _ => rfl, fun _ _ => rfl, fun i h1 h2 => by omega⟩
  | r + 1, k, n + 1, M, hk, hn => by
    rw [gL_X4_lays_2, if_neg (by rw [show (407 : Int32) = Int32.ofNat 407 from rfl, ci_le (by decide) (by omega)]; omega), tg_a (by omega) (by omega), Option.bind_some, tg_sA (by omega) (by omega), Option.bind_some, ci_succ]
    obtain ⟨M', g1, g2, g3, g4, g5⟩ := tl_lays hne h0 h1 r (k + 1) n (zt_uA M x0 k (M.2 x1 k)) (by omega) (by omega)
    refine ⟨M', g1, g2, fun j hj => (g3 j hj).trans (tg_uNe hj), fun i hi => ?_, fun i h1 h2 => ?_⟩
    · rw [g4 i (by omega), tg_uAt, upd_ne (by omega)]
    · by_cases hik : i = k
      · subst hik
        rw [g4 i (by omega), tg_uAt, upd_at]
      · rw [g5 i (by omega) h2, tg_uNe hne]
theorem tg_begins (hfu : 3000 ≤ fu) : ∃ M', gF_X4_begins fu M = zg_rV M' ∧ M'.1 0 = 0 ∧ (∀ k, k ≠ 0 → M'.1 k = M.1 k) ∧ (∀ j, j ≠ 6 → M'.2 j = M.2 j) ∧ (∀ i, i < 407 → M'.2 6 i = M.2 5 i) := by
  obtain ⟨M', g1, g2, g3, g4, g5⟩ := tl_lays (fu := fu) (x0 := 6) (x1 := 5) (by decide) rfl rfl 407 0 fu (zt_uI M 0 (0 : Int32)) (by decide) (by omega)
  refine ⟨M', ?_, by rw [g2]; rfl, fun k hk => by rw [g2]; exact if_neg hk, fun j hj => g3 j hj, fun i hi => g5 i (Nat.zero_le _) hi⟩
  unfold gF_X4_begins gF_X4_lays
  have g1' : gL_X4_lays_2 fu fu 6 5 (0 : Int32) (zt_uI M 0 (0 : Int32)) = _ := g1
  rw [g1', tc_V]
theorem tl_ends31 : ∀ (r k n : Nat) (M : zt_M) (is : Int32), k + r = 2849 → r < n →
    ∃ M', gL_X4_ends_31 fu n is (Int32.ofNat k) M = gJ_X4_ends_70 fu is (zt_uI M' 1 ((M'.1 1) - (1 : Int32))) ∧ M'.1 = M.1 ∧ (∀ j, j ≠ 8 → M'.2 j = M.2 j) ∧ (∀ i, i < k → M'.2 8 i = M.2 8 i) ∧ (∀ i, k ≤ i → i < 2849 → M'.2 8 i = M.2 8 (i + 407))
  | r, k, 0, M, is, _, hn => absurd hn (Nat.not_lt_zero _)
  | 0, k, n + 1, M, is, hk, _ => by
    rw [gL_X4_ends_31, if_pos (by rw [show (2849 : Int32) = Int32.ofNat 2849 from rfl, ci_le (by decide) (by omega)]; omega)]
    exact ⟨M, rfl, rfl, fun _ _ => rfl, fun _ _ => rfl, fun i h1 h2 => by omega⟩
  | r + 1, k, n + 1, M, is, hk, hn => by
    rw [gL_X4_ends_31, if_neg (by rw [show (2849 : Int32) = Int32.ofNat 2849 from rfl, ci_le (by decide) (by omega)]; omega), show Int32.ofNat k + (407 : Int32) = Int32.ofNat (k + 407) from ci_add k 407, tg_a (by show _ < 3256; omega) (by decide), Option.bind_some, tg_sA (by show _ < 3256; omega) (by decide), Option.bind_some, ci_succ]
    obtain ⟨M', g1, g2, g3, g4, g5⟩ := tl_ends31 r (k + 1) n (zt_uA M 8 k (M.2 8 (k + 407))) is (by omega) (by omega)
    refine ⟨M', g1, g2, fun j hj => (g3 j hj).trans (tg_uNe hj), fun i hi => ?_, fun i h1 h2 => ?_⟩
    · rw [g4 i (by omega), tg_uAt, upd_ne (by omega)]
    · by_cases hik : i = k
      · subst hik
        rw [g4 i (by omega), tg_uAt, upd_at]
      · rw [g5 i (by omega) h2, tg_uAt, upd_ne (by omega)]
theorem tl_ends72 {h : Nat} (hh : h < 8) : ∀ (r k n : Nat) (M : zt_M) (is : Int32), k + r = 407 → r < n → M.1 1 = Int32.ofNat h →
    ∃ M', gL_X4_ends_72 fu n is (Int32.ofNat k) M = zg_rI is (zt_uI M' 1 (Int32.ofNat (h + 1))) ∧ M'.1 = M.1 ∧ (∀ j, j ≠ 8 → M'.2 j = M.2 j) ∧ (∀ i, (i < 407 * h + k ∨ 407 * h + 407 ≤ i) → M'.2 8 i = M.2 8 i) ∧ (∀ i, k ≤ i → i < 407 → M'.2 8 (407 * h + i) = M.2 6 i)
  | r, k, 0, M, is, _, hn, _ => absurd hn (Nat.not_lt_zero _)
  | 0, k, n + 1, M, is, hk, _, h1 => by
    rw [gL_X4_ends_72, if_pos (by rw [show (407 : Int32) = Int32.ofNat 407 from rfl, ci_le (by decide) (by omega)]; omega), h1, ci_succ]
    exact ⟨M, rfl, rfl, fun _ _ => rfl, fun _ _ => rfl, fun i h1 h2 => by omega⟩
  | r + 1, k, n + 1, M, is, hk, hn, h1 => by
    rw [gL_X4_ends_72, if_neg (by rw [show (407 : Int32) = Int32.ofNat 407 from rfl, ci_le (by decide) (by omega)]; omega), tg_a (by show _ < 407; omega) (by decide), Option.bind_some, h1, show Int32.ofNat h * (407 : Int32) + Int32.ofNat k = Int32.ofNat (407 * h + k) by rw [show (407 : Int32) = Int32.ofNat 407 from rfl, ci_mul, ci_add, Nat.mul_comm], tg_sA (by show _ < 3256; omega) (by decide), Option.bind_some, ci_succ]
    obtain ⟨M', g1, g2, g3, g4, g5⟩ := tl_ends72 hh r (k + 1) n (zt_uA M 8 (407 * h + k) (M.2 6 k)) is (by omega) (by omega) h1
    refine ⟨M', g1, g2, fun j hj => (g3 j hj).trans (tg_uNe hj), fun i hi => ?_, fun i h1 h2 => ?_⟩
    · rw [g4 i (by omega), tg_uAt, upd_ne (by omega)]
    · by_cases hik : i = k
      · subst hik
        rw [g4 _ (by omega), tg_uAt, upd_at]
      · rw [g5 i (by omega) h2, tg_uNe (by decide)]
/-- the end of a change that came through -/
theorem tg_ends {S : pa_S} {A' : pa_A} {c : Nat} {is : Int32} (hfu : 3000 ≤ fu) (hw : pS S c) (hc : c ≤ 1000) {M0 : zt_M} (hS : tS M0 S) (h0 : M.1 0 = 0) (h1 : ∀ k, k ≠ 0 → k ≠ 15 → k ≠ 16 → k ≠ 18 → k ≠ 19 → k ≠ 14 → k ≠ 3 → M.1 k = M0.1 k) (h2 : ∀ j, j ≠ 5 → j ≠ 6 → j ≠ 11 → M.2 j = M0.2 j) (h6 : ∀ i, i < 407 → M.2 6 i = M0.2 5 i) (hA : pt (M.2 5) A') (h14 : M.1 14 = M0.1 14 ∨ True) :
    ∃ M', gF_X4_ends fu is M = zg_rI is M' ∧ (∀ k, k ≠ 1 → M'.1 k = M.1 k) ∧ M'.1 1 = Int32.ofNat (pa_push S.2.1 S.1).length ∧ (∀ j, j ≠ 8 → M'.2 j = M.2 j) ∧ (∀ i A, (pa_push S.2.1 S.1)[i]? = some A → pt (fun k => M'.2 8 (407 * i + k)) A) := by
  obtain ⟨s5, s1, s8, -⟩ := hS
  obtain ⟨w1, w2, w3, -⟩ := hw
  unfold gF_X4_ends
  rw [if_pos h0, h1 1 (by decide) (by decide) (by decide) (by decide) (by decide) (by decide) (by decide), s1]
  have hcur : ∀ (v : Nat → Int32), (∀ i, i < 407 → v i = M.2 6 i) → pt v S.1 := fun v hv => s5.congr (w1.w hc) fun b hb => (hv b hb).trans (h6 b hb)
  by_cases h8 : S.2.1.length = 8
  · rw [if_pos (by rw [h8]; rfl)]
    obtain ⟨M1, g1, g2, g3, g4, g5⟩ := tl_ends31 (fu := fu) 2849 0 fu M is (by decide) (by omega)
    have g1' : gL_X4_ends_31 fu fu is (0 : Int32) M = _ := g1
    rw [g1']
    unfold gJ_X4_ends_70
    have e7 : M1.1 1 - (1 : Int32) = Int32.ofNat 7 := by
      rw [g2, h1 1 (by decide) (by decide) (by decide) (by decide) (by decide) (by decide) (by decide), s1, h8]; rfl
    rw [e7]
    obtain ⟨M2, k1, k2, k3, k4, k5⟩ := tl_ends72 (fu := fu) (h := 7) (by decide) 407 0 fu (zt_uI M1 1 (Int32.ofNat 7)) is (by decide) (by omega) rfl
    have k1' : gL_X4_ends_72 fu fu is (0 : Int32) (zt_uI M1 1 (Int32.ofNat 7)) = _ := k1
    rw [k1']
    have hlen : (pa_push S.2.1 S.1).length = 8 := by unfold pa_push; rw [if_pos h8]; simp [h8]
    refine ⟨_, rfl, fun k hk => ?_, by rw [hlen]; rfl, fun j hj => ?_, fun i A hA => ?_⟩
    · show (if k = 1 then _ else M2.1 k) = _
      rw [if_neg hk, k2]
      show (if k = 1 then _ else M1.1 k) = _
      rw [if_neg hk, g2]
    · exact (k3 j hj).trans (g3 j hj)
    · have hil := (List.getElem?_eq_some_iff.mp hA).1
      rw [hlen] at hil
      unfold pa_push at hA
      rw [if_pos h8] at hA
      by_cases hi : i = 7
      · subst hi
        have : A = S.1 := by
          rw [List.getElem?_append_right (by simp [h8])] at hA
          simpa [h8] using hA.symm
        subst this
        refine hcur _ fun k hk => ?_
        show M2.2 8 (407 * 7 + k) = _
        rw [k5 k (Nat.zero_le _) hk]
        exact congrFun (g3 6 (by decide)) k
      · have hA' : S.2.1[i + 1]? = some A := by
          rw [List.getElem?_append_left (by simp [h8]; omega)] at hA
          simpa using hA
        have := s8 (i + 1) A hA'
        refine this.congr ((w2 A (List.mem_of_getElem? hA')).w hc) fun b hb => ?_
        show M2.2 8 (407 * i + b) = M0.2 8 (407 * (i + 1) + b)
        rw [k4 _ (by omega)]
        show M1.2 8 (407 * i + b) = _
        rw [g5 _ (Nat.zero_le _) (by omega), h2 8 (by decide) (by decide) (by decide)]
        exact congrArg _ (by omega)
  · rw [if_neg (by rw [show (8 : Int32) = Int32.ofNat 8 from rfl, ci_eq (by omega) (by omega)]; exact h8)]
    unfold gJ_X4_ends_70
    obtain ⟨M2, k1, k2, k3, k4, k5⟩ := tl_ends72 (fu := fu) (h := S.2.1.length) (by omega) 407 0 fu M is (by decide) (by omega) (by rw [h1 1 (by decide) (by decide) (by decide) (by decide) (by decide) (by decide) (by decide), s1])
    have k1' : gL_X4_ends_72 fu fu is (0 : Int32) M = _ := k1
    rw [k1']
    have hlen : (pa_push S.2.1 S.1).length = S.2.1.length + 1 := by unfold pa_push; rw [if_neg h8]; simp
    refine ⟨_, rfl, fun k hk => ?_, by rw [hlen]; rfl, fun j hj => k3 j hj, fun i A hA => ?_⟩
    · show (if k = 1 then _ else M2.1 k) = _
      rw [if_neg hk, k2]
    · have hil := (List.getElem?_eq_some_iff.mp hA).1
      rw [hlen] at hil
      unfold pa_push at hA
      rw [if_neg h8] at hA
      by_cases hi : i = S.2.1.length
      · subst hi
        have : A = S.1 := by simpa using hA.symm
        subst this
        exact hcur _ fun k hk => k5 k (Nat.zero_le _) hk
      · have hA' : S.2.1[i]? = some A := by
          rw [List.getElem?_append_left (by omega)] at hA
          exact hA
        refine (s8 i A hA').congr ((w2 A (List.mem_of_getElem? hA')).w hc) fun b hb => ?_
        show M2.2 8 (407 * i + b) = M0.2 8 (407 * i + b)
        rw [k4 _ (.inl (by
          have : i + 1 ≤ S.2.1.length := by omega
          have := Nat.mul_le_mul_left 407 this
          omega)), h2 8 (by decide) (by decide) (by decide)]
/-- the end of a change that failed: the row is laid back -/
theorem tg_endsF {is : Int32} (hfu : 3000 ≤ fu) (h0 : M.1 0 ≠ 0) : ∃ M', gF_X4_ends fu is M = zg_rI 0 M' ∧ M'.1 = M.1 ∧ (∀ j, j ≠ 5 → M'.2 j = M.2 j) ∧ (∀ i, i < 407 → M'.2 5 i = M.2 6 i) := by
  obtain ⟨M', g1, g2, g3, g4, g5⟩ := tl_lays (fu := fu) (x0 := 5) (x1 := 6) (by decide) rfl rfl 407 0 fu M (by decide) (by omega)
  refine ⟨M', ?_, g2, g3, fun i hi => g5 i (Nat.zero_le _) hi⟩
  unfold gF_X4_ends gF_X4_lays
  have g1' : gL_X4_lays_2 fu fu 5 6 (0 : Int32) M = _ := g1
  rw [if_neg h0, g1', tc_V]
/-- a change: begins, an operation, ends -/
theorem tg_change {S : pa_S} {o : pa_O} {c : Nat} (hfu : 3000 ≤ fu) (hw : pS S c) (hc : c ≤ 1000) (hS : tS M S) (hcode : ∀ p, o = .inr p → 1 ≤ p ∧ p ≤ 4) (R : zt_M → zg_R) (K : Int32 → zt_M → zg_R) (hR : ∀ M5 : zt_M, pt (M5.2 5) S.1 → tO M5 o (R M5)) :
    ∃ M', (zg_cV (gF_X4_begins fu M) fun M5 => zg_cI (R M5) fun v9 M10 => zg_cI (gF_X4_ends fu v9 M10) fun v14 M15 => K v14 M15) = K (.ofNat (pa_val o)) M' ∧ tS M' (pa_after S o) ∧ M'.1 0 = .ofNat (pa_code o) := by
  obtain ⟨M5, b1, b2, b3, b4, b5⟩ := tg_begins (M := M) hfu
  have hS0 := hS
  obtain ⟨s5, s1, s8, s4, s7, s14, s9, s17, s10, s2, s3, s12, s13⟩ := hS
  have h := hR M5 (by rw [b4 5 (by decide)]; exact s5)
  rw [b1, tc_V]
  cases o with
  | inl q =>
    obtain ⟨v, A'⟩ := q
    obtain ⟨M6, r1, r2, r3⟩ := h
    rw [r1, tc_I]
    obtain ⟨M7, e1, e2, e3, e4, e5⟩ := tg_ends (M := M6) (A' := A') (is := .ofNat v) hfu hw hc hS0 (by rw [r2.1]; exact b2) (fun k hk _ _ _ _ _ _ => by rw [r2.1]; exact b3 k hk) (fun j h5 h6 _ => (r2.2 j h5).trans (b4 j h6)) (fun i hi => by rw [r2.2 6 (by decide)]; exact b5 i hi) r3 (.inr trivial)
    rw [e1, tc_I]
    have f1 : ∀ k, k ≠ 0 → k ≠ 1 → M7.1 k = M.1 k := fun k h0 h1 => (e2 k h1).trans (by rw [r2.1]; exact b3 k h0)
    have f2 : ∀ j, j ≠ 5 → j ≠ 6 → j ≠ 8 → M7.2 j = M.2 j := fun j h5 h6 h8 => (e4 j h8).trans ((r2.2 j h5).trans (b4 j h6))
    refine ⟨M7, rfl, ⟨by rw [e4 5 (by decide)]; exact r3, e3, e5, (f1 4 (by decide) (by decide)).trans s4, fun A hA => by rw [f2 7 (by decide) (by decide) (by decide)]; exact s7 A hA, (f1 14 (by decide) (by decide)).trans s14, fun i ch h => by rw [f2 9 (by decide) (by decide) (by decide)]; exact s9 i ch h, (f1 17 (by decide) (by decide)).trans s17, fun i ch h => by rw [f2 10 (by decide) (by decide) (by decide)]; exact s10 i ch h, (f1 2 (by decide) (by decide)).trans s2, (f1 3 (by decide) (by decide)).trans s3, fun i ch h => by rw [f2 12 (by decide) (by decide) (by decide)]; exact s12 i ch h, fun i ch h => by rw [f2 13 (by decide) (by decide) (by decide)]; exact s13 i ch h⟩, ?_⟩
    rw [e2 0 (by decide), r2.1, b2]; rfl
  | inr p =>
    have h' : R M5 = zg_rI 0 (zt_uI M5 0 (.ofNat p)) := h
    have hp := hcode p rfl
    rw [h', tc_I]
    obtain ⟨M7, e1, e2, e3, e4⟩ := tg_endsF (M := zt_uI M5 0 (.ofNat p)) (is := 0) hfu (by
      show Int32.ofNat p ≠ 0
      rw [show (0 : Int32) = Int32.ofNat 0 from rfl, Ne, ci_eq (by omega) (by omega)]; omega)
    rw [e1, tc_I]
    have f1 : ∀ k, k ≠ 0 → M7.1 k = M.1 k := fun k h0 => by
      rw [e2]
      show (if k = 0 then _ else M5.1 k) = _
      rw [if_neg h0]; exact b3 k h0
    have f2 : ∀ j, j ≠ 5 → j ≠ 6 → M7.2 j = M.2 j := fun j h5 h6 => (e3 j h5).trans (b4 j h6)
    refine ⟨M7, rfl, ⟨s5.congr (hw.1.w hc) fun b hb => (e4 b hb).trans (b5 b hb), (f1 1 (by decide)).trans s1, fun i A h => by rw [f2 8 (by decide) (by decide)]; exact s8 i A h, (f1 4 (by decide)).trans s4, fun A hA => by rw [f2 7 (by decide) (by decide)]; exact s7 A hA, (f1 14 (by decide)).trans s14, fun i ch h => by rw [f2 9 (by decide) (by decide)]; exact s9 i ch h, (f1 17 (by decide)).trans s17, fun i ch h => by rw [f2 10 (by decide) (by decide)]; exact s10 i ch h, (f1 2 (by decide)).trans s2, (f1 3 (by decide)).trans s3, fun i ch h => by rw [f2 12 (by decide) (by decide)]; exact s12 i ch h, fun i ch h => by rw [f2 13 (by decide) (by decide)]; exact s13 i ch h⟩, ?_⟩
    rw [e2]; rfl
end TS
