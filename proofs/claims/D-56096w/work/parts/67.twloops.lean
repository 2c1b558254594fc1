/-! ===== THE TWIN's LOOPS over motions ===== -/
section TL
variable {fu : Nat} {M : zt_M} {A : pa_A}
/-- a frog is taken off a list: the rest is moved up -/
theorem tl_takes {m len : Nat} (hm : m < 6) (hlen : len < 12) : ∀ (r j n : Nat) (M : zt_M), j + r = len → r < n → M.2 5 (64 + 10 * m) = .ofNat len →
    ∃ M', gL_X4_takes_16 fu n (Int32.ofNat m) (Int32.ofNat j) M = zg_rV M' ∧ tz M M' ∧ (∀ i, i < j → M'.2 5 (119 + 12 * m + i) = M.2 5 (119 + 12 * m + i)) ∧ (∀ i, j ≤ i → i < len → M'.2 5 (119 + 12 * m + i) = M.2 5 (119 + 12 * m + (i + 1))) ∧ (∀ b, b < 119 + 12 * m ∨ 131 + 12 * m ≤ b → M'.2 5 b = M.2 5 b)
  | r, j, 0, M, _, hn, _ => absurd hn (Nat.not_lt_zero _)
  | 0, j, n + 1, M, hj, _, h5 => by
    rw [gL_X4_takes_16, tg_of5, tc_I, tg_v (by omega), Option.bind_some, h5, if_pos ((ci_le (by omega) (by omega)).mpr (by omega)), tg_of5, tc_I, tg_v (by omega), Option.bind_some, h5, tg_listed, tc_I, tg_s (by omega), Option.bind_some]
    refine ⟨_, rfl, tz.uA _ _ _, fun i hi => ?_, fun i h1 h2 => by omega, fun b hb => ?_⟩
    · rw [tg_5, upd_ne (by omega)]
    · rw [tg_5, upd_ne (by omega)]
  | r + 1, j, n + 1, M, hj, hn, h5 => by
    rw [gL_X4_takes_16, tg_of5, tc_I, tg_v (by omega), Option.bind_some, h5, if_neg (fun hh => by have := (ci_le (by omega) (by omega)).mp hh; omega), tg_listed, tc_I, ci_succ, tg_listed, tc_I, tg_v (by omega), Option.bind_some, tg_s (by omega), Option.bind_some]
    obtain ⟨M', g1, g2, g3, g4, g5⟩ := tl_takes hm hlen r (j + 1) n (zt_uA M 5 (119 + 12 * m + j) (M.2 5 (119 + 12 * m + (j + 1)))) (by omega) (by omega) (by rw [tg_5, upd_ne (by omega)]; exact h5)
    refine ⟨M', g1, (tz.uA _ _ _).trans g2, fun i hi => ?_, fun i h1 h2 => ?_, fun b hb => ?_⟩
    · rw [g3 i (by omega), tg_5, upd_ne (by omega)]
    · by_cases hij : i = j
      · subst hij
        rw [g3 i (by omega), tg_5, upd_at]
      · rw [g4 i (by omega) h2, tg_5, upd_ne (by omega)]
    · rw [g5 b hb, tg_5, upd_ne (by omega)]
theorem tg_takes (hp : pt (M.2 5) A) (ho : pw A) (hfu : 100 ≤ fu) {m k : Nat} (hm : m < A.2.2.1.length) (hk : k < (pa_mot A m).2.1.length) :
    ∃ M', gF_X4_takes fu (Int32.ofNat m) (Int32.ofNat k) M = zg_rV M' ∧ tz M M' ∧ pt (M'.2 5) (pa_setM A m ((pa_mot A m).1, (pa_mot A m).2.1.eraseIdx k, (pa_mot A m).2.2)) := by
  have hl2 := ho.2.2.1
  have hL := (ho.mo hm).2.2.2.1
  have hC := (ho.mo hm).2.2.2.2.1
  unfold gF_X4_takes
  rw [tg_of5, tc_I, tg_v (by omega), Option.bind_some, tg_s (by omega), Option.bind_some, (hp.mo hm).2.2.2.2.2.1, show (1 : Int32) = Int32.ofNat 1 from rfl, ci_sub (by omega)]
  obtain ⟨M', g1, g2, g3, g4, g5⟩ := tl_takes (fu := fu) (m := m) (len := (pa_mot A m).2.1.length - 1) (by omega) (by omega) ((pa_mot A m).2.1.length - 1 - k) k fu (zt_uA M 5 (64 + 10 * m) (Int32.ofNat ((pa_mot A m).2.1.length - 1))) (by omega) (by omega) (by rw [tg_5, upd_at])
  refine ⟨M', g1, (tz.uA _ _ _).trans g2, hp.setM ho hm (fun b hb => ?_) ?_⟩
  · unfold pt_in at hb
    rw [g5 b (by omega), tg_5, upd_ne (by omega)]
  · obtain ⟨q0, q1, q2, q3, q4, q5, q6, q7, q8, q9⟩ := hp.mo hm
    have hh : ∀ b, b < 119 + 12 * m ∨ 131 + 12 * m ≤ b → b ≠ 64 + 10 * m → M'.2 5 b = M.2 5 b := fun b h1 h2 => by rw [g5 b h1, tg_5, upd_ne h2]
    have he : ((pa_mot A m).2.1.eraseIdx k).length = (pa_mot A m).2.1.length - 1 := List.length_eraseIdx_of_lt hk
    refine ⟨(hh _ (by omega) (by omega)).trans q0, (hh _ (by omega) (by omega)).trans q1, (hh _ (by omega) (by omega)).trans q2, (hh _ (by omega) (by omega)).trans q3, (hh _ (by omega) (by omega)).trans q4, ?_, (hh _ (by omega) (by omega)).trans q6, (hh _ (by omega) (by omega)).trans q7, fun i r hr => ?_, fun i q hq => ?_⟩
    · rw [g5 _ (by omega), tg_5, upd_at]
      show _ = Int32.ofNat ((pa_mot A m).2.1.eraseIdx k).length
      rw [he]
    · have hi := (List.getElem?_eq_some_iff.mp hr).1
      have hi' : i < (pa_mot A m).2.1.length - 1 := he ▸ hi
      have hr' : ((pa_mot A m).2.1.eraseIdx k)[i]? = some r := hr
      rw [List.getElem?_eraseIdx] at hr'
      by_cases hik : i < k
      · rw [if_pos hik] at hr'
        rw [g3 i hik, tg_5, upd_ne (by omega)]
        exact q8 i r hr'
      · rw [if_neg hik] at hr'
        rw [g4 i (by omega) hi', tg_5, upd_ne (by omega)]
        exact q8 (i + 1) r hr'
    · have hi : i < (pa_mot A m).2.2.length := (List.getElem?_eq_some_iff.mp hq).1
      obtain ⟨s1, s2, s3⟩ := q9 i q hq
      exact ⟨(hh _ (by omega) (by omega)).trans s1, (hh _ (by omega) (by omega)).trans s2, (hh _ (by omega) (by omega)).trans s3⟩
/-- the speeches of the one at a place -/
theorem pa_sk_at {L : List pa_R} {k : Nat} {r : pa_R} (h : L[k]? = some r) : (pa_sk A L)[k]? = some (pa_frog A r.1).2.2.2 := by
  unfold pa_sk
  rw [List.getElem?_map, h]; rfl
theorem tg_spoke (hp : pt (M.2 5) A) (ho : pw A) {m k : Nat} (hm : m < A.2.2.1.length) (hk : k < (pa_mot A m).2.1.length) (K : Int32 → zg_R) :
    ((zg_aI M 5 (Int32.ofNat (119 + 12 * m + k))).bind fun v => (zg_aI M 5 ((41 : Int32) + v)).bind K) = K (.ofNat ((pa_sk A (pa_mot A m).2.1)[k]?.getD 0)) := by
  have hl2 := ho.2.2.1
  have hl1 := ho.1
  have hL := (ho.mo hm).2.2.2.1
  have hx := List.getElem?_eq_getElem hk
  have hb := (ho.mo hm).2.2.2.2.2.1 _ (List.getElem_mem hk)
  rw [tg_v (by omega), Option.bind_some, (hp.mo hm).2.2.2.2.2.2.2.2.1 k _ hx, tg_r41 (by omega), Option.bind_some, (hp.fr hb).2.2.2, pa_sk_at hx]
  rfl
theorem pa_sk_le (ho : pw A) {m k : Nat} (hm : m < A.2.2.1.length) : (pa_sk A (pa_mot A m).2.1)[k]?.getD 0 ≤ 1000 := by
  rcases Nat.lt_or_ge k (pa_mot A m).2.1.length with hk | hk
  · rw [pa_sk_at (List.getElem?_eq_getElem hk)]
    exact (ho.fr ((ho.mo hm).2.2.2.2.2.1 _ (List.getElem_mem hk))).2.2.2
  · rw [List.getElem?_eq_none (by simpa [pa_sk] using hk)]
    exact Nat.zero_le _
theorem tl_ahead (hp : pt (M.2 5) A) (ho : pw A) {m k : Nat} (hm : m < A.2.2.1.length) (hk : k < 12) : ∀ (r j n acc : Nat), j + r = (pa_mot A m).2.1.length → r < n →
    gL_X4_ahead_25 fu n (Int32.ofNat m) (Int32.ofNat k) (.ofNat ((pa_sk A (pa_mot A m).2.1)[k]?.getD 0)) (Int32.ofNat acc) (Int32.ofNat j) M = zg_rI (.ofNat (acc + (((List.range (pa_mot A m).2.1.length).drop j).map fun j => if pa_lt (pa_sk A (pa_mot A m).2.1) j k then 1 else 0).sum)) M
  | r, j, 0, acc, _, hn => absurd hn (Nat.not_lt_zero _)
  | 0, j, n + 1, acc, hj, _ => by
    have hl2 := ho.2.2.1
    have hL := (ho.mo hm).2.2.2.1
    rw [gL_X4_ahead_25, tg_of5, tc_I, tg_v (by omega), Option.bind_some, (hp.mo hm).2.2.2.2.2.1, if_pos ((ci_le (by omega) (by omega)).mpr (by omega)), ps_end _ (by simp; omega)]
    rfl
  | r + 1, j, n + 1, acc, hj, hn => by
    have hl2 := ho.2.2.1
    have hL := (ho.mo hm).2.2.2.1
    have hj1 : j < (pa_mot A m).2.1.length := by omega
    have s1 := pa_sk_le ho (k := j) hm
    have s2 := pa_sk_le ho (k := k) hm
    have ih := fun acc => tl_ahead hp ho hm hk r (j + 1) n acc (by omega) (by omega)
    rw [gL_X4_ahead_25, tg_of5, tc_I, tg_v (by omega), Option.bind_some, (hp.mo hm).2.2.2.2.2.1, if_neg (fun hh => by have := (ci_le (by omega) (by omega)).mp hh; omega), tg_listed, tc_I, tg_spoke hp ho hm hj1, ps_step (x := j) _ (by rw [List.getElem?_range hj1])]
    unfold gJ_X4_ahead_81 gJ_X4_ahead_85 gJ_X4_ahead_86
    simp only [ci_succ, Int32.add_zero, ih, Nat.add_assoc]
    by_cases h1 : (pa_sk A (pa_mot A m).2.1)[j]?.getD 0 < (pa_sk A (pa_mot A m).2.1)[k]?.getD 0
    · rw [if_pos ((ci_lt (by omega) (by omega)).mpr h1), if_pos (by simp [pa_lt, h1])]
    · rw [if_neg (fun h => h1 ((ci_lt (by omega) (by omega)).mp h))]
      by_cases h2 : (pa_sk A (pa_mot A m).2.1)[j]?.getD 0 = (pa_sk A (pa_mot A m).2.1)[k]?.getD 0
      · rw [if_pos (by rw [h2])]
        by_cases h3 : k ≤ j
        · rw [if_pos ((ci_le (by omega) (by omega)).mpr h3), if_neg (by simp [pa_lt, h1, h2]; omega), Nat.zero_add]
        · rw [if_neg (fun h => h3 ((ci_le (by omega) (by omega)).mp h)), if_pos (by simp [pa_lt, h2]; omega)]
      · rw [if_neg (by rw [ci_eq (by omega) (by omega)]; exact h2), if_neg (by simp [pa_lt, h1, h2]), Nat.zero_add]
theorem tg_ahead (hp : pt (M.2 5) A) (ho : pw A) (hfu : 100 ≤ fu) {m k : Nat} (hm : m < A.2.2.1.length) (hk : k < (pa_mot A m).2.1.length) : gF_X4_ahead fu (Int32.ofNat m) (Int32.ofNat k) M = zg_rI (.ofNat (pa_ahead (pa_sk A (pa_mot A m).2.1) k)) M := by
  have hl2 := ho.2.2.1
  have hL := (ho.mo hm).2.2.2.1
  have := tl_ahead (fu := fu) hp ho hm (k := k) (by omega) _ 0 fu 0 (Nat.zero_add _) (by omega)
  unfold gF_X4_ahead
  rw [tg_listed, tc_I, tg_spoke hp ho hm hk]
  refine this.trans ?_
  rw [Nat.zero_add, List.drop_zero]
  unfold pa_ahead
  rw [show (pa_sk A (pa_mot A m).2.1).length = (pa_mot A m).2.1.length by simp [pa_sk]]
theorem pa_ahead_le (S : List Nat) (k : Nat) : pa_ahead S k ≤ S.length := by
  unfold pa_ahead
  have : ∀ (L : List Nat) (g : Nat → Nat), (∀ x, g x ≤ 1) → (L.map g).sum ≤ L.length := fun L g hg => by
    induction L with
    | nil => exact Nat.le_refl _
    | cons x L ih => have := hg x; simp; omega
  refine Nat.le_trans (this _ _ fun x => ?_) (by simp)
  show (if _ then 1 else 0) ≤ 1
  split <;> omega
theorem tl_ranked (hp : pt (M.2 5) A) (ho : pw A) (hfu : 100 ≤ fu) {m q : Nat} (hm : m < A.2.2.1.length) (hq : q < 100) : ∀ (r k n : Nat), k + r = (pa_mot A m).2.1.length → r < n →
    gL_X4_ranked_2 fu n (Int32.ofNat m) (Int32.ofNat q) (Int32.ofNat k) M = zg_rI (match ((List.range (pa_mot A m).2.1.length).drop k).find? fun k => pa_ahead (pa_sk A (pa_mot A m).2.1) k == q with | some j => .ofNat j | none => -1) M
  | r, k, 0, _, hn => absurd hn (Nat.not_lt_zero _)
  | 0, k, n + 1, hk, _ => by
    have hl2 := ho.2.2.1
    have hL := (ho.mo hm).2.2.2.1
    rw [gL_X4_ranked_2, tg_of5, tc_I, tg_v (by omega), Option.bind_some, (hp.mo hm).2.2.2.2.2.1, if_pos ((ci_le (by omega) (by omega)).mpr (by omega)), List.drop_eq_nil_of_le (by simp; omega)]
    rfl
  | r + 1, k, n + 1, hk, hn => by
    have hl2 := ho.2.2.1
    have hL := (ho.mo hm).2.2.2.1
    have hk1 : k < (pa_mot A m).2.1.length := by omega
    have ih := tl_ranked hp ho hfu hm hq r (k + 1) n (by omega) (by omega)
    have ha := pa_ahead_le (pa_sk A (pa_mot A m).2.1) k
    have hsl : (pa_sk A (pa_mot A m).2.1).length = (pa_mot A m).2.1.length := by simp [pa_sk]
    rw [gL_X4_ranked_2, tg_of5, tc_I, tg_v (by omega), Option.bind_some, (hp.mo hm).2.2.2.2.2.1, if_neg (fun hh => by have := (ci_le (by omega) (by omega)).mp hh; omega), tg_ahead hp ho hfu hm hk1, tc_I, List.drop_eq_getElem_cons (by simpa using hk1), List.find?_cons, List.getElem_range]
    by_cases he : pa_ahead (pa_sk A (pa_mot A m).2.1) k = q
    · rw [if_pos (by rw [he]), show (pa_ahead (pa_sk A (pa_mot A m).2.1) k == q) = true by simp [he]]
    · rw [if_neg (by rw [ci_eq (by omega) (by omega)]; exact he), show (pa_ahead (pa_sk A (pa_mot A m).2.1) k == q) = false by simp [he], ci_succ, ih]
theorem tg_ranked (hp : pt (M.2 5) A) (ho : pw A) (hfu : 100 ≤ fu) {m q : Nat} (hm : m < A.2.2.1.length) (hq : q < 100) :
    gF_X4_ranked fu (Int32.ofNat m) (Int32.ofNat q) M = zg_rI (match pa_ranked (pa_sk A (pa_mot A m).2.1) q with | some j => .ofNat j | none => -1) M := by
  have hL := (ho.mo hm).2.2.2.1
  have := tl_ranked hp ho hfu hm hq _ 0 fu (Nat.zero_add _) (by omega)
  unfold gF_X4_ranked
  refine this.trans ?_
  unfold pa_ranked
  rw [List.drop_zero, show (pa_sk A (pa_mot A m).2.1).length = (pa_mot A m).2.1.length by simp [pa_sk]]
theorem tb_bit_all : ((List.range 4096).all fun b => (List.range 12).all fun f => decide ((((Int32.ofNat b) >>> ((Int32.ofNat f) &&& 31)) &&& (1 : Int32)) = (1 : Int32)) == b.testBit f) = true := by decide +kernel
theorem tb_bit {b f : Nat} (hb : b < 4096) (hf : f < 12) : ((((Int32.ofNat b) >>> ((Int32.ofNat f) &&& 31)) &&& (1 : Int32)) = (1 : Int32)) ↔ b.testBit f = true := by
  have h1 := List.all_eq_true.mp tb_bit_all b (List.mem_range.mpr hb)
  have h2 := List.all_eq_true.mp h1 f (List.mem_range.mpr hf)
  have h3 : decide ((((Int32.ofNat b) >>> ((Int32.ofNat f) &&& 31)) &&& (1 : Int32)) = (1 : Int32)) = b.testBit f := by simpa using h2
  rw [← h3, decide_eq_true_eq]
theorem tl_backing (hp : pt (M.2 5) A) (ho : pw A) {m : Nat} (hm : m < A.2.2.1.length) : ∀ (r f n acc : Nat), f + r = A.1.length → r < n →
    gL_X4_backing_4 fu n (Int32.ofNat m) (Int32.ofNat acc) (Int32.ofNat f) M = zg_rI (.ofNat (acc + (((List.range A.1.length).drop f).map fun f => if (pa_mot A m).1.2.2.2.1.testBit f then (pa_frog A f).2.1 else 0).sum)) M
  | r, f, 0, acc, _, hn => absurd hn (Nat.not_lt_zero _)
  | 0, f, n + 1, acc, hf, _ => by
    have hl1 := ho.1
    rw [gL_X4_backing_4, tg_v0, Option.bind_some, hp.1, if_pos ((ci_le (by omega) (by omega)).mpr (by omega)), ps_end _ (by simp; omega)]
    rfl
  | r + 1, f, n + 1, acc, hf, hn => by
    have hl1 := ho.1
    have hl2 := ho.2.2.1
    have hf1 : f < A.1.length := by omega
    have ih := fun acc => tl_backing hp ho hm r (f + 1) n acc (by omega) (by omega)
    have hb := tb_bit (f := f) (ho.mo hm).2.2.1 (by omega)
    rw [gL_X4_backing_4, tg_v0, Option.bind_some, hp.1, if_neg (fun hh => by have := (ci_le (by omega) (by omega)).mp hh; omega), tg_of4, tc_I, tg_v (by omega), Option.bind_some, (hp.mo hm).2.2.2.2.1, tg_r17 (by omega), Option.bind_some, (hp.fr hf1).2.1, ps_step (x := f) _ (by rw [List.getElem?_range hf1])]
    unfold gJ_X4_backing_46
    simp only [ci_succ, ci_add, Int32.add_zero, ih, Nat.add_assoc]
    by_cases h : (pa_mot A m).1.2.2.2.1.testBit f = true
    · rw [if_pos (hb.mpr h), if_pos h]
    · rw [if_neg (fun hh => h (hb.mp hh)), if_neg h, Nat.zero_add]
theorem tg_backing (hp : pt (M.2 5) A) (ho : pw A) (hfu : 100 ≤ fu) {m : Nat} (hm : m < A.2.2.1.length) : gF_X4_backing fu (Int32.ofNat m) M = zg_rI (.ofNat (pa_backing A (pa_mot A m))) M := by
  have hl1 := ho.1
  have := tl_backing (fu := fu) hp ho hm _ 0 fu 0 (Nat.zero_add _) (by omega)
  unfold gF_X4_backing
  refine this.trans ?_
  rw [Nat.zero_add, List.drop_zero]
  rfl
theorem tl_entitled (hp : pt (M.2 5) A) (ho : pw A) {m : Nat} (hm : m < A.2.2.1.length) : ∀ (r f n acc : Nat), f + r = A.1.length → r < n →
    gL_X4_entitled_4 fu n (Int32.ofNat m) (Int32.ofNat acc) (Int32.ofNat f) M = zg_rI (.ofNat (acc + ((A.1.drop f).map fun f => if pa_for (pa_mot A m) f then f.2.1 else 0).sum)) M
  | r, f, 0, acc, _, hn => absurd hn (Nat.not_lt_zero _)
  | 0, f, n + 1, acc, hf, _ => by
    have hl1 := ho.1
    rw [gL_X4_entitled_4, tg_v0, Option.bind_some, hp.1, if_pos ((ci_le (by omega) (by omega)).mpr (by omega)), ps_end _ (by omega)]
    rfl
  | r + 1, f, n + 1, acc, hf, hn => by
    have hl1 := ho.1
    have hf1 : f < A.1.length := by omega
    have ih := fun acc => tl_entitled hp ho hm r (f + 1) n acc (by omega) (by omega)
    rw [gL_X4_entitled_4, tg_v0, Option.bind_some, hp.1, if_neg (fun hh => by have := (ci_le (by omega) (by omega)).mp hh; omega), tg_isFor hp ho hm hf1, tc_I, tg_r17 (by omega), Option.bind_some, (hp.fr hf1).2.1, ps_step _ (pa_frog_eq hf1)]
    unfold gJ_X4_entitled_37
    simp only [ci_succ, ci_add, Int32.add_zero, ih, Nat.add_assoc]
    by_cases h : pa_for (pa_mot A m) (pa_frog A f) = true
    · rw [if_pos h, if_neg (by decide), if_pos h]
    · rw [if_neg h, if_pos rfl, if_neg h, Nat.zero_add]
theorem tg_entitled (hp : pt (M.2 5) A) (ho : pw A) (hfu : 100 ≤ fu) {m : Nat} (hm : m < A.2.2.1.length) : gF_X4_entitled fu (Int32.ofNat m) M = zg_rI (.ofNat (pa_entitled A (pa_mot A m))) M := by
  have hl1 := ho.1
  have := tl_entitled (fu := fu) hp ho hm _ 0 fu 0 (Nat.zero_add _) (by omega)
  unfold gF_X4_entitled
  refine this.trans ?_
  rw [Nat.zero_add]
  rfl
theorem ci_nn {b : Nat} : (Int32.ofNat b + 1 = Int32.ofNat (b + 1)) ∧ (Int32.ofNat b + 2 = Int32.ofNat (b + 2)) := ⟨ci_add b 1, ci_add b 2⟩
theorem tg_strength (hp : pt (M.2 5) A) (ho : pw A) {m k : Nat} (hm : m < A.2.2.1.length) {q : pa_K} (hk : (pa_mot A m).2.2[k]? = some q) : gF_X4_strength fu (Int32.ofNat m) (Int32.ofNat k) M = zg_rI (.ofNat (pa_strength A q)) M := by
  have hl1 := ho.1
  have hl2 := ho.2.2.1
  have hC := (ho.mo hm).2.2.2.2.1
  have hkl := (List.getElem?_eq_some_iff.mp hk).1
  have hb := ((ho.mo hm).2.2.2.2.2.2 q (List.mem_of_getElem? hk)).1
  obtain ⟨s1, s2, s3⟩ := (hp.mo hm).2.2.2.2.2.2.2.2.2 k q hk
  unfold gF_X4_strength
  rw [tg_croaked, tc_I, ci_nn.1, tg_v (by omega), Option.bind_some, show 191 + 36 * m + 3 * k + 1 = 192 + 36 * m + 3 * k by omega, s2, tg_croaked, tc_I, tg_v (by omega), Option.bind_some, s1, tg_r17 (by omega), Option.bind_some, (hp.fr hb).2.1, ci_mul]
  rfl
theorem tl_sum (hp : pt (M.2 5) A) (ho : pw A) {m s : Nat} (hm : m < A.2.2.1.length) (hs : s ≤ 1) : ∀ (r k n acc : Nat), k + r = (pa_mot A m).2.2.length → r < n →
    gL_X4_sum_5 fu n (Int32.ofNat m) (Int32.ofNat s) (Int32.ofNat acc) (Int32.ofNat k) M = zg_rI (.ofNat (acc + (((pa_mot A m).2.2.drop k).map fun k => if k.2.2 = s then pa_strength A k else 0).sum)) M
  | r, f, 0, acc, _, hn => absurd hn (Nat.not_lt_zero _)
  | 0, k, n + 1, acc, hk, _ => by
    have hl2 := ho.2.2.1
    have hC := (ho.mo hm).2.2.2.2.1
    rw [gL_X4_sum_5, tg_of7, tc_I, tg_v (by omega), Option.bind_some, (hp.mo hm).2.2.2.2.2.2.2.1, if_pos ((ci_le (by omega) (by omega)).mpr (by omega)), ps_end _ (by omega)]
    rfl
  | r + 1, k, n + 1, acc, hk, hn => by
    have hl2 := ho.2.2.1
    have hC := (ho.mo hm).2.2.2.2.1
    have hk1 : k < (pa_mot A m).2.2.length := by omega
    have hx := List.getElem?_eq_getElem hk1
    have hb := ((ho.mo hm).2.2.2.2.2.2 _ (List.getElem_mem hk1)).2.2
    obtain ⟨s1, s2, s3⟩ := (hp.mo hm).2.2.2.2.2.2.2.2.2 k _ hx
    have ih := fun acc => tl_sum hp ho hm hs r (k + 1) n acc (by omega) (by omega)
    rw [gL_X4_sum_5, tg_of7, tc_I, tg_v (by omega), Option.bind_some, (hp.mo hm).2.2.2.2.2.2.2.1, if_neg (fun hh => by have := (ci_le (by omega) (by omega)).mp hh; omega), tg_croaked, tc_I, ci_nn.2, tg_v (by omega), Option.bind_some, show 191 + 36 * m + 3 * k + 2 = 193 + 36 * m + 3 * k by omega, s3, tg_strength hp ho hm hx, tc_I, ps_step _ hx]
    unfold gJ_X4_sum_50
    simp only [ci_succ, ci_add, Int32.add_zero, ih, Nat.add_assoc]
    by_cases h : ((pa_mot A m).2.2[k]).2.2 = s
    · rw [if_pos (by rw [h]), if_pos h]
    · rw [if_neg (by rw [ci_eq (by omega) (by omega)]; exact h), if_neg h, Nat.zero_add]
theorem tg_sum (hp : pt (M.2 5) A) (ho : pw A) (hfu : 100 ≤ fu) {m s : Nat} (hm : m < A.2.2.1.length) (hs : s ≤ 1) : gF_X4_sum fu (Int32.ofNat m) (Int32.ofNat s) M = zg_rI (.ofNat (pa_sum A (pa_mot A m).2.2 s)) M := by
  have hC := (ho.mo hm).2.2.2.2.1
  have := tl_sum (fu := fu) hp ho hm hs _ 0 fu 0 (Nat.zero_add _) (by omega)
  unfold gF_X4_sum
  refine this.trans ?_
  rw [Nat.zero_add]
  rfl
theorem tl_hasCroaked (hp : pt (M.2 5) A) (ho : pw A) {m f : Nat} (hm : m < A.2.2.1.length) (hf : f < 100) : ∀ (r k n : Nat), k + r = (pa_mot A m).2.2.length → r < n →
    gL_X4_hasCroaked_2 fu n (Int32.ofNat m) (Int32.ofNat f) (Int32.ofNat k) M = zg_rI (if pa_croaked ((pa_mot A m).2.2.drop k) f = true then 1 else 0) M
  | r, k, 0, _, hn => absurd hn (Nat.not_lt_zero _)
  | 0, k, n + 1, hk, _ => by
    have hl2 := ho.2.2.1
    have hC := (ho.mo hm).2.2.2.2.1
    rw [gL_X4_hasCroaked_2, tg_of7, tc_I, tg_v (by omega), Option.bind_some, (hp.mo hm).2.2.2.2.2.2.2.1, if_pos ((ci_le (by omega) (by omega)).mpr (by omega)), List.drop_eq_nil_of_le (by omega)]
    rfl
  | r + 1, k, n + 1, hk, hn => by
    have hl2 := ho.2.2.1
    have hl1 := ho.1
    have hC := (ho.mo hm).2.2.2.2.1
    have hk1 : k < (pa_mot A m).2.2.length := by omega
    have hx := List.getElem?_eq_getElem hk1
    have hb := ((ho.mo hm).2.2.2.2.2.2 _ (List.getElem_mem hk1)).1
    obtain ⟨s1, s2, s3⟩ := (hp.mo hm).2.2.2.2.2.2.2.2.2 k _ hx
    have ih := tl_hasCroaked hp ho hm hf r (k + 1) n (by omega) (by omega)
    rw [gL_X4_hasCroaked_2, tg_of7, tc_I, tg_v (by omega), Option.bind_some, (hp.mo hm).2.2.2.2.2.2.2.1, if_neg (fun hh => by have := (ci_le (by omega) (by omega)).mp hh; omega), tg_croaked, tc_I, tg_v (by omega), Option.bind_some, s1, List.drop_eq_getElem_cons hk1]
    by_cases h : ((pa_mot A m).2.2[k]).1 = f
    · rw [if_pos (by rw [h]), if_pos (by unfold pa_croaked; rw [List.any_cons, show (((pa_mot A m).2.2[k]).1 == f) = true by simp [h]]; rfl)]; rfl
    · rw [if_neg (by rw [ci_eq (by omega) (by omega)]; exact h), ci_succ, ih]
      unfold pa_croaked
      rw [List.any_cons, show (((pa_mot A m).2.2[k]).1 == f) = false by simp [h], Bool.false_or]
theorem tg_hasCroaked (hp : pt (M.2 5) A) (ho : pw A) (hfu : 100 ≤ fu) {m f : Nat} (hm : m < A.2.2.1.length) (hf : f < 100) : gF_X4_hasCroaked fu (Int32.ofNat m) (Int32.ofNat f) M = zg_rI (if pa_croaked (pa_mot A m).2.2 f = true then 1 else 0) M := by
  have hC := (ho.mo hm).2.2.2.2.1
  have := tl_hasCroaked (fu := fu) hp ho hm hf _ 0 fu (Nat.zero_add _) (by omega)
  unfold gF_X4_hasCroaked
  exact this
end TL
