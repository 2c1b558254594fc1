/-! ===== THE TWIN's OPERATIONS ON MOTIONS ===== -/
theorem n10 : ¬ (1 : Int32) = 0 := by decide
theorem z00 : (0 : Int32) = 0 := rfl
theorem set_same {α : Type} {L : List α} {i : Nat} {x : α} (h : L[i]? = some x) : L.set i x = L := by
  obtain ⟨h1, h2⟩ := List.getElem?_eq_some_iff.mp h
  rw [← h2]
  exact List.set_getElem_self h1
section TQ
variable {fu : Nat} {M : zt_M} {A : pa_A}
/-- a motion and a frog that are there, or not -/
theorem tg_both (hp : pt (M.2 5) A) (ho : pw A) (x y : Int32) (K : Nat → Nat → pa_O) (R R' : zt_M → zg_R) (h1 : R' M = zg_rI 0 (zt_uI M 0 1)) (h2 : ∀ m f, m < A.2.2.1.length → f < A.1.length → x = Int32.ofNat m → y = Int32.ofNat f → tO M (K m f) (R M)) :
    tO M (pa_both x y A K) (zg_cI (gF_X4_areThere fu x y M) fun v M' => if v = 0 then R' M' else R M') := by
  rw [tg_areThere hp ho.2.2.1 ho.1, tc_I]
  unfold pa_both
  cases hx : pd x 0 A.2.2.1.length with
  | none => exact h1
  | some m =>
    cases hy : pd y 0 A.1.length with
    | none => exact h1
    | some f =>
      obtain ⟨-, hm, ex⟩ := pd_some hx
      obtain ⟨-, hf, ey⟩ := pd_some hy
      exact h2 m f hm hf ex ey
theorem ps_le {α : Type} (g : α → Nat) : ∀ (L : List α) (k : Nat), (∀ x, x ∈ L → g x ≤ k) → (L.map g).sum ≤ k * L.length
  | [], k, _ => Nat.zero_le _
  | x :: L, k, h => by
    have h1 := h x List.mem_cons_self
    have h2 := ps_le g L k fun y hy => h y (List.mem_cons_of_mem _ hy)
    simp [Nat.mul_add]
    omega
theorem pa_sum_le (ho : pw A) {m s : Nat} (hm : m < A.2.2.1.length) (K : List pa_K) (hK : ∀ k, k ∈ K → k.1 < A.1.length ∧ k.2.1 < 10) : pa_sum A K s ≤ 100 * K.length := ps_le _ _ _ fun k hk => by
  have h1 := hK k hk
  have h2 := (ho.fr h1.1).2.1
  have : pa_strength A k ≤ 9 * 9 := Nat.mul_le_mul (by omega) (by omega)
  show (if _ then _ else 0) ≤ 100
  split <;> omega
theorem pt.at64 {v : Nat → Int32} (hp : pt v A) {m : Nat} (h : m < A.2.2.1.length) : v (64 + 10 * m) = .ofNat (pa_mot A m).2.1.length := (hp.2.2.2.2.2.2.2.2.1 m _ (pa_mot_eq h)).2.2.2.2.2.1
theorem pa_mot_set {m : Nat} {x : pa_Mo} (h : m < A.2.2.1.length) : pa_mot (pa_setM A m x) m = x := by
  unfold pa_mot pa_setM
  simp [h]
theorem pa_setM_len {m : Nat} {x : pa_Mo} : (pa_setM A m x).2.2.1.length = A.2.2.1.length := by simp [pa_setM]
theorem pa_setM_set {m : Nat} {x y : pa_Mo} : pa_setM (pa_setM A m x) m y = pa_setM A m y := by simp [pa_setM]
theorem to_signs (hp : pt (M.2 5) A) (ho : pw A) (hlen : ∀ m f, m < A.2.2.1.length → f < A.1.length → pa_place (pa_mot A m).2.1 f = none → (pa_mot A m).2.1.length < 12) (hfu : 100 ≤ fu) (x y : Int32) : tO M (pa_signUp x y A) (gF_X4_signs fu x y M) := by
  have h12 := ho.1
  have h7 := ho.2.2.1
  unfold gF_X4_signs pa_signUp
  refine tg_both hp ho x y _ _ _ rfl fun m f hm hf ex ey => ?_
  subst ex ey
  have hq := hp.mo hm
  have hL := (ho.mo hm).2.2.2.1
  rw [tg_isFor hp ho hm hf, tc_I]
  show tO M (if _ then .inr 2 else if _ then .inr 3 else if _ then .inr 4 else _) _
  by_cases h2 : pa_for (pa_mot A m) (pa_frog A f) = true
  · rw [if_neg (by rw [h2]; decide), if_pos h2, if_neg n10, tg_isShut hp ho hm, tc_I]
    by_cases h3 : pa_shut (pa_mot A m) = true
    · rw [if_pos h3, if_pos h3]; exact rfl
    · rw [if_neg h3, if_neg h3, if_pos z00, tg_place hp ho hfu hm (by omega), tc_I]
      cases h4 : pa_place (pa_mot A m).2.1 f with
      | some k =>
        have : ¬ Int32.ofNat k < 0 := by
          have hkl : k < (pa_mot A m).2.1.length := by
            unfold pa_place at h4
            exact (List.findIdx?_eq_some_iff_getElem.mp h4).1
          rw [show (0 : Int32) = Int32.ofNat 0 from rfl, ci_lt (by omega) (by omega)]; omega
        show tO M (.inr 4) (if Int32.ofNat k < 0 then _ else _)
        rw [if_neg this]; exact rfl
      | none =>
        have hl := hlen m f hm hf h4
        show tO M (.inl _) (if (-1 : Int32) < 0 then _ else _)
        rw [if_pos (by decide), tg_of5, tc_I, tg_v (by omega), Option.bind_some, hq.2.2.2.2.2.1, tg_listed, tc_I, tg_s (by omega), Option.bind_some, tg_of5, tc_I, tg_v (by omega), Option.bind_some, tg_5, upd_ne (by omega), hq.2.2.2.2.2.1, tg_s (by omega), Option.bind_some, tg_of5, tc_I, tg_v (by omega), Option.bind_some, tg_5, upd_at, ci_succ]
        refine ⟨_, rfl, (tz.uA _ _ _).trans (tz.uA _ _ _), ?_⟩
        rw [tg_5, tg_5]
        refine hp.setM ho hm (fun b hb => by unfold pt_in at hb; rw [upd_ne (by omega), upd_ne (by omega)]) ?_
        obtain ⟨q0, q1, q2, q3, q4, q5, q6, q7, q8, q9⟩ := hq
        refine ⟨by rw [upd_ne (by omega), upd_ne (by omega)]; exact q0, by rw [upd_ne (by omega), upd_ne (by omega)]; exact q1, by rw [upd_ne (by omega), upd_ne (by omega)]; exact q2, by rw [upd_ne (by omega), upd_ne (by omega)]; exact q3, by rw [upd_ne (by omega), upd_ne (by omega)]; exact q4, by rw [upd_at]; simp, by rw [upd_ne (by omega), upd_ne (by omega)]; exact q6, by rw [upd_ne (by omega), upd_ne (by omega)]; exact q7, fun i r hr => ?_, fun i q hq => ?_⟩
        · have hi := (List.getElem?_eq_some_iff.mp hr).1
          simp at hi
          by_cases he : i = (pa_mot A m).2.1.length
          · subst he
            have : r = (f, (pa_mot A m).1.2.2.2.2.1) := by simpa using hr.symm
            subst this
            rw [upd_ne (by omega), upd_at]
          · have hr' : (pa_mot A m).2.1[i]? = some r := by
              have hr : ((pa_mot A m).2.1 ++ [(f, (pa_mot A m).1.2.2.2.2.1)])[i]? = some r := hr
              rw [List.getElem?_append_left (by omega)] at hr; exact hr
            rw [upd_ne (by omega), upd_ne (by omega)]
            exact q8 i r hr'
        · have hi : i < (pa_mot A m).2.2.length := (List.getElem?_eq_some_iff.mp hq).1
          have := (ho.mo hm).2.2.2.2.1
          obtain ⟨s1, s2, s3⟩ := q9 i q hq
          refine ⟨?_, ?_, ?_⟩
          · rw [upd_ne (by omega), upd_ne (by omega)]; exact s1
          · rw [upd_ne (by omega), upd_ne (by omega)]; exact s2
          · rw [upd_ne (by omega), upd_ne (by omega)]; exact s3
  · rw [if_pos (by simpa using h2), if_neg h2, if_pos z00]; exact rfl
theorem to_strikes (hp : pt (M.2 5) A) (ho : pw A) (hfu : 100 ≤ fu) (x y : Int32) : tO M (pa_strike x y A) (gF_X4_strikes fu x y M) := by
  have h12 := ho.1
  have h7 := ho.2.2.1
  unfold gF_X4_strikes pa_strike
  refine tg_both hp ho x y _ _ _ rfl fun m f hm hf ex ey => ?_
  subst ex ey
  have hL := (ho.mo hm).2.2.2.1
  rw [tg_place hp ho hfu hm (by omega), tc_I]
  show tO M (match pa_place (pa_mot A m).2.1 f with | none => .inr 2 | some k => .inl ((pa_mot A m).2.1.length - 1, pa_setM A m ((pa_mot A m).1, (pa_mot A m).2.1.eraseIdx k, (pa_mot A m).2.2))) _
  cases h4 : pa_place (pa_mot A m).2.1 f with
  | none => exact rfl
  | some k =>
    have hkl : k < (pa_mot A m).2.1.length := by
      unfold pa_place at h4
      exact (List.findIdx?_eq_some_iff_getElem.mp h4).1
    have : 0 ≤ Int32.ofNat k := by rw [show (0 : Int32) = Int32.ofNat 0 from rfl, ci_le (by omega) (by omega)]; omega
    obtain ⟨M', g1, g2, g3⟩ := tg_takes hp ho hfu hm hkl
    show tO M (.inl _) (if 0 ≤ Int32.ofNat k then _ else _)
    rw [if_pos this, g1, tc_V, tg_of5, tc_I, tg_v (by omega), Option.bind_some, g3.at64 (by rw [pa_setM_len]; exact hm), pa_mot_set hm]
    refine ⟨M', ?_, g2, g3⟩
    rw [List.length_eraseIdx_of_lt hkl]
theorem to_calls (hp : pt (M.2 5) A) (ho : pw A) (hfu : 100 ≤ fu) (x : Int32) : tO M (pa_call x A) (gF_X4_calls fu x M) := by
  have h12 := ho.1
  have h7 := ho.2.2.1
  unfold gF_X4_calls pa_call
  rw [tg_isMotion hp h7, tc_I]
  cases h1 : pd x 0 A.2.2.1.length with
  | none => exact rfl
  | some m =>
    obtain ⟨-, hm, rfl⟩ := pd_some h1
    have hL := (ho.mo hm).2.2.2.1
    show tO M (match pa_ranked (pa_sk A (pa_mot A m).2.1) 0 with | none => .inr 2 | some k => _) (if (1 : Int32) = 0 then _ else _)
    have tr : gF_X4_ranked fu (Int32.ofNat m) (0 : Int32) M = _ := tg_ranked (q := 0) hp ho hfu hm (by decide)
    rw [if_neg n10, tr, tc_I]
    cases h4 : pa_ranked (pa_sk A (pa_mot A m).2.1) 0 with
    | none => exact rfl
    | some k =>
      have hkl : k < (pa_mot A m).2.1.length := by have := pa_ranked_lt h4; simpa [pa_sk] using this
      have hk0 : (0 : Int32) ≤ Int32.ofNat k := by rw [show (0 : Int32) = Int32.ofNat 0 from rfl, ci_le (by omega) (by omega)]; omega
      have hr := List.getElem?_eq_getElem hkl
      have hf := (ho.mo hm).2.2.2.2.2.1 _ (List.getElem_mem hkl)
      have hrd : (pa_mot A m).2.1[k]?.getD (0, 0) = (pa_mot A m).2.1[k] := by rw [hr]; rfl
      obtain ⟨M', g1, g2, g3⟩ := tg_takes hp ho hfu hm hkl
      show tO M (if _ then .inl (0, _) else .inl (1, _)) (if (0 : Int32) ≤ Int32.ofNat k then _ else _)
      rw [if_pos hk0, tg_listed, tc_I, tg_v (by omega), Option.bind_some, (hp.mo hm).2.2.2.2.2.2.2.2.1 k _ hr, tg_isOn hp ho hf, tc_I, hrd]
      generalize ((pa_mot A m).2.1[k]).1 = f at hf ⊢
      generalize hA1 : pa_setM A m ((pa_mot A m).1, (pa_mot A m).2.1.eraseIdx k, (pa_mot A m).2.2) = A1 at g3
      have e1 : A1.1 = A.1 := by rw [← hA1]; rfl
      have ef : pa_frog A1 f = pa_frog A f := by unfold pa_frog; rw [e1]
      have em : m < A1.2.2.1.length := by rw [← hA1, pa_setM_len]; exact hm
      have emm : pa_mot A1 m = ((pa_mot A m).1, (pa_mot A m).2.1.eraseIdx k, (pa_mot A m).2.2) := by rw [← hA1, pa_mot_set hm]
      have hf1 : f < A1.1.length := by rw [e1]; exact hf
      have ho1 : pw A1 := by
        rw [← hA1]
        obtain ⟨b1, b2, b3, b4, b5, b6, b7⟩ := ho.mo hm
        have hs : ((pa_mot A m).2.1.eraseIdx k).Sublist (pa_mot A m).2.1 := List.eraseIdx_sublist _ _
        exact ho.setM ⟨b1, b2, b3, Nat.le_trans hs.length_le b4, b5, fun r hr => b6 r (hs.mem hr), b7⟩
      have qf := g3.fr hf1
      have qm := g3.mo em
      obtain ⟨c0, c1, c2, c3, c4, c5, c6, c7, c8, c9⟩ := g3
      have step : ∀ t : Nat, t ≤ 1 → ∃ M2, gJ_X4_calls_55 fu (Int32.ofNat m) (Int32.ofNat k) (Int32.ofNat f) (Int32.ofNat t) M = zg_rI (Int32.ofNat t) M2 ∧ tz M M2 ∧
          (∀ b, b ≠ 41 + f → b ≠ 65 + 10 * m → b ≠ 3 → b ≠ 4 → M2.2 5 b = M'.2 5 b) ∧ M2.2 5 (41 + f) = Int32.ofNat ((pa_frog A f).2.2.2 + t) ∧ M2.2 5 (65 + 10 * m) = Int32.ofNat ((pa_mot A m).1.2.2.2.2.2 + t) ∧ M2.2 5 3 = Int32.ofNat (A.2.2.2.1 + t) ∧ M2.2 5 4 = Int32.ofNat (A.2.2.2.2 + (1 - t)) := by
        intro t ht
        unfold gJ_X4_calls_55
        rw [g1, tc_V, tg_r41 (by omega), Option.bind_some, qf.2.2.2, tg_w41 (by omega), Option.bind_some, tg_of6, tc_I, tg_v (by omega), Option.bind_some, tg_5, upd_ne (by omega), qm.2.2.2.2.2.2.1, tg_s (by omega), Option.bind_some, tg_v3, Option.bind_some, tg_5, tg_5, upd_ne (by omega), upd_ne (by omega), c3, tg_s3, Option.bind_some, tg_v4, Option.bind_some, tg_5, tg_5, tg_5, upd_ne (by omega), upd_ne (by omega), upd_ne (by omega), c4, tg_s4, Option.bind_some]
        refine ⟨_, rfl, g2.trans ((tz.uA _ _ _).trans ((tz.uA _ _ _).trans ((tz.uA _ _ _).trans (tz.uA _ _ _)))), fun b h1 h2 h3 h4 => ?_, ?_, ?_, ?_, ?_⟩
        · rw [tg_5, tg_5, tg_5, tg_5, upd_ne h4, upd_ne h3, upd_ne h2, upd_ne h1]
        · rw [tg_5, tg_5, tg_5, tg_5, upd_ne (by omega), upd_ne (by omega), upd_ne (by omega), upd_at, ci_add, ef]
        · rw [tg_5, tg_5, tg_5, tg_5, upd_ne (by omega), upd_ne (by omega), upd_at, ci_add, emm]
        · rw [tg_5, tg_5, tg_5, tg_5, upd_ne (by omega), upd_at, ci_add, ← hA1]; rfl
        · rw [tg_5, tg_5, tg_5, tg_5, upd_at, show (1 : Int32) = Int32.ofNat 1 from rfl, ci_sub ht, ci_add, ← hA1]; rfl
      have hfin : ∀ (t : Nat) (M2 : zt_M), (∀ b, b ≠ 41 + f → b ≠ 65 + 10 * m → b ≠ 3 → b ≠ 4 → M2.2 5 b = M'.2 5 b) → M2.2 5 (41 + f) = Int32.ofNat ((pa_frog A f).2.2.2 + t) → M2.2 5 (65 + 10 * m) = Int32.ofNat ((pa_mot A m).1.2.2.2.2.2 + t) → M2.2 5 3 = Int32.ofNat (A.2.2.2.1 + t) → M2.2 5 4 = Int32.ofNat (A.2.2.2.2 + (1 - t)) →
          pt (M2.2 5) (A.1.set f ((pa_frog A f).1, (pa_frog A f).2.1, (pa_frog A f).2.2.1, (pa_frog A f).2.2.2 + t), A.2.1, A.2.2.1.set m (((pa_mot A m).1.1, (pa_mot A m).1.2.1, (pa_mot A m).1.2.2.1, (pa_mot A m).1.2.2.2.1, (pa_mot A m).1.2.2.2.2.1, (pa_mot A m).1.2.2.2.2.2 + t), (pa_mot A m).2.1.eraseIdx k, (pa_mot A m).2.2), A.2.2.2.1 + t, A.2.2.2.2 + (1 - t)) := by
        intro t M2 hv h41 h65 h3 h4
        have hP := ho1.2.1
        refine ⟨?_, ?_, ?_, h3, h4, fun g y hy => ?_, fun g hg hg' => ?_, fun p r hr => ?_, fun n y hy => ?_, fun n hn1 hn2 => ?_⟩
        · rw [hv _ (by omega) (by omega) (by omega) (by omega), c0, e1]; simp
        · rw [hv _ (by omega) (by omega) (by omega) (by omega), c1, ← hA1]; rfl
        · rw [hv _ (by omega) (by omega) (by omega) (by omega), c2, ← hA1]; simp [pa_setM]
        · by_cases hgf : g = f
          · subst hgf
            have : y = ((pa_frog A g).1, (pa_frog A g).2.1, (pa_frog A g).2.2.1, (pa_frog A g).2.2.2 + t) := by simp [hf] at hy; exact hy.symm
            subst this
            rw [ef] at qf
            obtain ⟨s1, s2, s3, s4⟩ := qf
            exact ⟨(hv _ (by omega) (by omega) (by omega) (by omega)).trans s1, (hv _ (by omega) (by omega) (by omega) (by omega)).trans s2, (hv _ (by omega) (by omega) (by omega) (by omega)).trans s3, h41⟩
          · have hy' : A1.1[g]? = some y := by rw [e1]; simpa [List.getElem?_set, Ne.symm hgf] using hy
            have hgl := (List.getElem?_eq_some_iff.mp hy').1
            rw [e1] at hgl
            exact (c5 g y hy').keep fun b hb => hv b (by omega) (by omega) (by omega) (by omega)
        · have hg1 : A1.1.length ≤ g := by rw [e1]; simpa using hg
          have := c6 g hg1 hg'
          rw [e1] at hg1
          exact ⟨(hv _ (by omega) (by omega) (by omega) (by omega)).trans this.1, (hv _ (by omega) (by omega) (by omega) (by omega)).trans this.2⟩
        · have hr' : A1.2.1[p]? = some r := by rw [← hA1]; exact hr
          have := (List.getElem?_eq_some_iff.mp hr').1
          exact (hv _ (by omega) (by omega) (by omega) (by omega)).trans (c7 p r hr')
        · by_cases hn : n = m
          · subst hn
            have : y = (((pa_mot A n).1.1, (pa_mot A n).1.2.1, (pa_mot A n).1.2.2.1, (pa_mot A n).1.2.2.2.1, (pa_mot A n).1.2.2.2.2.1, (pa_mot A n).1.2.2.2.2.2 + t), (pa_mot A n).2.1.eraseIdx k, (pa_mot A n).2.2) := by simp [hm] at hy; exact hy.symm
            subst this
            rw [emm] at qm
            obtain ⟨s0, s1, s2, s3, s4, s5, s6, s7, s8, s9⟩ := qm
            refine ⟨(hv _ (by omega) (by omega) (by omega) (by omega)).trans s0, (hv _ (by omega) (by omega) (by omega) (by omega)).trans s1, (hv _ (by omega) (by omega) (by omega) (by omega)).trans s2, (hv _ (by omega) (by omega) (by omega) (by omega)).trans s3, (hv _ (by omega) (by omega) (by omega) (by omega)).trans s4, (hv _ (by omega) (by omega) (by omega) (by omega)).trans s5, h65, (hv _ (by omega) (by omega) (by omega) (by omega)).trans s7, fun i r hr => (hv _ (by omega) (by omega) (by omega) (by omega)).trans (s8 i r hr), fun i q hq => ?_⟩
            obtain ⟨w1, w2, w3⟩ := s9 i q hq
            exact ⟨(hv _ (by omega) (by omega) (by omega) (by omega)).trans w1, (hv _ (by omega) (by omega) (by omega) (by omega)).trans w2, (hv _ (by omega) (by omega) (by omega) (by omega)).trans w3⟩
          · have hy' : A1.2.2.1[n]? = some y := by rw [← hA1]; simp [pa_setM, List.getElem?_set, Ne.symm hn] at hy ⊢; exact hy
            have hl := ho1.ll hy'
            have hnl := (List.getElem?_eq_some_iff.mp hy').1
            exact (c8 n y hy').keep hl.1 hl.2 fun b hb => by unfold pt_in at hb; exact hv b (by omega) (by omega) (by omega) (by omega)
        · have hn' : A1.2.2.1.length ≤ n := by rw [← hA1]; simpa [pa_setM] using hn1
          exact (c9 n hn' hn2).keep fun b hb => by unfold pt_in at hb; exact hv b (by omega) (by omega) (by omega) (by omega)
      by_cases h5 : (pa_frog A f).2.2.1 = 0
      · obtain ⟨M2, k1, k2, k3, k4, k5, k6, k7⟩ := step 0 (by decide)
        rw [if_pos h5, if_pos h5, if_pos z00]
        refine ⟨M2, k1, k2, ?_⟩
        have := hfin 0 M2 k3 k4 k5 k6 k7
        have e2 : A.1.set f ((pa_frog A f).1, (pa_frog A f).2.1, (pa_frog A f).2.2.1, (pa_frog A f).2.2.2 + 0) = A.1 := by
          have := pa_frog_eq hf
          exact set_same this
        rw [e2] at this
        exact this
      · obtain ⟨M2, k1, k2, k3, k4, k5, k6, k7⟩ := step 1 (by decide)
        rw [if_neg h5, if_neg h5, if_neg n10]
        exact ⟨M2, k1, k2, hfin 1 M2 k3 k4 k5 k6 k7⟩
theorem to_backs (hp : pt (M.2 5) A) (ho : pw A) (hfu : 100 ≤ fu) (x y : Int32) : tO M (pa_back x y A) (gF_X4_backs fu x y M) := by
  have h12 := ho.1
  have h7 := ho.2.2.1
  unfold gF_X4_backs pa_back
  refine tg_both hp ho x y _ _ _ rfl fun m f hm hf ex ey => ?_
  subst ex ey
  have hq := hp.mo hm
  have hL := (ho.mo hm).2.2.2.1
  have hC := (ho.mo hm).2.2.2.2.1
  rw [tg_isFor hp ho hm hf, tc_I]
  show tO M (if _ then .inr 2 else if _ then .inr 3 else if _ then .inr 4 else _) _
  by_cases h2 : pa_for (pa_mot A m) (pa_frog A f) = true
  · rw [if_neg (by rw [h2]; decide), if_pos h2, if_neg n10, tg_isShut hp ho hm, tc_I]
    by_cases h3 : pa_shut (pa_mot A m) = true
    · rw [if_pos h3, if_pos h3]; exact rfl
    · rw [if_neg h3, if_neg h3, if_pos z00, tg_isOn hp ho hf, tc_I]
      by_cases h4 : (pa_frog A f).2.2.1 = 0
      · rw [if_pos h4, if_pos h4]; exact rfl
      · rw [if_neg h4, if_neg h4, if_neg n10, tg_of4, tc_I, tg_v (by omega), Option.bind_some, hq.2.2.2.2.1]
        have eb : Int32.ofNat (pa_mot A m).1.2.2.2.1 ||| ((1 : Int32) <<< (Int32.ofNat f &&& 31)) = Int32.ofNat ((pa_mot A m).1.2.2.2.1 ||| 2 ^ f) := by
          have e1 : ∀ f, f < 12 → ((1 : Int32) <<< (Int32.ofNat f &&& 31)) = Int32.ofNat (2 ^ f) := by decide
          rw [e1 f (by omega)]
          show Int32.ofBitVec _ ||| Int32.ofBitVec _ = Int32.ofBitVec (BitVec.ofNat 32 _)
          rw [BitVec.ofNat_or]; rfl
        rw [eb, tg_s (by omega), Option.bind_some, tg_of1, tc_I]
        let y : pa_Mo := (((pa_mot A m).1.1, (pa_mot A m).1.2.1, (pa_mot A m).1.2.2.1, (pa_mot A m).1.2.2.2.1 ||| 2 ^ f, (pa_mot A m).1.2.2.2.2), (pa_mot A m).2)
        have hy : pt ((zt_uA M 5 (63 + 10 * m) (Int32.ofNat ((pa_mot A m).1.2.2.2.1 ||| 2 ^ f))).2 5) (pa_setM A m y) := by
          rw [tg_5]
          refine hp.setM ho hm (fun b hb => by unfold pt_in at hb; exact upd_ne (by omega)) ?_
          obtain ⟨q0, q1, q2, q3, q4, q5, q6, q7, q8, q9⟩ := hq
          refine ⟨(upd_ne (by omega)).trans q0, (upd_ne (by omega)).trans q1, (upd_ne (by omega)).trans q2, (upd_ne (by omega)).trans q3, upd_at, (upd_ne (by omega)).trans q5, (upd_ne (by omega)).trans q6, (upd_ne (by omega)).trans q7, fun i r hr => (upd_ne (by omega)).trans (q8 i r hr), fun i q hq => ?_⟩
          obtain ⟨w1, w2, w3⟩ := q9 i q hq
          exact ⟨(upd_ne (by omega)).trans w1, (upd_ne (by omega)).trans w2, (upd_ne (by omega)).trans w3⟩
        have hyw : pw (pa_setM A m y) := by
          obtain ⟨b1, b2, b3, b4, b5, b6, b7⟩ := ho.mo hm
          exact ho.setM ⟨b1, b2, Nat.or_lt_two_pow (n := 12) b3 (Nat.pow_lt_pow_right (by decide) (by omega)), b4, b5, b6, b7⟩
        have hym : m < (pa_setM A m y).2.2.1.length := by rw [pa_setM_len]; exact hm
        rw [tg_backing hy hyw hfu hym, tc_I, tg_entitled hy hyw hfu hym, tc_I, pa_mot_set hm]
        have e2 : pa_backing (pa_setM A m y) y = pa_backing A y := rfl
        have e3 : pa_entitled (pa_setM A m y) y = pa_entitled A y := rfl
        rw [e2, e3, show (2 : Int32) = Int32.ofNat 2 from rfl, ci_mul]
        have hb1 : pa_backing A y ≤ 10 * 12 := Nat.le_trans (ps_le _ _ 10 fun g hg => by
          have hg' : g < A.1.length := by simpa using hg
          have := (ho.fr hg').2.1
          show (if _ then _ else 0) ≤ 10
          split <;> omega) (by simp; omega)
        have hb2 : pa_entitled A y ≤ 10 * 12 := Nat.le_trans (ps_le _ _ 10 fun g hg => by
          have := (ho.2.2.2.1 g hg).2.1
          show (if _ then _ else 0) ≤ 10
          split <;> omega) (by omega)
        have fin : ∀ cc : Nat, pt (upd (upd (M.2 5) (63 + 10 * m) (Int32.ofNat ((pa_mot A m).1.2.2.2.1 ||| 2 ^ f))) (60 + 10 * m) (Int32.ofNat cc)) (pa_setM A m (((pa_mot A m).1.1, cc, (pa_mot A m).1.2.2.1, (pa_mot A m).1.2.2.2.1 ||| 2 ^ f, (pa_mot A m).1.2.2.2.2), (pa_mot A m).2)) := fun cc => by
          refine hp.setM ho hm (fun b hb => by unfold pt_in at hb; rw [upd_ne (by omega), upd_ne (by omega)]) ?_
          obtain ⟨q0, q1, q2, q3, q4, q5, q6, q7, q8, q9⟩ := hq
          have hh : ∀ b, b ≠ 60 + 10 * m → b ≠ 63 + 10 * m → upd (upd (M.2 5) (63 + 10 * m) (Int32.ofNat ((pa_mot A m).1.2.2.2.1 ||| 2 ^ f))) (60 + 10 * m) (Int32.ofNat cc) b = M.2 5 b := fun b g1 g2 => by rw [upd_ne g1, upd_ne g2]
          refine ⟨(hh _ (by omega) (by omega)).trans q0, upd_at, (hh _ (by omega) (by omega)).trans q2, (hh _ (by omega) (by omega)).trans q3, (upd_ne (by omega)).trans upd_at, (hh _ (by omega) (by omega)).trans q5, (hh _ (by omega) (by omega)).trans q6, (hh _ (by omega) (by omega)).trans q7, fun i r hr => (hh _ (by omega) (by omega)).trans (q8 i r hr), fun i q hq => ?_⟩
          obtain ⟨w1, w2, w3⟩ := q9 i q hq
          exact ⟨(hh _ (by omega) (by omega)).trans w1, (hh _ (by omega) (by omega)).trans w2, (hh _ (by omega) (by omega)).trans w3⟩
        show tO M (.inl (if 2 * pa_backing A y > pa_entitled A y then 1 else 0, pa_setM A m (((pa_mot A m).1.1, (if 2 * pa_backing A y > pa_entitled A y then 1 else 0), (pa_mot A m).1.2.2.1, (pa_mot A m).1.2.2.2.1 ||| 2 ^ f, (pa_mot A m).1.2.2.2.2), (pa_mot A m).2))) _
        by_cases hcc : 2 * pa_backing A y > pa_entitled A y
        · rw [if_pos hcc, if_neg (fun h => by have := (ci_le (by omega) (by omega)).mp h; omega), tg_s (by omega), Option.bind_some, tg_of1, tc_I, tg_v (by omega), Option.bind_some, tg_5, upd_at]
          refine ⟨_, rfl, (tz.uA _ _ _).trans (tz.uA _ _ _), ?_⟩
          rw [tg_5, tg_5]
          exact fin 1
        · rw [if_neg hcc, if_pos ((ci_le (by omega) (by omega)).mpr (by omega)), tg_s (by omega), Option.bind_some, tg_of1, tc_I, tg_v (by omega), Option.bind_some, tg_5, upd_at]
          refine ⟨_, rfl, (tz.uA _ _ _).trans (tz.uA _ _ _), ?_⟩
          rw [tg_5, tg_5]
          exact fin 0
  · rw [if_pos (by simpa using h2), if_neg h2, if_pos z00]; exact rfl
theorem to_croaks (hp : pt (M.2 5) A) (ho : pw A) (hlen : ∀ m f, m < A.2.2.1.length → f < A.1.length → pa_croaked (pa_mot A m).2.2 f = false → (pa_mot A m).2.2.length < 12) (hfu : 100 ≤ fu) (x y z : Int32) {s : Nat} (hs : s ≤ 1) : tO M (pa_croak x y z s A) (gF_X4_croaks fu x y z (.ofNat s) M) := by
  have h12 := ho.1
  have h7 := ho.2.2.1
  unfold gF_X4_croaks pa_croak
  refine tg_both hp ho x y _ _ _ rfl fun m f hm hf ex ey => ?_
  subst ex ey
  have hq := hp.mo hm
  have hL := (ho.mo hm).2.2.2.1
  show tO M (match pd z 1 10 with | none => .inr 2 | some l => _) _
  cases hz : pd z 1 10 with
  | none => rw [tg_in_no (lo := 1) (n := 10) 1 9 rfl (by decide) (by decide) (by decide) hz]; exact rfl
  | some l =>
  obtain ⟨hl1, hl2, rfl⟩ := pd_some hz
  rw [tg_in_yes (lo := 1) (n := 10) 1 9 rfl (by decide) (by decide) hl1 hl2, tc_I, if_neg n10, tg_isFor hp ho hm hf, tc_I]
  show tO M (if _ then .inr 2 else if _ then .inr 3 else if _ ∨ _ then .inr 4 else _) _
  by_cases h2 : pa_for (pa_mot A m) (pa_frog A f) = true
  · rw [if_neg (by rw [h2]; decide), if_pos h2, if_neg n10, tg_isDue hp ho hm, tc_I]
    by_cases h3 : pa_due (pa_mot A m) = true
    · rw [if_neg (by rw [h3]; decide), if_pos h3, if_neg n10, tg_isOn hp ho hf, tc_I]
      by_cases h4 : (pa_frog A f).2.2.1 = 0
      · rw [if_pos (.inl h4), if_pos h4]; exact rfl
      · rw [if_neg h4, if_neg n10, tg_hasCroaked hp ho hfu hm (by omega), tc_I]
        by_cases h5 : pa_croaked (pa_mot A m).2.2 f = true
        · rw [if_pos (.inr h5), if_pos h5]; exact rfl
        · have hl := hlen m f hm hf (by simpa using h5)
          rw [if_neg (fun h => h.elim h4 h5), if_neg h5, if_pos z00, tg_of7, tc_I, tg_v (by omega), Option.bind_some, hq.2.2.2.2.2.2.2.1, tg_croaked, tc_I, tg_s (by omega), Option.bind_some, ci_nn.1, tg_s (by omega), Option.bind_some, ci_nn.2, tg_s (by omega), Option.bind_some, tg_of7, tc_I, tg_v (by omega), Option.bind_some, tg_5, tg_5, tg_5, upd_ne (by omega), upd_ne (by omega), upd_ne (by omega), hq.2.2.2.2.2.2.2.1, tg_s (by omega), Option.bind_some, ci_succ]
          generalize hM2 : zt_uA (zt_uA (zt_uA (zt_uA M 5 (191 + 36 * m + 3 * (pa_mot A m).2.2.length) (Int32.ofNat f)) 5 (191 + 36 * m + 3 * (pa_mot A m).2.2.length + 1) (Int32.ofNat l)) 5 (191 + 36 * m + 3 * (pa_mot A m).2.2.length + 2) (Int32.ofNat s)) 5 (66 + 10 * m) (Int32.ofNat ((pa_mot A m).2.2.length + 1)) = M2
          have hz2 : tz M M2 := by rw [← hM2]; exact (tz.uA _ _ _).trans ((tz.uA _ _ _).trans ((tz.uA _ _ _).trans (tz.uA _ _ _)))
          have hv : ∀ b, b ≠ 191 + 36 * m + 3 * (pa_mot A m).2.2.length → b ≠ 191 + 36 * m + 3 * (pa_mot A m).2.2.length + 1 → b ≠ 191 + 36 * m + 3 * (pa_mot A m).2.2.length + 2 → b ≠ 66 + 10 * m → M2.2 5 b = M.2 5 b := fun b g1 g2 g3 g4 => by
            rw [← hM2, tg_5, tg_5, tg_5, tg_5, upd_ne g4, upd_ne g3, upd_ne g2, upd_ne g1]
          have v1 : M2.2 5 (191 + 36 * m + 3 * (pa_mot A m).2.2.length) = Int32.ofNat f := by rw [← hM2, tg_5, tg_5, tg_5, tg_5, upd_ne (by omega), upd_ne (by omega), upd_ne (by omega), upd_at]
          have v2 : M2.2 5 (191 + 36 * m + 3 * (pa_mot A m).2.2.length + 1) = Int32.ofNat l := by rw [← hM2, tg_5, tg_5, tg_5, tg_5, upd_ne (by omega), upd_ne (by omega), upd_at]
          have v3 : M2.2 5 (191 + 36 * m + 3 * (pa_mot A m).2.2.length + 2) = Int32.ofNat s := by rw [← hM2, tg_5, tg_5, tg_5, tg_5, upd_ne (by omega), upd_at]
          have v4 : M2.2 5 (66 + 10 * m) = Int32.ofNat ((pa_mot A m).2.2.length + 1) := by rw [← hM2, tg_5, tg_5, tg_5, tg_5, upd_at]
          let y : pa_Mo := ((pa_mot A m).1, (pa_mot A m).2.1, (pa_mot A m).2.2 ++ [(f, l, s)])
          have hy : pt (M2.2 5) (pa_setM A m y) := by
            refine hp.setM ho hm (fun b hb => by unfold pt_in at hb; exact hv b (by omega) (by omega) (by omega) (by omega)) ?_
            obtain ⟨q0, q1, q2, q3, q4, q5, q6, q7, q8, q9⟩ := hq
            refine ⟨(hv _ (by omega) (by omega) (by omega) (by omega)).trans q0, (hv _ (by omega) (by omega) (by omega) (by omega)).trans q1, (hv _ (by omega) (by omega) (by omega) (by omega)).trans q2, (hv _ (by omega) (by omega) (by omega) (by omega)).trans q3, (hv _ (by omega) (by omega) (by omega) (by omega)).trans q4, (hv _ (by omega) (by omega) (by omega) (by omega)).trans q5, (hv _ (by omega) (by omega) (by omega) (by omega)).trans q6, by rw [v4]; simp [y], fun i r hr => ?_, fun i q hq => ?_⟩
            · have hi : i < (pa_mot A m).2.1.length := (List.getElem?_eq_some_iff.mp hr).1
              exact (hv _ (by omega) (by omega) (by omega) (by omega)).trans (q8 i r hr)
            · have hi := (List.getElem?_eq_some_iff.mp hq).1
              simp [y] at hi
              by_cases he : i = (pa_mot A m).2.2.length
              · subst he
                have : q = (f, l, s) := by simpa [y] using hq.symm
                subst this
                exact ⟨v1, (congrArg _ (by omega)).trans v2, (congrArg _ (by omega)).trans v3⟩
              · have hq' : (pa_mot A m).2.2[i]? = some q := by
                  have hq : ((pa_mot A m).2.2 ++ [(f, l, s)])[i]? = some q := hq
                  rw [List.getElem?_append_left (by omega)] at hq; exact hq
                obtain ⟨w1, w2, w3⟩ := q9 i q hq'
                exact ⟨(hv _ (by omega) (by omega) (by omega) (by omega)).trans w1, (hv _ (by omega) (by omega) (by omega) (by omega)).trans w2, (hv _ (by omega) (by omega) (by omega) (by omega)).trans w3⟩
          have hyw : pw (pa_setM A m y) := by
            obtain ⟨b1, b2, b3, b4, b5, b6, b7⟩ := ho.mo hm
            refine ho.setM ⟨b1, b2, b3, b4, by simp [y]; omega, b6, fun k hk => ?_⟩
            rcases List.mem_append.mp hk with h | h
            · exact b7 k h
            · have : k = (f, l, s) := by simpa using h
              subst this
              exact ⟨hf, hl2, hs⟩
          have hym : m < (pa_setM A m y).2.2.1.length := by rw [pa_setM_len]; exact hm
          rw [tg_sum hy hyw hfu hym hs, tc_I, pa_mot_set hm]
          exact ⟨M2, rfl, hz2, hy⟩
    · rw [if_pos (by simpa using h3), if_neg h3, if_pos z00]; exact rfl
  · rw [if_pos (by simpa using h2), if_neg h2, if_pos z00]; exact rfl
theorem to_decides (hp : pt (M.2 5) A) (ho : pw A) (hfu : 100 ≤ fu) (x : Int32) : tO M (pa_decide x A) (gF_X4_decides fu x M) := by
  have h12 := ho.1
  have h7 := ho.2.2.1
  unfold gF_X4_decides pa_decide
  rw [tg_isMotion hp h7, tc_I]
  cases h1 : pd x 0 A.2.2.1.length with
  | none => exact rfl
  | some m =>
    obtain ⟨-, hm, rfl⟩ := pd_some h1
    have hq := hp.mo hm
    have hC := (ho.mo hm).2.2.2.2.1
    have hL := (ho.mo hm).2.2.2.1
    show tO M (if _ then .inr 2 else _) (if (1 : Int32) = 0 then _ else _)
    rw [if_neg n10, tg_isDue hp ho hm, tc_I]
    by_cases h3 : pa_due (pa_mot A m) = true
    · have hst : (pa_mot A m).1.2.2.1 = 0 := by unfold pa_due at h3; simp at h3; exact h3.1.1
      rw [if_neg (by rw [h3]; decide), if_pos h3, if_neg n10, tg_of2, tc_I, tg_s (by omega), Option.bind_some, tg_of3, tc_I]
      let y : pa_Mo := (((pa_mot A m).1.1, (pa_mot A m).1.2.1, 2, (pa_mot A m).1.2.2.2), (pa_mot A m).2)
      have fin : ∀ cc : Nat, cc ≤ 1 → pt (upd (upd (M.2 5) (61 + 10 * m) (1 : Int32)) (62 + 10 * m) (Int32.ofNat cc)) (pa_setM A m (((pa_mot A m).1.1, (pa_mot A m).1.2.1, 2 - cc, (pa_mot A m).1.2.2.2), (pa_mot A m).2)) := fun cc hcc => by
        refine hp.setM ho hm (fun b hb => by unfold pt_in at hb; rw [upd_ne (by omega), upd_ne (by omega)]) ?_
        obtain ⟨q0, q1, q2, q3, q4, q5, q6, q7, q8, q9⟩ := hq
        have hh : ∀ b, b ≠ 61 + 10 * m → b ≠ 62 + 10 * m → upd (upd (M.2 5) (61 + 10 * m) (1 : Int32)) (62 + 10 * m) (Int32.ofNat cc) b = M.2 5 b := fun b g1 g2 => by rw [upd_ne g2, upd_ne g1]
        refine ⟨(hh _ (by omega) (by omega)).trans q0, (hh _ (by omega) (by omega)).trans q1, ?_, ?_, (hh _ (by omega) (by omega)).trans q4, (hh _ (by omega) (by omega)).trans q5, (hh _ (by omega) (by omega)).trans q6, (hh _ (by omega) (by omega)).trans q7, fun i r hr => ?_, fun i q hq => ?_⟩
        · rw [upd_ne (by omega), upd_at]
          show _ = Int32.ofNat (if 2 - cc = 0 then 0 else 1)
          rw [if_neg (by omega)]; rfl
        · rw [upd_at]
          show _ = Int32.ofNat (if 2 - cc = 1 then 1 else 0)
          rcases (by omega : cc = 0 ∨ cc = 1) with rfl | rfl <;> rfl
        · have hi : i < (pa_mot A m).2.1.length := (List.getElem?_eq_some_iff.mp hr).1
          exact (hh _ (by omega) (by omega)).trans (q8 i r hr)
        · have hi : i < (pa_mot A m).2.2.length := (List.getElem?_eq_some_iff.mp hq).1
          obtain ⟨w1, w2, w3⟩ := q9 i q hq
          exact ⟨(hh _ (by omega) (by omega)).trans w1, (hh _ (by omega) (by omega)).trans w2, (hh _ (by omega) (by omega)).trans w3⟩
      have hy : pt ((zt_uA M 5 (61 + 10 * m) (1 : Int32)).2 5) (pa_setM A m y) := by
        rw [tg_5]
        have h0 := fin 0 (by decide)
        have e : upd (upd (M.2 5) (61 + 10 * m) (1 : Int32)) (62 + 10 * m) (Int32.ofNat 0) = upd (M.2 5) (61 + 10 * m) (1 : Int32) := by
          funext b
          by_cases hb : b = 62 + 10 * m
          · rw [hb, upd_at, upd_ne (by omega), hq.2.2.2.1, hst]; rfl
          · rw [upd_ne hb]
        rw [e] at h0
        exact h0
      have hyw : pw (pa_setM A m y) := by
        obtain ⟨b1, b2, b3, b4, b5, b6, b7⟩ := ho.mo hm
        exact ho.setM ⟨b1, b2, b3, b4, b5, b6, b7⟩
      have hym : m < (pa_setM A m y).2.2.1.length := by rw [pa_setM_len]; exact hm
      have s1 := tg_sum (fu := fu) (s := 1) hy hyw hfu hym (by decide)
      have s0 := tg_sum (fu := fu) (s := 0) hy hyw hfu hym (by decide)
      rw [pa_mot_set hm] at s1 s0
      have hb : ∀ s, pa_sum A (pa_mot A m).2.2 s ≤ 1200 := fun s => by
        have := pa_sum_le (s := s) ho hm (pa_mot A m).2.2 fun k hk => ⟨((ho.mo hm).2.2.2.2.2.2 k hk).1, ((ho.mo hm).2.2.2.2.2.2 k hk).2.1⟩
        omega
      have hb1 := hb 1
      have hb0 := hb 0
      have s1' : gF_X4_sum fu (Int32.ofNat m) (1 : Int32) (zt_uA M 5 (61 + 10 * m) (1 : Int32)) = _ := s1
      have s0' : gF_X4_sum fu (Int32.ofNat m) (0 : Int32) (zt_uA M 5 (61 + 10 * m) (1 : Int32)) = _ := s0
      have e1 : ∀ s, pa_sum (pa_setM A m y) y.2.2 s = pa_sum A (pa_mot A m).2.2 s := fun _ => rfl
      rw [s1', tc_I, s0', tc_I, e1, e1]
      show tO M (.inl ((if pa_sum A (pa_mot A m).2.2 1 > pa_sum A (pa_mot A m).2.2 0 then 1 else 0), pa_setM A m (((pa_mot A m).1.1, (pa_mot A m).1.2.1, 2 - (if pa_sum A (pa_mot A m).2.2 1 > pa_sum A (pa_mot A m).2.2 0 then 1 else 0), (pa_mot A m).1.2.2.2), (pa_mot A m).2))) _
      by_cases hcc : pa_sum A (pa_mot A m).2.2 1 > pa_sum A (pa_mot A m).2.2 0
      · rw [if_pos hcc, if_neg (fun h => by have := (ci_le (by omega) (by omega)).mp h; omega), tg_s (by omega), Option.bind_some, tg_of3, tc_I, tg_v (by omega), Option.bind_some, tg_5, upd_at]
        refine ⟨_, rfl, (tz.uA _ _ _).trans (tz.uA _ _ _), ?_⟩
        rw [tg_5, tg_5]
        exact fin 1 (by decide)
      · rw [if_neg hcc, if_pos ((ci_le (by omega) (by omega)).mpr (by omega)), tg_s (by omega), Option.bind_some, tg_of3, tc_I, tg_v (by omega), Option.bind_some, tg_5, upd_at]
        refine ⟨_, rfl, (tz.uA _ _ _).trans (tz.uA _ _ _), ?_⟩
        rw [tg_5, tg_5]
        exact fin 0 (by decide)
    · rw [if_pos (by simpa using h3), if_neg h3, if_pos z00]; exact rfl
end TQ
