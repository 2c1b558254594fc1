/-! ===== THE TWIN's OPERATIONS: each answers as the abstract one ===== -/
/-- only the row v was changed -/
def tz (M M' : zt_M) : Prop := M'.1 = M.1 ∧ ∀ k, k ≠ 5 → M'.2 k = M.2 k
theorem tz.refl (M : zt_M) : tz M M := ⟨rfl, fun _ _ => rfl⟩
theorem tz.trans {M M1 M2 : zt_M} (h : tz M M1) (h' : tz M1 M2) : tz M M2 := ⟨h'.1.trans h.1, fun k hk => (h'.2 k hk).trans (h.2 k hk)⟩
theorem tz.uA (M : zt_M) (i : Nat) (x : Int32) : tz M (zt_uA M 5 i x) := ⟨rfl, fun _ hk => if_neg hk⟩
def tO (M : zt_M) (o : pa_O) (r : zg_R) : Prop := match o with
  | .inl (v, A') => ∃ M', r = zg_rI (.ofNat v) M' ∧ tz M M' ∧ pt (M'.2 5) A'
  | .inr p => r = zg_rI 0 (zt_uI M 0 (.ofNat p))
/-! the relation after a write -/
def pt_in (m b : Nat) : Prop := (59 + 10 * m ≤ b ∧ b < 67 + 10 * m) ∨ (119 + 12 * m ≤ b ∧ b < 131 + 12 * m) ∨ (191 + 36 * m ≤ b ∧ b < 227 + 36 * m)
theorem pt_F.keep {v v' : Nat → Int32} {f : Nat} {x : pa_F} (h : pt_F v f x) (hv : ∀ b, b = 5 + f ∨ b = 17 + f ∨ b = 29 + f ∨ b = 41 + f → v' b = v b) : pt_F v' f x :=
  ⟨(hv _ (.inl rfl)).trans h.1, (hv _ (.inr (.inl rfl))).trans h.2.1, (hv _ (.inr (.inr (.inl rfl)))).trans h.2.2.1, (hv _ (.inr (.inr (.inr rfl)))).trans h.2.2.2⟩
theorem pt_Mo.keep {v v' : Nat → Int32} {m : Nat} {x : pa_Mo} (h : pt_Mo v m x) (hl : x.2.1.length ≤ 12) (hc : x.2.2.length ≤ 12) (hv : ∀ b, pt_in m b → v' b = v b) : pt_Mo v' m x := by
  obtain ⟨h0, h1, h2, h3, h4, h5, h6, h7, h8, h9⟩ := h
  refine ⟨(hv _ (.inl ⟨by omega, by omega⟩)).trans h0, (hv _ (.inl ⟨by omega, by omega⟩)).trans h1, (hv _ (.inl ⟨by omega, by omega⟩)).trans h2, (hv _ (.inl ⟨by omega, by omega⟩)).trans h3, (hv _ (.inl ⟨by omega, by omega⟩)).trans h4, (hv _ (.inl ⟨by omega, by omega⟩)).trans h5, (hv _ (.inl ⟨by omega, by omega⟩)).trans h6, (hv _ (.inl ⟨by omega, by omega⟩)).trans h7, fun k r hr => ?_, fun k q hq => ?_⟩
  · have := (List.getElem?_eq_some_iff.mp hr).1
    exact (hv _ (.inr (.inl ⟨by omega, by omega⟩))).trans (h8 k r hr)
  · have := (List.getElem?_eq_some_iff.mp hq).1
    obtain ⟨g1, g2, g3⟩ := h9 k q hq
    exact ⟨(hv _ (.inr (.inr ⟨by omega, by omega⟩))).trans g1, (hv _ (.inr (.inr ⟨by omega, by omega⟩))).trans g2, (hv _ (.inr (.inr ⟨by omega, by omega⟩))).trans g3⟩
theorem pt_N.keep {v v' : Nat → Int32} {m : Nat} (h : pt_N v m) (hv : ∀ b, pt_in m b → v' b = v b) : pt_N v' m := fun k h1 h2 => (hv _ (.inl ⟨by omega, by omega⟩)).trans (h k h1 h2)
section TO
variable {fu : Nat} {M : zt_M} {A : pa_A}
theorem pw.ll (ho : pw A) {m : Nat} {x : pa_Mo} (h : A.2.2.1[m]? = some x) : x.2.1.length ≤ 12 ∧ x.2.2.length ≤ 12 := by
  have hk := ho.2.2.2.2.2 x (List.mem_of_getElem? h)
  exact ⟨hk.2.2.2.1, hk.2.2.2.2.1⟩
/-- only frogs' places f were changed -/
theorem pt.setF {v v' : Nat → Int32} (hp : pt v A) (ho : pw A) {f : Nat} {y : pa_F} (hf : f < A.1.length) (hv : ∀ b, b ≠ 5 + f → b ≠ 17 + f → b ≠ 29 + f → b ≠ 41 + f → v' b = v b) (hy : pt_F v' f y) : pt v' (pa_setF A f y) := by
  have h12 := ho.1
  have h6 := ho.2.1
  obtain ⟨p0, p1, p2, p3, p4, p5, p6, p7, p8, p9⟩ := hp
  refine ⟨?_, ?_, ?_, ?_, ?_, fun g x hx => ?_, fun g hg hg' => ?_, fun p r hr => ?_, fun m x hx => ?_, fun m h1 h2 => ?_⟩
  · rw [hv _ (by omega) (by omega) (by omega) (by omega), p0]; simp [pa_setF]
  · exact (hv _ (by omega) (by omega) (by omega) (by omega)).trans p1
  · exact (hv _ (by omega) (by omega) (by omega) (by omega)).trans p2
  · exact (hv _ (by omega) (by omega) (by omega) (by omega)).trans p3
  · exact (hv _ (by omega) (by omega) (by omega) (by omega)).trans p4
  · by_cases hgf : g = f
    · subst hgf
      have : x = y := by simp [pa_setF, hf] at hx; exact hx.symm
      rw [this]; exact hy
    · have hx' : A.1[g]? = some x := by simpa [pa_setF, List.getElem?_set, Ne.symm hgf] using hx
      have := (List.getElem?_eq_some_iff.mp hx').1
      exact (p5 g x hx').keep fun b hb => hv b (by omega) (by omega) (by omega) (by omega)
  · have hg1 : A.1.length ≤ g := by simpa [pa_setF] using hg
    have := p6 g hg1 hg'
    exact ⟨(hv _ (by omega) (by omega) (by omega) (by omega)).trans this.1, (hv _ (by omega) (by omega) (by omega) (by omega)).trans this.2⟩
  · have := (List.getElem?_eq_some_iff.mp hr).1
    have hl : A.2.1.length ≤ 6 := h6
    exact (hv _ (by have : p < A.2.1.length := this; omega) (by have : p < A.2.1.length := this; omega) (by have : p < A.2.1.length := this; omega) (by have : p < A.2.1.length := this; omega)).trans (p7 p r hr)
  · have hl := ho.ll (m := m) hx
    have := (List.getElem?_eq_some_iff.mp hx).1
    exact (p8 m x hx).keep hl.1 hl.2 fun b hb => by
      unfold pt_in at hb
      exact hv b (by omega) (by omega) (by omega) (by omega)
  · exact (p9 m h1 h2).keep fun b hb => by
      unfold pt_in at hb
      exact hv b (by omega) (by omega) (by omega) (by omega)
/-- only motion m's places were changed -/
theorem pt.setM {v v' : Nat → Int32} (hp : pt v A) (ho : pw A) {m : Nat} {y : pa_Mo} (hm : m < A.2.2.1.length) (hv : ∀ b, ¬ pt_in m b → v' b = v b) (hy : pt_Mo v' m y) : pt v' (pa_setM A m y) := by
  have h12 := ho.1
  have h6 := ho.2.1
  have h7 := ho.2.2.1
  obtain ⟨p0, p1, p2, p3, p4, p5, p6, p7, p8, p9⟩ := hp
  have hv' : ∀ b, b < 59 → v' b = v b := fun b hb => hv b (by unfold pt_in; omega)
  refine ⟨(hv' _ (by omega)).trans p0, (hv' _ (by omega)).trans p1, ?_, (hv' _ (by omega)).trans p3, (hv' _ (by omega)).trans p4, fun g x hx => ?_, fun g hg hg' => ?_, fun p r hr => ?_, fun n x hx => ?_, fun n h1 h2 => ?_⟩
  · rw [hv' _ (by omega), p2]; simp [pa_setM]
  · have : g < A.1.length := (List.getElem?_eq_some_iff.mp hx).1
    exact (p5 g x hx).keep fun b hb => hv' b (by omega)
  · have := p6 g hg hg'
    exact ⟨(hv' _ (by omega)).trans this.1, (hv' _ (by omega)).trans this.2⟩
  · have : p < A.2.1.length := (List.getElem?_eq_some_iff.mp hr).1
    exact (hv' _ (by omega)).trans (p7 p r hr)
  · by_cases hn : n = m
    · subst hn
      have : x = y := by simp [pa_setM, hm] at hx; exact hx.symm
      rw [this]; exact hy
    · have hx' : A.2.2.1[n]? = some x := by simpa [pa_setM, List.getElem?_set, Ne.symm hn] using hx
      have hl := ho.ll hx'
      have := (List.getElem?_eq_some_iff.mp hx').1
      exact (p8 n x hx').keep hl.1 hl.2 fun b hb => hv b (by unfold pt_in at hb ⊢; omega)
  · have h1' : A.2.2.1.length ≤ n := by simpa [pa_setM] using h1
    exact (p9 n h1' h2).keep fun b hb => hv b (by unfold pt_in at hb ⊢; omega)
theorem to_adds (hp : pt (M.2 5) A) (ho : pw A) (x y : Int32) : tO M (pa_addFrog x y A) (gF_X4_adds fu x y M) := by
  have h12 := ho.1
  have h6 := ho.2.1
  have h7 := ho.2.2.1
  unfold gF_X4_adds pa_addFrog
  cases h1 : pd x 0 4 with
  | none => rw [tg_in_no (lo := 0) (n := 4) 0 3 rfl (by decide) (by decide) (by decide) h1]; exact rfl
  | some p =>
    obtain ⟨-, hpl, rfl⟩ := pd_some h1
    rw [tg_in_yes (lo := 0) (n := 4) 0 3 rfl (by decide) (by decide) (by omega) hpl, tc_I, if_neg (by decide)]
    cases h2 : pd y 1 10 with
    | none => rw [tg_in_no (lo := 1) (n := 10) 1 9 rfl (by decide) (by decide) (by decide) h2]; exact rfl
    | some w =>
      obtain ⟨hw1, hw2, rfl⟩ := pd_some h2
      rw [tg_in_yes (lo := 1) (n := 10) 1 9 rfl (by decide) (by decide) hw1 hw2, tc_I, if_neg (by decide), tg_v0, Option.bind_some, hp.1]
      by_cases h3 : A.1.length = 12
      · show tO M (if A.1.length = 12 then .inr 3 else _) _
        rw [if_pos h3, if_pos (by rw [h3]; rfl)]; exact rfl
      · show tO M (if A.1.length = 12 then .inr 3 else _) _
        rw [if_neg h3, if_neg (by rw [show (12 : Int32) = Int32.ofNat 12 from rfl, ci_eq (by omega) (by omega)]; exact h3), tg_w5 (by omega), Option.bind_some, tg_w17 (by omega), Option.bind_some, tg_v0, Option.bind_some, tg_s0, Option.bind_some]
        refine ⟨_, rfl, (tz.uA _ _ _).trans ((tz.uA _ _ _).trans (tz.uA _ _ _)), ?_⟩
        rw [tg_5, tg_5, tg_5]
        obtain ⟨p0, p1, p2, p3, p4, p5, p6, p7, p8, p9⟩ := hp
        have hv : ∀ b z, b ≠ 5 + A.1.length → b ≠ 17 + A.1.length → b ≠ 0 → upd (upd (upd (M.2 5) (5 + A.1.length) (Int32.ofNat p)) (17 + A.1.length) (Int32.ofNat w)) 0 z b = M.2 5 b := fun b z g1 g2 g3 => by
          rw [upd_ne g3, upd_ne g2, upd_ne g1]
        refine ⟨?_, (hv _ _ (by omega) (by omega) (by omega)).trans p1, (hv _ _ (by omega) (by omega) (by omega)).trans p2, (hv _ _ (by omega) (by omega) (by omega)).trans p3, (hv _ _ (by omega) (by omega) (by omega)).trans p4, fun g x hx => ?_, fun g hg hg' => ?_, fun q r hr => ?_, fun m x hx => ?_, fun m g1 g2 => ?_⟩
        · rw [upd_at, upd_ne (by omega), upd_ne (by omega), p0, ci_succ]; simp
        · have hgl := (List.getElem?_eq_some_iff.mp hx).1
          simp at hgl
          by_cases hg : g = A.1.length
          · subst hg
            have : x = (p, w, 0, 0) := by simpa using hx.symm
            subst this
            have h0 := p6 A.1.length (Nat.le_refl _) (by omega)
            refine ⟨?_, ?_, (hv _ _ (by omega) (by omega) (by omega)).trans h0.1, (hv _ _ (by omega) (by omega) (by omega)).trans h0.2⟩
            · rw [upd_ne (by omega), upd_ne (by omega), upd_at]
            · rw [upd_ne (by omega), upd_at]
          · have hx' : A.1[g]? = some x := by rw [List.getElem?_append_left (by omega)] at hx; exact hx
            exact (p5 g x hx').keep fun b hb => hv b _ (by omega) (by omega) (by omega)
        · have hg1 : A.1.length + 1 ≤ g := by simpa using hg
          have := p6 g (by omega) hg'
          exact ⟨(hv _ _ (by omega) (by omega) (by omega)).trans this.1, (hv _ _ (by omega) (by omega) (by omega)).trans this.2⟩
        · have : q < A.2.1.length := (List.getElem?_eq_some_iff.mp hr).1
          exact (hv _ _ (by omega) (by omega) (by omega)).trans (p7 q r hr)
        · have hl := ho.ll (m := m) hx
          exact (p8 m x hx).keep hl.1 hl.2 fun b hb => by unfold pt_in at hb; exact hv b _ (by omega) (by omega) (by omega)
        · exact (p9 m g1 g2).keep fun b hb => by unfold pt_in at hb; exact hv b _ (by omega) (by omega) (by omega)
theorem to_addsPad (hp : pt (M.2 5) A) (ho : pw A) (x : Int32) : tO M (pa_addPad x A) (gF_X4_addsPad fu x M) := by
  have h12 := ho.1
  have h6 := ho.2.1
  have h7 := ho.2.2.1
  unfold gF_X4_addsPad pa_addPad
  cases h1 : pd x 1 5 with
  | none => rw [tg_in_no (lo := 1) (n := 5) 1 4 rfl (by decide) (by decide) (by decide) h1]; exact rfl
  | some w =>
    obtain ⟨hw1, hw2, rfl⟩ := pd_some h1
    rw [tg_in_yes (lo := 1) (n := 5) 1 4 rfl (by decide) (by decide) hw1 hw2, tc_I, if_neg (by decide), tg_v1, Option.bind_some, hp.2.1]
    show tO M (if A.2.1.length = 6 then .inr 2 else _) _
    by_cases h3 : A.2.1.length = 6
    · rw [if_pos h3, if_pos (by rw [h3]; rfl)]; exact rfl
    · rw [if_neg h3, if_neg (by rw [show (6 : Int32) = Int32.ofNat 6 from rfl, ci_eq (by omega) (by omega)]; exact h3), tg_w53 (by omega), Option.bind_some, tg_v1, Option.bind_some, tg_s1, Option.bind_some]
      refine ⟨_, rfl, (tz.uA _ _ _).trans (tz.uA _ _ _), ?_⟩
      rw [tg_5, tg_5]
      obtain ⟨p0, p1, p2, p3, p4, p5, p6, p7, p8, p9⟩ := hp
      have hv : ∀ b z, b ≠ 53 + A.2.1.length → b ≠ 1 → upd (upd (M.2 5) (53 + A.2.1.length) (Int32.ofNat w)) 1 z b = M.2 5 b := fun b z g1 g2 => by
        rw [upd_ne g2, upd_ne g1]
      refine ⟨(hv _ _ (by omega) (by omega)).trans p0, ?_, (hv _ _ (by omega) (by omega)).trans p2, (hv _ _ (by omega) (by omega)).trans p3, (hv _ _ (by omega) (by omega)).trans p4, fun g x hx => ?_, fun g hg hg' => ?_, fun q r hr => ?_, fun m x hx => ?_, fun m g1 g2 => ?_⟩
      · rw [upd_at, upd_ne (by omega), p1, ci_succ]; simp
      · have : g < A.1.length := (List.getElem?_eq_some_iff.mp hx).1
        exact (p5 g x hx).keep fun b hb => hv b _ (by omega) (by omega)
      · have := p6 g hg hg'
        exact ⟨(hv _ _ (by omega) (by omega)).trans this.1, (hv _ _ (by omega) (by omega)).trans this.2⟩
      · have hql := (List.getElem?_eq_some_iff.mp hr).1
        simp at hql
        by_cases hq : q = A.2.1.length
        · subst hq
          have : r = w := by simpa using hr.symm
          subst this
          rw [upd_ne (by omega), upd_at]
        · have hr' : A.2.1[q]? = some r := by rw [List.getElem?_append_left (by omega)] at hr; exact hr
          exact (hv _ _ (by omega) (by omega)).trans (p7 q r hr')
      · have hl := ho.ll (m := m) hx
        exact (p8 m x hx).keep hl.1 hl.2 fun b hb => by unfold pt_in at hb; exact hv b _ (by omega) (by omega)
      · exact (p9 m g1 g2).keep fun b hb => by unfold pt_in at hb; exact hv b _ (by omega) (by omega)
theorem to_hops (hp : pt (M.2 5) A) (ho : pw A) (hon : ∀ p, pa_on A p ≤ A.2.1[p]?.getD 0) (hfu : 100 ≤ fu) (x y : Int32) : tO M (pa_hop x y A) (gF_X4_hops fu x y M) := by
  have h12 := ho.1
  have h6 := ho.2.1
  unfold gF_X4_hops pa_hop
  rw [tg_isFrog hp h12, tc_I]
  cases h1 : pd x 0 A.1.length with
  | none => exact rfl
  | some f =>
    obtain ⟨-, hf, rfl⟩ := pd_some h1
    show tO M _ (if (1 : Int32) = 0 then _ else _)
    rw [if_neg (by decide), tg_isPad hp h6, tc_I]
    cases h2 : pd y 0 A.2.1.length with
    | none => exact rfl
    | some p =>
      obtain ⟨-, hpp, rfl⟩ := pd_some h2
      have hs := (ho.fr hf).2.2.1
      have hr := List.getElem?_eq_getElem hpp
      have hon := hon p
      have hrm := ho.2.2.2.2.1 _ (List.getElem_mem hpp)
      have hrd : A.2.1[p]?.getD 0 = A.2.1[p] := by rw [hr]; rfl
      show tO M (if _ ∨ _ then .inr 2 else _) (if (1 : Int32) = 0 then _ else _)
      rw [if_neg (by decide : ¬ (1 : Int32) = 0), tg_r29 (by omega), Option.bind_some, (hp.fr hf).2.2.1, ci_succ]
      by_cases h3 : (pa_frog A f).2.2.1 = p + 1
      · rw [if_pos (.inl h3), if_pos (by rw [h3])]; exact rfl
      · rw [if_neg (show ¬ Int32.ofNat (pa_frog A f).2.2.1 = Int32.ofNat (p + 1) from by rw [ci_eq (by omega) (by omega)]; exact h3), tg_on hp ho hfu (by omega), tc_I, tg_r53 (by omega), Option.bind_some, hp.2.2.2.2.2.2.2.1 p _ hr]
        rw [hrd] at hon
        by_cases h4 : pa_on A p = A.2.1[p]
        · rw [if_pos (.inr (by rw [hrd]; exact h4)), if_pos (by rw [h4])]; exact rfl
        · rw [if_neg (by rw [hrd]; exact fun h => h.elim h3 h4), if_neg (by rw [ci_eq (by omega) (by omega)]; exact h4), tg_w29 (by omega), Option.bind_some]
          have hp' : pt ((zt_uA M 5 (29 + f) (Int32.ofNat (p + 1))).2 5) (pa_setF A f ((pa_frog A f).1, (pa_frog A f).2.1, p + 1, (pa_frog A f).2.2.2)) := by
            rw [tg_5]
            refine hp.setF ho hf (fun b _ _ g _ => upd_ne g) ?_
            obtain ⟨q1, q2, q3, q4⟩ := hp.fr hf
            exact ⟨(upd_ne (by omega)).trans q1, (upd_ne (by omega)).trans q2, upd_at, (upd_ne (by omega)).trans q4⟩
          have ho' : pw (pa_setF A f ((pa_frog A f).1, (pa_frog A f).2.1, p + 1, (pa_frog A f).2.2.2)) := ho.setF ⟨(ho.fr hf).1, (ho.fr hf).2.1, by show p + 1 ≤ 6; omega, (ho.fr hf).2.2.2⟩
          rw [tg_on hp' ho' hfu (by omega), tc_I]
          exact ⟨_, rfl, tz.uA _ _ _, hp'⟩
theorem to_dives (hp : pt (M.2 5) A) (ho : pw A) (x : Int32) : tO M (pa_dive x A) (gF_X4_dives fu x M) := by
  have h12 := ho.1
  unfold gF_X4_dives pa_dive
  rw [tg_isFrog hp h12, tc_I]
  cases h1 : pd x 0 A.1.length with
  | none => exact rfl
  | some f =>
    obtain ⟨-, hf, rfl⟩ := pd_some h1
    have hs := (ho.fr hf).2.2.1
    show tO M (if _ then .inr 2 else _) (if (1 : Int32) = 0 then _ else _)
    rw [if_neg (by decide : ¬ (1 : Int32) = 0), tg_isOn hp ho hf, tc_I]
    by_cases h3 : (pa_frog A f).2.2.1 = 0
    · rw [if_pos h3, if_pos h3]; exact rfl
    · rw [if_neg h3, if_neg h3, if_neg (by decide : ¬ (1 : Int32) = 0), tg_r29 (by omega), Option.bind_some, tg_w29 (by omega), Option.bind_some, (hp.fr hf).2.2.1, show (1 : Int32) = Int32.ofNat 1 from rfl, ci_sub (by omega)]
      refine ⟨_, rfl, tz.uA _ _ _, ?_⟩
      rw [tg_5]
      refine hp.setF ho hf (fun b _ _ g _ => upd_ne g) ?_
      obtain ⟨q1, q2, q3, q4⟩ := hp.fr hf
      exact ⟨(upd_ne (by omega)).trans q1, (upd_ne (by omega)).trans q2, upd_at, (upd_ne (by omega)).trans q4⟩
theorem to_moves (hp : pt (M.2 5) A) (ho : pw A) (x : Int32) : tO M (pa_addMotion x A) (gF_X4_moves fu x M) := by
  have h12 := ho.1
  have h6 := ho.2.1
  have h7 := ho.2.2.1
  unfold gF_X4_moves pa_addMotion
  cases h1 : pd x 1 16 with
  | none => rw [tg_in_no (lo := 1) (n := 16) 1 15 rfl (by decide) (by decide) (by decide) h1]; exact rfl
  | some w =>
    obtain ⟨hw1, hw2, rfl⟩ := pd_some h1
    rw [tg_in_yes (lo := 1) (n := 16) 1 15 rfl (by decide) (by decide) hw1 hw2, tc_I, if_neg (by decide), tg_v2, Option.bind_some, hp.2.2.1]
    show tO M (if A.2.2.1.length = 6 then .inr 2 else _) _
    by_cases h3 : A.2.2.1.length = 6
    · rw [if_pos h3, if_pos (by rw [h3]; rfl)]; exact rfl
    · rw [if_neg h3, if_neg (by rw [show (6 : Int32) = Int32.ofNat 6 from rfl, ci_eq (by omega) (by omega)]; exact h3), tg_of0, tc_I, tg_s (by omega), Option.bind_some, tg_v2, Option.bind_some, tg_s2, Option.bind_some]
      refine ⟨_, rfl, (tz.uA _ _ _).trans (tz.uA _ _ _), ?_⟩
      rw [tg_5, tg_5]
      obtain ⟨p0, p1, p2, p3, p4, p5, p6, p7, p8, p9⟩ := hp
      have hv : ∀ b z, b ≠ 59 + 10 * A.2.2.1.length → b ≠ 2 → upd (upd (M.2 5) (59 + 10 * A.2.2.1.length) (Int32.ofNat w)) 2 z b = M.2 5 b := fun b z g1 g2 => by
        rw [upd_ne g2, upd_ne g1]
      refine ⟨(hv _ _ (by omega) (by omega)).trans p0, (hv _ _ (by omega) (by omega)).trans p1, ?_, (hv _ _ (by omega) (by omega)).trans p3, (hv _ _ (by omega) (by omega)).trans p4, fun g x hx => ?_, fun g hg hg' => ?_, fun q r hr => ?_, fun m x hx => ?_, fun m g1 g2 => ?_⟩
      · rw [upd_at, upd_ne (by omega), p2, ci_succ]; simp
      · have : g < A.1.length := (List.getElem?_eq_some_iff.mp hx).1
        exact (p5 g x hx).keep fun b hb => hv b _ (by omega) (by omega)
      · have := p6 g hg hg'
        exact ⟨(hv _ _ (by omega) (by omega)).trans this.1, (hv _ _ (by omega) (by omega)).trans this.2⟩
      · have : q < A.2.1.length := (List.getElem?_eq_some_iff.mp hr).1
        exact (hv _ _ (by omega) (by omega)).trans (p7 q r hr)
      · have hml := (List.getElem?_eq_some_iff.mp hx).1
        simp at hml
        by_cases hm : m = A.2.2.1.length
        · subst hm
          have : x = ((w, 0, 0, 0, 0, 0), [], []) := by simpa using hx.symm
          subst this
          have h0 := p9 A.2.2.1.length (Nat.le_refl _) (by omega)
          have hh : ∀ k, 1 ≤ k → k ≤ 7 → ∀ z, upd (upd (M.2 5) (59 + 10 * A.2.2.1.length) (Int32.ofNat w)) 2 z (59 + 10 * A.2.2.1.length + k) = 0 := fun k g1 g2 z => (hv _ _ (by omega) (by omega)).trans (h0 k g1 g2)
          refine ⟨by rw [upd_ne (by omega), upd_at], ?_, ?_, ?_, ?_, ?_, ?_, ?_, fun k r hr => by simp at hr, fun k r hr => by simp at hr⟩
          · exact (congrArg _ (by omega)).trans (hh 1 (by decide) (by decide) _)
          · exact (congrArg _ (by omega)).trans (hh 2 (by decide) (by decide) _)
          · exact (congrArg _ (by omega)).trans (hh 3 (by decide) (by decide) _)
          · exact (congrArg _ (by omega)).trans (hh 4 (by decide) (by decide) _)
          · exact (congrArg _ (by omega)).trans (hh 5 (by decide) (by decide) _)
          · exact (congrArg _ (by omega)).trans (hh 6 (by decide) (by decide) _)
          · exact (congrArg _ (by omega)).trans (hh 7 (by decide) (by decide) _)
        · have hx' : A.2.2.1[m]? = some x := by rw [List.getElem?_append_left (by omega)] at hx; exact hx
          have hl := ho.ll hx'
          have hm' := (List.getElem?_eq_some_iff.mp hx').1
          exact (p8 m x hx').keep hl.1 hl.2 fun b hb => by unfold pt_in at hb; exact hv b _ (by omega) (by omega)
      · have g1' : A.2.2.1.length + 1 ≤ m := by simpa using g1
        exact (p9 m (by omega) g2).keep fun b hb => by unfold pt_in at hb; exact hv b _ (by omega) (by omega)
end TO
