/-! ===== callNext ===== -/
section CN
variable {ρ : zz_C} {σ : zz_S} {τ : Nat → Nat}
theorem ps_mem {α : Type} (g : α → Nat) : ∀ (L : List α) (x : α), x ∈ L → g x ≤ (L.map g).sum
  | [], x, h => by simp at h
  | y :: L, x, h => by
    rcases List.mem_cons.mp h with rfl | h
    · simp
    · have := ps_mem g L x h
      simp; omega
/-- a list is never long -/
theorem pa_ok.l11 {A : pa_A} {c : Nat} {x : pa_Mo} (hok : pa_ok A c) (hc : c ≤ 24) (hx : x ∈ A.2.2.1) : x.2.1.length ≤ 11 := by
  have h1 := (hok.2.2.2.2.2.1 x hx).list
  have h2 := ps_mem (fun x : pa_Mo => x.2.1.length) A.2.2.1 x hx
  have h3 : A.1.length + A.2.2.1.length + (A.2.2.1.map fun x => x.2.1.length).sum ≤ c := hok.2.2.2.2.2.2.2.2.2.2
  have h4 : 0 < A.2.2.1.length := List.length_pos_of_mem hx
  have h2 : x.2.1.length ≤ (A.2.2.1.map fun x => x.2.1.length).sum := h2
  omega
/-- the assembly's own cell is written -/
theorem rAx.cellA {g a : Nat} {A : pa_A} {af ac am : Nat} {F C Mo : List Nat} {sp ms : Nat} (h : rAx τ σ g a A af ac am F C Mo) (ho : pw A) (hg2 : 1000 ≤ g) :
    rAx τ (zz_set σ a (.inr (2, [.ref af, .ref ac, .ref am, .int (.ofNat sp), .int (.ofNat ms)]))) g a (A.1, A.2.1, A.2.2.1, sp, ms) af ac am F C Mo := by
  obtain ⟨k0, k1, ⟨k2, k3, k4⟩, ⟨k5, k6, k7⟩, k8, k9, k10⟩ := h
  have h12 := ho.1
  have hk : zo_k (fun t => t ≠ g) τ σ τ (zz_set σ a (.inr (2, [.ref af, .ref ac, .ref am, .int (.ofNat sp), .int (.ofNat ms)]))) := fun b hb => ⟨rfl, zp_set_old fun he => hb (he ▸ k0)⟩
  refine ⟨k0, zp_set_at, ⟨k2.keep hk (by show g + 1 ≠ _; omega), k3, fun k q x hq hx => ?_⟩, ⟨k5.keep hk (by show g + 2 ≠ _; omega), k6, fun k q r hq hr => ?_⟩, k8.keep hk (by show g + 3 ≠ _; omega), k9, fun n q x hq hx => ?_⟩
  · obtain ⟨t1, t2⟩ := k4 k q x hq hx
    exact ⟨t1, (hk q (by show τ q ≠ _; omega)).2.trans t2⟩
  · obtain ⟨t1, w, t2⟩ := k7 k q r hq hr
    exact ⟨t1, w, (hk q (by show τ q ≠ _; omega)).2.trans t2⟩
  · exact (k10 n q x hq hx).keep hk (by show 1 ≠ _; omega) fun t g1 g2 => by show t ≠ _; omega
/-- a motion's cell is written, its lists and mask as they were -/
theorem rAx.cellM {g a m p l q b : Nat} {A : pa_A} {af ac am : Nat} {F C Mo : List Nat} {y : pa_Mo} (h : rAx τ σ g a A af ac am F C Mo) (ho : pw A) (hg2 : 1000 ≤ g) (hm : m < A.2.2.1.length) (hp : Mo[m]? = some p) (k1 : σ.2.2 p = some (true, mcell m (pa_mot A m) l q b)) (hl : y.2 = (pa_mot A m).2) (hb : y.1.2.2.2.1 = (pa_mot A m).1.2.2.2.1) :
    rAx τ (zz_set σ p (mcell m y l q b)) g a (pa_setM A m y) af ac am F C Mo := by
  have hM : rMo τ σ A.1 (g + 100 + 10 * m) p m (pa_mot A m) := by
    obtain ⟨-, -, -, -, -, -, k10⟩ := h
    exact k10 m p _ hp (pa_mot_eq hm)
  have kk : zo_k (fun t => t ≠ 0 ∧ ¬ (g + 100 + 10 * m ≤ t ∧ t < g + 104 + 10 * m)) τ σ τ (zz_set σ p (mcell m y l q b)) := fun c hc => ⟨rfl, zp_set_old fun h => by
    rw [h, hM.1] at hc; omega⟩
  exact h.setM ho hg2 hp kk (hM.cell k1 (by omega) hl hb)
theorem kc_call {g a n c : Nat} {A : pa_A} (x : Int32) (h : rAs τ σ g a A) (hok : pa_ok A c) (hc : c ≤ 24) (hg2 : 1000 ≤ g) (hw : zo_wf τ σ) (hg : zp_gas (n + 16) σ) (hfu : 100 ≤ ρ.2) : cO [122, 119] τ σ g a (pa_call x A) 16 (zF_X2_callNext ρ a x σ) := by
  have ho := hok.w (by omega)
  have hA := h
  obtain ⟨af, ac, am, F, C, Mo, hX⟩ := h
  unfold zF_X2_callNext pa_call
  rw [hA.ck]
  cases hx : pd x 0 A.2.2.1.length with
  | none => exact ((ka_motion_no (n := n + 15) hA ho.2.2.1 hx hg).mono (by decide)).cR
  | some m =>
    obtain ⟨-, hm, rfl⟩ := pd_some hx
    obtain ⟨p, e1, hp, hM⟩ := kx_motion_yes (ρ := ρ) hX ho.2.2.1 hm
    have hMo := hok.mo hm
    have h12 := ho.1
    have h6 := ho.2.2.1
    have hlist := hMo.list
    have h11 := hok.l11 hc (List.mem_of_getElem? (pa_mot_eq hm))
    have hf100 := (hMo.f100 h12).1
    obtain ⟨l, q, b, N, R, k1, k2, k3, k4⟩ := hM.reqs hw
    have hpl : p < σ.1.1 := hw.1.lt k1
    rw [e1, cc_R, hA.ck]
    show cO _ τ σ g a (match pa_ranked (pa_sk A (pa_mot A m).2.1) 0 with | none => .inr 2 | some k => _) 16 _
    by_cases hne : (pa_mot A m).2.1 = []
    · have hr0 : pa_ranked (pa_sk A (pa_mot A m).2.1) 0 = none := by rw [hne]; rfl
      rw [hr0]
      exact ((kc_nextByQueue_no (ρ := ρ) (g := g) (a := a) (A := A) (n := n + 15) hg k1 k3 hne).mono (by decide)).cR
    · obtain ⟨σ1, k, rq, s1, s2, s3, s4⟩ := kc_nextByQueue (ρ := ρ) (n := n + 12) hA hok (by omega) (by omega) hw hg hfu hMo k1 k3 h11 hne
      rw [s4, s1, cc_R]
      have hw1 := hw.le s2
      have g1 : zp_gas (n + 12) σ1 := s2.gas (n := n + 12) hg
      have k1' : σ1.2.2 p = some (true, mcell m (pa_mot A m) l q b) := by rw [s2.keep hpl (fun h => h)]; exact k1
      have hk : k < (pa_mot A m).2.1.length := k3.2.1 ▸ (List.getElem?_eq_some_iff.mp s3).1
      have hr := List.getElem?_eq_getElem hk
      obtain ⟨rl, w, rc⟩ := k3.2.2.2.2 k rq _ s3 hr
      have rt := (k4 k rq _ s3 hr).1
      have hf : ((pa_mot A m).2.1[k]).1 < A.1.length := (hMo.2.2.2.2.2.2.2.1 _ (List.getElem_mem hk)).1
      have hrd : (pa_mot A m).2.1[k]?.getD (0, 0) = (pa_mot A m).2.1[k] := by rw [hr]; rfl
      obtain ⟨τ2, σ2, i1, i2, i3, i4, i5, i6, i7, i8⟩ := kc_remove (ρ := ρ) (n := n) (k := k) (rem := rq) (hM.al (by omega) hw s2) hw1 g1 hfu (by omega) (by omega) hMo.2.2.2.2.2.2.2.2.1 hf100 k1' (k2.al (by omega) hw s2) (k3.al s2) (fun j a r ha hr => (k4 j a r ha hr).al hw s2) s3
      have hX1 := hX.al ho (by omega) hw s2
      have hX2 := hX1.setM ho hg2 hp ((zo_k.own hw1 i2 i4).mono fun t ht => ⟨ht.1, by omega⟩) i6
      obtain ⟨A1, eA1⟩ : ∃ A1, A1 = pa_setM A m ((pa_mot A m).1, (pa_mot A m).2.1.eraseIdx k, (pa_mot A m).2.2) := ⟨_, rfl⟩
      rw [← eA1] at hX2
      have ho1 : pw A1 := by
        rw [eA1]
        obtain ⟨b1, b2, b3, b4, b5, b6, b7⟩ := ho.mo hm
        have hs : ((pa_mot A m).2.1.eraseIdx k).Sublist (pa_mot A m).2.1 := List.eraseIdx_sublist _ _
        exact ho.setM ⟨b1, b2, b3, Nat.le_trans hs.length_le b4, b5, fun r hr => b6 r (hs.mem hr), b7⟩
      have eF : A1.1 = A.1 := by rw [eA1]; rfl
      have eff : ∀ f, pa_frog A1 f = pa_frog A f := fun f => by unfold pa_frog; rw [eF]
      have hm1 : m < A1.2.2.1.length := by rw [eA1, pa_setM_len]; exact hm
      have emm : pa_mot A1 m = ((pa_mot A m).1, (pa_mot A m).2.1.eraseIdx k, (pa_mot A m).2.2) := by rw [eA1, pa_mot_set hm]
      have esp : A1.2.2.2 = A.2.2.2 := by rw [eA1]; rfl
      have rc2 : σ2.2.2 rq = some (w, .inr (7, [.int (.ofNat ((pa_mot A m).2.1[k]).1), .int (.ofNat ((pa_mot A m).2.1[k]).2)])) := by
        rw [i2.keep (by have := s2.2.1; omega) (by show ¬ (_ ∧ _); rw [rt]; omega), s2.keep rl (fun h => h)]; exact rc
      rw [zp_ck k1', i1, cc_V]
      show cO _ τ σ g a (if _ then .inl (0, _) else .inl (1, _)) 16 _
      rw [hrd]
      generalize ((pa_mot A m).2.1[k]).1 = f at hf rc2 ⊢
      have hX2' := hX2
      obtain ⟨y0, y1, ⟨⟨e, y2, y2', y2''⟩, y3, y4⟩, -⟩ := hX2'
      obtain ⟨v, hv⟩ : ∃ v, F[f]? = some v := ⟨_, List.getElem?_eq_getElem (by rw [y3, eF]; exact hf)⟩
      have hf1 : f < A1.1.length := by rw [eF]; exact hf
      obtain ⟨v1, v2⟩ := y4 f v _ hv (pa_frog_eq hf1)
      have hseat : (pa_frog A1 f).2.2.1 ≤ 6 := (ho1.fr hf1).2.2.1
      have l2 : zp_le (fun b => g ≤ τ b ∧ τ b < g + 200) 16 σ σ2 := ((s2.none (M := fun b => g ≤ τ b ∧ τ b < g + 200) (Nat.le_refl 4)).trans i2 fun b _ hb => ⟨by omega, by omega⟩).mono (fun _ _ h => h) (by omega)
      have tg2 : zo_g g τ τ2 := ⟨i4, fun T h1 h2 h3 b => by
        rcases i5 b with h | h
        · rw [h]; exact h3 b
        · omega⟩
      have lset : ∀ (s : zz_S) (c : Nat) (E : zz_E), zp_le (fun b => g ≤ τ b ∧ τ b < g + 200) 16 σ s → zo_wf τ2 s → c < s.1.1 → g ≤ τ c → τ c < g + 200 → zp_le (fun b => g ≤ τ b ∧ τ b < g + 200) 16 σ (zz_set s c E) ∧ zo_wf τ2 (zz_set s c E) := fun s c E hs hws hc h1 h2 => ⟨hs.trans (k' := 0) (zp_set_le (M := fun b => b = c) hc rfl) fun b hb he => by subst he; exact ⟨h1, h2⟩, hws.le (M := fun b => b = c) (k := 0) (zp_set_le hc rfl)⟩
      rw [zp_gR y1 (k := 0) (v := some af) rfl, Option.bind_some, zp_gI rc2 (k := 0) (v := .ofNat f) rfl, Option.bind_some, ja_ck y2'', ja_get y2'' hv, cc_R, if_neg (show ¬ ¬ (zz_ok σ2 (some v) [5] = true) from fun hh => hh (kf_cast v2)), kf_ck v2, kf_sits v2 hseat, cc_I, eff]
      have tv : τ v = g + 10 + f := by
        obtain ⟨-, -, ⟨-, -, z4⟩, -⟩ := hX
        exact (z4 f v _ hv (pa_frog_eq hf)).1
      have ta : τ a = g := hX.1
      have tp : τ p = g + 100 + 10 * m := hM.1
      have sp1 : A1.2.2.2.1 = A.2.2.2.1 := by rw [esp]
      have ms1 : A1.2.2.2.2 = A.2.2.2.2 := by rw [esp]
      by_cases h0 : (pa_frog A f).2.2.1 = 0
      · rw [if_pos h0, if_pos h0, if_pos z00, zp_gI y1 (k := 4) (v := .ofNat A1.2.2.2.2) rfl, Option.bind_some, ci_succ, zq_pf (N := 5) y1 rfl (fs' := [.ref af, .ref ac, .ref am, .int (.ofNat A1.2.2.2.1), .int (.ofNat (A1.2.2.2.2 + 1))]) rfl, Option.bind_some]
        obtain ⟨u1, u2⟩ := lset σ2 a (.inr (2, [.ref af, .ref ac, .ref am, .int (.ofNat A1.2.2.2.1), .int (.ofNat (A1.2.2.2.2 + 1))])) l2 i3 (i3.1.lt y1) (by omega) (by omega)
        have := hX2.cellA ho1 hg2 (sp := A1.2.2.2.1) (ms := A1.2.2.2.2 + 1)
        refine ⟨τ2, _, rfl, u1, u2, tg2, af, ac, am, F, C, Mo, ?_⟩
        rw [eA1] at this ⊢
        exact this
      · rw [if_neg h0, if_neg h0, if_neg n10, kf_spoke v2, Option.bind_some, ci_succ, eff]
        obtain ⟨y, ey⟩ : ∃ y : pa_F, y = ((pa_frog A f).1, (pa_frog A f).2.1, (pa_frog A f).2.2.1, (pa_frog A f).2.2.2 + 1) := ⟨_, rfl⟩
        have ew : zz_pf σ2 (some v) 5 5 4 (.int (.ofNat ((pa_frog A f).2.2.2 + 1))) = some (zz_set σ2 v (fcell f y)) := zq_pf (N := 5) v2 rfl (by rw [eff, ey]; rfl)
        rw [ew, Option.bind_some]
        obtain ⟨u1, u2⟩ := lset σ2 v (fcell f y) l2 i3 (i3.1.lt v2) (by omega) (by omega)
        have hX3 := hX2.setF (y := y) (by rw [eF]; exact h12) ho1.2.2.1 hv (by rw [eff, ey]; exact ⟨rfl, rfl⟩)
        have ho2 : pw (pa_setF A1 f y) := ho1.setF (by
          rw [ey]
          have := ho.fr hf
          have h5 := (hok.fr hf).2.2.2.2
          exact ⟨this.1, this.2.1, this.2.2.1, by show _ + 1 ≤ 1000; omega⟩)
        have hpv : p ≠ v := fun h => by rw [h, v2] at i7; simp [fcell, mcell] at i7
        have i7' : (zz_set σ2 v (fcell f y)).2.2 p = some (true, mcell m (pa_mot A m) l q b) := by rw [zp_set_old hpv]; exact i7
        have emt : pa_mot (pa_setF A1 f y) m = ((pa_mot A m).1, (pa_mot A m).2.1.eraseIdx k, (pa_mot A m).2.2) := emm
        have i8' : (zz_set σ2 v (fcell f y)).2.2 p = some (true, mcell m (pa_mot (pa_setF A1 f y) m) l q b) := by rw [i7', emt]; rfl
        obtain ⟨y', ey'⟩ : ∃ y' : pa_Mo, y' = (((pa_mot A m).1.1, (pa_mot A m).1.2.1, (pa_mot A m).1.2.2.1, (pa_mot A m).1.2.2.2.1, (pa_mot A m).1.2.2.2.2.1, (pa_mot A m).1.2.2.2.2.2 + 1), (pa_mot A m).2.1.eraseIdx k, (pa_mot A m).2.2) := ⟨_, rfl⟩
        have ew2 : zz_pf (zz_set σ2 v (fcell f y)) (some p) 6 9 6 (.int (.ofNat ((pa_mot A m).1.2.2.2.2.2 + 1))) = some (zz_set (zz_set σ2 v (fcell f y)) p (mcell m y' l q b)) := zq_pf (N := 9) i7' rfl (by rw [ey']; rfl)
        rw [zp_gI i7' (k := 6) (v := .ofNat (pa_mot A m).1.2.2.2.2.2) rfl, Option.bind_some, ci_succ, ew2, Option.bind_some]
        obtain ⟨u3, u4⟩ := lset (zz_set σ2 v (fcell f y)) p (mcell m y' l q b) u1 u2 (u2.1.lt i7') (by omega) (by omega)
        have hX4 := hX3.cellM ho2 hg2 (by simpa [pa_setF] using hm1) hp i8' (y := y') (by rw [emt, ey']) (by rw [emt, ey'])
        have ho3 : pw (pa_setM (pa_setF A1 f y) m y') := ho2.setM (by
          rw [ey']
          have := ho2.mo (m := m) (by simpa [pa_setF] using hm1)
          rw [emt] at this
          exact this)
        have y1' := hX4.2.1
        rw [zp_gI y1' (k := 3) (v := .ofNat A1.2.2.2.1) rfl, Option.bind_some, ci_succ, zq_pf (N := 5) y1' rfl (fs' := [.ref af, .ref ac, .ref am, .int (.ofNat (A1.2.2.2.1 + 1)), .int (.ofNat A1.2.2.2.2)]) rfl, Option.bind_some]
        obtain ⟨u5, u6⟩ := lset _ a (.inr (2, [.ref af, .ref ac, .ref am, .int (.ofNat (A1.2.2.2.1 + 1)), .int (.ofNat A1.2.2.2.2)])) u3 u4 (u4.1.lt y1') (by omega) (by omega)
        have := hX4.cellA ho3 hg2 (sp := A1.2.2.2.1 + 1) (ms := A1.2.2.2.2)
        refine ⟨τ2, _, rfl, u5, u6, tg2, af, ac, am, F, C, Mo, ?_⟩
        have efin : ((pa_setM (pa_setF A1 f y) m y').1, (pa_setM (pa_setF A1 f y) m y').2.1, (pa_setM (pa_setF A1 f y) m y').2.2.1, A1.2.2.2.1 + 1, A1.2.2.2.2) = (A.1.set f ((pa_frog A f).1, (pa_frog A f).2.1, (pa_frog A f).2.2.1, (pa_frog A f).2.2.2 + 1), A.2.1, A.2.2.1.set m (((pa_mot A m).1.1, (pa_mot A m).1.2.1, (pa_mot A m).1.2.2.1, (pa_mot A m).1.2.2.2.1, (pa_mot A m).1.2.2.2.2.1, (pa_mot A m).1.2.2.2.2.2 + 1), (pa_mot A m).2.1.eraseIdx k, (pa_mot A m).2.2), A.2.2.2.1 + 1, A.2.2.2.2) := by
          rw [eA1, ey, ey']
          simp [pa_setM, pa_setF]
        rw [efin] at this
        exact this
end CN
