/-! ===== signUp, strike ===== -/
section CS
variable {ρ : zz_C} {σ : zz_S} {τ : Nat → Nat}
theorem kc_both {g a n k : Nat} {A : pa_A} {af ac am : Nat} {F C Mo : List Nat} {L : List Nat} (x y : Int32) (h : rAx τ σ g a A af ac am F C Mo) (ho : pw A) (hL : kcls L 1 = 122) (hg : zp_gas (n + 1) σ) (hk : 1 ≤ k) (K : Nat → Nat → pa_O) (R : Option Nat → Option Nat → zz_S → zz_R)
    (h2 : ∀ m f p q, m < A.2.2.1.length → f < A.1.length → x = Int32.ofNat m → y = Int32.ofNat f → Mo[m]? = some p → rMo τ σ A.1 (g + 100 + 10 * m) p m (pa_mot A m) → F[f]? = some q → τ q = g + 10 + f → σ.2.2 q = some (true, fcell f (pa_frog A f)) → cO L τ σ g a (K m f) k (R (some p) (some q) σ)) :
    cO L τ σ g a (pa_both x y A K) k (zz_cR (zF_X2_motion ρ a x σ) (fun v4 σ5 => zz_ck σ5 (some a) 2 fun a6 => zz_cR (zF_X2_frog ρ a6 y σ5) (fun v9 σ10 => R v4 v9 σ10) zz_P) zz_P) := by
  have hA : rAs τ σ g a A := ⟨af, ac, am, F, C, Mo, h⟩
  unfold pa_both
  cases hx : pd x 0 A.2.2.1.length with
  | none =>
    show zthr _ (kcls L 1) k σ
    rw [hL]
    exact ((ka_motion_no hA ho.2.2.1 hx hg).mono hk).cR
  | some m =>
    obtain ⟨-, hm, rfl⟩ := pd_some hx
    obtain ⟨p, e1, e2, e3⟩ := kx_motion_yes (ρ := ρ) h ho.2.2.1 hm
    rw [e1, cc_R, hA.ck]
    cases hy : pd y 0 A.1.length with
    | none =>
      show zthr _ (kcls L 1) k σ
      rw [hL]
      exact ((ka_frog_no hA ho.1 hy hg).mono hk).cR
    | some f =>
      obtain ⟨-, hf, rfl⟩ := pd_some hy
      obtain ⟨q, q1, q2, q3, q4⟩ := kx_frog_yes (ρ := ρ) h ho.1 hf
      rw [q1, cc_R]
      exact h2 m f p q hm hf rfl rfl e2 e3 q2 q3 q4
/-- cells of other owners are kept -/
theorem zo_k.own {gm k : Nat} {τ' : Nat → Nat} {σ' : zz_S} (hw : zo_wf τ σ) (hl : zp_le (fun b => gm ≤ τ b ∧ τ b < gm + 4) k σ σ') (ht : ∀ b, τ b ≠ 0 → τ' b = τ b) : zo_k (fun t => t ≠ 0 ∧ ¬ (gm ≤ t ∧ t < gm + 4)) τ σ τ' σ' := fun b hb => ⟨ht b hb.1, hl.keep (hw.lt hb.1) hb.2⟩
theorem kc_signUp {g a n c : Nat} {A : pa_A} (x y : Int32) (h : rAs τ σ g a A) (hok : pa_ok A c) (hc : c ≤ 1000) (hg2 : 1000 ≤ g) (hw : zo_wf τ σ) (hg : zp_gas (n + 5) σ) (hfu : 100 ≤ ρ.2) : cO [122, 106, 138, 143] τ σ g a (pa_signUp x y A) 5 (zF_X2_signUp ρ a x y σ) := by
  have ho := hok.w hc
  have hA := h
  obtain ⟨af, ac, am, F, C, Mo, hX⟩ := h
  unfold zF_X2_signUp pa_signUp
  rw [hA.ck]
  refine kc_both (n := n + 4) x y hX ho rfl hg (by decide) _ (fun v4 v9 σ10 => zz_ck σ10 v4 6 fun a11 => zz_cI (zF_X6_entitles ρ a11 v9 σ10) (fun v14 σ15 => zz_cV (zF_X1_checkArgument ρ v14 σ15) (fun σ19 => zz_ck σ19 v4 6 fun a20 => zz_cI (zF_X6_isOpen ρ a20 σ19) (fun v23 σ24 => if v23 = 0 then zJ_X2_signUp_40 ρ y v4 σ24 else (zz_gI σ24 v4 6 8).bind fun v25 => if v25 = 0 then zJ_X2_signUp_41 ρ y v4 (1 : Int32) σ24 else zJ_X2_signUp_40 ρ y v4 σ24) zz_P) zz_P) zz_P) ?_
  intro m f p r hm hf ex ey hp hM hr ht hcell
  subst ey
  have hMo := hok.mo hm
  have h12 := ho.1
  have h6 := ho.2.2.1
  have hlist := hMo.list
  obtain ⟨l, q, b, N, R, k1, k2, k3, k4⟩ := hM.reqs hw
  have hf100 := (hMo.f100 h12).1
  have hpl : p < σ.1.1 := hw.1.lt k1
  dsimp only
  rw [zp_ck k1, kc_entitles (ho.mo hm).1 (ho.fr hf).1 k1 hcell, cc_I]
  show cO _ τ σ g a (if _ then .inr 2 else if _ then .inr 3 else if _ then .inr 4 else _) 5 _
  by_cases c1 : pa_for (pa_mot A m) (pa_frog A f) = true
  · rw [if_neg (show ¬ (_ = false) from by rw [c1]; decide), if_pos c1, jk_arg_yes, cc_V, zp_ck k1, km_isOpen k1 hMo.2.2.2.1, cc_I]
    by_cases c2 : (pa_mot A m).1.2.2.1 = 0
    · rw [if_pos c2, if_neg n10, zp_gI k1 (k := 8) (v := .ofNat (pa_mot A m).1.2.1) rfl, Option.bind_some]
      by_cases c3 : (pa_mot A m).1.2.1 = 1
      · rw [if_pos (show pa_shut (pa_mot A m) = true from by simp [pa_shut, c3]), if_neg (show ¬ Int32.ofNat (pa_mot A m).1.2.1 = 0 from by rw [c3]; decide)]
        unfold zJ_X2_signUp_40 zJ_X2_signUp_41
        exact ((jk_state_no (g := n + 4) hg).mono (by decide)).cV
      · have c3' : (pa_mot A m).1.2.1 = 0 := by have := hMo.2.2.1; omega
        rw [if_neg (show ¬ pa_shut (pa_mot A m) = true from by simp [pa_shut, c2, c3']), if_pos (show Int32.ofNat (pa_mot A m).1.2.1 = 0 from by rw [c3']; rfl)]
        unfold zJ_X2_signUp_41
        obtain ⟨σ1, s1, s2⟩ := kc_requestOf (ρ := ρ) (f := f) (n := n + 4) k1 k3 (by omega) hf100 hw.1 hg hfu (by omega)
        rw [jk_state_yes, cc_V, zp_ck k1, s1, cc_R]
        have g1 : zp_gas (n + 4) σ1 := s2.gas (n := n + 4) hg
        have hw1 := hw.le s2
        cases c4 : pa_place (pa_mot A m).2.1 f with
        | some j =>
          rw [if_pos (show (some j).isSome = true from rfl)]
          have hj : j < (pa_mot A m).2.1.length := by
            unfold pa_place at c4
            exact (List.findIdx?_eq_some_iff_getElem.mp c4).1
          obtain ⟨rr, hrr⟩ : ∃ rr, R[j]? = some rr := ⟨_, List.getElem?_eq_getElem (by rw [k3.2.1]; exact hj)⟩
          show zthr (zz_nul (R[j]?) _ _) 143 5 σ
          rw [hrr, cn_some]
          unfold zJ_X2_signUp_57
          exact (((jk_supp_no (g := n + 3) g1).cV).after s2).mono (by decide)
        | none =>
          rw [if_neg (by simp)]
          show cO _ τ σ g a _ 5 (zz_nul none _ _)
          rw [cn_none]
          unfold zJ_X2_signUp_57
          have k1' : σ1.2.2 p = some (true, mcell m (pa_mot A m) l q b) := by rw [s2.keep hpl (fun h => h)]; exact k1
          rw [jk_supp_yes, cc_V, zp_gR k1' (k := 2) (v := some l) rfl, Option.bind_some, zp_al_eq (n := n + 3) g1 (by decide)]
          have al1 : ∀ fs, zp_le zp_no 1 σ1 (zp_al σ1 (.inr (7, fs)) 2) := fun fs => zp_al_le (by decide)
          have hpl1 : p < σ1.1.1 := hw1.1.lt k1'
          have k1a : ∀ fs, (zp_al σ1 (.inr (7, fs)) 2).2.2 p = some (true, mcell m (pa_mot A m) l q b) := fun fs => (zp_al_old (Nat.ne_of_lt hpl1)).trans k1'
          unfold zF_X7_init
          rw [zp_gI (k1a _) (k := 5) (v := .ofNat (pa_mot A m).1.2.2.2.2.1) rfl, Option.bind_some, zq_pf (N := 2) zp_al_new rfl (fs' := [.int (.ofNat f), .int 0]) rfl, Option.bind_some, cs_al_set, zq_pf (N := 2) zp_al_new rfl (fs' := [.int (.ofNat f), .int (.ofNat (pa_mot A m).1.2.2.2.2.1)]) rfl, Option.bind_some, cs_al_set, cc_V]
          obtain ⟨s, es⟩ : ∃ s, s = zp_al σ1 (.inr (7, [.int (.ofNat f), .int (.ofNat (pa_mot A m).1.2.2.2.2.1)])) 2 := ⟨_, rfl⟩
          have ls : zp_le zp_no 1 σ1 s := by rw [es]; exact al1 _
          have ns : s.1.1 = σ1.1.1 + 1 := by rw [es]; rfl
          have kps : s.2.2 p = some (true, mcell m (pa_mot A m) l q b) := by rw [es]; exact k1a _
          have krs : s.2.2 σ1.1.1 = some (true, .inr (7, [.int (.ofNat f), .int (.ofNat (pa_mot A m).1.2.2.2.2.1)])) := by rw [es]; exact zp_al_new
          have hws := hw1.le ls
          have hrn : τ σ1.1.1 = 0 := hw1.new
          -- the new request is nobody's to write
          have hws2 : zo_wf (zo_tg τ σ1.1.1 1) s := hws.tg (by omega)
          have t2 : ∀ b, τ b ≠ 0 → zo_tg τ σ1.1.1 1 b = τ b := fun b hb => zo_tg_ne fun h => hb (h ▸ hrn)
          have l02 : zp_le zp_no 2 σ s := s2.trans ls fun _ _ h => h
          have kk2 : zo_k (fun t => t ≠ 0) τ σ (zo_tg τ σ1.1.1 1) s := fun b hb => ⟨t2 b hb, l02.keep (hw.lt hb) (fun h => h)⟩
          have hL2 : rL (zo_tg τ σ1.1.1 1) s (g + 100 + 10 * m + 1) l R := k2.keep kk2 (by omega)
          obtain ⟨s3, a1, a2, a3, a4⟩ := kq_addLast (ρ := ρ) (x := σ1.1.1) (n := n + 2) hL2 hws2 (ls.gas (n := n + 3) g1) (by rw [k3.2.1]; omega) (by omega)
          have hps : p < s.1.1 := hws.1.lt kps
          have htp : τ p = g + 100 + 10 * m := hM.1
          have kp3 : s3.2.2 p = some (true, mcell m (pa_mot A m) l q b) := by
            rw [a2.keep hps (by show ¬ zo_tg τ σ1.1.1 1 p = _; rw [t2 p (by omega), htp]; omega)]; exact kps
          rw [← es, hL2.ck, a1, cc_V, zp_gI kp3 (k := 5) (v := .ofNat (pa_mot A m).1.2.2.2.2.1) rfl, Option.bind_some, ci_succ]
          obtain ⟨y, ey⟩ : ∃ y : pa_Mo, y = (((pa_mot A m).1.1, (pa_mot A m).1.2.1, (pa_mot A m).1.2.2.1, (pa_mot A m).1.2.2.2.1, (pa_mot A m).1.2.2.2.2.1 + 1, (pa_mot A m).1.2.2.2.2.2), (pa_mot A m).2.1 ++ [(f, (pa_mot A m).1.2.2.2.2.1)], (pa_mot A m).2.2) := ⟨_, rfl⟩
          have ew : zz_pf s3 (some p) 6 9 5 (.int (.ofNat ((pa_mot A m).1.2.2.2.2.1 + 1))) = some (zz_set s3 p (mcell m y l q b)) := zq_pf (N := 9) kp3 rfl (by rw [ey]; rfl)
          rw [ew, Option.bind_some]
          obtain ⟨s4, e4⟩ : ∃ s4, s4 = zz_set s3 p (mcell m y l q b) := ⟨_, rfl⟩
          have hp3 : p < s3.1.1 := a3.1.lt kp3
          have l4 : zp_le (fun b => b = p) 0 s3 s4 := by rw [e4]; exact zp_set_le hp3 rfl
          have kp4 : s4.2.2 p = some (true, mcell m y l q b) := by rw [e4]; exact zp_set_at
          have t3 : ∀ b, τ b ≠ 0 → zo_tg (zo_tg τ σ1.1.1 1) s.1.1 (g + 100 + 10 * m + 1) b = τ b := fun b hb => by
            rw [zo_tg_ne (by have := hws.lt hb; omega)]; exact t2 b hb
          have kk4 : zo_k (fun t => t ≠ g + 100 + 10 * m) (zo_tg (zo_tg τ σ1.1.1 1) s.1.1 (g + 100 + 10 * m + 1)) s3 (zo_tg (zo_tg τ σ1.1.1 1) s.1.1 (g + 100 + 10 * m + 1)) s4 := fun b hb => ⟨rfl, by
            rw [e4]; exact zp_set_old fun h => hb (by rw [h, t3 p (by omega), htp])⟩
          have hL4 := a4.keep kk4 (by show g + 100 + 10 * m + 1 ≠ _; omega)
          rw [← e4, zp_gR kp4 (k := 2) (v := some l) rfl, Option.bind_some, hL4.ck, hL4.size, cc_I]
          -- all that isn't the motion's is kept
          have lall : zp_le (fun b => g + 100 + 10 * m ≤ τ b ∧ τ b < g + 100 + 10 * m + 4) 3 σ s4 := by
            have h1 : zp_le (fun b => g + 100 + 10 * m ≤ τ b ∧ τ b < g + 100 + 10 * m + 4) 2 σ s := l02.none (Nat.le_refl _)
            have h2 := h1.trans a2 fun b hb h => by
              have hb0 : b ≠ σ1.1.1 := by have := s2.2.1; omega
              have h : zo_tg τ σ1.1.1 1 b = _ := h
              rw [zo_tg_ne hb0] at h
              omega
            exact (h2.trans l4 fun b _ h => by subst h; omega).mono (fun _ _ h => h) (by omega)
          have kk : zo_k (fun t => t ≠ 0 ∧ ¬ (g + 100 + 10 * m ≤ t ∧ t < g + 104 + 10 * m)) τ σ (zo_tg (zo_tg τ σ1.1.1 1) s.1.1 (g + 100 + 10 * m + 1)) s4 := (zo_k.own hw lall t3).mono fun t ht => ⟨ht.1, by omega⟩
          have kkl : ∀ gl, gl ≠ 0 → gl ≠ g + 100 + 10 * m → gl ≠ g + 100 + 10 * m + 1 → ∀ b, τ b = gl → zo_tg (zo_tg τ σ1.1.1 1) s.1.1 (g + 100 + 10 * m + 1) b = τ b ∧ s4.2.2 b = σ.2.2 b := fun gl g1 g2 g3 b hb => by
            have hbl : b < σ.1.1 := hw.lt (by omega)
            refine ⟨t3 b (by omega), ?_⟩
            rw [l4.keep (by have := a2.2.1; have := l02.2.1; omega) (by show ¬ b = p; intro h; rw [h] at hb; omega), a2.keep (by have := l02.2.1; omega) (by show ¬ zo_tg τ σ1.1.1 1 b = _; rw [t2 b (by omega)]; omega), l02.keep hbl (fun h => h)]
          obtain ⟨h0, l', q', b', R', K', j1, j2, j3, j4, j5, j6, j7, j8⟩ := hM
          have ell : l' = l ∧ q' = q ∧ b' = b := by
            rw [k1] at j1
            simp only [mcell, Option.some.injEq, Prod.mk.injEq, Sum.inr.injEq, List.cons.injEq, Value.ref.injEq] at j1
            obtain ⟨-, -, -, -, e1, e2, e3, -⟩ := j1
            exact ⟨e1.symm, e2.symm, e3.symm⟩
          obtain ⟨rfl, rfl, rfl⟩ := ell
          have kq : zo_k (fun t => t = g + 100 + 10 * m + 2) τ σ (zo_tg (zo_tg τ σ1.1.1 1) s.1.1 (g + 100 + 10 * m + 1)) s4 := fun b hb => kkl _ (by omega) (by omega) (by omega) b hb
          have kb : zo_k (fun t => t = g + 100 + 10 * m + 3) τ σ (zo_tg (zo_tg τ σ1.1.1 1) s.1.1 (g + 100 + 10 * m + 1)) s4 := fun b hb => kkl _ (by omega) (by omega) (by omega) b hb
          have k11 : zo_k (fun t => t = 1) τ σ (zo_tg (zo_tg τ σ1.1.1 1) s.1.1 (g + 100 + 10 * m + 1)) s4 := fun b hb => kkl 1 (by omega) (by omega) (by omega) b hb
          have hy : rMo (zo_tg (zo_tg τ σ1.1.1 1) s.1.1 (g + 100 + 10 * m + 1)) s4 A.1 (g + 100 + 10 * m) p m y := by
            refine ⟨(t3 p (by omega)).trans htp, l', q', b', R ++ [σ1.1.1], K', kp4, hL4, j3.keep kq rfl, by rw [ey]; exact j4.keep kb rfl, by rw [ey]; simp [k3.2.1], fun i z rq hz hrq => ?_, by rw [ey]; exact j7, fun i z kc hz hkc => ?_⟩
            · rw [ey] at hrq
              have hrq : ((pa_mot A m).2.1 ++ [(f, (pa_mot A m).1.2.2.2.2.1)])[i]? = some rq := hrq
              by_cases hi : i = (pa_mot A m).2.1.length
              · subst hi
                have e1 : z = σ1.1.1 := by rw [← k3.2.1] at hz; simpa using hz.symm
                have e2 : rq = (f, (pa_mot A m).1.2.2.2.2.1) := by simpa using hrq.symm
                subst e1 e2
                refine ⟨by rw [zo_tg_ne (by omega), zo_tg_at], true, ?_⟩
                rw [l4.keep (by have := a2.2.1; omega) (by show ¬ σ1.1.1 = p; omega), a2.keep (by omega) (by show ¬ zo_tg τ σ1.1.1 1 σ1.1.1 = _; rw [zo_tg_at]; omega)]
                exact krs
              · have hil := (List.getElem?_eq_some_iff.mp hrq).1
                simp at hil
                rw [List.getElem?_append_left (by rw [k3.2.1]; omega)] at hz
                rw [List.getElem?_append_left (by omega)] at hrq
                exact (k4 i z rq hz hrq).keep k11 rfl
            · rw [ey] at hkc
              exact (j8 i z kc hz hkc).keep k11 rfl
          have hfin := hX.setM ho hg2 hp kk hy
          have hval : (R ++ [σ1.1.1]).length = (pa_mot A m).2.1.length + 1 := by simp [k3.2.1]
          rw [hval]
          refine ⟨_, s4, rfl, lall.mono (fun b _ hb => ⟨by omega, by omega⟩) (by omega), a3.le l4, ⟨t3, fun T h1 h2 h3 b => ?_⟩, af, ac, am, F, C, Mo, by rw [← ey]; exact hfin⟩
          by_cases hb1 : b = s.1.1
          · rw [hb1, zo_tg_at]; omega
          · rw [zo_tg_ne hb1]
            by_cases hb2 : b = σ1.1.1
            · rw [hb2, zo_tg_at]; exact h2
            · rw [zo_tg_ne hb2]; exact h3 b
    · rw [if_neg c2, if_pos z00, if_pos (show pa_shut (pa_mot A m) = true from by simp [pa_shut, c2])]
      unfold zJ_X2_signUp_40 zJ_X2_signUp_41
      exact ((jk_state_no (g := n + 4) hg).mono (by decide)).cV
  · rw [if_pos (show _ = false from by simpa using c1), if_neg c1]
    exact ((jk_arg_no (g := n + 4) hg).mono (by decide)).cV
end CS
