/-! ===== croak, decide ===== -/
section CV
variable {ρ : zz_C} {σ : zz_S} {τ : Nat → Nat}
theorem kc_croak {g a n c s : Nat} {A : pa_A} (x y z : Int32) (hs : s ≤ 1) (h : rAs τ σ g a A) (hok : pa_ok A c) (hc : c ≤ 1000) (hg2 : 1000 ≤ g) (hw : zo_wf τ σ) (hg : zp_gas (n + 5) σ) (hfu : 100 ≤ ρ.2) : cO [122, 106, 138, 143] τ σ g a (pa_croak x y z s A) 5 (zF_X2_croak ρ a x y z (.ofNat s) σ) := by
  have ho := hok.w hc
  have hA := h
  obtain ⟨af, ac, am, F, C, Mo, hX⟩ := h
  unfold zF_X2_croak pa_croak
  rw [hA.ck]
  refine kc_both (n := n + 4) x y hX ho rfl hg (by decide) _ (fun v4 v9 σ10 => zz_cI (zF_X1_isBetween ρ z (1 : Int32) (9 : Int32) σ10) (fun v13 σ14 =>
        if v13 = 0 then
          zJ_X2_croak_38 ρ y z (.ofNat s) v4 v9 σ14
        else
        zz_ck σ14 v4 6 fun a15 =>
        zz_cI (zF_X6_entitles ρ a15 v9 σ14) (fun v18 σ19 =>
          if v18 = 0 then
            zJ_X2_croak_38 ρ y z (.ofNat s) v4 v9 σ19
          else
          zJ_X2_croak_39 ρ y z (.ofNat s) v4 v9 (1 : Int32) σ19) zz_P) zz_P) ?_
  intro m f p r hm hf ex ey hp hM hr ht hcell
  subst ey
  have hMo := hok.mo hm
  have h12 := ho.1
  have h6 := ho.2.2.1
  obtain ⟨l, q, b, N, K, k1, k2, k3, k4⟩ := hM.cros hw
  have hpl : p < σ.1.1 := hw.1.lt k1
  have hf100 := (hMo.f100 h12).2
  have hcl := hMo.croaks
  dsimp only
  have bad1 : zthr (zJ_X2_croak_38 ρ (.ofNat f) z (.ofNat s) (some p) (some r) σ) 106 5 σ := by
    unfold zJ_X2_croak_38 zJ_X2_croak_39
    exact ((jk_arg_no (g := n + 4) hg).mono (by decide)).cV
  show cO _ τ σ g a (match pd z 1 10 with | none => .inr 2 | some l => _) 5 _
  cases hz : pd z 1 10 with
  | none =>
    rw [jk_between_no (lo := 1) (n := 10) 1 9 rfl (by decide) (by decide) (by decide) hz, cc_I, if_pos z00]
    exact bad1
  | some d =>
  obtain ⟨hd1, hd2, rfl⟩ := pd_some hz
  rw [jk_between_yes (lo := 1) (n := 10) 1 9 rfl (by decide) (by decide) hd1 hd2, cc_I, if_neg n10, zp_ck k1, kc_entitles (ho.mo hm).1 (ho.fr hf).1 k1 hcell, cc_I]
  show cO _ τ σ g a (if _ then .inr 2 else if _ then .inr 3 else if _ ∨ _ then .inr 4 else _) 5 _
  by_cases c1 : pa_for (pa_mot A m) (pa_frog A f) = true
  · rw [if_neg (show ¬ (_ = false) from by rw [c1]; decide), if_pos c1, if_neg n10]
    unfold zJ_X2_croak_39
    -- the list of requests is only looked at
    obtain ⟨lr, qr, br, Nr, Rr, r1, r2, r3, r4⟩ := hM.reqs hw
    have ell : lr = l ∧ qr = q ∧ br = b := by
      rw [k1] at r1
      simp only [mcell, Option.some.injEq, Prod.mk.injEq, Sum.inr.injEq, List.cons.injEq, Value.ref.injEq] at r1
      obtain ⟨-, -, -, -, e1, e2, e3, -⟩ := r1
      exact ⟨e1.symm, e2.symm, e3.symm⟩
    obtain ⟨rfl, rfl, rfl⟩ := ell
    rw [jk_arg_yes, cc_V, zp_ck k1, km_isReady k1 r2 r3.2.1 hMo.2.2.2.1 hMo.2.2.1, cc_I]
    by_cases c2 : pa_due (pa_mot A m) = true
    · rw [if_neg (show ¬ (_ = false) from by rw [c2]; decide), if_pos c2, jk_state_yes, cc_V, kf_ck hcell, kf_sits hcell (ho.fr hf).2.2.1, cc_I]
      by_cases c3 : (pa_frog A f).2.2.1 = 0
      · rw [if_pos (.inl c3), if_pos c3, if_pos z00]
        unfold zJ_X2_croak_71 zJ_X2_croak_72
        exact ((jk_supp_no (g := n + 4) hg).mono (by decide)).cV
      · rw [if_neg c3, if_neg n10, zp_ck k1]
        obtain ⟨σ1, s1, s2⟩ := kc_hasCroaked (ρ := ρ) (f := f) (n := n + 4) k1 k3 (by omega) hf100 hw.1 hg hfu (by omega)
        have g1 : zp_gas (n + 4) σ1 := s2.gas (n := n + 4) hg
        have hw1 := hw.le s2
        rw [s1, cc_I]
        by_cases c4 : pa_croaked (pa_mot A m).2.2 f = true
        · rw [if_pos (.inr c4), if_pos c4, if_neg n10]
          unfold zJ_X2_croak_71 zJ_X2_croak_72
          exact (((jk_supp_no (g := n + 3) g1).cV).after s2).mono (by decide)
        · rw [if_neg (show ¬ (_ ∨ _) from fun h => h.elim c3 c4), if_neg c4, if_pos z00]
          unfold zJ_X2_croak_72
          have k1' : σ1.2.2 p = some (true, mcell m (pa_mot A m) lr qr br) := by rw [s2.keep hpl (fun h => h)]; exact k1
          have hrl : r < σ.1.1 := hw.1.lt hcell
          have hc1 : σ1.2.2 r = some (true, fcell f (pa_frog A f)) := by rw [s2.keep hrl (fun h => h)]; exact hcell
          rw [jk_supp_yes, cc_V, zp_gR k1' (k := 3) (v := some qr) rfl, Option.bind_some, zp_al_eq (n := n + 3) g1 (by decide)]
          have hpl1 : p < σ1.1.1 := hw1.1.lt k1'
          have hrl1 : r < σ1.1.1 := hw1.1.lt hc1
          have k1a : ∀ fs, (zp_al σ1 (.inr (8, fs)) 4).2.2 p = some (true, mcell m (pa_mot A m) lr qr br) := fun fs => (zp_al_old (Nat.ne_of_lt hpl1)).trans k1'
          have hca : ∀ fs, (zp_al σ1 (.inr (8, fs)) 4).2.2 r = some (true, fcell f (pa_frog A f)) := fun fs => (zp_al_old (Nat.ne_of_lt hrl1)).trans hc1
          have hfit : zz_fit .boolean (.ofNat s) = true := by rcases (by omega : s = 0 ∨ s = 1) with rfl | rfl <;> rfl
          unfold zF_X8_init zF_X8_init_2 zz_pfN
          rw [kf_num (hca _), Option.bind_some, kf_pond (hca _), Option.bind_some, kf_weight (hca _), Option.bind_some, ci_mul, zq_pf (N := 4) zp_al_new rfl (fs' := [.int (.ofNat f), .int 0, .int 0, .int 0]) rfl, Option.bind_some, cs_al_set, zq_pf (N := 4) zp_al_new rfl (fs' := [.int (.ofNat f), .int (.ofNat (pa_frog A f).1), .int 0, .int 0]) rfl, Option.bind_some, cs_al_set, zq_pf (N := 4) zp_al_new rfl (fs' := [.int (.ofNat f), .int (.ofNat (pa_frog A f).1), .int (.ofNat (d * (pa_frog A f).2.1)), .int 0]) rfl, Option.bind_some, cs_al_set, if_pos hfit, zq_pf (N := 4) zp_al_new rfl (fs' := [.int (.ofNat f), .int (.ofNat (pa_frog A f).1), .int (.ofNat (d * (pa_frog A f).2.1)), .int (.ofNat s)]) rfl, Option.bind_some, cs_al_set, cc_V, cc_V]
          obtain ⟨st, es⟩ : ∃ st, st = zp_al σ1 (.inr (8, [.int (.ofNat f), .int (.ofNat (pa_frog A f).1), .int (.ofNat (d * (pa_frog A f).2.1)), .int (.ofNat s)])) 4 := ⟨_, rfl⟩
          have ls : zp_le zp_no 1 σ1 st := by rw [es]; exact zp_al_le (by decide)
          have ns : st.1.1 = σ1.1.1 + 1 := by rw [es]; rfl
          have kps : st.2.2 p = some (true, mcell m (pa_mot A m) lr qr br) := by rw [es]; exact k1a _
          have krs : st.2.2 σ1.1.1 = some (true, .inr (8, [.int (.ofNat f), .int (.ofNat (pa_frog A f).1), .int (.ofNat (d * (pa_frog A f).2.1)), .int (.ofNat s)])) := by rw [es]; exact zp_al_new
          have hws := hw1.le ls
          have hrn : τ σ1.1.1 = 0 := hw1.new
          have hws2 : zo_wf (zo_tg τ σ1.1.1 1) st := hws.tg (by omega)
          have t2 : ∀ b, τ b ≠ 0 → zo_tg τ σ1.1.1 1 b = τ b := fun b hb => zo_tg_ne fun h => hb (h ▸ hrn)
          have l02 : zp_le zp_no 2 σ st := s2.trans ls fun _ _ h => h
          have kk2 : zo_k (fun t => t ≠ 0) τ σ (zo_tg τ σ1.1.1 1) st := fun b hb => ⟨t2 b hb, l02.keep (hw.lt hb) (fun h => h)⟩
          have hL2 : rL (zo_tg τ σ1.1.1 1) st (g + 100 + 10 * m + 2) qr K := k2.keep kk2 (by omega)
          obtain ⟨s3, a1, a2, a3, a4⟩ := kq_addLast (ρ := ρ) (x := σ1.1.1) (n := n + 2) hL2 hws2 (ls.gas (n := n + 3) g1) (by rw [k3.2.1]; omega) (by omega)
          have hps : p < st.1.1 := hws.1.lt kps
          have htp : τ p = g + 100 + 10 * m := hM.1
          have t3 : ∀ b, τ b ≠ 0 → zo_tg (zo_tg τ σ1.1.1 1) st.1.1 (g + 100 + 10 * m + 2) b = τ b := fun b hb => by
            rw [zo_tg_ne (by have := hws.lt hb; omega)]; exact t2 b hb
          have kp3 : s3.2.2 p = some (true, mcell m (pa_mot A m) lr qr br) := by
            rw [a2.keep hps (by show ¬ zo_tg τ σ1.1.1 1 p = _; rw [t2 p (by omega), htp]; omega)]; exact kps
          have lall : zp_le (fun b => g + 100 + 10 * m ≤ τ b ∧ τ b < g + 100 + 10 * m + 4) 3 σ s3 := by
            have h1 : zp_le (fun b => g + 100 + 10 * m ≤ τ b ∧ τ b < g + 100 + 10 * m + 4) 2 σ st := l02.none (Nat.le_refl _)
            exact h1.trans a2 fun b hb h => by
              have hb0 : b ≠ σ1.1.1 := by have := s2.2.1; omega
              have h : zo_tg τ σ1.1.1 1 b = _ := h
              rw [zo_tg_ne hb0] at h
              omega
          have kk : zo_k (fun t => t ≠ 0 ∧ ¬ (g + 100 + 10 * m ≤ t ∧ t < g + 104 + 10 * m)) τ σ (zo_tg (zo_tg τ σ1.1.1 1) st.1.1 (g + 100 + 10 * m + 2)) s3 := (zo_k.own hw lall t3).mono fun t ht => ⟨ht.1, by omega⟩
          have kkl : ∀ gl, gl ≠ 0 → gl ≠ g + 100 + 10 * m + 2 → zo_k (fun t => t = gl) τ σ (zo_tg (zo_tg τ σ1.1.1 1) st.1.1 (g + 100 + 10 * m + 2)) s3 := fun gl g1 g2 b hb => by
            have hbl : b < σ.1.1 := hw.lt (by omega)
            refine ⟨t3 b (by omega), ?_⟩
            rw [a2.keep (by have := l02.2.1; omega) (by show ¬ zo_tg τ σ1.1.1 1 b = _; rw [t2 b (by omega)]; omega), l02.keep hbl (fun h => h)]
          have hM0 := hM
          obtain ⟨h0, l', q', b', R', K', j1, j2, j3, j4, j5, j6, j7, j8⟩ := hM
          have ell : l' = lr ∧ q' = qr ∧ b' = br := by
            rw [k1] at j1
            simp only [mcell, Option.some.injEq, Prod.mk.injEq, Sum.inr.injEq, List.cons.injEq, Value.ref.injEq] at j1
            obtain ⟨-, -, -, -, e1, e2, e3, -⟩ := j1
            exact ⟨e1.symm, e2.symm, e3.symm⟩
          obtain ⟨rfl, rfl, rfl⟩ := ell
          obtain ⟨y, ey⟩ : ∃ y : pa_Mo, y = ((pa_mot A m).1, (pa_mot A m).2.1, (pa_mot A m).2.2 ++ [(f, d, s)]) := ⟨_, rfl⟩
          have hyM : rMo (zo_tg (zo_tg τ σ1.1.1 1) st.1.1 (g + 100 + 10 * m + 2)) s3 A.1 (g + 100 + 10 * m) p m y := by
            refine ⟨(t3 p (by omega)).trans htp, l', q', b', R', K ++ [σ1.1.1], by rw [ey]; exact kp3, j2.keep (kkl _ (by omega) (by omega)) rfl, a4, by rw [ey]; exact j4.keep (kkl _ (by omega) (by omega)) rfl, by rw [ey]; exact j5, fun i z rq hz hrq => (j6 i z rq hz (by rw [ey] at hrq; exact hrq)).keep (kkl 1 (by omega) (by omega)) rfl, by rw [ey]; simp [k3.2.1], fun i z kc hz hkc => ?_⟩
            rw [ey] at hkc
            have hkc : ((pa_mot A m).2.2 ++ [(f, d, s)])[i]? = some kc := hkc
            by_cases hi : i = (pa_mot A m).2.2.length
            · subst hi
              have e1 : z = σ1.1.1 := by rw [← k3.2.1] at hz; simpa using hz.symm
              have e2 : kc = (f, d, s) := by simpa using hkc.symm
              subst e1 e2
              refine ⟨by rw [zo_tg_ne (by omega), zo_tg_at], true, ?_⟩
              rw [a2.keep (by omega) (by show ¬ zo_tg τ σ1.1.1 1 σ1.1.1 = _; rw [zo_tg_at]; omega)]
              exact krs
            · have hil := (List.getElem?_eq_some_iff.mp hkc).1
              simp at hil
              rw [List.getElem?_append_left (by rw [k3.2.1]; omega)] at hz
              rw [List.getElem?_append_left (by omega)] at hkc
              exact (k4 i z kc hz hkc).keep (kkl 1 (by omega) (by omega)) rfl
          have hX1 := hX.setM ho hg2 hp kk hyM
          have hyw : pw (pa_setM A m y) := pw_set A hok hc hm y (by rw [ey]; exact hMo.2.2.1) (by rw [ey]; exact (ho.mo hm).2.2.1) (by rw [ey]) (by rw [ey]) (by
            rw [ey]
            show ((pa_mot A m).2.2 ++ [(f, d, s)]).length ≤ 12
            have hnd := hMo.2.2.2.2.2.2.2.2.2.2.2
            have := pa_pigeon A.1.length (((pa_mot A m).2.2 ++ [(f, d, s)]).map (·.1)) (by
              rw [List.map_append, List.nodup_append]
              refine ⟨hnd, by simp, fun u hu v hv huv => ?_⟩
              have hv' : v = f := by simpa using hv
              subst huv
              obtain ⟨kk', hk1, hk2⟩ := List.mem_map.mp hu
              apply c4
              unfold pa_croaked
              rw [List.any_eq_true]
              exact ⟨kk', hk1, by rw [hk2, hv']; simp⟩) fun u hu => by
              obtain ⟨kk', hk1, hk2⟩ := List.mem_map.mp hu
              rcases List.mem_append.mp hk1 with h | h
              · rw [← hk2]; exact (hMo.2.2.2.2.2.2.2.2.2.2.1 kk' h).1
              · have : kk' = (f, d, s) := by simpa using h
                rw [← hk2, this]; exact hf
            simp at this ⊢
            omega) (by
            rw [ey]
            intro kk' hk'
            rcases List.mem_append.mp hk' with h | h
            · exact (ho.mo hm).2.2.2.2.2.2 kk' h
            · have : kk' = (f, d, s) := by simpa using h
              rw [this]; exact ⟨hf, hd2, hs⟩)
          have g3 : zp_gas (n + 2) s3 := a2.gas (n := n + 2) (ls.gas (n := n + 3) g1)
          obtain ⟨lz, qz, bz, Nz, Kz, z1, z2, z3, z4⟩ := hyM.cros a3
          have hyc : y.2.2.length ≤ 12 := by
            have := hyw.2.2.2.2.2 y (by
              have : (pa_setM A m y).2.2.1[m]? = some y := by simp [pa_setM, hm]
              exact List.mem_of_getElem? this)
            exact this.2.2.2.2.1
          have hym : y ∈ (pa_setM A m y).2.2.1 := by
            have : (pa_setM A m y).2.2.1[m]? = some y := by simp [pa_setM, hm]
            exact List.mem_of_getElem? this
          obtain ⟨σ4, u1, u2⟩ := kc_strengths (ρ := ρ) (A := A) (s := s) (n := n + 1) z1 z3 hs (fun k hk => ((hyw.2.2.2.2.2 y hym).2.2.2.2.2.2 k hk).2.2) a3.1 g3 hfu hyc
          rw [← es, hL2.ck, a1, cc_V, zp_ck z1, u1, cc_I]
          refine ⟨_, σ4, by rw [ey], ?_, a3.le u2, ⟨t3, fun T h1 h2 h3 b => ?_⟩, ?_⟩
          · exact ((lall.mono (M' := fun b => g ≤ τ b ∧ τ b < g + 200) (fun b _ hb => ⟨by omega, by omega⟩) (Nat.le_refl 3)).trans u2 fun _ _ h => h.elim).mono (fun _ _ h => h) (by omega)
          · by_cases hb1 : b = st.1.1
            · rw [hb1, zo_tg_at]; omega
            · rw [zo_tg_ne hb1]
              by_cases hb2 : b = σ1.1.1
              · rw [hb2, zo_tg_at]; exact h2
              · rw [zo_tg_ne hb2]; exact h3 b
          · have : rAs (zo_tg (zo_tg τ σ1.1.1 1) st.1.1 (g + 100 + 10 * m + 2)) s3 g a (pa_setM A m y) := ⟨af, ac, am, F, C, Mo, hX1⟩
            rw [← ey]
            exact this.al h12 hyw.2.2.1 (by omega) a3 u2
    · rw [if_pos (show _ = false from by simpa using c2), if_neg c2]
      exact ((jk_state_no (g := n + 4) hg).mono (by decide)).cV
  · rw [if_pos (show _ = false from by simpa using c1), if_neg c1, if_pos z00]
    exact bad1
theorem kc_decide {g a n c : Nat} {A : pa_A} (x : Int32) (h : rAs τ σ g a A) (hok : pa_ok A c) (hc : c ≤ 1000) (hg2 : 1000 ≤ g) (hw : zo_wf τ σ) (hg : zp_gas (n + 3) σ) (hfu : 100 ≤ ρ.2) : cO [122, 138] τ σ g a (pa_decide x A) 3 (zF_X2_decide ρ a x σ) := by
  have ho := hok.w hc
  have hA := h
  obtain ⟨af, ac, am, F, C, Mo, hX⟩ := h
  unfold zF_X2_decide pa_decide
  rw [hA.ck]
  cases hx : pd x 0 A.2.2.1.length with
  | none => exact ((ka_motion_no (n := n + 2) hA ho.2.2.1 hx hg).mono (by decide)).cR
  | some m =>
    obtain ⟨-, hm, rfl⟩ := pd_some hx
    obtain ⟨p, e1, hp, hM⟩ := kx_motion_yes (ρ := ρ) hX ho.2.2.1 hm
    have hMo := hok.mo hm
    have h12 := ho.1
    have h6 := ho.2.2.1
    obtain ⟨l, q, b, N, K, k1, k2, k3, k4⟩ := hM.cros hw
    obtain ⟨lr, qr, br, Nr, Rr, r1, r2, r3, r4⟩ := hM.reqs hw
    have ell : lr = l ∧ qr = q ∧ br = b := by
      rw [k1] at r1
      simp only [mcell, Option.some.injEq, Prod.mk.injEq, Sum.inr.injEq, List.cons.injEq, Value.ref.injEq] at r1
      obtain ⟨-, -, -, -, e1, e2, e3, -⟩ := r1
      exact ⟨e1.symm, e2.symm, e3.symm⟩
    obtain ⟨rfl, rfl, rfl⟩ := ell
    have hpl : p < σ.1.1 := hw.1.lt k1
    have hcl := hMo.croaks
    rw [e1, cc_R, zp_ck k1, km_isReady k1 r2 r3.2.1 hMo.2.2.2.1 hMo.2.2.1, cc_I]
    show cO _ τ σ g a (if _ then .inr 2 else _) 3 _
    by_cases c2 : pa_due (pa_mot A m) = true
    · rw [if_neg (show ¬ (_ = false) from by rw [c2]; decide), if_pos c2, jk_state_yes, cc_V, zp_ck k1]
      have hside : ∀ r, r ∈ (pa_mot A m).2.2 → r.2.2 ≤ 1 := fun r hr => (hMo.2.2.2.2.2.2.2.2.2.2.1 r hr).2.2.2
      obtain ⟨σ1, s1, s2⟩ := kc_strengths (ρ := ρ) (A := A) (s := 1) (n := n + 2) k1 k3 (by decide) hside hw.1 hg hfu (by omega)
      have g1 : zp_gas (n + 2) σ1 := s2.gas (n := n + 2) hg
      have hw1 := hw.le s2
      have k1' : σ1.2.2 p = some (true, mcell m (pa_mot A m) lr qr br) := by rw [s2.keep hpl (fun h => h)]; exact k1
      obtain ⟨σ2, u1, u2⟩ := kc_strengths (ρ := ρ) (A := A) (s := 0) (n := n + 1) k1' (k3.al s2) (by decide) hside hw1.1 g1 hfu (by omega)
      have hw2 := hw1.le u2
      have l2 : zp_le zp_no 2 σ σ2 := s2.trans u2 fun _ _ h => h
      have k1'' : σ2.2.2 p = some (true, mcell m (pa_mot A m) lr qr br) := by rw [l2.keep hpl (fun h => h)]; exact k1
      have hX2 := hX.al ho (by omega) hw l2
      have hM2 := hM.al (by omega) hw l2
      have s1' : zF_X6_strengths ρ p (1 : Int32) σ = _ := s1
      have u1' : zF_X6_strengths ρ p (0 : Int32) σ1 = _ := u1
      rw [s1', cc_I, zp_ck k1', u1', cc_I]
      have hb : ∀ s, pa_sum A (pa_mot A m).2.2 s ≤ 1200 := fun s => by
        have := pa_sum_le (s := s) ho hm (pa_mot A m).2.2 fun k hk => ⟨((ho.mo hm).2.2.2.2.2.2 k hk).1, ((ho.mo hm).2.2.2.2.2.2 k hk).2.1⟩
        have := (ho.mo hm).2.2.2.2.1
        omega
      have hb1 := hb 1
      have hb0 := hb 0
      have fin : ∀ st : Nat, rAs τ (zz_set σ2 p (mcell m (((pa_mot A m).1.1, (pa_mot A m).1.2.1, st, (pa_mot A m).1.2.2.2), (pa_mot A m).2) lr qr br)) g a (pa_setM A m (((pa_mot A m).1.1, (pa_mot A m).1.2.1, st, (pa_mot A m).1.2.2.2), (pa_mot A m).2)) := fun st => by
        have kk : zo_k (fun t => t ≠ 0 ∧ ¬ (g + 100 + 10 * m ≤ t ∧ t < g + 104 + 10 * m)) τ σ2 τ (zz_set σ2 p (mcell m (((pa_mot A m).1.1, (pa_mot A m).1.2.1, st, (pa_mot A m).1.2.2.2), (pa_mot A m).2) lr qr br)) := fun c hc => ⟨rfl, zp_set_old fun h => by
          rw [h, hM2.1] at hc; omega⟩
        exact ⟨af, ac, am, F, C, Mo, hX2.setM ho hg2 hp kk (hM2.cell k1'' (by omega) rfl rfl)⟩
      have lall : ∀ st : Nat, zp_le (fun b => g ≤ τ b ∧ τ b < g + 200) 3 σ (zz_set σ2 p (mcell m (((pa_mot A m).1.1, (pa_mot A m).1.2.1, st, (pa_mot A m).1.2.2.2), (pa_mot A m).2) lr qr br)) := fun st =>
        ((l2.none (M := fun b => g ≤ τ b ∧ τ b < g + 200) (Nat.le_refl 2)).trans (k' := 0) (zp_set_le (M := fun b => g ≤ τ b ∧ τ b < g + 200) (hw2.1.lt k1'') ⟨by have := hM.1; omega, by have := hM.1; omega⟩) fun b _ hb => hb).mono (fun _ _ h => h) (by omega)
      have lw : ∀ st : Nat, zo_wf τ (zz_set σ2 p (mcell m (((pa_mot A m).1.1, (pa_mot A m).1.2.1, st, (pa_mot A m).1.2.2.2), (pa_mot A m).2) lr qr br)) := fun st => hw2.le (M := fun b => b = p) (k := 0) (zp_set_le (hw2.1.lt k1'') rfl)
      unfold zJ_X2_decide_31
      show cO _ τ σ g a (.inl ((if pa_sum A (pa_mot A m).2.2 1 > pa_sum A (pa_mot A m).2.2 0 then 1 else 0), pa_setM A m (((pa_mot A m).1.1, (pa_mot A m).1.2.1, 2 - (if pa_sum A (pa_mot A m).2.2 1 > pa_sum A (pa_mot A m).2.2 0 then 1 else 0), (pa_mot A m).1.2.2.2), (pa_mot A m).2))) 3 _
      by_cases hcc : pa_sum A (pa_mot A m).2.2 1 > pa_sum A (pa_mot A m).2.2 0
      · have ew : zz_pf σ2 (some p) 6 9 7 (.int 1) = some (zz_set σ2 p (mcell m (((pa_mot A m).1.1, (pa_mot A m).1.2.1, 1, (pa_mot A m).1.2.2.2), (pa_mot A m).2) lr qr br)) := zq_pf (N := 9) k1'' rfl rfl
        rw [if_pos hcc, if_neg (show ¬ Int32.ofNat (pa_sum A (pa_mot A m).2.2 1) ≤ Int32.ofNat (pa_sum A (pa_mot A m).2.2 0) from fun h => by have := (ci_le (by omega) (by omega)).mp h; omega), if_neg n10, ew, Option.bind_some, if_neg n10]
        exact ⟨τ, _, rfl, lall 1, lw 1, zo_g.refl _ _, fin 1⟩
      · have ew : zz_pf σ2 (some p) 6 9 7 (.int 2) = some (zz_set σ2 p (mcell m (((pa_mot A m).1.1, (pa_mot A m).1.2.1, 2, (pa_mot A m).1.2.2.2), (pa_mot A m).2) lr qr br)) := zq_pf (N := 9) k1'' rfl rfl
        rw [if_neg hcc, if_pos (show Int32.ofNat (pa_sum A (pa_mot A m).2.2 1) ≤ Int32.ofNat (pa_sum A (pa_mot A m).2.2 0) from (ci_le (by omega) (by omega)).mpr (by omega)), if_pos z00, ew, Option.bind_some, if_pos z00]
        exact ⟨τ, _, rfl, lall 2, lw 2, zo_g.refl _ _, fin 2⟩
    · rw [if_pos (show _ = false from by simpa using c2), if_neg c2]
      exact ((jk_state_no (g := n + 2) hg).mono (by decide)).cV
end CV
