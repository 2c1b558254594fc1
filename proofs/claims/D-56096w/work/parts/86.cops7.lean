/-! ===== supportClosure, croak, decide ===== -/
section CU
variable {ρ : zz_C} {σ : zz_S} {τ : Nat → Nat}
/-- a motion's cell is written -/
theorem rMo.cell {fr : List pa_F} {g p m l q b : Nat} {x y : pa_Mo} (h : rMo τ σ fr g p m x) (k1 : σ.2.2 p = some (true, mcell m x l q b)) (hg : 1 < g) (hl : y.2 = x.2) (hb : y.1.2.2.2.1 = x.1.2.2.2.1) : rMo τ (zz_set σ p (mcell m y l q b)) fr g p m y := by
  obtain ⟨h0, l', q', b', R', K', j1, j2, j3, j4, j5, j6, j7, j8⟩ := h
  have ell : l' = l ∧ q' = q ∧ b' = b := by
    rw [k1] at j1
    simp only [mcell, Option.some.injEq, Prod.mk.injEq, Sum.inr.injEq, List.cons.injEq, Value.ref.injEq] at j1
    obtain ⟨-, -, -, -, e1, e2, e3, -⟩ := j1
    exact ⟨e1.symm, e2.symm, e3.symm⟩
  obtain ⟨rfl, rfl, rfl⟩ := ell
  have kk : zo_k (fun t => t ≠ g) τ σ τ (zz_set σ p (mcell m y l' q' b')) := fun c hc => ⟨rfl, zp_set_old fun h => hc (by rw [h]; exact h0)⟩
  refine ⟨h0, l', q', b', R', K', zp_set_at, j2.keep kk (by show g + 1 ≠ _; omega), j3.keep kk (by show g + 2 ≠ _; omega), ?_, by rw [hl]; exact j5, fun j a r ha hr => (j6 j a r ha (by rw [← hl]; exact hr)).keep kk (by show 1 ≠ _; omega), by rw [hl]; exact j7, fun j a r ha hr => (j8 j a r ha (by rw [← hl]; exact hr)).keep kk (by show 1 ≠ _; omega)⟩
  rw [hb]
  exact j4.keep kk (by show g + 3 ≠ _; omega)
/-- .. and the assembly's picture with it -/
theorem rAx.cell {g a m p l q b : Nat} {A : pa_A} {af ac am : Nat} {F C Mo : List Nat} {x y : pa_Mo} (h : rAx τ σ g a (pa_setM A m x) af ac am F C Mo) (ho : pw (pa_setM A m x)) (hg2 : 1000 ≤ g) (hm : m < A.2.2.1.length) (hp : Mo[m]? = some p) (hM : rMo τ σ A.1 (g + 100 + 10 * m) p m x) (k1 : σ.2.2 p = some (true, mcell m x l q b)) (hl : y.2 = x.2) (hb : y.1.2.2.2.1 = x.1.2.2.2.1) :
    rAx τ (zz_set σ p (mcell m y l q b)) g a (pa_setM A m y) af ac am F C Mo := by
  have kk : zo_k (fun t => t ≠ 0 ∧ ¬ (g + 100 + 10 * m ≤ t ∧ t < g + 104 + 10 * m)) τ σ τ (zz_set σ p (mcell m y l q b)) := fun c hc => ⟨rfl, zp_set_old fun h => by
    rw [h, hM.1] at hc; omega⟩
  have := h.setM ho hg2 hp kk (hM.cell k1 (by omega) hl hb)
  rw [pa_setM_set] at this
  exact this
theorem pw_set (A : pa_A) {c m : Nat} (hok : pa_ok A c) (hc : c ≤ 1000) (hm : m < A.2.2.1.length) (y : pa_Mo) (h1 : y.1.2.1 ≤ 1) (h2 : y.1.2.2.2.1 < 4096) (h3 : y.1.1 = (pa_mot A m).1.1) (h4 : y.2.1 = (pa_mot A m).2.1) (h5 : y.2.2.length ≤ 12) (h6 : ∀ k, k ∈ y.2.2 → k.1 < A.1.length ∧ k.2.1 < 10 ∧ k.2.2 ≤ 1) : pw (pa_setM A m y) := by
  have ho := hok.w hc
  obtain ⟨b1, b2, b3, b4, b5, b6, b7⟩ := ho.mo hm
  exact ho.setM ⟨by rw [h3]; exact b1, h1, h2, by rw [h4]; exact b4, h5, by rw [h4]; exact b6, h6⟩
theorem kc_back {g a n c : Nat} {A : pa_A} (x y : Int32) (h : rAs τ σ g a A) (hok : pa_ok A c) (hc : c ≤ 1000) (hg2 : 1000 ≤ g) (hw : zo_wf τ σ) (hg : zp_gas (n + 5) σ) (hfu : 100 ≤ ρ.2) : cO [122, 106, 138, 143] τ σ g a (pa_back x y A) 5 (zF_X2_supportClosure ρ a x y σ) := by
  have ho := hok.w hc
  have hA := h
  obtain ⟨af, ac, am, F, C, Mo, hX⟩ := h
  unfold zF_X2_supportClosure pa_back
  rw [hA.ck]
  refine kc_both (n := n + 4) x y hX ho rfl hg (by decide) _ (fun v4 v9 σ10 => zz_ck σ10 v4 6 fun a11 => zz_cI (zF_X6_entitles ρ a11 v9 σ10) (fun v14 σ15 => zz_cV (zF_X1_checkArgument ρ v14 σ15) (fun σ19 => zz_ck σ19 v4 6 fun a20 => zz_cI (zF_X6_isOpen ρ a20 σ19) (fun v23 σ24 => if v23 = 0 then zJ_X2_supportClosure_40 ρ a y v4 v9 σ24 else (zz_gI σ24 v4 6 8).bind fun v25 => if v25 = 0 then zJ_X2_supportClosure_41 ρ a y v4 v9 (1 : Int32) σ24 else zJ_X2_supportClosure_40 ρ a y v4 v9 σ24) zz_P) zz_P) zz_P) ?_
  intro m f p r hm hf ex ey hp hM hr ht hcell
  subst ey
  have hMo := hok.mo hm
  have h12 := ho.1
  have h6 := ho.2.2.1
  obtain ⟨l, q, b, N, R, k1, k2, k3, k4⟩ := hM.reqs hw
  have hpl : p < σ.1.1 := hw.1.lt k1
  dsimp only
  rw [zp_ck k1, kc_entitles (ho.mo hm).1 (ho.fr hf).1 k1 hcell, cc_I]
  show cO _ τ σ g a (if _ then .inr 2 else if _ then .inr 3 else if _ then .inr 4 else _) 5 _
  by_cases c1 : pa_for (pa_mot A m) (pa_frog A f) = true
  · rw [if_neg (show ¬ (_ = false) from by rw [c1]; decide), if_pos c1, jk_arg_yes, cc_V, zp_ck k1, km_isOpen k1 hMo.2.2.2.1, cc_I]
    by_cases c2 : (pa_mot A m).1.2.2.1 = 0
    · rw [if_pos c2, if_neg n10, zp_gI k1 (k := 8) (v := .ofNat (pa_mot A m).1.2.1) rfl, Option.bind_some]
      by_cases c3 : (pa_mot A m).1.2.1 = 1
      · rw [if_pos (show pa_shut (pa_mot A m) = true from by simp [pa_shut, c3]), if_neg (show ¬ Int32.ofNat (pa_mot A m).1.2.1 = 0 from by rw [c3]; decide)]
        unfold zJ_X2_supportClosure_40 zJ_X2_supportClosure_41
        exact ((jk_state_no (g := n + 4) hg).mono (by decide)).cV
      · have c3' : (pa_mot A m).1.2.1 = 0 := by have := hMo.2.2.1; omega
        rw [if_neg (show ¬ pa_shut (pa_mot A m) = true from by simp [pa_shut, c2, c3']), if_pos (show Int32.ofNat (pa_mot A m).1.2.1 = 0 from by rw [c3']; rfl)]
        unfold zJ_X2_supportClosure_41
        rw [jk_state_yes, cc_V, kf_ck hcell, kf_sits hcell (ho.fr hf).2.2.1, cc_I]
        by_cases c4 : (pa_frog A f).2.2.1 = 0
        · rw [if_pos c4, if_pos c4]
          exact ((jk_supp_no (g := n + 4) hg).mono (by decide)).cV
        · rw [if_neg c4, if_neg c4, jk_supp_yes, cc_V, zp_gR k1 (k := 4) (v := some b) rfl, Option.bind_some]
          -- the mask
          have hM0 := hM
          obtain ⟨h0, l', q', b', R', K', j1, j2, j3, j4, j5, j6, j7, j8⟩ := hM
          have ell : l' = l ∧ q' = q ∧ b' = b := by
            rw [k1] at j1
            simp only [mcell, Option.some.injEq, Prod.mk.injEq, Sum.inr.injEq, List.cons.injEq, Value.ref.injEq] at j1
            obtain ⟨-, -, -, -, e1, e2, e3, -⟩ := j1
            exact ⟨e1.symm, e2.symm, e3.symm⟩
          obtain ⟨rfl, rfl, rfl⟩ := ell
          obtain ⟨bw, b1, b2, b3⟩ := j4
          obtain ⟨σ1, s1, s2, s3⟩ := jb_set (ρ := ρ) (k := f) b3 (by omega) hw.1
          have s2' : zp_le (fun c => τ c = g + 100 + 10 * m + 3) 0 σ σ1 := s2.mono (fun c _ hc => hc.elim (fun h => by rw [h]; exact b1) (fun h => by rw [h]; exact b2)) (Nat.le_refl _)
          have hw1 := hw.le s2
          have kk : ∀ gl, gl ≠ 0 → gl ≠ g + 100 + 10 * m + 3 → zo_k (fun t => t = gl) τ σ τ σ1 := fun gl h1 h2 c hc => ⟨rfl, s2'.keep (hw.lt (by rw [hc]; exact h1)) (by show ¬ τ c = _; rw [hc]; exact h2)⟩
          have k1' : σ1.2.2 p = some (true, mcell m (pa_mot A m) l' q' b') := by rw [s2'.keep hpl (by show ¬ τ p = _; rw [h0]; omega)]; exact k1
          obtain ⟨y, ey⟩ : ∃ y : pa_Mo, y = (((pa_mot A m).1.1, (pa_mot A m).1.2.1, (pa_mot A m).1.2.2.1, (pa_mot A m).1.2.2.2.1 ||| 2 ^ f, (pa_mot A m).1.2.2.2.2), (pa_mot A m).2) := ⟨_, rfl⟩
          have hyM : rMo τ σ1 A.1 (g + 100 + 10 * m) p m y := by
            refine ⟨h0, l', q', b', R', K', by rw [ey]; exact k1', j2.keep (kk _ (by omega) (by omega)) rfl, j3.keep (kk _ (by omega) (by omega)) rfl, ⟨bw, b1, b2, by rw [ey]; exact s3⟩, by rw [ey]; exact j5, fun j a r ha hr => (j6 j a r ha (by rw [ey] at hr; exact hr)).keep (kk 1 (by omega) (by omega)) rfl, by rw [ey]; exact j7, fun j a r ha hr => (j8 j a r ha (by rw [ey] at hr; exact hr)).keep (kk 1 (by omega) (by omega)) rfl⟩
          have hX1 := hX.setM ho hg2 hp ((zo_k.own hw (s2'.mono (M' := fun c => g + 100 + 10 * m ≤ τ c ∧ τ c < g + 100 + 10 * m + 4) (fun c _ hc => by have hc : τ c = _ := hc; omega) (Nat.le_refl 0)) fun _ _ => rfl).mono fun t ht => ⟨ht.1, by omega⟩) hyM
          have hlt : (pa_mot A m).1.2.2.2.1 ||| 2 ^ f < 4096 := Nat.or_lt_two_pow (n := 12) (ho.mo hm).2.2.1 (Nat.pow_lt_pow_right (by decide) (by omega))
          have hyw : pw (pa_setM A m y) := pw_set A hok hc hm y (by rw [ey]; exact hMo.2.2.1) (by rw [ey]; exact hlt) (by rw [ey]) (by rw [ey]) (by rw [ey]; exact (ho.mo hm).2.2.2.2.1) (by rw [ey]; exact (ho.mo hm).2.2.2.2.2.2)
          have hA1 : rAs τ σ1 g a (pa_setM A m y) := ⟨af, ac, am, F, C, Mo, hX1⟩
          have g1 : zp_gas (n + 5) σ1 := s2.gas (n := n + 5) hg
          obtain ⟨σ2, u1, u2⟩ := kc_closureWeight (ρ := ρ) (n := n + 3) hA1 hyM hyw (by omega) hw1 g1 hfu
          have hA2 := hA1.al (by exact h12) hyw.2.2.1 (by omega) hw1 u2
          have hyM2 := hyM.al (by omega) hw1 u2
          have hw2 := hw1.le u2
          obtain ⟨σ3, v1, v2⟩ := kc_entitledWeight (ρ := ρ) (n := n + 1) hA2 hyM2 (by rw [ey]; exact (ho.mo hm).1) hyw (by omega) hw2 (u2.gas (n := n + 3) g1) hfu
          have hw3 := hw2.le v2
          have l13 : zp_le zp_no 4 σ1 σ3 := u2.trans v2 fun _ _ h => h
          have hX3 := hX1.al hyw (by omega) hw1 l13
          have hyM3 := hyM2.al (by omega) hw2 v2
          have k3' : σ3.2.2 p = some (true, mcell m y l' q' b') := by rw [l13.keep (hw1.1.lt k1') (fun h => h), k1', ey]; rfl
          have e1 : pa_backing (pa_setM A m y) y = pa_backing A y := rfl
          have e2 : pa_entitled (pa_setM A m y) y = pa_entitled A y := rfl
          have hb1 : pa_backing A y ≤ 10 * 12 := Nat.le_trans (ps_le _ _ 10 fun g hg => by
            have hg' : g < A.1.length := by simpa using hg
            have := (ho.fr hg').2.1
            show (if _ then _ else 0) ≤ 10
            split <;> omega) (by simp; omega)
          have hb2 : pa_entitled A y ≤ 10 * 12 := Nat.le_trans (ps_le _ _ 10 fun g hg => by
            have := (ho.2.2.2.1 g hg).2.1
            show (if _ then _ else 0) ≤ 10
            split <;> omega) (by omega)
          have lall : ∀ cc : Nat, zp_le (fun b => g ≤ τ b ∧ τ b < g + 200) 4 σ (zz_set σ3 p (mcell m ((y.1.1, cc, y.1.2.2), y.2) l' q' b')) := fun cc => by
            have h1 : zp_le (fun b => g ≤ τ b ∧ τ b < g + 200) 0 σ σ1 := s2'.mono (fun c _ hc => by have hc : τ c = _ := hc; omega) (Nat.le_refl _)
            have h2 := h1.trans l13 fun _ _ h => h.elim
            exact (h2.trans (k' := 0) (zp_set_le (M := fun b => g ≤ τ b ∧ τ b < g + 200) (hw3.1.lt k3') ⟨by omega, by omega⟩) fun b _ hb => hb).mono (fun _ _ h => h) (by omega)
          have fin : ∀ cc : Nat, rAs τ (zz_set σ3 p (mcell m ((y.1.1, cc, y.1.2.2), y.2) l' q' b')) g a (pa_setM A m ((y.1.1, cc, y.1.2.2), y.2)) := fun cc => ⟨af, ac, am, F, C, Mo, hX3.cell hyw hg2 hm hp hyM3 k3' rfl rfl⟩
          rw [b3.ck, s1, cc_V, hA1.ck, u1, cc_I, hA2.ck, v1, cc_I, e1, e2, show (2 : Int32) = Int32.ofNat 2 from rfl, ci_mul]
          have eg : (if 2 * pa_backing A (((pa_mot A m).1.1, (pa_mot A m).1.2.1, (pa_mot A m).1.2.2.1, (pa_mot A m).1.2.2.2.1 ||| 2 ^ f, (pa_mot A m).1.2.2.2.2), (pa_mot A m).2) > pa_entitled A (((pa_mot A m).1.1, (pa_mot A m).1.2.1, (pa_mot A m).1.2.2.1, (pa_mot A m).1.2.2.2.1 ||| 2 ^ f, (pa_mot A m).1.2.2.2.2), (pa_mot A m).2) then 1 else 0) = (if 2 * pa_backing A y > pa_entitled A y then 1 else 0) := by rw [ey]
          show cO _ τ σ g a (.inl ((if 2 * pa_backing A (((pa_mot A m).1.1, (pa_mot A m).1.2.1, (pa_mot A m).1.2.2.1, (pa_mot A m).1.2.2.2.1 ||| 2 ^ f, (pa_mot A m).1.2.2.2.2), (pa_mot A m).2) > pa_entitled A (((pa_mot A m).1.1, (pa_mot A m).1.2.1, (pa_mot A m).1.2.2.1, (pa_mot A m).1.2.2.2.1 ||| 2 ^ f, (pa_mot A m).1.2.2.2.2), (pa_mot A m).2) then 1 else 0), pa_setM A m (((pa_mot A m).1.1, (if 2 * pa_backing A (((pa_mot A m).1.1, (pa_mot A m).1.2.1, (pa_mot A m).1.2.2.1, (pa_mot A m).1.2.2.2.1 ||| 2 ^ f, (pa_mot A m).1.2.2.2.2), (pa_mot A m).2) > pa_entitled A (((pa_mot A m).1.1, (pa_mot A m).1.2.1, (pa_mot A m).1.2.2.1, (pa_mot A m).1.2.2.2.1 ||| 2 ^ f, (pa_mot A m).1.2.2.2.2), (pa_mot A m).2) then 1 else 0), (pa_mot A m).1.2.2.1, (pa_mot A m).1.2.2.2.1 ||| 2 ^ f, (pa_mot A m).1.2.2.2.2), (pa_mot A m).2))) 5 _
          rw [eg]
          unfold zz_pfN
          by_cases hcc : 2 * pa_backing A y > pa_entitled A y
          · have ew : zz_pf σ3 (some p) 6 9 8 (.int 1) = some (zz_set σ3 p (mcell m ((y.1.1, 1, y.1.2.2), y.2) l' q' b')) := zq_pf (N := 9) k3' rfl rfl
            have eg2 : zz_gI (zz_set σ3 p (mcell m ((y.1.1, 1, y.1.2.2), y.2) l' q' b')) (some p) 6 8 = some 1 := zp_gI zp_set_at rfl
            rw [if_pos hcc, if_neg (show ¬ Int32.ofNat (2 * pa_backing A y) ≤ Int32.ofNat (pa_entitled A y) from fun h => by have := (ci_le (by omega) (by omega)).mp h; omega), if_pos (show zz_fit .boolean 1 = true from rfl), ew, Option.bind_some, eg2, Option.bind_some, if_neg n10]
            have := fin 1
            rw [ey] at this
            exact ⟨τ, _, rfl, (lall 1).mono (fun _ _ h => h) (by omega), hw3.le (M := fun b => b = p) (k := 0) (zp_set_le (hw3.1.lt k3') rfl), zo_g.refl _ _, by rw [ey]; exact this⟩
          · have ew : zz_pf σ3 (some p) 6 9 8 (.int 0) = some (zz_set σ3 p (mcell m ((y.1.1, 0, y.1.2.2), y.2) l' q' b')) := zq_pf (N := 9) k3' rfl rfl
            have eg2 : zz_gI (zz_set σ3 p (mcell m ((y.1.1, 0, y.1.2.2), y.2) l' q' b')) (some p) 6 8 = some 0 := zp_gI zp_set_at rfl
            rw [if_neg hcc, if_pos (show Int32.ofNat (2 * pa_backing A y) ≤ Int32.ofNat (pa_entitled A y) from (ci_le (by omega) (by omega)).mpr (by omega)), if_pos (show zz_fit .boolean 0 = true from rfl), ew, Option.bind_some, eg2, Option.bind_some, if_pos z00]
            have := fin 0
            rw [ey] at this
            exact ⟨τ, _, rfl, (lall 0).mono (fun _ _ h => h) (by omega), hw3.le (M := fun b => b = p) (k := 0) (zp_set_le (hw3.1.lt k3') rfl), zo_g.refl _ _, by rw [ey]; exact this⟩
    · rw [if_neg c2, if_pos z00, if_pos (show pa_shut (pa_mot A m) = true from by simp [pa_shut, c2])]
      unfold zJ_X2_supportClosure_40 zJ_X2_supportClosure_41
      exact ((jk_state_no (g := n + 4) hg).mono (by decide)).cV
  · rw [if_pos (show _ = false from by simpa using c1), if_neg c1]
    exact ((jk_arg_no (g := n + 4) hg).mono (by decide)).cV
end CU
