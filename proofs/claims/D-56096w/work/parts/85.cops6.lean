/-! ===== remove, strike ===== -/
section CT
variable {ρ : zz_C} {σ : zz_S} {τ : Nat → Nat}
/-- a request is taken off a motion's list -/
theorem kc_remove {gm p m k rem n l q b : Nat} {fr : List pa_F} {x : pa_Mo} {N R : List Nat} (hM : rMo τ σ fr gm p m x) (hw : zo_wf τ σ) (hg : zp_gas (n + 12) σ) (hfu : 100 ≤ ρ.2) (hgm : 1 < gm) (h12 : x.2.1.length ≤ 12) (hnd : (x.2.1.map (·.1)).Nodup) (hL : ∀ r, r ∈ x.2.1 → r.1 < 100)
    (k1 : σ.2.2 p = some (true, mcell m x l q b)) (k2 : rL τ σ (gm + 1) l R) (k3 : kReqs σ.1.1 σ l N R x.2.1) (k4 : ∀ (j a : Nat) (r : pa_R), R[j]? = some a → x.2.1[j]? = some r → rReq τ σ a r) (hk : R[k]? = some rem) :
    ∃ τ' σ', zF_X6_remove ρ p (some rem) σ = zz_rV σ' ∧ zp_le (fun b => gm ≤ τ b ∧ τ b < gm + 4) 12 σ σ' ∧ zo_wf τ' σ' ∧ (∀ b, τ b ≠ 0 → τ' b = τ b) ∧ (∀ b, τ' b = τ b ∨ τ' b = gm + 1) ∧
      rMo τ' σ' fr gm p m (x.1, x.2.1.eraseIdx k, x.2.2) ∧ σ'.2.2 p = some (true, mcell m x l q b) ∧ rL τ' σ' (gm + 1) l (R.eraseIdx k) := by
  have hRl := k3.2.1
  have htp : τ p = gm := hM.1
  obtain ⟨τ', σ', i1, i2, i3, i4, i5, i6⟩ := kl_remove (ρ := ρ) (gl := gm + 1) (rem := rem) (p := p) (m := m) (x := x) (l := l) (q := q) (b := b) (by omega) R [] ρ.2 (n + (12 - R.length)) τ σ (by omega) hw (hg.le (by omega)) (by simpa using k2) (by omega) (by omega) k1 fun a ha => by
    obtain ⟨j, hj⟩ := List.getElem?_of_mem ha
    have hjl := (List.getElem?_eq_some_iff.mp hj).1
    obtain ⟨t1, w, t2⟩ := k4 j a _ hj (List.getElem?_eq_getElem (hRl ▸ hjl))
    exact ⟨t1, w, _, t2⟩
  have hRn := reqs_nodup k3 hnd hL
  rw [filt_erase R k rem hRn hk, List.nil_append] at i6
  have hpl := hw.1.lt k1
  have kp' : σ'.2.2 p = some (true, mcell m x l q b) := by rw [i2.keep hpl (by show ¬ τ p = _; omega)]; exact k1
  have hkl : k < R.length := (List.getElem?_eq_some_iff.mp hk).1
  have kk : ∀ gl, gl ≠ 0 → gl ≠ gm + 1 → zo_k (fun t => t = gl) τ σ τ' σ' := fun gl h1 h2 b hb => ⟨i4 b (by rw [hb]; exact h1), i2.keep (hw.lt (by rw [hb]; exact h1)) (by show ¬ τ b = _; rw [hb]; exact h2)⟩
  obtain ⟨h0, l', q', b', R', K', j1, j2, j3, j4, j5, j6, j7, j8⟩ := hM
  have ell : l' = l ∧ q' = q ∧ b' = b := by
    rw [k1] at j1
    simp only [mcell, Option.some.injEq, Prod.mk.injEq, Sum.inr.injEq, List.cons.injEq, Value.ref.injEq] at j1
    obtain ⟨-, -, -, -, e1, e2, e3, -⟩ := j1
    exact ⟨e1.symm, e2.symm, e3.symm⟩
  obtain ⟨rfl, rfl, rfl⟩ := ell
  refine ⟨τ', σ', ?_, i2.mono (fun b _ hb => by have hb : τ b = gm + 1 := hb; omega) (by omega), i3, i4, i5, ⟨(i4 p (by omega)).trans htp, l', q', b', R.eraseIdx k, K', kp', i6, j3.keep (kk (gm + 2) (by omega) (by omega)) rfl, j4.keep (kk (gm + 3) (by omega) (by omega)) rfl, ?_, fun i z r hz hr => ?_, j7, fun i z kc hz hkc => (j8 i z kc hz hkc).keep (kk 1 (by omega) (by omega)) rfl⟩, kp', i6⟩
  · unfold zF_X6_remove
    rw [zp_gR k1 (k := 2) (v := some l') rfl, Option.bind_some, k2.ck, k2.size, cc_I]
    exact i1
  · rw [List.length_eraseIdx_of_lt hkl, List.length_eraseIdx_of_lt (by omega), hRl]
  · rw [List.getElem?_eraseIdx] at hz
    have hr : (x.2.1.eraseIdx k)[i]? = some r := hr
    rw [List.getElem?_eraseIdx] at hr
    by_cases hik : i < k
    · rw [if_pos hik] at hz hr
      exact (k4 i z r hz hr).keep (kk 1 (by omega) (by omega)) rfl
    · rw [if_neg hik] at hz hr
      exact (k4 (i + 1) z r hz hr).keep (kk 1 (by omega) (by omega)) rfl
theorem rMo.al {fr : List pa_F} {g p m : Nat} {x : pa_Mo} (h : rMo τ σ fr g p m x) (hg0 : g ≠ 0) (hw : zo_wf τ σ) {k : Nat} {σ' : zz_S} (hl : zp_le zp_no k σ σ') : rMo τ σ' fr g p m x :=
  h.keep (G := fun t => t ≠ 0) (zo_k.of_le hw hl (by simp) fun _ hm => hm.elim) (by simp) (fun t h1 _ => by omega)
theorem rL.al {g l : Nat} {X : List Nat} (h : rL τ σ g l X) (hg0 : g ≠ 0) (hw : zo_wf τ σ) {k : Nat} {σ' : zz_S} (hl : zp_le zp_no k σ σ') : rL τ σ' g l X :=
  h.keep (G := fun t => t ≠ 0) (zo_k.of_le hw hl (by simp) fun _ hm => hm.elim) hg0
theorem kReqs.al {l : Nat} {N R : List Nat} {L : List pa_R} (h : kReqs σ.1.1 σ l N R L) {k : Nat} {σ' : zz_S} (hl : zp_le zp_no k σ σ') : kReqs σ'.1.1 σ' l N R L := by
  have h' := h.same (hl.same (Nat.le_refl _) fun _ _ h => h)
  obtain ⟨h1, h2, h3, h4, h5⟩ := h'
  have := hl.2.1
  exact ⟨h1, h2, by omega, fun n hn => by have := h4 n hn; omega, fun j a r ha hr => ⟨by have := (h5 j a r ha hr).1; omega, (h5 j a r ha hr).2⟩⟩
theorem kCros.al {fr : List pa_F} {l : Nat} {N R : List Nat} {L : List pa_K} (h : kCros σ.1.1 σ fr l N R L) {k : Nat} {σ' : zz_S} (hl : zp_le zp_no k σ σ') : kCros σ'.1.1 σ' fr l N R L := by
  have h' := h.same (hl.same (Nat.le_refl _) fun _ _ h => h)
  obtain ⟨h1, h2, h3, h4, h5⟩ := h'
  have := hl.2.1
  exact ⟨h1, h2, by omega, fun n hn => by have := h4 n hn; omega, fun j a r ha hr => ⟨by have := (h5 j a r ha hr).1; omega, (h5 j a r ha hr).2⟩⟩
theorem rReq.al {p : Nat} {r : pa_R} (h : rReq τ σ p r) (hw : zo_wf τ σ) {k : Nat} {σ' : zz_S} (hl : zp_le zp_no k σ σ') : rReq τ σ' p r :=
  h.keep (G := fun t => t ≠ 0) (zo_k.of_le hw hl (by simp) fun _ hm => hm.elim) (by simp)
theorem kc_strike {g a n c : Nat} {A : pa_A} (x y : Int32) (h : rAs τ σ g a A) (hok : pa_ok A c) (hc : c ≤ 1000) (hg2 : 1000 ≤ g) (hw : zo_wf τ σ) (hg : zp_gas (n + 13) σ) (hfu : 100 ≤ ρ.2) : cO [122, 119] τ σ g a (pa_strike x y A) 13 (zF_X2_strike ρ a x y σ) := by
  have ho := hok.w hc
  have hA := h
  obtain ⟨af, ac, am, F, C, Mo, hX⟩ := h
  unfold zF_X2_strike pa_strike
  rw [hA.ck]
  refine kc_both (n := n + 12) x y hX ho rfl hg (by decide) _ (fun v4 v9 σ10 => (zz_gI σ10 v9 5 0).bind fun v11 =>
      zz_ck σ10 v4 6 fun a12 =>
      zz_cR (zF_X6_requestOf ρ a12 v11 σ10) (fun v15 σ16 =>
        zz_nul v15 (
          zz_cV (zF_X1_checkElement ρ (0 : Int32) σ16) (fun σ21 =>
            zz_ck σ21 v4 6 fun a22 =>
            zz_cV (zF_X6_remove ρ a22 v15 σ21) (fun σ26 =>
              (zz_gR σ26 v4 6 2).bind fun v27 =>
              zz_ck σ26 v27 140 fun a28 =>
              zz_cI (zF_J40_size ρ a28 σ26) (fun v31 σ32 =>
                zz_rI v31 σ32) zz_P) zz_P) zz_P
        ) fun _ =>
        zz_cV (zF_X1_checkElement ρ (1 : Int32) σ16) (fun σ36 =>
          zz_ck σ36 v4 6 fun a37 =>
          zz_cV (zF_X6_remove ρ a37 v15 σ36) (fun σ41 =>
            (zz_gR σ41 v4 6 2).bind fun v42 =>
            zz_ck σ41 v42 140 fun a43 =>
            zz_cI (zF_J40_size ρ a43 σ41) (fun v46 σ47 =>
              zz_rI v46 σ47) zz_P) zz_P) zz_P) zz_P) ?_
  intro m f p r hm hf ex ey hp hM hr ht hcell
  subst ey
  have hMo := hok.mo hm
  have h12 := ho.1
  have h6 := ho.2.2.1
  have hlist := hMo.list
  obtain ⟨l, q, b, N, R, k1, k2, k3, k4⟩ := hM.reqs hw
  have hf100 := (hMo.f100 h12).1
  have hpl : p < σ.1.1 := hw.1.lt k1
  dsimp only
  obtain ⟨σ1, s1, s2⟩ := kc_requestOf (ρ := ρ) (f := f) (n := n + 12) k1 k3 (by omega) hf100 hw.1 hg hfu (by omega)
  have g1 : zp_gas (n + 12) σ1 := s2.gas (n := n + 12) hg
  have hw1 := hw.le s2
  rw [kf_num hcell, Option.bind_some, zp_ck k1, s1, cc_R]
  show cO _ τ σ g a (match pa_place (pa_mot A m).2.1 f with | none => .inr 2 | some k => .inl ((pa_mot A m).2.1.length - 1, pa_setM A m ((pa_mot A m).1, (pa_mot A m).2.1.eraseIdx k, (pa_mot A m).2.2))) 13 _
  cases c4 : pa_place (pa_mot A m).2.1 f with
  | none =>
    show zthr (zz_nul none _ _) 119 13 σ
    rw [cn_none]
    exact ((jk_elem_no (g := n + 11) g1).cV.after s2).mono (by omega)
  | some k =>
    have hk : k < (pa_mot A m).2.1.length := by
      unfold pa_place at c4
      exact (List.findIdx?_eq_some_iff_getElem.mp c4).1
    obtain ⟨rem, hrem⟩ : ∃ rem, R[k]? = some rem := ⟨_, List.getElem?_eq_getElem (by rw [k3.2.1]; exact hk)⟩
    have k1' : σ1.2.2 p = some (true, mcell m (pa_mot A m) l q b) := by rw [s2.keep hpl (fun h => h)]; exact k1
    obtain ⟨τ', σ', i1, i2, i3, i4, i5, i6, i7, i8⟩ := kc_remove (ρ := ρ) (n := n) (k := k) (rem := rem) (hM.al (by omega) hw s2) hw1 g1 hfu (by omega) (by omega) hMo.2.2.2.2.2.2.2.2.1 hf100 k1' (k2.al (by omega) hw s2) (k3.al s2) (fun j a r ha hr => (k4 j a r ha hr).al hw s2) hrem
    show cO _ τ σ g a (.inl _) 13 (zz_nul (R[k]?) _ _)
    rw [hrem, cn_some, jk_elem_yes, cc_V, zp_ck k1']
    show cO _ τ σ g a (.inl _) 13 (zz_cV (zF_X6_remove ρ p (R[k]?) σ1) _ _)
    have hX1 := hX.al ho (by omega) hw s2
    have hfin := hX1.setM ho hg2 hp ((zo_k.own hw1 i2 i4).mono fun t ht => ⟨ht.1, by omega⟩) i6
    rw [hrem, i1, cc_V, zp_gR i7 (k := 2) (v := some l) rfl, Option.bind_some, i8.ck, i8.size, cc_I, List.length_eraseIdx_of_lt (by rw [k3.2.1]; exact hk), k3.2.1]
    refine ⟨τ', σ', rfl, ((s2.none (M := fun b => g ≤ τ b ∧ τ b < g + 200) (Nat.le_refl 1)).trans i2 fun b _ hb => ⟨by omega, by omega⟩).mono (fun _ _ h => h) (by omega), i3, ⟨i4, fun T h1 h2 h3 b => ?_⟩, af, ac, am, F, C, Mo, hfin⟩
    rcases i5 b with h | h
    · rw [h]; exact h3 b
    · omega
end CT
