/-! ===== THE COMPONENT's OPERATIONS: frogs and pads ===== -/
section CO
variable {ρ : zz_C} {σ : zz_S} {τ : Nat → Nat}
theorem zp_gas.le {m n : Nat} (h : zp_gas n σ) (hm : m ≤ n) : zp_gas m σ := ⟨by have := h.1; omega, by have := h.2; omega⟩
/-- tags are kept where there are any; new ones stay below T -/
def zo_g (g : Nat) (τ τ' : Nat → Nat) : Prop := (∀ b, τ b ≠ 0 → τ' b = τ b) ∧ ∀ T, g + 200 ≤ T → 1 < T → (∀ b, τ b < T) → ∀ b, τ' b < T
theorem zo_g.refl (g : Nat) (τ : Nat → Nat) : zo_g g τ τ := ⟨fun _ _ => rfl, fun _ _ _ h => h⟩
theorem zo_g.trans {g : Nat} {τ τ1 τ2 : Nat → Nat} (h : zo_g g τ τ1) (h' : zo_g g τ1 τ2) : zo_g g τ τ2 := ⟨fun b hb => by rw [h'.1 b (by rw [h.1 b hb]; exact hb), h.1 b hb], fun T h1 h2 h3 => h'.2 T h1 h2 (h.2 T h1 h2 h3)⟩
theorem zo_g.tg {g n t : Nat} (hn : τ n = 0) (ht : t = 1 ∨ (g ≤ t ∧ t < g + 200)) : zo_g g τ (zo_tg τ n t) := by
  refine ⟨fun b hb => zo_tg_ne fun h => hb (h ▸ hn), fun T h1 h2 h3 b => ?_⟩
  by_cases hb : b = n
  · rw [hb, zo_tg_at]; omega
  · rw [zo_tg_ne hb]; exact h3 b
/-- the class of the exception of a failing check -/
def kcls (L : List Nat) (p : Nat) : Nat := L[p - 1]?.getD 0
def cO (L : List Nat) (τ : Nat → Nat) (σ : zz_S) (g a : Nat) (o : pa_O) (k : Nat) (F : zz_R) : Prop := match o with
  | .inl (v, A') => ∃ τ' σ', F = zz_rI (.ofNat v) σ' ∧ zp_le (fun b => g ≤ τ b ∧ τ b < g + 200) k σ σ' ∧ zo_wf τ' σ' ∧ zo_g g τ τ' ∧ rAs τ' σ' g a A'
  | .inr p => zthr F (kcls L p) k σ
theorem rMo.fr {fr fr' : List pa_F} {g p m : Nat} {x : pa_Mo} (h : rMo τ σ fr g p m x) (hf : ∀ k, k ∈ x.2.2 → (fr'[k.1]?.getD (0, 1, 0, 0)).1 = (fr[k.1]?.getD (0, 1, 0, 0)).1 ∧ (fr'[k.1]?.getD (0, 1, 0, 0)).2.1 = (fr[k.1]?.getD (0, 1, 0, 0)).2.1) : rMo τ σ fr' g p m x := by
  obtain ⟨k0, l, q, b, R, K, k1, k2, k3, k4, k5, k6, k7, k8⟩ := h
  refine ⟨k0, l, q, b, R, K, k1, k2, k3, k4, k5, k6, k7, fun j a k ha hk => ?_⟩
  obtain ⟨t1, w, t2⟩ := k8 j a k ha hk
  obtain ⟨e1, e2⟩ := hf k (List.mem_of_getElem? hk)
  exact ⟨t1, w, by rw [e1, e2]; exact t2⟩
/-- a frog's cell is written -/
theorem rAx.setF {g a : Nat} {A : pa_A} {af ac am : Nat} {F C Mo : List Nat} (h : rAx τ σ g a A af ac am F C Mo) (h12 : A.1.length ≤ 12) (h6 : A.2.2.1.length ≤ 6) {f p : Nat} {y : pa_F} (hp : F[f]? = some p) (hy : y.1 = (pa_frog A f).1 ∧ y.2.1 = (pa_frog A f).2.1) :
    rAx τ (zz_set σ p (fcell f y)) g a (pa_setF A f y) af ac am F C Mo := by
  obtain ⟨k0, k1, ⟨k2, k3, k4⟩, ⟨k5, k6, k7⟩, k8, k9, k10⟩ := h
  have hf : f < A.1.length := k3 ▸ (List.getElem?_eq_some_iff.mp hp).1
  obtain ⟨t1, t2⟩ := k4 f p _ hp (pa_frog_eq hf)
  have hk : zo_k (fun t => t ≠ g + 10 + f) τ σ τ (zz_set σ p (fcell f y)) := fun b hb => ⟨rfl, zp_set_old fun he => hb (he ▸ t1)⟩
  refine ⟨k0, (hk a (by show τ a ≠ _; omega)).2.trans k1, ⟨k2.keep hk (by show g + 1 ≠ _; omega), by simpa [pa_setF] using k3, fun k q x hq hx => ?_⟩, ⟨k5.keep hk (by show g + 2 ≠ _; omega), k6, fun k q r hq hr => ?_⟩, k8.keep hk (by show g + 3 ≠ _; omega), k9, fun m q x hq hx => ?_⟩
  · by_cases hkf : k = f
    · subst hkf
      have e1 : q = p := by rw [hp] at hq; exact (Option.some.inj hq).symm
      have e2 : x = y := by simp [pa_setF, hf] at hx; exact hx.symm
      subst e1 e2
      exact ⟨t1, zp_set_at⟩
    · have hx' : A.1[k]? = some x := by simpa [pa_setF, List.getElem?_set, Ne.symm hkf] using hx
      obtain ⟨s1, s2⟩ := k4 k q x hq hx'
      exact ⟨s1, (zp_set_old fun he => hkf (by rw [he] at s1; omega)).trans s2⟩
  · obtain ⟨s1, w, s2⟩ := k7 k q r hq hr
    by_cases hqp : q = p
    · rw [hqp, t2] at s2
      cases s2
    · exact ⟨s1, w, (zp_set_old hqp).trans s2⟩
  · have hm := (List.getElem?_eq_some_iff.mp hx).1
    have hmo := k10 m q x hq hx
    have h1' : (1 : Nat) ≠ g + 10 + f ∨ (1 : Nat) = g + 10 + f := by omega
    rcases h1' with h1' | h1'
    · have := hmo.keep hk h1' (fun t g1 g2 => by show t ≠ _; omega)
      refine this.fr fun k hk => ?_
      by_cases hkf : k.1 = f
      · rw [hkf]
        simp only [pa_setF, List.getElem?_set_self hf, Option.getD_some]
        exact hy
      · simp [pa_setF, List.getElem?_set, Ne.symm hkf]
    · omega
theorem kc_dive {g a n : Nat} {A : pa_A} (x : Int32) (h : rAs τ σ g a A) (ho : pw A) (hg0 : g ≠ 0) (hw : zo_wf τ σ) (hg : zp_gas (n + 1) σ) : cO [122, 138] τ σ g a (pa_dive x A) 1 (zF_X2_dive ρ a x σ) := by
  unfold zF_X2_dive pa_dive
  rw [h.ck]
  cases hx : pd x 0 A.1.length with
  | none => exact (ka_frog_no h ho.1 hx hg).cR
  | some f =>
    obtain ⟨-, hf, rfl⟩ := pd_some hx
    obtain ⟨af, ac, am, F, C, Mo, hX⟩ := h
    obtain ⟨p, e1, e2, e3, e4⟩ := kx_frog_yes (ρ := ρ) hX ho.1 hf
    show cO _ τ σ g a (if _ then .inr 2 else _) 1 _
    rw [e1, cc_R, kf_ck e4, kf_sits e4 (ho.fr hf).2.2.1, cc_I]
    by_cases h0 : (pa_frog A f).2.2.1 = 0
    · rw [if_pos h0, if_pos h0]; exact (jk_state_no hg).cV
    · rw [if_neg h0, if_neg h0, jk_state_yes, cc_V, kf_pad e4, Option.bind_some, zq_pf (N := 5) e4 rfl (fs' := [.int (.ofNat f), .int (.ofNat (pa_frog A f).1), .int (.ofNat (pa_frog A f).2.1), .int (-1), .int (.ofNat (pa_frog A f).2.2.2)]) rfl, Option.bind_some, show (1 : Int32) = Int32.ofNat 1 from rfl, ci_sub (by omega)]
      have hpl := hw.1.lt e4
      refine ⟨τ, _, rfl, zp_set_le hpl ⟨by omega, by have := ho.1; omega⟩ |>.mono (fun _ _ h => h) (by omega), hw.le (M := fun b => b = p) (k := 0) (zp_set_le hpl rfl), zo_g.refl _ _, af, ac, am, F, C, Mo, ?_⟩
      exact hX.setF ho.1 ho.2.2.1 (y := ((pa_frog A f).1, (pa_frog A f).2.1, 0, (pa_frog A f).2.2.2)) e2 ⟨rfl, rfl⟩
theorem kc_get_cap {g a p : Nat} {A : pa_A} (h : rAs τ σ g a A) (h6 : A.2.1.length ≤ 6) (hp : p < A.2.1.length) :
    ∃ ac q, zz_gR σ (some a) 2 1 = some (some ac) ∧ (∀ K, zz_ck σ (some ac) 102 K = K ac) ∧ zF_J2_get ρ ac (.ofNat p) σ = zz_rR (some q) σ ∧ cInt σ q (.ofNat (A.2.1[p]?.getD 0)) := by
  obtain ⟨af, ac, am, F, C, Mo, k0, k1, -, ⟨⟨e, k2, k2', k3⟩, k4, k5⟩, -⟩ := h
  obtain ⟨q, hq⟩ : ∃ q, C[p]? = some q := ⟨_, List.getElem?_eq_getElem (k4 ▸ hp : p < C.length)⟩
  have hr := List.getElem?_eq_getElem hp
  obtain ⟨t1, t2⟩ := k5 p q _ hq hr
  refine ⟨ac, q, zp_gR k1 rfl, fun K => ja_ck k3, ja_get k3 hq, ?_⟩
  rw [hr]; exact t2
theorem kc_hop {g a n : Nat} {A : pa_A} (x y : Int32) (h : rAs τ σ g a A) (ho : pw A) (hon : ∀ p, pa_on A p ≤ A.2.1[p]?.getD 0) (hg0 : g ≠ 0) (hw : zo_wf τ σ) (hg : zp_gas (n + 10) σ) (hf : 100 ≤ ρ.2) : cO [122, 138] τ σ g a (pa_hop x y A) 10 (zF_X2_hop ρ a x y σ) := by
  unfold zF_X2_hop pa_hop
  rw [h.ck]
  cases hx : pd x 0 A.1.length with
  | none => exact ((ka_frog_no (n := n + 9) h ho.1 hx hg).mono (by omega)).cR
  | some f =>
    obtain ⟨-, hf1, rfl⟩ := pd_some hx
    have h0 := h
    obtain ⟨af, ac, am, F, C, Mo, hX⟩ := h
    obtain ⟨p, e1, e2, e3, e4⟩ := kx_frog_yes (ρ := ρ) hX ho.1 hf1
    rw [e1, cc_R, h0.ck]
    cases hy : pd y 0 A.2.1.length with
    | none => exact ((ka_pad_no (n := n + 9) h0 ho.2.1 hy hg).mono (by omega)).cI
    | some d =>
      obtain ⟨-, hd, rfl⟩ := pd_some hy
      have h6 := ho.2.1
      have h12 := ho.1
      have hs := (ho.fr hf1).2.2.1
      show cO _ τ σ g a (if _ ∨ _ then .inr 2 else _) 10 _
      rw [ka_pad_yes h0 h6 hd, cc_I, kf_pad e4, Option.bind_some]
      -- the hop itself, from a state that is as σ
      have fin : ∀ (σ1 : zz_S) (j : Nat), j ≤ 6 → zp_le zp_no j σ σ1 → pa_on A d ≠ A.2.1[d]?.getD 0 → (pa_frog A f).2.2.1 ≠ d + 1 →
          cO [122, 138] τ σ g a (.inl (pa_on (pa_setF A f ((pa_frog A f).1, (pa_frog A f).2.1, d + 1, (pa_frog A f).2.2.2)) d, pa_setF A f ((pa_frog A f).1, (pa_frog A f).2.1, d + 1, (pa_frog A f).2.2.2))) 10
            ((zz_pf σ1 (some p) 5 5 3 (.int (.ofNat d))).bind fun σ32 => zz_ck σ32 (some a) 2 fun a33 => zz_cI (zF_X2_frogsOn ρ a33 (.ofNat d) σ32) (fun v36 σ37 => zz_rI v36 σ37) zz_P) := by
        intro σ1 j hj l1 hn1 hn2
        have hX1 : rAx τ σ1 g a A af ac am F C Mo := hX.keep (G := fun t => t ≠ 0) (zo_k.of_le hw l1 (by simp) fun _ hm => hm.elim) (by simp) (fun t h1 _ => by omega) h12 ho.2.2.1
        have e5 : σ1.2.2 p = some (true, fcell f (pa_frog A f)) := by rw [l1.keep (hw.1.lt e4) (fun h => h)]; exact e4
        have hd1 : Int32.ofNat d = Int32.ofNat (d + 1) - 1 := by rw [← ci_succ]; simp
        have ew : zz_pf σ1 (some p) 5 5 3 (.int (.ofNat d)) = some (zz_set σ1 p (fcell f ((pa_frog A f).1, (pa_frog A f).2.1, d + 1, (pa_frog A f).2.2.2))) := zq_pf (N := 5) e5 rfl (by rw [hd1]; rfl)
        rw [ew, Option.bind_some]
        have hw1 := hw.le l1
        have hpl : p < σ1.1.1 := hw1.1.lt e5
        have hX2 := hX1.setF h12 ho.2.2.1 (y := ((pa_frog A f).1, (pa_frog A f).2.1, d + 1, (pa_frog A f).2.2.2)) e2 ⟨rfl, rfl⟩
        have l2 : zp_le (fun b => b = p) 0 σ1 (zz_set σ1 p (fcell f ((pa_frog A f).1, (pa_frog A f).2.1, d + 1, (pa_frog A f).2.2.2))) := zp_set_le hpl rfl
        have hw2 := hw1.le l2
        have ho2 : pw (pa_setF A f ((pa_frog A f).1, (pa_frog A f).2.1, d + 1, (pa_frog A f).2.2.2)) := ho.setF ⟨(ho.fr hf1).1, (ho.fr hf1).2.1, by show d + 1 ≤ 6; omega, (ho.fr hf1).2.2.2⟩
        have hA2 : rAs τ (zz_set σ1 p (fcell f ((pa_frog A f).1, (pa_frog A f).2.1, d + 1, (pa_frog A f).2.2.2))) g a _ := ⟨af, ac, am, F, C, Mo, hX2⟩
        have g1 : zp_gas (n + 2) σ1 := l1.gas (hg.le (by omega))
        have g2 : zp_gas (n + 2) (zz_set σ1 p (fcell f ((pa_frog A f).1, (pa_frog A f).2.1, d + 1, (pa_frog A f).2.2.2))) := l2.gas (n := n + 2) (k := 0) g1
        obtain ⟨σ3, s1, s2⟩ := kc_frogsOn (ρ := ρ) (n := n) hA2 ho2 hg0 hw2 g2 hf (p := d) (by omega)
        rw [hA2.ck, s1, cc_I]
        have lall : zp_le (fun b => g ≤ τ b ∧ τ b < g + 200) (j + 0 + 2) σ σ3 := ((l1.none (M := fun b => g ≤ τ b ∧ τ b < g + 200) (Nat.le_refl _)).trans l2 (fun b _ hb => by subst hb; omega)).trans s2 (fun _ _ h => h.elim)
        exact ⟨τ, σ3, rfl, lall.mono (fun _ _ h => h) (by omega), hw2.le s2, zo_g.refl _ _, hA2.al (by simpa [pa_setF] using h12) ho.2.2.1 hg0 hw2 s2⟩
      have bad : ∀ (σ1 : zz_S) (j : Nat) (K : zz_S → zz_R), j ≤ 6 → zp_le zp_no j σ σ1 → zthr (zz_cV (zF_X1_checkState ρ 0 σ1) K zz_P) 138 10 σ := fun σ1 j K hj l1 => by
        have g1 : zp_gas (n + 3 + 1) σ1 := l1.gas (hg.le (by omega))
        exact ((jk_state_no g1).cV.after l1).mono (by omega)
      by_cases h3 : (pa_frog A f).2.2.1 = d + 1
      · rw [if_pos (.inl h3), if_pos ((kf_seat hs (by omega)).mpr h3)]
        unfold zJ_X2_hop_50
        exact bad σ 0 _ (by omega) (zp_le.refl _ _ _)
      · obtain ⟨σ1, s1, s2⟩ := kc_frogsOn (ρ := ρ) (n := n + 8) h0 ho hg0 hw hg hf (p := d) (by omega)
        have h1 := h0.al h12 ho.2.2.1 hg0 hw s2
        obtain ⟨ac', q, c1, c2, c3, c4⟩ := kc_get_cap (ρ := ρ) h1 h6 hd
        have hrm : A.2.1[d]?.getD 0 < 5 := by rw [List.getElem?_eq_getElem hd]; exact ho.2.2.2.2.1 _ (List.getElem_mem hd)
        have hon' := hon d
        rw [if_neg (show ¬ (Int32.ofNat (pa_frog A f).2.2.1 - 1 = Int32.ofNat d) from fun hh => h3 ((kf_seat hs (by omega)).mp hh)), h0.ck, s1, cc_I, c1, Option.bind_some, c2, c3, cc_R, if_neg (show ¬ ¬ (zz_ok σ1 (some q) [117] = true) from fun hh => hh c4.cast), c4.ck, ji_intValue c4, cc_I]
        by_cases h4 : pa_on A d = A.2.1[d]?.getD 0
        · rw [if_pos (.inr h4), if_pos ((ci_le (by omega) (by omega)).mpr (by omega))]
          unfold zJ_X2_hop_50
          exact bad σ1 2 _ (by omega) s2
        · rw [if_neg (show ¬ (_ ∨ _) from fun hh => hh.elim h3 h4), if_neg (show ¬ (Int32.ofNat (A.2.1[d]?.getD 0) ≤ Int32.ofNat (pa_on A d)) from fun hh => by have := (ci_le (by omega) (by omega)).mp hh; omega), jk_state_yes, cc_V]
          exact fin σ1 2 (by omega) s2 h4 h3
end CO
