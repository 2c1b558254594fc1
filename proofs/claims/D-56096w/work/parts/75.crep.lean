/-! ===== THE COMPONENT's CELLS: pictures with owners ===== -/
section CR
variable {ρ : zz_C} {σ σ' : zz_S} {τ τ' : Nat → Nat}
def rA (τ : Nat → Nat) (σ : zz_S) (g a cap : Nat) (X : List Nat) : Prop := ∃ e, τ a = g ∧ τ e = g ∧ cA σ a e cap X
def rL (τ : Nat → Nat) (σ : zz_S) (g l : Nat) (X : List Nat) : Prop := ∃ N, τ l = g ∧ (∀ n, n ∈ N → τ n = g) ∧ cL σ l N X
def rB (τ : Nat → Nat) (σ : zz_S) (g b n : Nat) : Prop := ∃ w, τ b = g ∧ τ w = g ∧ cB σ b w n
def fcell (k : Nat) (x : pa_F) : zz_E := .inr (5, [.int (.ofNat k), .int (.ofNat x.1), .int (.ofNat x.2.1), .int (.ofNat x.2.2.1 - 1), .int (.ofNat x.2.2.2)])
def rReq (τ : Nat → Nat) (σ : zz_S) (p : Nat) (r : pa_R) : Prop := τ p = 1 ∧ ∃ w, σ.2.2 p = some (w, .inr (7, [.int (.ofNat r.1), .int (.ofNat r.2)]))
def rCro (τ : Nat → Nat) (σ : zz_S) (fr : List pa_F) (p : Nat) (k : pa_K) : Prop := τ p = 1 ∧ ∃ w, σ.2.2 p = some (w, .inr (8, [.int (.ofNat k.1), .int (.ofNat (fr[k.1]?.getD (0, 1, 0, 0)).1), .int (.ofNat (k.2.1 * (fr[k.1]?.getD (0, 1, 0, 0)).2.1)), .int (.ofNat k.2.2)]))
def mcell (m : Nat) (x : pa_Mo) (l q b : Nat) : zz_E := .inr (6, [.int (.ofNat m), .int (.ofNat x.1.1), .ref l, .ref q, .ref b, .int (.ofNat x.1.2.2.2.2.1), .int (.ofNat x.1.2.2.2.2.2), .int (.ofNat x.1.2.2.1), .int (.ofNat x.1.2.1)])
def rMo (τ : Nat → Nat) (σ : zz_S) (fr : List pa_F) (g p m : Nat) (x : pa_Mo) : Prop := τ p = g ∧ ∃ (l q b : Nat) (R K : List Nat), σ.2.2 p = some (true, mcell m x l q b) ∧
  rL τ σ (g + 1) l R ∧ rL τ σ (g + 2) q K ∧ rB τ σ (g + 3) b x.1.2.2.2.1 ∧
  R.length = x.2.1.length ∧ (∀ (j a : Nat) (r : pa_R), R[j]? = some a → x.2.1[j]? = some r → rReq τ σ a r) ∧
  K.length = x.2.2.length ∧ ∀ (j a : Nat) (k : pa_K), K[j]? = some a → x.2.2[j]? = some k → rCro τ σ fr a k
/-- an assembly at a: its lists, their elements -/
def rAx (τ : Nat → Nat) (σ : zz_S) (g a : Nat) (A : pa_A) (af ac am : Nat) (F C Mo : List Nat) : Prop := τ a = g ∧
  σ.2.2 a = some (true, .inr (2, [.ref af, .ref ac, .ref am, .int (.ofNat A.2.2.2.1), .int (.ofNat A.2.2.2.2)])) ∧
  (rA τ σ (g + 1) af 12 F ∧ F.length = A.1.length ∧ ∀ (k p : Nat) (x : pa_F), F[k]? = some p → A.1[k]? = some x → τ p = g + 10 + k ∧ σ.2.2 p = some (true, fcell k x)) ∧
  (rA τ σ (g + 2) ac 6 C ∧ C.length = A.2.1.length ∧ ∀ (k p r : Nat), C[k]? = some p → A.2.1[k]? = some r → τ p = 1 ∧ cInt σ p (.ofNat r)) ∧
  (rA τ σ (g + 3) am 6 Mo ∧ Mo.length = A.2.2.1.length ∧ ∀ (m p : Nat) (x : pa_Mo), Mo[m]? = some p → A.2.2.1[m]? = some x → rMo τ σ A.1 (g + 100 + 10 * m) p m x)
def rAs (τ : Nat → Nat) (σ : zz_S) (g a : Nat) (A : pa_A) : Prop := ∃ (af ac am : Nat) (F C Mo : List Nat), rAx τ σ g a A af ac am F C Mo
/-! pictures are kept where their owners' cells are -/
theorem rA.keep {G : Nat → Prop} (h : zo_k G τ σ τ' σ') {g a cap : Nat} {X : List Nat} (hg : G g) (hr : rA τ σ g a cap X) : rA τ' σ' g a cap X := by
  obtain ⟨e, h1, h2, h3⟩ := hr
  have k1 := h a (by rw [h1]; exact hg)
  have k2 := h e (by rw [h2]; exact hg)
  exact ⟨e, k1.1.trans h1, k2.1.trans h2, h3.keep k1.2 k2.2⟩
theorem rL.keep {G : Nat → Prop} (h : zo_k G τ σ τ' σ') {g l : Nat} {X : List Nat} (hg : G g) (hr : rL τ σ g l X) : rL τ' σ' g l X := by
  obtain ⟨N, h1, h2, h3⟩ := hr
  have k1 := h l (by rw [h1]; exact hg)
  have k2 := fun n hn => h n (by rw [h2 n hn]; exact hg)
  exact ⟨N, k1.1.trans h1, fun n hn => (k2 n hn).1.trans (h2 n hn), h3.keep k1.2 fun n hn => (k2 n hn).2⟩
theorem rB.keep {G : Nat → Prop} (h : zo_k G τ σ τ' σ') {g b n : Nat} (hg : G g) (hr : rB τ σ g b n) : rB τ' σ' g b n := by
  obtain ⟨w, h1, h2, h3⟩ := hr
  have k1 := h b (by rw [h1]; exact hg)
  have k2 := h w (by rw [h2]; exact hg)
  exact ⟨w, k1.1.trans h1, k2.1.trans h2, h3.keep k1.2 k2.2⟩
theorem rReq.keep {G : Nat → Prop} (h : zo_k G τ σ τ' σ') {p : Nat} {r : pa_R} (hg : G 1) (hr : rReq τ σ p r) : rReq τ' σ' p r := by
  obtain ⟨h1, w, h2⟩ := hr
  have k1 := h p (by rw [h1]; exact hg)
  exact ⟨k1.1.trans h1, w, k1.2.trans h2⟩
theorem rCro.keep {G : Nat → Prop} (h : zo_k G τ σ τ' σ') {p : Nat} {fr : List pa_F} {r : pa_K} (hg : G 1) (hr : rCro τ σ fr p r) : rCro τ' σ' fr p r := by
  obtain ⟨h1, w, h2⟩ := hr
  have k1 := h p (by rw [h1]; exact hg)
  exact ⟨k1.1.trans h1, w, k1.2.trans h2⟩
theorem rMo.keep {G : Nat → Prop} (h : zo_k G τ σ τ' σ') {fr : List pa_F} {g p m : Nat} {x : pa_Mo} (h1 : G 1) (hg : ∀ t, g ≤ t → t < g + 4 → G t) (hr : rMo τ σ fr g p m x) : rMo τ' σ' fr g p m x := by
  obtain ⟨k0, l, q, b, R, K, k1, k2, k3, k4, k5, k6, k7, k8⟩ := hr
  have kp := h p (by rw [k0]; exact hg g (Nat.le_refl _) (by omega))
  exact ⟨kp.1.trans k0, l, q, b, R, K, kp.2.trans k1, k2.keep h (hg _ (by omega) (by omega)), k3.keep h (hg _ (by omega) (by omega)), k4.keep h (hg _ (by omega) (by omega)), k5, fun j a r ha hr => (k6 j a r ha hr).keep h h1, k7, fun j a r ha hr => (k8 j a r ha hr).keep h h1⟩
theorem rAx.keep {G : Nat → Prop} (h : zo_k G τ σ τ' σ') {g a : Nat} {A : pa_A} {af ac am : Nat} {F C Mo : List Nat} (h1 : G 1) (hg : ∀ t, g ≤ t → t < g + 200 → G t) (h12 : A.1.length ≤ 12) (h6 : A.2.2.1.length ≤ 6) (hr : rAx τ σ g a A af ac am F C Mo) : rAx τ' σ' g a A af ac am F C Mo := by
  obtain ⟨k0, k1, ⟨k2, k3, k4⟩, ⟨k5, k6, k7⟩, k8, k9, k10⟩ := hr
  have ka := h a (by rw [k0]; exact hg g (Nat.le_refl _) (by omega))
  refine ⟨ka.1.trans k0, ka.2.trans k1, ⟨k2.keep h (hg _ (by omega) (by omega)), k3, fun k p x hp hx => ?_⟩, ⟨k5.keep h (hg _ (by omega) (by omega)), k6, fun k p r hp hr => ?_⟩, k8.keep h (hg _ (by omega) (by omega)), k9, fun m p x hp hx => ?_⟩
  · obtain ⟨t1, t2⟩ := k4 k p x hp hx
    have hk := (List.getElem?_eq_some_iff.mp hx).1
    have kp := h p (by rw [t1]; exact hg _ (by omega) (by omega))
    exact ⟨kp.1.trans t1, kp.2.trans t2⟩
  · obtain ⟨t1, w, t2⟩ := k7 k p r hp hr
    have kp := h p (by rw [t1]; exact h1)
    exact ⟨kp.1.trans t1, w, kp.2.trans t2⟩
  · have hm := (List.getElem?_eq_some_iff.mp hx).1
    exact (k10 m p x hp hx).keep h h1 fun t g1 g2 => hg t (by omega) (by omega)
theorem rAs.keep {G : Nat → Prop} (h : zo_k G τ σ τ' σ') {g a : Nat} {A : pa_A} (h1 : G 1) (hg : ∀ t, g ≤ t → t < g + 200 → G t) (h12 : A.1.length ≤ 12) (h6 : A.2.2.1.length ≤ 6) (hr : rAs τ σ g a A) : rAs τ' σ' g a A := by
  obtain ⟨af, ac, am, F, C, Mo, hx⟩ := hr
  exact ⟨af, ac, am, F, C, Mo, hx.keep h h1 hg h12 h6⟩
/-- all cells below n0 are as they were -/
def kSame (n0 : Nat) (σ σ1 : zz_S) : Prop := ∀ b, b < n0 → σ1.2.2 b = σ.2.2 b
theorem kSame.k {n0 : Nat} (h : kSame n0 σ σ') (hw : ∀ a, n0 ≤ a → τ a = 0) : zo_k (fun t => t ≠ 0) τ σ τ σ' := fun a ha => by
  refine ⟨rfl, h a ?_⟩
  rcases Nat.lt_or_ge a n0 with h1 | h1
  · exact h1
  · exact absurd (hw a h1) ha
theorem zp_le.same {M : Nat → Prop} {k : Nat} (h : zp_le M k σ σ') {n0 : Nat} (hn : n0 ≤ σ.1.1) (hM : ∀ b, b < n0 → ¬ M b) : kSame n0 σ σ' := fun b hb => h.keep (by omega) (hM b hb)
theorem kSame.trans {n0 : Nat} {σ1 : zz_S} (h : kSame n0 σ σ1) (h' : kSame n0 σ1 σ') : kSame n0 σ σ' := fun b hb => (h' b hb).trans (h b hb)
/-! reading an assembly -/
theorem rAs.ck {g a : Nat} {A : pa_A} {K : Nat → zz_R} (h : rAs τ σ g a A) : zz_ck σ (some a) 2 K = K a := by
  obtain ⟨af, ac, am, F, C, Mo, k0, k1, -⟩ := h
  exact zp_ck k1
theorem kx_frog_yes {g a f : Nat} {A : pa_A} {af ac am : Nat} {F C Mo : List Nat} (h : rAx τ σ g a A af ac am F C Mo) (h12 : A.1.length ≤ 12) (hf : f < A.1.length) :
    ∃ p, zF_X2_frog ρ a (.ofNat f) σ = zz_rR (some p) σ ∧ F[f]? = some p ∧ τ p = g + 10 + f ∧ σ.2.2 p = some (true, fcell f (pa_frog A f)) := by
  obtain ⟨k0, k1, ⟨⟨e, k2, k2', k2''⟩, k3, k4⟩, -⟩ := h
  have hx := pa_frog_eq hf
  obtain ⟨p, hp⟩ : ∃ p, F[f]? = some p := ⟨_, List.getElem?_eq_getElem (k3 ▸ hf : f < F.length)⟩
  obtain ⟨t1, t2⟩ := k4 f _ _ hp hx
  refine ⟨p, ?_, hp, t1, t2⟩
  unfold zF_X2_frog
  have hc : zz_ok σ (some p) [5] = true := by simp [zz_ok, zz_cl, t2, fcell]
  rw [zp_gR k1 (k := 0) (v := some af) rfl, Option.bind_some, ja_ck k2'', ja_size k2'', cc_I, k3, jk_index_yes (by omega) hf, cc_V, zp_gR k1 (k := 0) (v := some af) rfl, Option.bind_some, ja_ck k2'', ja_get k2'' hp, cc_R, if_neg (fun hh => hh hc)]
theorem ka_frog_yes {g a f : Nat} {A : pa_A} (h : rAs τ σ g a A) (h12 : A.1.length ≤ 12) (hf : f < A.1.length) :
    ∃ p, zF_X2_frog ρ a (.ofNat f) σ = zz_rR (some p) σ ∧ τ p = g + 10 + f ∧ σ.2.2 p = some (true, fcell f (pa_frog A f)) := by
  obtain ⟨af, ac, am, F, C, Mo, hx⟩ := h
  obtain ⟨p, h1, -, h2⟩ := kx_frog_yes (ρ := ρ) hx h12 hf
  exact ⟨p, h1, h2⟩
theorem ka_frog_no {g a n : Nat} {x : Int32} {A : pa_A} (h : rAs τ σ g a A) (h12 : A.1.length ≤ 12) (hx : pd x 0 A.1.length = none) (hg : zp_gas (n + 1) σ) : zthr (zF_X2_frog ρ a x σ) 122 1 σ := by
  obtain ⟨af, ac, am, F, C, Mo, k0, k1, ⟨⟨e, k2, k2', k2''⟩, k3, k4⟩, -⟩ := h
  unfold zF_X2_frog
  rw [zp_gR k1 (k := 0) (v := some af) rfl, Option.bind_some, ja_ck k2'', ja_size k2'', cc_I, k3]
  exact (jk_index_no (by omega) hx hg).cV
theorem kx_motion_yes {g a m : Nat} {A : pa_A} {af ac am : Nat} {F C Mo : List Nat} (h : rAx τ σ g a A af ac am F C Mo) (h6 : A.2.2.1.length ≤ 6) (hm : m < A.2.2.1.length) :
    ∃ p, zF_X2_motion ρ a (.ofNat m) σ = zz_rR (some p) σ ∧ Mo[m]? = some p ∧ rMo τ σ A.1 (g + 100 + 10 * m) p m (pa_mot A m) := by
  obtain ⟨k0, k1, -, -, ⟨e, k2, k2', k2''⟩, k3, k4⟩ := h
  have hx := pa_mot_eq hm
  obtain ⟨p, hp⟩ : ∃ p, Mo[m]? = some p := ⟨_, List.getElem?_eq_getElem (k3 ▸ hm : m < Mo.length)⟩
  have t2 := k4 m _ _ hp hx
  refine ⟨p, ?_, hp, t2⟩
  obtain ⟨-, l, q, b, R, K, t3, -⟩ := t2
  unfold zF_X2_motion
  have hc : zz_ok σ (some p) [6] = true := by simp [zz_ok, zz_cl, t3, mcell]
  rw [zp_gR k1 (k := 2) (v := some am) rfl, Option.bind_some, ja_ck k2'', ja_size k2'', cc_I, k3, jk_index_yes (by omega) hm, cc_V, zp_gR k1 (k := 2) (v := some am) rfl, Option.bind_some, ja_ck k2'', ja_get k2'' hp, cc_R, if_neg (fun hh => hh hc)]
theorem ka_motion_yes {g a m : Nat} {A : pa_A} (h : rAs τ σ g a A) (h6 : A.2.2.1.length ≤ 6) (hm : m < A.2.2.1.length) :
    ∃ p, zF_X2_motion ρ a (.ofNat m) σ = zz_rR (some p) σ ∧ rMo τ σ A.1 (g + 100 + 10 * m) p m (pa_mot A m) := by
  obtain ⟨af, ac, am, F, C, Mo, hx⟩ := h
  obtain ⟨p, h1, -, h2⟩ := kx_motion_yes (ρ := ρ) hx h6 hm
  exact ⟨p, h1, h2⟩
theorem ka_motion_no {g a n : Nat} {x : Int32} {A : pa_A} (h : rAs τ σ g a A) (h6 : A.2.2.1.length ≤ 6) (hx : pd x 0 A.2.2.1.length = none) (hg : zp_gas (n + 1) σ) : zthr (zF_X2_motion ρ a x σ) 122 1 σ := by
  obtain ⟨af, ac, am, F, C, Mo, k0, k1, -, -, ⟨e, k2, k2', k2''⟩, k3, k4⟩ := h
  unfold zF_X2_motion
  rw [zp_gR k1 (k := 2) (v := some am) rfl, Option.bind_some, ja_ck k2'', ja_size k2'', cc_I, k3]
  exact (jk_index_no (by omega) hx hg).cV
theorem ka_pad_yes {g a p : Nat} {A : pa_A} (h : rAs τ σ g a A) (h6 : A.2.1.length ≤ 6) (hp : p < A.2.1.length) : zF_X2_checkedPad ρ a (.ofNat p) σ = zz_rI (.ofNat p) σ := by
  obtain ⟨af, ac, am, F, C, Mo, k0, k1, -, ⟨⟨e, k2, k2', k2''⟩, k3, k4⟩, -⟩ := h
  unfold zF_X2_checkedPad
  rw [zp_gR k1 (k := 1) (v := some ac) rfl, Option.bind_some, ja_ck k2'', ja_size k2'', cc_I, k3, jk_index_yes (by omega) hp, cc_V]
theorem ka_pad_no {g a n : Nat} {x : Int32} {A : pa_A} (h : rAs τ σ g a A) (h6 : A.2.1.length ≤ 6) (hx : pd x 0 A.2.1.length = none) (hg : zp_gas (n + 1) σ) : zthr (zF_X2_checkedPad ρ a x σ) 122 1 σ := by
  obtain ⟨af, ac, am, F, C, Mo, k0, k1, -, ⟨⟨e, k2, k2', k2''⟩, k3, k4⟩, -⟩ := h
  unfold zF_X2_checkedPad
  rw [zp_gR k1 (k := 1) (v := some ac) rfl, Option.bind_some, ja_ck k2'', ja_size k2'', cc_I, k3]
  exact (jk_index_no (by omega) hx hg).cV
/-! a frog's fields -/
theorem kf_ck {p k : Nat} {x : pa_F} {K : Nat → zz_R} (h : σ.2.2 p = some (true, fcell k x)) : zz_ck σ (some p) 5 K = K p := zp_ck h
theorem kf_num {p k : Nat} {x : pa_F} (h : σ.2.2 p = some (true, fcell k x)) : zz_gI σ (some p) 5 0 = some (.ofNat k) := zp_gI h rfl
theorem kf_pond {p k : Nat} {x : pa_F} (h : σ.2.2 p = some (true, fcell k x)) : zz_gI σ (some p) 5 1 = some (.ofNat x.1) := zp_gI h rfl
theorem kf_weight {p k : Nat} {x : pa_F} (h : σ.2.2 p = some (true, fcell k x)) : zz_gI σ (some p) 5 2 = some (.ofNat x.2.1) := zp_gI h rfl
theorem kf_pad {p k : Nat} {x : pa_F} (h : σ.2.2 p = some (true, fcell k x)) : zz_gI σ (some p) 5 3 = some (.ofNat x.2.2.1 - 1) := zp_gI h rfl
theorem kf_spoke {p k : Nat} {x : pa_F} (h : σ.2.2 p = some (true, fcell k x)) : zz_gI σ (some p) 5 4 = some (.ofNat x.2.2.2) := zp_gI h rfl
theorem kf_cast {p k : Nat} {x : pa_F} (h : σ.2.2 p = some (true, fcell k x)) : zz_ok σ (some p) [5] = true := by simp [zz_ok, zz_cl, h, fcell]
theorem kf_seat {s p : Nat} (hs : s ≤ 6) (hp : p ≤ 100) : (Int32.ofNat s - 1 = Int32.ofNat p) ↔ s = p + 1 := by
  have e : Int32.ofNat s - 1 = Int32.ofNat p ↔ Int32.ofNat s = Int32.ofNat (p + 1) := by
    rw [← ci_succ]
    constructor
    · intro h; rw [← h]; simp
    · intro h; rw [h]; simp
  rw [e, ci_eq (by omega) (by omega)]
theorem kf_water {s : Nat} (hs : s ≤ 6) : (Int32.ofNat s - 1 = (-1 : Int32)) ↔ s = 0 := by
  have : ∀ s, s ≤ 6 → ((Int32.ofNat s - 1 = (-1 : Int32)) ↔ s = 0) := by decide
  exact this s hs
theorem kf_sits {p k : Nat} {x : pa_F} (h : σ.2.2 p = some (true, fcell k x)) (hs : x.2.2.1 ≤ 6) : zF_X5_sits ρ p σ = zz_rI (if x.2.2.1 = 0 then 0 else 1) σ := by
  unfold zF_X5_sits
  rw [kf_pad h, Option.bind_some]
  by_cases h0 : x.2.2.1 = 0
  · rw [if_pos ((kf_water hs).mpr h0), if_pos h0]; rfl
  · rw [if_neg (fun hh => h0 ((kf_water hs).mp hh)), if_neg h0]; rfl
end CR
