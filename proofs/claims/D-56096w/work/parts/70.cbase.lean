/-! ===== THE COMPONENT's SIDE: base ===== -/
/-- from the pure world: reads of a state behind writes -/
theorem cs_get (σ : zz_S) (a b : Nat) (e : zz_E) : (zz_set σ a e).2.2 b = if b = a then some (true, e) else σ.2.2 b := rfl
theorem cs_al (σ : zz_S) (e : zz_E) (sz b : Nat) : (zp_al σ e sz).2.2 b = if b = σ.1.1 then some (true, e) else σ.2.2 b := rfl
theorem cs_set1 (σ : zz_S) (a : Nat) (e : zz_E) : (zz_set σ a e).1 = σ.1 := rfl
theorem cs_set2 (σ : zz_S) (a : Nat) (e : zz_E) : (zz_set σ a e).2.1 = σ.2.1 := rfl
theorem cs_al1 (σ : zz_S) (e : zz_E) (sz : Nat) : (zp_al σ e sz).1.1 = σ.1.1 + 1 := rfl
theorem cs_set_set (σ : zz_S) (a : Nat) (e e' : zz_E) : zz_set (zz_set σ a e) a e' = zz_set σ a e' := by
  unfold zz_set zz_up
  refine congrArg (fun g => (σ.1, σ.2.1, g)) (funext fun q => ?_)
  by_cases h : q = a <;> simp [h]
theorem cs_al_set (σ : zz_S) (e e' : zz_E) (sz : Nat) : zz_set (zp_al σ e sz) σ.1.1 e' = zp_al σ e' sz := by
  unfold zz_set zp_al zz_up
  refine congrArg (fun g => ((σ.1.1 + 1, σ.1.2 + sz), σ.2.1, g)) (funext fun q => ?_)
  by_cases h : q = σ.1.1 <;> simp [h]
theorem cb_b0 (σ : zz_S) : zz_rN .boolean (0 : Int32) σ = zz_rI 0 σ := rfl
theorem cb_b1 (σ : zz_S) : zz_rN .boolean (1 : Int32) σ = zz_rI 1 σ := rfl
/-- what a call gives on -/
theorem cc_I (v : Int32) (σ : zz_S) (K : Int32 → zz_S → zz_R) (X : Nat × Nat → zz_S → zz_R) : zz_cI (zz_rI v σ) K X = K v σ := rfl
theorem cc_V (σ : zz_S) (K : zz_S → zz_R) (X : Nat × Nat → zz_S → zz_R) : zz_cV (zz_rV σ) K X = K σ := rfl
theorem cc_R (v : Option Nat) (σ : zz_S) (K : Option Nat → zz_S → zz_R) (X : Nat × Nat → zz_S → zz_R) : zz_cR (zz_rR v σ) K X = K v σ := by
  cases v <;> rfl
/-- a throw: class and address -/
def zz_thr (q : Nat × Nat) (σ : zz_S) : zz_R := some (.inr q, σ)
theorem cc_Ix (q : Nat × Nat) (σ : zz_S) (K : Int32 → zz_S → zz_R) (X : Nat × Nat → zz_S → zz_R) : zz_cI (zz_thr q σ) K X = X q σ := rfl
theorem cc_Vx (q : Nat × Nat) (σ : zz_S) (K : zz_S → zz_R) (X : Nat × Nat → zz_S → zz_R) : zz_cV (zz_thr q σ) K X = X q σ := rfl
theorem cc_Rx (q : Nat × Nat) (σ : zz_S) (K : Option Nat → zz_S → zz_R) (X : Nat × Nat → zz_S → zz_R) : zz_cR (zz_thr q σ) K X = X q σ := rfl
theorem cc_P (q : Nat × Nat) (σ : zz_S) : zz_P q σ = zz_thr q σ := rfl
theorem cn_some (a : Nat) (A : zz_R) (B : Nat → zz_R) : zz_nul (some a) A B = B a := rfl
theorem cn_none (A : zz_R) (B : Nat → zz_R) : zz_nul none A B = A := rfl
/-- no old cell is changed -/
def zp_no : Nat → Prop := fun _ => False
theorem zp_le.none {M : Nat → Prop} {k k' : Nat} {σ σ' : zz_S} (h : zp_le zp_no k σ σ') (hk : k ≤ k') : zp_le M k' σ σ' := h.mono (fun _ _ h => h.elim) hk
/-- only new cells were changed -/
theorem zp_le.new {M : Nat → Prop} {k : Nat} {σ σ' : zz_S} (h : zp_le M k σ σ') (hM : ∀ a, a < σ.1.1 → ¬ M a) : zp_le zp_no k σ σ' := h.mono (fun a ha hm => hM a ha hm) (Nat.le_refl _)
theorem zp_le.lt {M : Nat → Prop} {k : Nat} {σ σ' : zz_S} (h : zp_le M k σ σ') {a : Nat} (ha : a < σ.1.1) : a < σ'.1.1 := Nat.lt_of_lt_of_le ha h.2.1
theorem zp_le.wf {M : Nat → Prop} {k : Nat} {σ σ' : zz_S} (h : zp_le M k σ σ') (hw : zp_wf σ) : zp_wf σ' := h.2.2.2.2.2 hw
theorem zp_le.keep {M : Nat → Prop} {k : Nat} {σ σ' : zz_S} (h : zp_le M k σ σ') {a : Nat} (ha : a < σ.1.1) (hn : ¬ M a) : σ'.2.2 a = σ.2.2 a := h.2.2.2.2.1 a ha hn
theorem zp_na_eq {σ : zz_S} {kd n g : Nat} {K : Nat → zz_S → zz_R} (h : zp_gas (g + 1) σ) (hn : n ≤ 128) : zz_na σ kd (Int32.ofNat n) K = K σ.1.1 (zp_al σ (zz_z kd n) n) := by
  unfold zz_na
  have e : (Int32.ofNat n).toNatClampNeg = n := tw_nat (by omega)
  have h0 : ¬ Int32.ofNat n < 0 := by
    rw [show (0 : Int32) = Int32.ofNat 0 from rfl, Int32.ofNat_lt_iff_lt (by omega) (by omega)]
    omega
  rw [e, if_pos ⟨h0, by omega⟩, zp_al_eq h hn]
theorem zp_th_eq {σ : zz_S} {c n : Nat} {fs : List Value} : zz_th (zp_al σ (.inr (c, fs)) n) (some σ.1.1) zz_P = zz_thr (c, σ.1.1) (zp_al σ (.inr (c, fs)) n) := by
  have h : (zp_al σ (.inr (c, fs)) n).2.2 σ.1.1 = some (true, .inr (c, fs)) := zp_al_new
  simp only [zz_th, h]
  rfl
/-- a field is written; the new fields as they shall stand -/
theorem zq_pf {σ : zz_S} {a c N k : Nat} {fs fs' : List Value} {v : Value} (h : σ.2.2 a = some (true, .inr (c, fs))) (hN : fs.length = N) (hs : fs.set k v = fs') : zz_pf σ (some a) c N k v = some (zz_set σ a (.inr (c, fs'))) := by
  subst hs
  exact zp_pf h hN
theorem ci_nat {a : Nat} (h : a < 2 ^ 31) : (Int32.ofNat a).toNatClampNeg = a := tw_nat h
theorem ci_in' {n k : Nat} (hn : n < 2 ^ 31) (hk : k < n) : ¬ (Int32.ofNat k < 0) ∧ ¬ ((Int32.ofNat n - 1) < Int32.ofNat k) := pd_in (lo := 0) hn (Nat.zero_le _) hk
/-! tags: who owns a cell (0: nobody; 1: never written again) -/
def zo_wf (τ : Nat → Nat) (σ : zz_S) : Prop := zp_wf σ ∧ ∀ a, σ.1.1 ≤ a → τ a = 0
/-- the cells whose tags are in G are kept, and their tags -/
def zo_k (G : Nat → Prop) (τ : Nat → Nat) (σ : zz_S) (τ' : Nat → Nat) (σ' : zz_S) : Prop := ∀ a, G (τ a) → τ' a = τ a ∧ σ'.2.2 a = σ.2.2 a
theorem zo_k.refl (G : Nat → Prop) (τ : Nat → Nat) (σ : zz_S) : zo_k G τ σ τ σ := fun _ _ => ⟨rfl, rfl⟩
theorem zo_k.trans {G G' : Nat → Prop} {τ τ1 τ2 : Nat → Nat} {σ σ1 σ2 : zz_S} (h : zo_k G τ σ τ1 σ1) (h' : zo_k G' τ1 σ1 τ2 σ2) : zo_k (fun x => G x ∧ G' x) τ σ τ2 σ2 := fun a ha => by
  obtain ⟨h1, h2⟩ := h a ha.1
  obtain ⟨h3, h4⟩ := h' a (by rw [h1]; exact ha.2)
  exact ⟨h3.trans h1, h4.trans h2⟩
theorem zo_k.mono {G G' : Nat → Prop} {τ τ1 : Nat → Nat} {σ σ1 : zz_S} (h : zo_k G τ σ τ1 σ1) (hG : ∀ x, G' x → G x) : zo_k G' τ σ τ1 σ1 := fun a ha => h a (hG _ ha)
/-- a change of cells whose tags aren't in G -/
theorem zo_k.of_le {G M : Nat → Prop} {k : Nat} {τ : Nat → Nat} {σ σ' : zz_S} (hw : zo_wf τ σ) (h : zp_le M k σ σ') (h0 : ¬ G 0) (hM : ∀ a, M a → ¬ G (τ a)) : zo_k G τ σ τ σ' := fun a ha => by
  refine ⟨rfl, ?_⟩
  rcases Nat.lt_or_ge a σ.1.1 with h1 | h1
  · exact h.keep h1 (fun hm => hM a hm ha)
  · rw [hw.2 a h1] at ha; exact absurd ha h0
/-- a new owner of untagged cells -/
def zo_tg (τ : Nat → Nat) (n t : Nat) : Nat → Nat := fun a => if a = n then t else τ a
theorem zo_tg_at (τ : Nat → Nat) (n t : Nat) : zo_tg τ n t n = t := if_pos rfl
theorem zo_tg_ne {τ : Nat → Nat} {n t a : Nat} (h : a ≠ n) : zo_tg τ n t a = τ a := if_neg h
theorem zo_k.tg {G : Nat → Prop} {τ : Nat → Nat} {σ : zz_S} {n t : Nat} (hn : τ n = 0) (h0 : ¬ G 0) : zo_k G τ σ (zo_tg τ n t) σ := fun a ha => by
  refine ⟨zo_tg_ne (fun h => ?_), rfl⟩
  rw [h, hn] at ha
  exact h0 ha
theorem zo_wf.le {M : Nat → Prop} {k : Nat} {τ : Nat → Nat} {σ σ' : zz_S} (hw : zo_wf τ σ) (h : zp_le M k σ σ') : zo_wf τ σ' := ⟨h.wf hw.1, fun a ha => hw.2 a (Nat.le_trans h.2.1 ha)⟩
theorem zo_wf.tg {τ : Nat → Nat} {σ : zz_S} {n t : Nat} (hw : zo_wf τ σ) (hn : n < σ.1.1) : zo_wf (zo_tg τ n t) σ := ⟨hw.1, fun a ha => by rw [zo_tg_ne (by omega)]; exact hw.2 a ha⟩
theorem zo_wf.new {τ : Nat → Nat} {σ : zz_S} (hw : zo_wf τ σ) : τ σ.1.1 = 0 := hw.2 _ (Nat.le_refl _)
theorem zo_wf.lt {τ : Nat → Nat} {σ : zz_S} (hw : zo_wf τ σ) {a : Nat} (h : τ a ≠ 0) : a < σ.1.1 := by
  rcases Nat.lt_or_ge a σ.1.1 with h1 | h1
  · exact h1
  · exact absurd (hw.2 a h1) h
