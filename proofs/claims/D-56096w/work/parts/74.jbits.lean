/-! ===== java.util.BitSet of at most twelve bits; Integer; the checks ===== -/
section JB
variable {ρ : zz_C} {σ : zz_S}
/-- BitSet at b over the long array w holds the mask n -/
def cB (σ : zz_S) (b w n : Nat) : Prop :=
  n < 4096 ∧ (∃ u : Nat, (u = 0 ∧ n = 0 ∨ u = 1) ∧ σ.2.2 b = some (true, .inr (141, [.ref w, .int (.ofNat u), .int 0]))) ∧
  ∃ g : Nat → Int64, σ.2.2 w = some (true, .inl (3, (1, .inr (.inl g)))) ∧ g 0 = Int64.ofNat n
theorem cB.keep {σ' : zz_S} {b w n : Nat} (h : cB σ b w n) (hb : σ'.2.2 b = σ.2.2 b) (hw : σ'.2.2 w = σ.2.2 w) : cB σ' b w n := by
  obtain ⟨h0, ⟨u, h1, h2⟩, g, h3, h4⟩ := h
  exact ⟨h0, ⟨u, h1, hb.trans h2⟩, g, hw.trans h3, h4⟩
theorem cB.ck {b w n : Nat} {K : Nat → zz_R} (h : cB σ b w n) : zz_ck σ (some b) 141 K = K b := by
  obtain ⟨h0, ⟨u, h1, h2⟩, -⟩ := h
  exact zp_ck h2
theorem cB.ne {b w n : Nat} (h : cB σ b w n) : b ≠ w := by
  obtain ⟨h0, ⟨u, h1, h2⟩, g, h3, h4⟩ := h
  intro he
  rw [he, h3] at h2
  cases h2
theorem jb_word : ∀ k, k < 64 → ((Int32.ofNat k) >>> ((6 : Int32) &&& 31)) = 0 := by decide
theorem jb_sh : ∀ k, k < 12 → ((1 : Int64) <<< ((Int32.ofNat k).toInt64 &&& 63)) = Int64.ofNat (2 ^ k) := by decide
theorem jb_or (a b : Nat) : Int64.ofNat a ||| Int64.ofNat b = Int64.ofNat (a ||| b) := by
  show Int64.ofBitVec _ ||| Int64.ofBitVec _ = Int64.ofBitVec (BitVec.ofNat 64 _)
  rw [BitVec.ofNat_or]; rfl
theorem jb_and (a b : Nat) : Int64.ofNat a &&& Int64.ofNat b = Int64.ofNat (a &&& b) := by
  show Int64.ofBitVec _ &&& Int64.ofBitVec _ = Int64.ofBitVec (BitVec.ofNat 64 _)
  rw [BitVec.ofNat_and]; rfl
theorem jb_cmp {n : Nat} (h : n < 2 ^ 62) : (lg_cmp (Int64.ofNat n) 0 = 0) ↔ n = 0 := by
  unfold lg_cmp
  have e : (Int64.ofNat n = 0) ↔ n = 0 := by
    constructor
    · intro h1
      have : (Int64.ofNat n).toInt = (0 : Int64).toInt := by rw [h1]
      rw [Int64.toInt_ofNat_of_lt (by omega)] at this
      have h0 : (0 : Int64).toInt = 0 := rfl
      omega
    · intro h1; rw [h1]; rfl
  by_cases h0 : n = 0
  · subst h0; decide
  · rw [if_neg (show ¬ (Int64.ofNat n = 0) from fun hh => h0 (e.mp hh))]
    split
    · constructor
      · intro hh; exact absurd hh (by decide)
      · intro hh; exact absurd hh h0
    · constructor
      · intro hh; exact absurd hh (by decide)
      · intro hh; exact absurd hh h0
theorem jb_aJ {b w n : Nat} (h : cB σ b w n) : zz_aJ σ (some w) 3 0 = some (Int64.ofNat n) := by
  obtain ⟨h0, ⟨u, h1, h2⟩, g, h3, h4⟩ := h
  unfold zz_aJ zz_ar
  simp only [h3, if_true, show zz_inb 0 1 = true from by decide]
  exact congrArg some h4
theorem jb_init {a g : Nat} (h : σ.2.2 a = some (true, .inr (141, [.null, .int 0, .int 0]))) (hw : zp_wf σ) (hg : zp_gas (g + 1) σ) :
    ∃ σ', zF_J41_init ρ a σ = zz_rV σ' ∧ zp_le (fun b => b = a) 1 σ σ' ∧ cB σ' a σ.1.1 0 := by
  have han : a ≠ σ.1.1 := Nat.ne_of_lt (hw.lt h)
  unfold zF_J41_init zF_J41_initWords zF_J41_wordIndex zz_pfN
  rw [zq_pf (N := 3) h rfl (fs' := [.null, .int 0, .int 0]) rfl, Option.bind_some, if_pos (show zz_fit .boolean 0 = true from rfl), zq_pf (N := 3) zp_set_at rfl (fs' := [.null, .int 0, .int 0]) rfl, Option.bind_some, cs_set_set, zp_ck zp_set_at, cc_I]
  have e1 : zz_set σ a (.inr (141, [.null, .int 0, .int 0])) = σ := by
    unfold zz_set zz_up
    refine Prod.ext rfl (Prod.ext rfl (funext fun q => ?_))
    by_cases hq : q = a
    · subst hq; exact (if_pos rfl).trans h.symm
    · exact if_neg hq
  rw [e1]
  have e2 : ((64 : Int32) - 1) >>> ((6 : Int32) &&& 31) + 1 = Int32.ofNat 1 := by decide
  rw [e2, zp_na_eq hg (by decide)]
  have a1 : (zp_al σ (zz_z 3 1) 1).2.2 a = some (true, .inr (141, [.null, .int 0, .int 0])) := (zp_al_old han).trans h
  rw [zq_pf (N := 3) a1 rfl (fs' := [.ref σ.1.1, .int 0, .int 0]) rfl, Option.bind_some, cc_V, if_pos (show zz_fit .boolean 0 = true from rfl), zq_pf (N := 3) zp_set_at rfl (fs' := [.ref σ.1.1, .int 0, .int 0]) rfl, Option.bind_some, cs_set_set]
  refine ⟨_, rfl, (zp_al_le (M := fun b => b = a) (by decide)).trans (k' := 0) (zp_set_le (M := fun b => b = a) (by show a < σ.1.1 + 1; have := hw.lt h; omega) rfl) (fun _ _ h => h), by decide, ⟨0, .inl ⟨rfl, rfl⟩, zp_set_at⟩, fun _ => 0, ?_, rfl⟩
  rw [zp_set_old (fun h => han h.symm)]
  exact zp_al_new
theorem jb_set {b w n k : Nat} (h : cB σ b w n) (hk : k < 12) (hwf : zp_wf σ) :
    ∃ σ', zF_J41_set ρ b (Int32.ofNat k) σ = zz_rV σ' ∧ zp_le (fun a => a = b ∨ a = w) 0 σ σ' ∧ cB σ' b w (n ||| 2 ^ k) := by
  have hne := h.ne
  have hck := fun K => h.ck (K := K)
  obtain ⟨h0, ⟨u, h1, h2⟩, g, h3, h4⟩ := h
  have hge : (0 : Int32) ≤ Int32.ofNat k := by rw [show (0 : Int32) = Int32.ofNat 0 from rfl, ci_le (by omega) (by omega)]; omega
  unfold zF_J41_set zF_J41_wordIndex
  rw [if_pos hge, cc_I, jb_word k (by omega), hck]
  have ex : ∃ σ1, zF_J41_expandTo ρ b 0 σ = zz_rV σ1 ∧ zp_le (fun a => a = b ∨ a = w) 0 σ σ1 ∧ σ1.2.2 b = some (true, .inr (141, [.ref w, .int (.ofNat 1), .int 0])) ∧ σ1.2.2 w = some (true, .inl (3, (1, .inr (.inl g)))) := by
    unfold zF_J41_expandTo
    rw [zp_gI h2 (k := 1) (v := .ofNat u) rfl, Option.bind_some]
    rcases h1 with ⟨rfl, -⟩ | rfl
    · rw [if_neg (by decide), hck]
      unfold zF_J41_ensureCapacity
      rw [zp_gR h2 (k := 0) (v := some w) rfl, Option.bind_some, zp_len h3, Option.bind_some, if_pos (show (0 : Int32) + 1 ≤ Int32.ofNat 1 from by decide), cc_V, zq_pf (N := 3) h2 rfl (fs' := [.ref w, .int (.ofNat 1), .int 0]) rfl, Option.bind_some]
      exact ⟨_, rfl, zp_set_le (hwf.lt h2) (.inl rfl), zp_set_at, (zp_set_old hne.symm).trans h3⟩
    · rw [if_pos (by decide)]
      exact ⟨σ, rfl, zp_le.refl _ _ _, h2, h3⟩
  obtain ⟨σ1, e1, l1, g1, g2⟩ := ex
  have ea : zz_aJ σ1 (some w) 3 0 = some (Int64.ofNat n) := by
    unfold zz_aJ zz_ar
    simp only [g2, if_true, show zz_inb 0 1 = true from by decide]
    exact congrArg some h4
  rw [e1, cc_V, zp_gR g1 (k := 0) (v := some w) rfl, Option.bind_some, ea, Option.bind_some, jb_sh k hk, jb_or]
  have es : zz_sJ σ1 (some w) 3 0 (Int64.ofNat (n ||| 2 ^ k)) = some (zz_set σ1 w (.inl (3, (1, .inr (.inl (vp_updL g 0 (Int64.ofNat (n ||| 2 ^ k)))))))) := by
    unfold zz_sJ zz_ar
    simp only [g2, if_true, show zz_inb 0 1 = true from by decide]
    rfl
  have gb : (zz_set σ1 w (.inl (3, (1, .inr (.inl (vp_updL g 0 (Int64.ofNat (n ||| 2 ^ k)))))))).2.2 b = some (true, .inr (141, [.ref w, .int (.ofNat 1), .int 0])) := (zp_set_old hne).trans g1
  rw [es, Option.bind_some, zp_ck gb]
  exact ⟨_, rfl, l1.trans (k' := 0) (zp_set_le (M := fun a => a = b ∨ a = w) (l1.lt (hwf.lt h3)) (.inr rfl)) (fun _ _ h => h), Nat.or_lt_two_pow (n := 12) h0 (Nat.pow_lt_pow_right (by decide) hk), ⟨1, .inr rfl, gb⟩, _, zp_set_at, if_pos rfl⟩
theorem jb_pow (n k : Nat) : n &&& 2 ^ k = if n.testBit k then 2 ^ k else 0 := by
  apply Nat.eq_of_testBit_eq
  intro i
  rw [Nat.testBit_and, Nat.testBit_two_pow]
  by_cases hik : k = i
  · subst hik
    cases n.testBit k <;> simp
  · cases n.testBit k <;> simp [hik, Nat.testBit_two_pow]
theorem jb_get {b w n k : Nat} (h : cB σ b w n) (hk : k < 12) : zF_J41_get ρ b (Int32.ofNat k) σ = zz_rI (if n.testBit k then 1 else 0) σ := by
  have hck := fun K => h.ck (K := K)
  have hj := jb_aJ h
  obtain ⟨h0, ⟨u, h1, h2⟩, g, h3, h4⟩ := h
  have hge : (0 : Int32) ≤ Int32.ofNat k := by rw [show (0 : Int32) = Int32.ofNat 0 from rfl, ci_le (by omega) (by omega)]; omega
  unfold zF_J41_get zF_J41_checkInvariants zJ_J41_checkInvariants_37 zJ_J41_checkInvariants_70 zF_J41_wordIndex
  rw [if_pos hge, hck, cc_V, cc_I, jb_word k (by omega), zp_gI h2 (k := 1) (v := .ofNat u) rfl, Option.bind_some]
  rcases h1 with ⟨rfl, rfl⟩ | rfl
  · rw [if_pos (by decide), if_neg (by simp)]; rfl
  · rw [if_neg (by decide), zp_gR h2 (k := 0) (v := some w) rfl, Option.bind_some, hj, Option.bind_some, jb_sh k hk, jb_and]
    have hlt : n &&& 2 ^ k < 2 ^ 62 := Nat.lt_of_le_of_lt Nat.and_le_left (by omega)
    have hb := jb_pow n k
    by_cases ht : n.testBit k = true
    · rw [if_neg (fun hh => by have := (jb_cmp hlt).mp hh; rw [hb, ht] at this; simp at this), if_pos ht]; rfl
    · rw [if_pos ((jb_cmp hlt).mpr (by rw [hb]; simp at ht; rw [ht]; simp)), if_neg ht]; rfl
/-! Integer -/
/-- an Integer of value n -/
def cInt (σ : zz_S) (p : Nat) (n : Int32) : Prop := ∃ w, σ.2.2 p = some (w, .inr (117, [.int n]))
theorem ji_intValue {p : Nat} {n : Int32} (h : cInt σ p n) : zF_J17_intValue ρ p σ = zz_rI n σ := by
  obtain ⟨w, h1⟩ := h
  unfold zF_J17_intValue
  rw [zp_gI h1 (k := 0) (v := n) rfl]
  rfl
theorem cInt.ck {p : Nat} {n : Int32} {K : Nat → zz_R} (h : cInt σ p n) : zz_ck σ (some p) 117 K = K p := by
  obtain ⟨w, h1⟩ := h
  exact zp_ck h1
theorem cInt.ok {p : Nat} {n : Int32} (h : cInt σ p n) : zz_ok σ (some p) zz_cO = true := by
  obtain ⟨w, h1⟩ := h
  simp [zz_ok, zz_cl, h1, zz_cO]
theorem cInt.cast {p : Nat} {n : Int32} (h : cInt σ p n) : zz_ok σ (some p) [117] = true := by
  obtain ⟨w, h1⟩ := h
  simp [zz_ok, zz_cl, h1]
/-- the cache of Integers: the array at ic, and what it holds -/
def cCache (ρ : zz_C) (σ : zz_S) : Prop := ∃ (ic : Nat) (w : Bool) (f : Nat → Option Nat), ρ.1 11 = some ic ∧ σ.2.2 ic = some (w, .inl (9, (256, .inr (.inr (.inr (.inr f)))))) ∧ ∀ k, k < 256 → ∃ p, f k = some p ∧ cInt σ p (Int32.ofNat k - 128)
theorem ji_valueOf {n g : Nat} (hc : cCache ρ σ) (hn : n < 2 ^ 31) (hg : zp_gas (g + 1) σ) : ∃ p σ', zF_J17_valueOf ρ (Int32.ofNat n) σ = zz_rR (some p) σ' ∧ zp_le zp_no 1 σ σ' ∧ cInt σ' p (.ofNat n) := by
  have h1 : ¬ Int32.ofNat n < (-128 : Int32) := by
    rw [Int32.lt_iff_toInt_lt, ci_int hn, show (-128 : Int32).toInt = -128 from rfl]; omega
  unfold zF_J17_valueOf
  rw [if_neg h1]
  by_cases h2 : 127 < n
  · rw [if_pos (show (127 : Int32) < Int32.ofNat n from by rw [show (127 : Int32) = Int32.ofNat 127 from rfl, ci_lt (by decide) hn]; exact h2), zp_al_eq hg (by decide)]
    unfold zF_J17_init zF_J16_init
    rw [cc_V, zp_pf (N := 1) zp_al_new rfl, Option.bind_some, cs_al_set, cc_V]
    exact ⟨_, _, rfl, zp_al_le (by decide), true, zp_al_new⟩
  · rw [if_neg (show ¬ (127 : Int32) < Int32.ofNat n from by rw [show (127 : Int32) = Int32.ofNat 127 from rfl, ci_lt (by decide) hn]; exact h2)]
    obtain ⟨ic, w, f, k1, k2, k3⟩ := hc
    obtain ⟨p, hp, hv⟩ := k3 (n + 128) (by omega)
    have ei : Int32.ofNat n + (128 : Int32) = Int32.ofNat (n + 128) := ci_add n 128
    have ea : zz_aR σ (ρ.1 11) 9 (Int32.ofNat (n + 128)) = some (some p) := by
      rw [k1]
      unfold zz_aR zz_ar
      simp only [k2, if_true, tw_inb (show n + 128 < 256 by omega) (by decide), tw_nat (show n + 128 < 2 ^ 31 by omega), hp]
    rw [ei, ea, Option.bind_some]
    refine ⟨p, σ, rfl, zp_le.refl _ _ _, ?_⟩
    have : Int32.ofNat (n + 128) - 128 = Int32.ofNat n := by rw [show (128 : Int32) = Int32.ofNat 128 from rfl, ci_sub (by omega)]; simp
    rw [this] at hv
    exact hv
/-! the checks -/
theorem jk_between_no {x : Int32} {lo n : Nat} (a b : Int32) (ea : a = Int32.ofNat lo) (eb : b = Int32.ofNat n - 1) (hl : lo < 2 ^ 31) (hn : n < 2 ^ 31) (h : pd x lo n = none) : zF_X1_isBetween ρ x a b σ = zz_rI 0 σ := by
  subst ea eb
  have := pd_none hl hn h
  unfold zF_X1_isBetween
  by_cases h1 : x < Int32.ofNat lo
  · rw [if_pos h1]; rfl
  · rw [if_neg h1, if_pos (this.resolve_left h1)]; rfl
theorem jk_between_yes {k lo n : Nat} (a b : Int32) (ea : a = Int32.ofNat lo) (eb : b = Int32.ofNat n - 1) (hn : n < 2 ^ 31) (hl : lo ≤ k) (hk : k < n) : zF_X1_isBetween ρ (Int32.ofNat k) a b σ = zz_rI 1 σ := by
  subst ea eb
  have := pd_in hn hl hk
  unfold zF_X1_isBetween
  rw [if_neg this.1, if_neg this.2]; rfl
/-- F throws an exception of class c, new; no old cell is changed -/
def zthr (F : zz_R) (c k : Nat) (σ : zz_S) : Prop := ∃ a σ', F = zz_thr (c, a) σ' ∧ zp_le zp_no k σ σ' ∧ σ'.2.2 a = some (true, .inr (c, []))
theorem zthr.mono {F : zz_R} {c k k' : Nat} (h : zthr F c k σ) (hk : k ≤ k') : zthr F c k' σ := by
  obtain ⟨a, σ', h1, h2, h3⟩ := h
  exact ⟨a, σ', h1, h2.mono (fun _ _ h => h) hk, h3⟩
theorem jk_throw {c g : Nat} (hg : zp_gas (g + 1) σ) : zthr (zz_al σ (.inr (c, [])) 6 fun a σ' => zz_th σ' (some a) zz_P) c 1 σ := by
  rw [zp_al_eq hg (by decide), zp_th_eq]
  exact ⟨_, _, rfl, zp_al_le (by decide), zp_al_new⟩
theorem jk_index_no {x : Int32} {n g : Nat} (hn : n < 2 ^ 31) (h : pd x 0 n = none) (hg : zp_gas (g + 1) σ) : zthr (zF_X1_checkIndex ρ x (Int32.ofNat n) σ) 122 1 σ := by
  unfold zF_X1_checkIndex
  rw [jk_between_no 0 _ rfl rfl (by decide) hn h, cc_I, if_pos z00]
  exact jk_throw hg
theorem jk_index_yes {k n : Nat} (hn : n < 2 ^ 31) (hk : k < n) : zF_X1_checkIndex ρ (Int32.ofNat k) (Int32.ofNat n) σ = zz_rV σ := by
  unfold zF_X1_checkIndex
  rw [jk_between_yes 0 _ rfl rfl hn (Nat.zero_le _) hk, cc_I, if_neg n10]
theorem jk_arg_no {g : Nat} (hg : zp_gas (g + 1) σ) : zthr (zF_X1_checkArgument ρ 0 σ) 106 1 σ := by
  unfold zF_X1_checkArgument
  rw [if_pos z00]; exact jk_throw hg
theorem jk_arg_yes : zF_X1_checkArgument ρ 1 σ = zz_rV σ := if_neg n10
theorem jk_state_no {g : Nat} (hg : zp_gas (g + 1) σ) : zthr (zF_X1_checkState ρ 0 σ) 138 1 σ := by
  unfold zF_X1_checkState
  rw [if_pos z00]; exact jk_throw hg
theorem jk_state_yes : zF_X1_checkState ρ 1 σ = zz_rV σ := if_neg n10
theorem jk_elem_no {g : Nat} (hg : zp_gas (g + 1) σ) : zthr (zF_X1_checkElement ρ 0 σ) 119 1 σ := by
  unfold zF_X1_checkElement
  rw [if_pos z00]; exact jk_throw hg
theorem jk_elem_yes : zF_X1_checkElement ρ 1 σ = zz_rV σ := if_neg n10
theorem jk_supp_no {g : Nat} (hg : zp_gas (g + 1) σ) : zthr (zF_X1_checkSupported ρ 0 σ) 143 1 σ := by
  unfold zF_X1_checkSupported
  rw [if_pos z00]; exact jk_throw hg
theorem jk_supp_yes : zF_X1_checkSupported ρ 1 σ = zz_rV σ := if_neg n10
/-- a throw is passed on -/
theorem zthr.cI {F : zz_R} {c k : Nat} {K : Int32 → zz_S → zz_R} (h : zthr F c k σ) : zthr (zz_cI F K zz_P) c k σ := by
  obtain ⟨a, σ', h1, h2, h3⟩ := h
  exact ⟨a, σ', by rw [h1]; rfl, h2, h3⟩
theorem zthr.cV {F : zz_R} {c k : Nat} {K : zz_S → zz_R} (h : zthr F c k σ) : zthr (zz_cV F K zz_P) c k σ := by
  obtain ⟨a, σ', h1, h2, h3⟩ := h
  exact ⟨a, σ', by rw [h1]; rfl, h2, h3⟩
theorem zthr.cR {F : zz_R} {c k : Nat} {K : Option Nat → zz_S → zz_R} (h : zthr F c k σ) : zthr (zz_cR F K zz_P) c k σ := by
  obtain ⟨a, σ', h1, h2, h3⟩ := h
  exact ⟨a, σ', by rw [h1]; rfl, h2, h3⟩
/-- .. behind steps that change no old cell -/
theorem zthr.after {F : zz_R} {c k k' : Nat} {σ1 : zz_S} (h : zthr F c k σ1) (hl : zp_le zp_no k' σ σ1) : zthr F c (k' + k) σ := by
  obtain ⟨a, σ', h1, h2, h3⟩ := h
  exact ⟨a, σ', h1, hl.trans h2 (fun _ _ h => h), h3⟩
end JB
