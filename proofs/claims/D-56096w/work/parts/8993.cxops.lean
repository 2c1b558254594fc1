/-! ===== THE COMPONENT's OPERATIONS, at the top ===== -/
section CXO
variable {ρ : zz_C} {σ σ' : zz_S} {τ τ' : Nat → Nat}
theorem cO.mono {L : List Nat} {g a k k' : Nat} {o : pa_O} {F : zz_R} (h : cO L τ σ g a o k F) (hk : k ≤ k') : cO L τ σ g a o k' F := by
  cases o with
  | inl q =>
    obtain ⟨τ', σ', h1, h2, h3⟩ := h
    exact ⟨τ', σ', h1, h2.mono (fun _ _ h => h) hk, h3⟩
  | inr p => exact zthr.mono h hk
theorem cO.cI {L : List Nat} {g a k : Nat} {o : pa_O} {F : zz_R} (h : cO L τ σ g a o k F) : cO L τ σ g a o k (zz_cI F (fun v σ => zz_rI v σ) zz_P) := by
  cases o with
  | inl q =>
    obtain ⟨τ', σ', h1, h2⟩ := h
    exact ⟨τ', σ', by rw [h1, cc_I], h2⟩
  | inr p => exact zthr.cI h
/-- a change, its lambda made -/
theorem kc_op {L : List Nat} {x T c cl n sz : Nat} {fs : List Value} {S : pa_S} {o : pa_O} {K : Int32 → zz_S → zz_R} (hr : rS ρ τ σ x S T) (hp : pS S c) (hc : c ≤ 1000) (hw : zo_wf τ σ) (hca : rCache ρ τ σ) (hG : zp_gas (n + 260) σ) (hfu : 100 ≤ ρ.2) (hsz : sz ≤ 128) (ho' : ∀ v A', o = .inl (v, A') → pa_ok A' (c + 1)) (hK : ∀ v A' σ', o = .inl (v, A') → K (.ofNat v) σ' = zz_rI (.ofNat v) σ')
    (hop : ∀ τ1 σ1 g0 a0 y, rAs τ1 σ1 g0 a0 S.1 → 1000 ≤ g0 → zo_wf τ1 σ1 → rCache ρ τ1 σ1 → zp_gas (n + 20) σ1 → σ1.2.2 y = some (true, .inr (cl, fs)) → cO L τ1 σ1 g0 a0 o 20 (zlamC cl ρ y (some a0) σ1)) :
    xO L ρ τ σ x S o 250 (zz_al σ (.inr (cl, fs)) sz fun a1 σ2 => zz_ck σ2 (some x) 1 fun a3 => zz_cI (zF_X1_change ρ a3 (some a1) σ2) K zz_P) := by
  rw [zp_al_eq (n := n + 259) hG hsz]
  obtain ⟨s1, e1⟩ : ∃ s, s = zp_al σ (.inr (cl, fs)) sz := ⟨_, rfl⟩
  have l1 : zp_le zp_no 1 σ s1 := by rw [e1]; exact zp_al_le hsz
  have n1 : s1.1.1 = σ.1.1 + 1 := by rw [e1]; rfl
  have y1 : s1.2.2 σ.1.1 = some (true, .inr (cl, fs)) := by rw [e1]; exact zp_al_new
  rw [← e1]
  have hn0 : τ σ.1.1 = 0 := hw.new
  have hk1 : zo_k (fun t => t ≠ 0) τ σ (zo_tg τ σ.1.1 1) s1 := fun b hb => ⟨zo_tg_ne fun h => hb (h ▸ hn0), l1.keep (hw.lt hb) fun h => h⟩
  have hw1 : zo_wf (zo_tg τ σ.1.1 1) s1 := (hw.le l1).tg (by omega)
  obtain ⟨fa, ad, d, e, h, tb, l, g0, a0, H, Z, hr⟩ := hr
  have hT1 : ∀ b, zo_tg τ σ.1.1 1 b < T := fun b => by
    have h1 := hr.2.2.2.2.2.2.2.2.2.2.1 b
    have h2 := hr.2.2.2.2.2.2.2.2.2.2.2
    unfold zo_tg
    split <;> omega
  have hx1 := hr.keep hp hk1 hT1 (Nat.le_refl _)
  have g1 : zp_gas (n + 19 + 20 + 220) s1 := l1.gas (n := n + 259) hG
  have hO := kc_change (ρ := ρ) (n := n + 19) (k := 20) ⟨fa, ad, d, e, h, tb, l, g0, a0, H, Z, hx1⟩ hp hc hw1 (hca.keep hk1 (by decide)) g1 hfu y1 (zo_tg_at _ _ _) ho' fun τ1 σ1 g0 a0 b1 b2 b3 b4 b5 b6 => hop τ1 σ1 g0 a0 σ.1.1 b1 b2 b3 b4 (b5.le (by omega)) (b6.trans y1)
  have hst : ∀ τ' σ', xStep (zo_tg τ σ.1.1 1) s1 τ' σ' (220 + 20) → xStep τ σ τ' σ' 250 := fun τ' σ' ⟨h1, h2, h3, h4⟩ => ⟨h1, ((hk1.mono (G' := kX) fun t ht => by unfold kX at ht; omega).trans h2).mono fun t ht => ⟨ht, ht⟩, fun n hn => h3 n (l1.gas (n := n + (220 + 20)) (hn.le (by omega))), by omega⟩
  rw [zp_ck hx1.2.1]
  cases o with
  | inl q =>
    obtain ⟨v, A'⟩ := q
    obtain ⟨τ', σ', T', f1, f2, f3⟩ := hO
    exact ⟨τ', σ', T', by rw [f1, cc_I, hK v A' σ' rfl], hst _ _ f2, f3⟩
  | inr p =>
    obtain ⟨τ', σ', T', b, f1, f2, f3⟩ := hO
    exact ⟨τ', σ', T', b, by rw [f1]; rfl, hst _ _ f2, f3⟩
/-- where a call begins: the state, small numbers, room for n and this call -/
def xH (ρ : zz_C) (τ : Nat → Nat) (σ : zz_S) (x : Nat) (S : pa_S) (T c n : Nat) : Prop := rS ρ τ σ x S T ∧ pS S c ∧ c ≤ 24 ∧ zo_wf τ σ ∧ rCache ρ τ σ ∧ zp_gas (n + 260) σ ∧ 100 ≤ ρ.2
theorem kx_addFrog {x T c n : Nat} {S : pa_S} (hh : xH ρ τ σ x S T c n) (a b : Int32) : xO [122, 106, 138] ρ τ σ x S (pa_addFrog a b S.1) 250 (zF_X1_addFrog ρ x a b σ) := by
  obtain ⟨hr, hp, hc, hw, hca, hG, hfu⟩ := hh
  unfold zF_X1_addFrog
  refine kc_op hr hp (by omega) hw hca hG hfu (by decide) (fun v A' h => pa_addFrog_ok hp.1 h) (fun _ _ _ _ => rfl) fun τ1 σ1 g0 a0 y h1 h2 h3 h4 h5 h6 => ?_
  show cO _ _ _ _ _ _ _ (zF_lam6 ρ y (some a0) σ1)
  unfold zF_lam6 zF_X1_lambda_addFrog_4
  rw [zp_gI h6 (k := 0) (v := a) rfl, Option.bind_some, zp_gI h6 (k := 1) (v := b) rfl, Option.bind_some, h1.ck]
  exact ((kc_addFrog (n := n) a b h1 (hp.1.w (by omega)) h2 h3 (h5.le (by omega))).mono (by decide)).cI.cI
theorem kx_addPad {x T c n : Nat} {S : pa_S} (hh : xH ρ τ σ x S T c n) (a : Int32) : xO [106, 138] ρ τ σ x S (pa_addPad a S.1) 250 (zF_X1_addPad ρ x a σ) := by
  obtain ⟨hr, hp, hc, hw, hca, hG, hfu⟩ := hh
  unfold zF_X1_addPad
  refine kc_op hr hp (by omega) hw hca hG hfu (by decide) (fun v A' h => pa_addPad_ok hp.1 h) (fun _ _ _ _ => rfl) fun τ1 σ1 g0 a0 y h1 h2 h3 h4 h5 h6 => ?_
  show cO _ _ _ _ _ _ _ (zF_lam7 ρ y (some a0) σ1)
  unfold zF_lam7 zF_X1_lambda_addPad_5
  rw [zp_gI h6 (k := 0) (v := a) rfl, Option.bind_some, h1.ck]
  exact ((kc_addPad (n := n) a h1 (hp.1.w (by omega)) h2 h3 h4 (h5.le (by omega))).mono (by decide)).cI.cI
theorem kx_hop {x T c n : Nat} {S : pa_S} (hh : xH ρ τ σ x S T c n) (a b : Int32) : xO [122, 138] ρ τ σ x S (pa_hop a b S.1) 250 (zF_X1_hop ρ x a b σ) := by
  obtain ⟨hr, hp, hc, hw, hca, hG, hfu⟩ := hh
  unfold zF_X1_hop
  refine kc_op hr hp (by omega) hw hca hG hfu (by decide) (fun v A' h => pa_hop_ok hp.1 h) (fun _ _ _ _ => rfl) fun τ1 σ1 g0 a0 y h1 h2 h3 h4 h5 h6 => ?_
  show cO _ _ _ _ _ _ _ (zF_lam8 ρ y (some a0) σ1)
  unfold zF_lam8 zF_X1_lambda_hop_6
  rw [zp_gI h6 (k := 0) (v := a) rfl, Option.bind_some, zp_gI h6 (k := 1) (v := b) rfl, Option.bind_some, h1.ck]
  exact ((kc_hop (n := n) a b h1 (hp.1.w (by omega)) hp.1.2.2.2.2.2.2.1 (by omega) h3 (h5.le (by omega)) hfu).mono (by decide)).cI.cI
theorem kx_dive {x T c n : Nat} {S : pa_S} (hh : xH ρ τ σ x S T c n) (a : Int32) : xO [122, 138] ρ τ σ x S (pa_dive a S.1) 250 (zF_X1_dive ρ x a σ) := by
  obtain ⟨hr, hp, hc, hw, hca, hG, hfu⟩ := hh
  unfold zF_X1_dive
  refine kc_op hr hp (by omega) hw hca hG hfu (by decide) (fun v A' h => pa_dive_ok hp.1 h) (fun _ _ _ _ => rfl) fun τ1 σ1 g0 a0 y h1 h2 h3 h4 h5 h6 => ?_
  show cO _ _ _ _ _ _ _ (zF_lam9 ρ y (some a0) σ1)
  unfold zF_lam9 zF_X1_lambda_dive_7
  rw [zp_gI h6 (k := 0) (v := a) rfl, Option.bind_some, h1.ck]
  exact ((kc_dive (n := n) a h1 (hp.1.w (by omega)) (by omega) h3 (h5.le (by omega))).mono (by decide)).cI.cI
theorem kx_addMotion {x T c n : Nat} {S : pa_S} (hh : xH ρ τ σ x S T c n) (a : Int32) : xO [106, 138] ρ τ σ x S (pa_addMotion a S.1) 250 (zF_X1_addMotion ρ x a σ) := by
  obtain ⟨hr, hp, hc, hw, hca, hG, hfu⟩ := hh
  unfold zF_X1_addMotion
  refine kc_op hr hp (by omega) hw hca hG hfu (by decide) (fun v A' h => pa_addMotion_ok hp.1 h) (fun _ _ _ _ => rfl) fun τ1 σ1 g0 a0 y h1 h2 h3 h4 h5 h6 => ?_
  show cO _ _ _ _ _ _ _ (zF_lam11 ρ y (some a0) σ1)
  unfold zF_lam11 zF_X1_lambda_addMotion_9
  rw [zp_gI h6 (k := 0) (v := a) rfl, Option.bind_some, h1.ck]
  exact ((kc_addMotion (n := n) a h1 (hp.1.w (by omega)) h2 h3 (h5.le (by omega))).mono (by decide)).cI.cI
theorem kx_signUp {x T c n : Nat} {S : pa_S} (hh : xH ρ τ σ x S T c n) (a b : Int32) : xO [122, 106, 138, 143] ρ τ σ x S (pa_signUp a b S.1) 250 (zF_X1_signUp ρ x a b σ) := by
  obtain ⟨hr, hp, hc, hw, hca, hG, hfu⟩ := hh
  unfold zF_X1_signUp
  refine kc_op hr hp (by omega) hw hca hG hfu (by decide) (fun v A' h => pa_signUp_ok hp.1 h) (fun _ _ _ _ => rfl) fun τ1 σ1 g0 a0 y h1 h2 h3 h4 h5 h6 => ?_
  show cO _ _ _ _ _ _ _ (zF_lam12 ρ y (some a0) σ1)
  unfold zF_lam12 zF_X1_lambda_signUp_10
  rw [zp_gI h6 (k := 0) (v := a) rfl, Option.bind_some, zp_gI h6 (k := 1) (v := b) rfl, Option.bind_some, h1.ck]
  exact ((kc_signUp (n := n) a b h1 hp.1 (by omega) h2 h3 (h5.le (by omega)) hfu).mono (by decide)).cI.cI
theorem kx_strike {x T c n : Nat} {S : pa_S} (hh : xH ρ τ σ x S T c n) (a b : Int32) : xO [122, 119] ρ τ σ x S (pa_strike a b S.1) 250 (zF_X1_strike ρ x a b σ) := by
  obtain ⟨hr, hp, hc, hw, hca, hG, hfu⟩ := hh
  unfold zF_X1_strike
  refine kc_op hr hp (by omega) hw hca hG hfu (by decide) (fun v A' h => pa_strike_ok hp.1 h) (fun _ _ _ _ => rfl) fun τ1 σ1 g0 a0 y h1 h2 h3 h4 h5 h6 => ?_
  show cO _ _ _ _ _ _ _ (zF_lam13 ρ y (some a0) σ1)
  unfold zF_lam13 zF_X1_lambda_strike_11
  rw [zp_gI h6 (k := 0) (v := a) rfl, Option.bind_some, zp_gI h6 (k := 1) (v := b) rfl, Option.bind_some, h1.ck]
  exact ((kc_strike (n := n) a b h1 hp.1 (by omega) h2 h3 (h5.le (by omega)) hfu).mono (by decide)).cI.cI
theorem kx_croak {x T c n : Nat} {S : pa_S} (hh : xH ρ τ σ x S T c n) (a b d : Int32) {s : Nat} (hs : s ≤ 1) : xO [122, 106, 138, 143] ρ τ σ x S (pa_croak a b d s S.1) 250 (zF_X1_croak ρ x a b d (.ofNat s) σ) := by
  obtain ⟨hr, hp, hc, hw, hca, hG, hfu⟩ := hh
  unfold zF_X1_croak
  have hfit : zz_fit .boolean (Int32.ofNat s) = true := by
    rcases (show s = 0 ∨ s = 1 by omega) with h | h <;> rw [h] <;> rfl
  rw [if_neg (fun h => h hfit)]
  refine kc_op hr hp (by omega) hw hca hG hfu (by decide) (fun v A' h => pa_croak_ok hp.1 hs h) (fun _ _ _ _ => rfl) fun τ1 σ1 g0 a0 y h1 h2 h3 h4 h5 h6 => ?_
  show cO _ _ _ _ _ _ _ (zF_lam19 ρ y (some a0) σ1)
  unfold zF_lam19 zF_X1_lambda_croak_14
  rw [zp_gI h6 (k := 0) (v := a) rfl, Option.bind_some, zp_gI h6 (k := 1) (v := b) rfl, Option.bind_some, zp_gI h6 (k := 2) (v := d) rfl, Option.bind_some, zp_gI h6 (k := 3) (v := .ofNat s) rfl, Option.bind_some, h1.ck]
  exact ((kc_croak (n := n) a b d hs h1 hp.1 (by omega) h2 h3 (h5.le (by omega)) hfu).mono (by decide)).cI.cI
theorem kx_bool {v : Nat} (h : v ≤ 1) (σ' : zz_S) : (if Int32.ofNat v = (1 : Int32) then zz_rN .boolean (1 : Int32) σ' else zz_rN .boolean (0 : Int32) σ') = zz_rI (.ofNat v) σ' := by
  rcases (show v = 0 ∨ v = 1 by omega) with h | h <;> subst h <;> rfl
theorem kx_callNext {x T c n : Nat} {S : pa_S} (hh : xH ρ τ σ x S T c n) (a : Int32) : xO [122, 119] ρ τ σ x S (pa_call a S.1) 250 (zF_X1_callNext ρ x a σ) := by
  obtain ⟨hr, hp, hc, hw, hca, hG, hfu⟩ := hh
  have hv : ∀ v A', pa_call a S.1 = .inl (v, A') → v ≤ 1 := fun v A' h => by
    unfold pa_call at h
    split at h
    · cases h
    · dsimp only at h
      split at h
      · cases h
      · split at h <;> (cases h; decide)
  unfold zF_X1_callNext
  refine kc_op hr hp (by omega) hw hca hG hfu (by decide) (fun v A' h => pa_call_ok hp.1 h) (fun v A' σ' h => ?_) fun τ1 σ1 g0 a0 y h1 h2 h3 h4 h5 h6 => ?_
  · exact kx_bool (hv v A' h) σ'
  show cO _ _ _ _ _ _ _ (zF_lam14 ρ y (some a0) σ1)
  unfold zF_lam14 zF_X1_lambda_callNext_12
  rw [zp_gI h6 (k := 0) (v := a) rfl, Option.bind_some, h1.ck]
  exact ((kc_call (n := n) a h1 hp.1 hc h2 h3 (h5.le (by omega)) hfu).mono (by decide)).cI.cI
theorem kx_back {x T c n : Nat} {S : pa_S} (hh : xH ρ τ σ x S T c n) (a b : Int32) : xO [122, 106, 138, 143] ρ τ σ x S (pa_back a b S.1) 250 (zF_X1_supportClosure ρ x a b σ) := by
  obtain ⟨hr, hp, hc, hw, hca, hG, hfu⟩ := hh
  have hv : ∀ v A', pa_back a b S.1 = .inl (v, A') → v ≤ 1 := fun v A' h => by
    unfold pa_back pa_both at h
    split at h
    · cases h
    · split at h
      · cases h
      · dsimp only at h
        split at h
        · cases h
        · split at h
          · cases h
          · split at h
            · cases h
            · cases h
              split <;> decide
  unfold zF_X1_supportClosure
  refine kc_op hr hp (by omega) hw hca hG hfu (by decide) (fun v A' h => pa_back_ok hp.1 h) (fun v A' σ' h => ?_) fun τ1 σ1 g0 a0 y h1 h2 h3 h4 h5 h6 => ?_
  · exact kx_bool (hv v A' h) σ'
  show cO _ _ _ _ _ _ _ (zF_lam16 ρ y (some a0) σ1)
  unfold zF_lam16 zF_X1_lambda_supportClosure_13
  rw [zp_gI h6 (k := 0) (v := a) rfl, Option.bind_some, zp_gI h6 (k := 1) (v := b) rfl, Option.bind_some, h1.ck]
  exact ((kc_back (n := n) a b h1 hp.1 (by omega) h2 h3 (h5.le (by omega)) hfu).mono (by decide)).cI.cI
theorem kx_decide {x T c n : Nat} {S : pa_S} (hh : xH ρ τ σ x S T c n) (a : Int32) : xO [122, 138] ρ τ σ x S (pa_decide a S.1) 250 (zF_X1_decide ρ x a σ) := by
  obtain ⟨hr, hp, hc, hw, hca, hG, hfu⟩ := hh
  have hv : ∀ v A', pa_decide a S.1 = .inl (v, A') → v ≤ 1 := fun v A' h => by
    unfold pa_decide at h
    split at h
    · cases h
    · dsimp only at h
      split at h
      · cases h
      · cases h
        split <;> decide
  unfold zF_X1_decide
  refine kc_op hr hp (by omega) hw hca hG hfu (by decide) (fun v A' h => pa_decide_ok hp.1 h) (fun v A' σ' h => ?_) fun τ1 σ1 g0 a0 y h1 h2 h3 h4 h5 h6 => ?_
  · exact kx_bool (hv v A' h) σ'
  show cO _ _ _ _ _ _ _ (zF_lam20 ρ y (some a0) σ1)
  unfold zF_lam20 zF_X1_lambda_decide_15
  rw [zp_gI h6 (k := 0) (v := a) rfl, Option.bind_some, h1.ck]
  exact ((kc_decide (n := n) a h1 hp.1 (by omega) h2 h3 (h5.le (by omega)) hfu).mono (by decide)).cI.cI
end CXO
