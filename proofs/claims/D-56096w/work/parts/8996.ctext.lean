/-! ===== append, lineAt, errorPosition, failedCommand, describeList ===== -/
section CTX
variable {ρ : zz_C} {σ σ' : zz_S} {τ τ' : Nat → Nat}
def pa_setText (S : pa_S) (t : List Nat) : pa_S := (S.1, S.2.1, S.2.2.1, t, S.2.2.2.2)
def pa_setLine (S : pa_S) (t : List Nat) : pa_S := (S.1, S.2.1, S.2.2.1, S.2.2.2.1, t, S.2.2.2.2.2)
def pa_append (ch : Int32) (S : pa_S) : (Nat × pa_S) ⊕ Nat := match pd ch 32 127 with
  | none => .inr 1
  | some c => if S.2.2.2.1.length = 60 then .inr 2 else .inl (S.2.2.2.1.length + 1, pa_setText S (S.2.2.2.1 ++ [c]))
/-- all but the text's cells is kept -/
theorem rSx.text {x T T' fa ad d e h tb l g0 a0 c : Nat} {H : List (Nat × Nat)} {Z : Option (Nat × Nat)} {S : pa_S} {t : List Nat} (hr : rSx ρ τ σ x S T fa ad d e h tb l g0 a0 H Z) (hp : pS S c) (hk : zo_k (fun t => t ≠ 0 ∧ t ≠ 5) τ σ τ' σ') (ht : rText τ' σ' tb t) (hT : ∀ b, τ' b < T') (hTT : T ≤ T') : rSx ρ τ' σ' x (pa_setText S t) T' fa ad d e h tb l g0 a0 H Z := by
  obtain ⟨r1, r2, r3, ⟨r4, r5, r6⟩, r7, r8, r9, r10, r11, r12, r13, r14⟩ := hr
  have hkx := hk x (by rw [r1]; decide)
  have hkd := hk d (by rw [r4]; decide)
  have hke := hk e (by rw [r5]; decide)
  have h0 := (r12.1 _ List.mem_cons_self).1
  refine ⟨hkx.1.trans r1, hkx.2.trans r2, r3.keep hk (by decide), ⟨hkd.1.trans r4, hke.1.trans r5, r6.keep hkd.2 hke.2⟩, ht, r8.keep hk (by decide), r9.keep1 hp.1 hk (by decide) (fun t h1 _ => by have : 1000 ≤ g0 := h0; omega), r10.keep hp.2.1 hk (by decide) (fun p hp' t h1 h2 => by
    have := (r12.1 p (by rw [List.cons_append]; exact List.mem_cons_of_mem _ (List.mem_append_left _ hp'))).1
    omega), ⟨r11.1, fun z A hz hA => ?_⟩, r12.mono hTT, hT, by omega⟩
  have h1 := (r12.1 z (by rw [hz, List.cons_append]; exact List.mem_cons_of_mem _ (List.mem_append_right _ (by simp)))).1
  exact (r11.2 z A hz hA).keep1 (hp.2.2.2.1 A hA) hk (by decide) fun t h2 _ => by omega
theorem kx_append {x T c n : Nat} {S : pa_S} (a : Int32) (hh : xH ρ τ σ x S T c n) : xA ρ τ σ x (match pa_append a S with | .inl q => q.2 | .inr _ => S) 1 (match pa_append a S with | .inl q => .inl (.ofNat q.1) | .inr p => .inr (kcls [106, 138] p)) (zF_X1_append ρ x a σ) := by
  obtain ⟨hr, hp, hc, hw, hca, hG, hfu⟩ := hh
  have hr00 := hr
  obtain ⟨fa, ad, d, e, h, tb, l, g0, a0, H, Z, hr⟩ := hr
  have hr0 := hr
  obtain ⟨r1, r2, r3, r4, r7, r8, r9, r10, r11, r12, r13, r14⟩ := hr
  obtain ⟨v, cap, t1, t2, t3⟩ := r7
  have h60 := hp.2.2.2.2
  unfold zF_X1_append pa_append
  cases hx : pd a 32 127 with
  | none =>
    rw [jk_between_no (lo := 32) (n := 127) 32 126 rfl (by decide) (by decide) (by decide) hx, cc_I]
    exact xA.thr ((jk_arg_no (g := n + 259) hG).cV) hr00 hp hw
  | some w =>
    obtain ⟨hw1, hw2, rfl⟩ := pd_some hx
    rw [jk_between_yes (lo := 32) (n := 127) 32 126 rfl (by decide) (by decide) hw1 hw2, cc_I, jk_arg_yes, cc_V, zp_gR r2 (k := 3) (v := some tb) rfl, Option.bind_some, t3.ck, t3.len, cc_I]
    unfold zJ_X1_append_28
    by_cases h6 : S.2.2.2.1.length = 60
    · rw [if_pos (show (60 : Int32) ≤ _ from by rw [h6]; decide)]
      simp only [h6, if_true]
      exact xA.thr ((jk_state_no (g := n + 259) hG).cV) hr00 hp hw
    · rw [if_neg (show ¬ (60 : Int32) ≤ _ from by rw [show (60 : Int32) = Int32.ofNat 60 from rfl, ci_le (by decide) (by omega)]; omega)]
      simp only [h6, if_false]
      rw [jk_state_yes, cc_V, zp_gR r2 (k := 3) (v := some tb) rfl, Option.bind_some, t3.ck]
      obtain ⟨σ1, v', cap', a1, a2, a3, a4⟩ := jS_append (ρ := ρ) (c := w) (g := n + 259) t3 hw.1 hG (by omega) (by omega)
      have hnew := hw.new
      have hxl : x < σ.1.1 := hw.lt (by rw [r1]; decide)
      have hx1 := (a2.keep hxl fun h => by rcases h with h | h <;> (rw [h] at r1; omega)).trans r2
      rw [a1, cc_R, zp_gR hx1 (k := 3) (v := some tb) rfl, Option.bind_some, a3.ck, a3.len, cc_I, show (S.2.2.2.1 ++ [w]).length = S.2.2.2.1.length + 1 by simp]
      have hle : ∀ τ1, (∀ b, τ b ≠ 0 → τ1 b = τ b) → zo_k (fun t => t ≠ 0 ∧ t ≠ 5) τ σ τ1 σ1 := fun τ1 h1 b hb => ⟨h1 b hb.1, a2.keep (hw.lt hb.1) fun h => by rcases h with h | h <;> (rw [h] at hb; omega)⟩
      have fin : ∀ τ1, (∀ b, τ b ≠ 0 → τ1 b = τ b) → zo_wf τ1 σ1 → (∀ b, τ1 b < T) → τ1 v' = 5 → ∃ τ' σ' T', xStep τ σ τ' σ' 1 ∧ rS ρ τ' σ' x (pa_setText S (S.2.2.2.1 ++ [w])) T' ∧ zz_rI (.ofNat (S.2.2.2.1.length + 1)) σ1 = zz_rI (.ofNat (S.2.2.2.1.length + 1)) σ' := fun τ1 h1 h2 h3 h4 => by
        refine ⟨τ1, σ1, T, ⟨h2, (hle τ1 h1).mono fun t ht => by unfold kX at ht; omega, fun n hn => a2.gas (n := n) hn, a2.2.1⟩, ⟨fa, ad, d, e, h, tb, l, g0, a0, H, Z, hr0.text hp (hle τ1 h1) ⟨v', cap', (h1 tb (by rw [t1]; decide)).trans t1, h4, a3⟩ h3 (Nat.le_refl _)⟩, rfl⟩
      rcases a4 with a4 | ⟨a4, a5⟩
      · exact fin τ (fun _ _ => rfl) (hw.le a2) r13 (by rw [a4]; exact t2)
      · refine fin (zo_tg τ σ.1.1 5) (fun b hb => zo_tg_ne fun h => hb (h ▸ hnew)) ((hw.le a2).tg a5) (fun b => ?_) (by rw [a4]; exact zo_tg_at _ _ _)
        have := r13 b
        unfold zo_tg
        split <;> omega
/-- lineAt -/
theorem kx_lineAt {x T c n : Nat} {S : pa_S} (a : Int32) (hh : xH ρ τ σ x S T c n) : xA ρ τ σ x S 1 (match pd a 0 S.2.2.2.2.1.length with | none => .inr 122 | some k => .inl (.ofNat (S.2.2.2.2.1[k]?.getD 0))) (zF_X1_lineAt ρ x a σ) := by
  obtain ⟨hr, hp, hc, hw, hca, hG, hfu⟩ := hh
  have hr00 := hr
  obtain ⟨fa, ad, d, e, h, tb, l, g0, a0, H, Z, hr⟩ := hr
  obtain ⟨r1, r2, r3, r4, r7, ⟨v, t1, t2, t3⟩, r9, r10, r11, r12, r13, r14⟩ := hr
  have h70 := t3.2.2.2
  unfold zF_X1_lineAt
  rw [zp_gR r2 (k := 6) (v := some l) rfl, Option.bind_some, t3.ck, jt_length t3, cc_I]
  cases hx : pd a 0 S.2.2.2.2.1.length with
  | none => exact xA.thr ((jk_index_no (g := n + 259) (by omega) hx hG).cV) hr00 hp hw
  | some k =>
    obtain ⟨-, hk, rfl⟩ := pd_some hx
    have hch := List.getElem?_eq_getElem hk
    rw [jk_index_yes (by omega) hk, cc_V, zp_gR r2 (k := 6) (v := some l) rfl, Option.bind_some, t3.ck, jt_charAt t3 hch, cc_I, jt_rN (t3.2.2.1 _ (List.getElem_mem hk))]
    refine xA.val ⟨σ, ?_, zp_le.refl _ _ _⟩ hr00 hp hw
    rw [hch]; rfl
theorem kx_opt {o : Option Nat} (h : ∀ n, o = some n → n < 1000) : (pa_opt o < 0 ↔ o = none) := by
  cases o with
  | none => exact ⟨fun _ => rfl, fun _ => by decide⟩
  | some n =>
    have := h n rfl
    exact ⟨fun h => absurd h (jn_cmp' (by omega)), fun h => by cases h⟩
theorem kx_errorPosition {x T c n : Nat} {S : pa_S} (hh : xH ρ τ σ x S T c n) (he : ∀ n, S.2.2.2.2.2.1 = some n → n < 1000) : xA ρ τ σ x S 1 (match S.2.2.2.2.2.1 with | none => .inr 119 | some k => .inl (.ofNat k)) (zF_X1_errorPosition ρ x σ) := by
  obtain ⟨hr, hp, hc, hw, hca, hG, hfu⟩ := hh
  have hr00 := hr
  obtain ⟨fa, ad, d, e, h, tb, l, g0, a0, H, Z, hr⟩ := hr
  have r2 := hr.2.1
  unfold zF_X1_errorPosition
  rw [zp_gI r2 (k := 7) (v := pa_opt S.2.2.2.2.2.1) rfl, Option.bind_some]
  cases ho : S.2.2.2.2.2.1 with
  | none =>
    rw [if_pos (by decide)]
    exact xA.thr ((jk_elem_no (g := n + 259) hG).cV) hr00 hp hw
  | some k =>
    rw [if_neg (fun h => by have := (kx_opt (o := some k) (fun n hn => he n (ho.trans hn))).mp h; cases this), jk_elem_yes, cc_V, zp_gI r2 (k := 7) (v := .ofNat k) (by show some (Value.int (pa_opt S.2.2.2.2.2.1)) = _; rw [ho]; rfl), Option.bind_some]
    exact xA.val ⟨σ, rfl, zp_le.refl _ _ _⟩ hr00 hp hw
theorem kx_failedCommand {x T c n : Nat} {S : pa_S} (hh : xH ρ τ σ x S T c n) (he : ∀ n, S.2.2.2.2.2.2 = some n → n < 1000) : xA ρ τ σ x S 1 (match S.2.2.2.2.2.2 with | none => .inr 119 | some k => .inl (.ofNat k)) (zF_X1_failedCommand ρ x σ) := by
  obtain ⟨hr, hp, hc, hw, hca, hG, hfu⟩ := hh
  have hr00 := hr
  obtain ⟨fa, ad, d, e, h, tb, l, g0, a0, H, Z, hr⟩ := hr
  have r2 := hr.2.1
  unfold zF_X1_failedCommand
  rw [zp_gI r2 (k := 8) (v := pa_opt S.2.2.2.2.2.2) rfl, Option.bind_some]
  cases ho : S.2.2.2.2.2.2 with
  | none =>
    rw [if_pos (by decide)]
    exact xA.thr ((jk_elem_no (g := n + 259) hG).cV) hr00 hp hw
  | some k =>
    rw [if_neg (fun h => by have := (kx_opt (o := some k) (fun n hn => he n (ho.trans hn))).mp h; cases this), jk_elem_yes, cc_V, zp_gI r2 (k := 8) (v := .ofNat k) (by show some (Value.int (pa_opt S.2.2.2.2.2.2)) = _; rw [ho]; rfl), Option.bind_some]
    exact xA.val ⟨σ, rfl, zp_le.refl _ _ _⟩ hr00 hp hw
end CTX
