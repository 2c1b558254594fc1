/-! ===== THE COMPONENT's STATE; a change ===== -/
section CST
variable {ρ : zz_C} {σ σ' : zz_S} {τ τ' : Nat → Nat}
/-- assemblies' numbers: apart from each other, below T -/
def pOwn (L : List (Nat × Nat)) (T : Nat) : Prop := (∀ p, p ∈ L → 1000 ≤ p.1 ∧ p.1 + 200 ≤ T) ∧ L.Pairwise fun p q => p.1 + 200 ≤ q.1 ∨ q.1 + 200 ≤ p.1
def rLine (τ : Nat → Nat) (σ : zz_S) (l : Nat) (X : List Nat) : Prop := ∃ v, τ l = 1 ∧ τ v = 1 ∧ cStr σ l v X
def rText (τ : Nat → Nat) (σ : zz_S) (tb : Nat) (X : List Nat) : Prop := ∃ v cap, τ tb = 5 ∧ τ v = 5 ∧ cSB σ tb v cap X
def rHs (τ : Nat → Nat) (σ : zz_S) (H : List (Nat × Nat)) (As : List pa_A) : Prop := H.length = As.length ∧ ∀ (i : Nat) (p : Nat × Nat) (A : pa_A), H[i]? = some p → As[i]? = some A → rAs τ σ p.1 p.2 A
/-- the finders and the adders -/
def rFA (ρ : zz_C) (τ : Nat → Nat) (σ : zz_S) (fa ad : Nat) : Prop := τ fa = 1 ∧ τ ad = 1 ∧
  (∃ (w : Bool) (f : Nat → Option Nat), σ.2.2 fa = some (w, .inl (6, (2, .inr (.inr (.inr (.inr f)))))) ∧ (∃ y w, f 0 = some y ∧ τ y = 1 ∧ σ.2.2 y = some (w, .inr (201, []))) ∧ (∃ y w, f 1 = some y ∧ τ y = 1 ∧ σ.2.2 y = some (w, .inr (202, [])))) ∧
  (∃ (w : Bool) (f : Nat → Option Nat), σ.2.2 ad = some (w, .inl (7, (2, .inr (.inr (.inr (.inr f)))))) ∧ (∃ y w, f 0 = some y ∧ τ y = 1 ∧ σ.2.2 y = some (w, .inr (203, [.int 1]))) ∧ (∃ y w, f 1 = some y ∧ τ y = 1 ∧ σ.2.2 y = some (w, .inr (204, [.int 1]))))
theorem rFA.keep {G : Nat → Prop} {fa ad : Nat} (h : zo_k G τ σ τ' σ') (h1 : G 1) (hc : rFA ρ τ σ fa ad) : rFA ρ τ' σ' fa ad := by
  have k : ∀ b, τ b = 1 → τ' b = 1 ∧ σ'.2.2 b = σ.2.2 b := fun b hb => by
    have := h b (by rw [hb]; exact h1)
    exact ⟨this.1.trans hb, this.2⟩
  obtain ⟨c1, c2, ⟨w, f, c3, ⟨y, w1, d1, d2, d3⟩, ⟨z, w2, e1, e2, e3⟩⟩, ⟨w', f', c3', ⟨y', w1', d1', d2', d3'⟩, ⟨z', w2', e1', e2', e3'⟩⟩⟩ := hc
  exact ⟨(k fa c1).1, (k ad c2).1, ⟨w, f, (k fa c1).2.trans c3, ⟨y, w1, d1, (k y d2).1, (k y d2).2.trans d3⟩, ⟨z, w2, e1, (k z e2).1, (k z e2).2.trans e3⟩⟩, ⟨w', f', (k ad c2).2.trans c3', ⟨y', w1', d1', (k y' d2').1, (k y' d2').2.trans d3'⟩, ⟨z', w2', e1', (k z' e2').1, (k z' e2').2.trans e3'⟩⟩⟩
def xcell (fa ad d tb a0 : Nat) (Z : Option Nat) (l : Nat) (S : pa_S) : zz_E := .inr (1, [.ref fa, .ref ad, .ref d, .ref tb, .ref a0, va_rf Z, .ref l, .int (pa_opt S.2.2.2.2.2.1), .int (pa_opt S.2.2.2.2.2.2)])
/-- the component's picture, its parts named -/
def rSx (ρ : zz_C) (τ : Nat → Nat) (σ : zz_S) (x : Nat) (S : pa_S) (T fa ad d e h tb l g0 a0 : Nat) (H : List (Nat × Nat)) (Z : Option (Nat × Nat)) : Prop :=
  τ x = 2 ∧ σ.2.2 x = some (true, xcell fa ad d tb a0 (Z.map (·.2)) l S) ∧ rFA ρ τ σ fa ad ∧ (τ d = 4 ∧ τ e = 4 ∧ cD σ d e h (H.map (·.2))) ∧ rText τ σ tb S.2.2.2.1 ∧ rLine τ σ l S.2.2.2.2.1 ∧
  rAs τ σ g0 a0 S.1 ∧ rHs τ σ H S.2.1 ∧ (Z.isSome = S.2.2.1.isSome ∧ ∀ z A, Z = some z → S.2.2.1 = some A → rAs τ σ z.1 z.2 A) ∧ pOwn ((g0, a0) :: H ++ Z.toList) T ∧ (∀ b, τ b < T) ∧ 1000 ≤ T
def rS (ρ : zz_C) (τ : Nat → Nat) (σ : zz_S) (x : Nat) (S : pa_S) (T : Nat) : Prop := ∃ fa ad d e h tb l g0 a0 H Z, rSx ρ τ σ x S T fa ad d e h tb l g0 a0 H Z
theorem pOwn.mono {L : List (Nat × Nat)} {T T' : Nat} (h : pOwn L T) (hT : T ≤ T') : pOwn L T' := ⟨fun p hp => ⟨(h.1 p hp).1, by have := (h.1 p hp).2; omega⟩, h.2⟩
theorem rLine.keep {G : Nat → Prop} {l : Nat} {X : List Nat} (h : zo_k G τ σ τ' σ') (h1 : G 1) (hc : rLine τ σ l X) : rLine τ' σ' l X := by
  obtain ⟨v, c1, c2, c3⟩ := hc
  have k1 := h l (by rw [c1]; exact h1)
  have k2 := h v (by rw [c2]; exact h1)
  exact ⟨v, k1.1.trans c1, k2.1.trans c2, c3.keep k1.2 k2.2⟩
theorem rText.keep {G : Nat → Prop} {tb : Nat} {X : List Nat} (h : zo_k G τ σ τ' σ') (h5 : G 5) (hc : rText τ σ tb X) : rText τ' σ' tb X := by
  obtain ⟨v, cap, c1, c2, c3⟩ := hc
  have k1 := h tb (by rw [c1]; exact h5)
  have k2 := h v (by rw [c2]; exact h5)
  exact ⟨v, cap, k1.1.trans c1, k2.1.trans c2, c3.keep k1.2 k2.2⟩
/-- an assembly is kept -/
theorem rAs.keep1 {g a c : Nat} {A : pa_A} {G : Nat → Prop} (h : rAs τ σ g a A) (hok : pa_ok A c) (hk : zo_k G τ σ τ' σ') (h1 : G 1) (hg : ∀ t, g ≤ t → t < g + 200 → G t) : rAs τ' σ' g a A :=
  h.keep hk h1 hg hok.1 hok.2.2.1
/-- all is kept -/
theorem rSx.keep {x T T' fa ad d e h tb l g0 a0 c : Nat} {H : List (Nat × Nat)} {Z : Option (Nat × Nat)} {S : pa_S} (hr : rSx ρ τ σ x S T fa ad d e h tb l g0 a0 H Z) (hp : pS S c) (hk : zo_k (fun t => t ≠ 0) τ σ τ' σ') (hT : ∀ b, τ' b < T') (hTT : T ≤ T') : rSx ρ τ' σ' x S T' fa ad d e h tb l g0 a0 H Z := by
  obtain ⟨r1, r2, r3, ⟨r4, r5, r6⟩, r7, r8, r9, r10, r11, r12, r13, r14⟩ := hr
  have hkx := hk x (by rw [r1]; decide)
  have hkd := hk d (by rw [r4]; decide)
  have hke := hk e (by rw [r5]; decide)
  have h0 := (r12.1 _ List.mem_cons_self).1
  refine ⟨hkx.1.trans r1, hkx.2.trans r2, r3.keep hk (by decide), ⟨hkd.1.trans r4, hke.1.trans r5, r6.keep hkd.2 hke.2⟩, r7.keep hk (by decide), r8.keep hk (by decide), r9.keep1 hp.1 hk (by decide) (fun t h1 _ => by have : 1000 ≤ g0 := h0; omega), ⟨r10.1, fun i p A hi hA => ?_⟩, ⟨r11.1, fun z A hz hA => ?_⟩, r12.mono hTT, hT, by omega⟩
  · have h1 := (r12.1 p (by rw [List.cons_append]; exact List.mem_cons_of_mem _ (List.mem_append_left _ (List.mem_of_getElem? hi)))).1
    exact (r10.2 i p A hi hA).keep1 (hp.2.1 A (List.mem_of_getElem? hA)) hk (by decide) fun t h2 _ => by omega
  · have h1 := (r12.1 z (by rw [hz, List.cons_append]; exact List.mem_cons_of_mem _ (List.mem_append_right _ (by simp)))).1
    exact (r11.2 z A hz hA).keep1 (hp.2.2.2.1 A hA) hk (by decide) fun t h2 _ => by omega
/-- from τ, σ to τ', σ' at most k new cells; the cells that aren't the component's are kept -/
def kX (t : Nat) : Prop := t = 1 ∨ (6 ≤ t ∧ t < 1000)
def xStep (τ : Nat → Nat) (σ : zz_S) (τ' : Nat → Nat) (σ' : zz_S) (k : Nat) : Prop := zo_wf τ' σ' ∧ zo_k kX τ σ τ' σ' ∧ (∀ n, zp_gas (n + k) σ → zp_gas n σ') ∧ σ.1.1 ≤ σ'.1.1
/-- remember -/
theorem kc_remember {x d e h a1 : Nat} {fs : List Value} {X : List Nat} (hx : σ.2.2 x = some (true, .inr (1, fs))) (hd : fs[2]? = some (.ref d)) (hc : cD σ d e h X) (h8 : X.length ≤ 8) (h1 : ∃ w fs, σ.2.2 a1 = some (w, .inr (2, fs))) (hX : ∀ a, a ∈ X → ∃ w fs, σ.2.2 a = some (w, .inr (2, fs))) (hxd : x ≠ d ∧ x ≠ e) (hw : zp_wf σ) :
    ∃ σ' h', zF_X1_remember ρ x (some a1) σ = zz_rV σ' ∧ zp_le (fun b => b = d ∨ b = e) 0 σ σ' ∧ cD σ' d e h' (if X.length = 8 then X.drop 1 ++ [a1] else X ++ [a1]) := by
  obtain ⟨w, fs1, h1⟩ := h1
  have hne2 : ∀ a w fs, σ.2.2 a = some (w, .inr (2, fs)) → a ≠ d ∧ a ≠ e := fun a w fs ha => by
    obtain ⟨-, -, c3, f, c4, -⟩ := hc
    constructor
    · intro h; rw [h, c3] at ha; cases ha
    · intro h; rw [h, c4] at ha; cases ha
  obtain ⟨s1, i1, i2, i3⟩ := jd_addLast (ρ := ρ) (x := a1) hc (by omega) (by simp [zz_ok, zz_cl, h1, zz_cO]) hw
  have hxl := hw.lt hx
  have hx1 : s1.2.2 x = _ := (i2.keep hxl fun h => by rcases h with h | h; exact hxd.1 h; exact hxd.2 h).trans hx
  unfold zF_X1_remember
  rw [zp_gR hx (k := 2) (v := some d) hd, Option.bind_some, hc.ck, i1, cc_V, zp_gR hx1 (k := 2) (v := some d) hd, Option.bind_some, i3.ck, jd_size i3, cc_I]
  have hlen : (X ++ [a1]).length = X.length + 1 := by simp
  by_cases h8' : X.length = 8
  · rw [if_neg (show ¬ Int32.ofNat (X ++ [a1]).length ≤ (8 : Int32) from by rw [hlen, h8']; decide), if_pos h8']
    obtain ⟨y, X', hXc⟩ : ∃ y X', X = y :: X' := by
      cases X with
      | nil => simp at h8'
      | cons y X' => exact ⟨y, X', rfl⟩
    subst hXc
    obtain ⟨w2, fs2, hy⟩ := hX y List.mem_cons_self
    obtain ⟨s2, j1, j2, j3⟩ := jd_removeFirst (ρ := ρ) (x := y) (X := X' ++ [a1]) i3 (i2.wf hw)
    have hyl := hw.lt hy
    have hyn := hne2 y _ _ hy
    have hy2 : s2.2.2 y = _ := ((j2.keep (by have := i2.2.1; omega) fun h => by rcases h with h | h; exact hyn.1 h; exact hyn.2 h).trans (i2.keep hyl fun h => by rcases h with h | h; exact hyn.1 h; exact hyn.2 h)).trans hy
    rw [zp_gR hx1 (k := 2) (v := some d) hd, Option.bind_some, i3.ck, j1, cc_R, if_neg (fun h => h (by simp [zz_ok, zz_cl, hy2]))]
    exact ⟨s2, _, rfl, i2.trans (k' := 0) j2 fun _ _ h => h, j3⟩
  · rw [if_pos (show Int32.ofNat (X ++ [a1]).length ≤ (8 : Int32) from by rw [hlen, show (8 : Int32) = Int32.ofNat 8 from rfl, ci_le (by omega) (by decide)]; omega), if_neg h8']
    exact ⟨s1, h, rfl, i2, i3⟩
/-- an Operation's answer, by its class -/
def zlamC (c : Nat) (ρ : zz_C) (y : Nat) (v : Option Nat) (σ : zz_S) : zz_R :=
  if c = 206 then zF_lam6 ρ y v σ else if c = 207 then zF_lam7 ρ y v σ else if c = 208 then zF_lam8 ρ y v σ else if c = 209 then zF_lam9 ρ y v σ else if c = 211 then zF_lam11 ρ y v σ else if c = 212 then zF_lam12 ρ y v σ else if c = 213 then zF_lam13 ρ y v σ else if c = 214 then zF_lam14 ρ y v σ else if c = 216 then zF_lam16 ρ y v σ else if c = 219 then zF_lam19 ρ y v σ else if c = 220 then zF_lam20 ρ y v σ else none
theorem zl_change (th y : Nat) : zF_X1_change ρ th (some y) σ = (zz_gR σ (some th) 1 4).bind fun v1 => zz_ck σ v1 2 fun a2 => zz_cR (zF_X2_copy ρ a2 σ) (fun v5 σ6 => (zz_gR σ6 (some th) 1 4).bind fun v7 => zz_dp σ6 (some y) fun a8 c9 => zz_cI (zlamC c9 ρ a8 v7 σ6) (fun v12 σ13 => zz_ck σ13 (some th) 1 fun a14 => zz_cV (zF_X1_remember ρ a14 v5 σ13) (fun σ18 => zz_rI v12 σ18) zz_P) zz_P) zz_P := by
  unfold zF_X1_change
  congr 1
  funext v1
  congr 1
  funext a2
  congr 1
  funext v5 σ6
  congr 1
  funext v7
  congr 1
  funext a8 c9
  unfold zlamC
  by_cases h206 : c9 = 206
  · subst h206
    rfl
  rw [if_neg h206, if_neg h206]
  by_cases h207 : c9 = 207
  · subst h207
    rfl
  rw [if_neg h207, if_neg h207]
  by_cases h208 : c9 = 208
  · subst h208
    rfl
  rw [if_neg h208, if_neg h208]
  by_cases h209 : c9 = 209
  · subst h209
    rfl
  rw [if_neg h209, if_neg h209]
  by_cases h211 : c9 = 211
  · subst h211
    rfl
  rw [if_neg h211, if_neg h211]
  by_cases h212 : c9 = 212
  · subst h212
    rfl
  rw [if_neg h212, if_neg h212]
  by_cases h213 : c9 = 213
  · subst h213
    rfl
  rw [if_neg h213, if_neg h213]
  by_cases h214 : c9 = 214
  · subst h214
    rfl
  rw [if_neg h214, if_neg h214]
  by_cases h216 : c9 = 216
  · subst h216
    rfl
  rw [if_neg h216, if_neg h216]
  by_cases h219 : c9 = 219
  · subst h219
    rfl
  rw [if_neg h219, if_neg h219]
  by_cases h220 : c9 = 220
  · subst h220
    rfl
  rw [if_neg h220, if_neg h220]
  rfl
end CST
