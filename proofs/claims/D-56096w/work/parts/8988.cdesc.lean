/-! ===== describeList ===== -/
section CDE
variable {ρ : zz_C} {σ : zz_S} {τ : Nat → Nat}
/-- a String constant, never written -/
def rStr (ρ : zz_C) (τ : Nat → Nat) (σ : zz_S) (k : Nat) (X : List Nat) : Prop := ∃ s v, ρ.1 k = some s ∧ τ s = 1 ∧ τ v = 1 ∧ cStr σ s v X
theorem rStr.keep {G : Nat → Prop} {τ' : Nat → Nat} {σ' : zz_S} {k : Nat} {X : List Nat} (h : zo_k G τ σ τ' σ') (h1 : G 1) (hc : rStr ρ τ σ k X) : rStr ρ τ' σ' k X := by
  obtain ⟨s, v, c1, c2, c3, c4⟩ := hc
  have k1 := h s (by rw [c2]; exact h1)
  have k2 := h v (by rw [c3]; exact h1)
  exact ⟨s, v, c1, k1.1.trans c2, k2.1.trans c3, c4.keep k1.2 k2.2⟩
def rDes (ρ : zz_C) (τ : Nat → Nat) (σ : zz_S) : Prop := rDig ρ τ σ ∧ rStr ρ τ σ 3879 [] ∧ rStr ρ τ σ 3880 [44] ∧ rStr ρ τ σ 3883 [126] ∧ rStr ρ τ σ 3884 [124]
theorem rDes.keep {G : Nat → Prop} {τ' : Nat → Nat} {σ' : zz_S} (h : zo_k G τ σ τ' σ') (h1 : G 1) (hc : rDes ρ τ σ) : rDes ρ τ' σ' := ⟨hc.1.keep h h1, hc.2.1.keep h h1, hc.2.2.1.keep h h1, hc.2.2.2.1.keep h h1, hc.2.2.2.2.keep h h1⟩
def pa_rfrog (A : pa_A) (x : pa_Mo) (k : Nat) : Nat := (x.2.1[(pa_ranked (pa_sk A x.2.1) k).getD 0]?.getD (0, 0)).1
def pa_piece (A : pa_A) (x : pa_Mo) (k : Nat) : List Nat := (if k = 0 then [] else [44]) ++ pa_num (pa_rfrog A x k) ++ (if (pa_frog A (pa_rfrog A x k)).2.2.1 = 0 then [126] else [])
def pa_pieces (A : pa_A) (x : pa_Mo) (k r : Nat) : List Nat := ((List.range' k r).map (pa_piece A x)).flatten
def pa_text (A : pa_A) (x : pa_Mo) : List Nat := pa_pieces A x 0 x.2.1.length ++ (if x.1.2.1 = 1 then [124] else [])
theorem pa_pieces_succ (A : pa_A) (x : pa_Mo) (k r : Nat) : pa_pieces A x k (r + 1) = pa_piece A x k ++ pa_pieces A x (k + 1) r := by
  unfold pa_pieces
  rw [List.range'_succ, List.map_cons, List.flatten_cons]
/-- a String is put behind a builder that is new -/
theorem kd_app {n0 b v cap s k g : Nat} {X Y : List Nat} (h : cSB σ b v cap X) (hs : rStr ρ τ σ k Y) (hY : Y.length ≤ 2) (hb : n0 ≤ b) (hv : n0 ≤ v) (hn0 : ∀ c, n0 ≤ c → τ c = 0) (hw : zp_wf σ) (hg : zp_gas (g + 1) σ) (hn70 : X.length + Y.length ≤ 70) (hk : ρ.1 k = some s) (hnl : n0 ≤ σ.1.1) :
    ∃ σ' v' cap', zF_J8_append ρ b (some s) σ = zz_rR (some b) σ' ∧ zp_le (fun a => a = b ∨ a = v) 1 σ σ' ∧ cSB σ' b v' cap' (X ++ Y) ∧ n0 ≤ v' ∧ (v' = v ∨ σ.1.1 ≤ v') := by
  obtain ⟨s', sv, c1, c2, c3, c4⟩ := hs
  have : s' = s := by rw [hk] at c1; exact (Option.some.inj c1).symm
  subst this
  have hne : ∀ c d, τ c = 1 → n0 ≤ d → c ≠ d := fun c d h1 h2 he => by rw [he, hn0 d h2] at h1; omega
  obtain ⟨σ', v', cap', e1, e2, e3, e4⟩ := jS_appendS (ρ := ρ) h c4 hY ⟨hne _ _ c2 hb, hne _ _ c2 hv, hne _ _ c3 hb, hne _ _ c3 hv⟩ hw hg hn70
  exact ⟨σ', v', cap', e1, e2, e3, by omega, by omega⟩
theorem kl_desc {g a p m l qq bb n0 q qa c b G cc : Nat} {A : pa_A} {x : pa_Mo} {N R : List Nat} {af ac am : Nat} {F C Mo : List Nat} {σ0 : zz_S} (hX : rAx τ σ0 g a A af ac am F C Mo) (hok : pa_ok A cc) (hcc : cc ≤ 1000) (hg : 1000 ≤ g) (hw0 : zo_wf τ σ0) (hG : zp_gas G σ0) (hfu : 100 ≤ ρ.2) (hxo : pa_okM A cc x) (hm : σ0.2.2 p = some (true, mcell m x l qq bb)) (hn0 : n0 = σ0.1.1) (hq0 : kReqs n0 σ0 l N R x.2.1) (h11 : x.2.1.length ≤ 11) (hD : rDes ρ τ σ0) (hnd : R.Nodup) (hb : n0 ≤ b) (hq : n0 ≤ q) (hqa : n0 ≤ qa) (hc : n0 ≤ c) (hbq : b ≠ q ∧ b ≠ qa ∧ b ≠ c) (hqc : qa ≠ c ∧ q ≠ c) :
    ∀ (r n j : Nat) (P : List Nat) (σ : zz_S) (g' : Nat → Nat) (v cap : Nat) (X : List Nat),
      P.length + r = R.length → r < n → zp_le zp_no j σ0 σ → j + 3 * r + 3 ≤ G → cPQ σ q qa c r g' → hHeap (aKey A R x.2.1) g' r → hInj g' r → (∀ y, hIn g' r y ↔ ∃ i, i ∉ P ∧ R[i]? = some y) → P.Nodup → (∀ i, i ∈ P → i < R.length) → (∀ i k, i ∈ P → k < R.length → k ∉ P → pa_lt (pa_sk A x.2.1) i k = true) → kCmp ρ n0 σ c (aKey A R x.2.1) (fun y => y ∈ R) → cSB σ b v cap X → n0 ≤ v → v ≠ q ∧ v ≠ qa ∧ v ≠ c → X.length ≤ 4 * P.length → (X.length = 0 ↔ P.length = 0) →
      ∃ σ' s v', zL_X2_describeList_14 ρ n a (some p) (some b) (some q) σ = zz_rR (some s) σ' ∧ zp_le zp_no (j + 3 * r + 3) σ0 σ' ∧ cStr σ' s v' (X ++ pa_pieces A x P.length r ++ (if x.1.2.1 = 1 then [124] else [])) ∧ n0 ≤ s ∧ n0 ≤ v' ∧ s < σ'.1.1 ∧ v' < σ'.1.1 ∧ s ≠ v' := by
  have ho := hok.w hcc
  have hlR : R.length = x.2.1.length := hq0.2.1
  have hcl : x.1.2.1 ≤ 1 := hxo.2.2.1
  have hpl : p < σ0.1.1 := hw0.1.lt hm
  have htk : ∀ r, r ∈ x.2.1 → r.2 ≤ 1000 := fun r hr => by have := (hxo.2.2.2.2.2.2.2.1 r hr).2; have := hxo.2.2.2.2.2.1; omega
  have hz : ∀ c, n0 ≤ c → τ c = 0 := fun c h => hw0.2 c (by omega)
  intro r
  induction r with
  | zero =>
    intro n j P σ g' v cap X hP hn hl hj hpq hh hi hin hPn hPl hPlt hk hS hv hvq hXl hX0
    obtain ⟨n, rfl⟩ : ∃ m, n = m + 1 := ⟨n - 1, by omega⟩
    have hw := hw0.le hl
    have hm1 := (hl.keep hpl fun h => h).trans hm
    have hk1 : zo_k (fun t => t ≠ 0) τ σ0 τ σ := zo_k.of_le hw0 hl (by simp) fun _ h => h.elim
    have hD1 := hD.keep hk1 (by decide)
    rw [zL_X2_describeList_14, hpq.ck, jq_isEmpty hpq, if_pos rfl, cc_I, if_neg n10, zp_gI hm1 (k := 8) (v := .ofNat x.1.2.1) rfl, Option.bind_some]
    have fin : ∀ (k : Nat) (Y : List Nat), rStr ρ τ σ k Y → Y.length ≤ 2 → Y = (if x.1.2.1 = 1 then [124] else []) → ∃ σ' s v', (zz_ck σ (some b) 108 fun a7 => zz_cR (zF_J8_append ρ a7 (ρ.1 k) σ) (fun v10 σ11 => zz_ck σ11 v10 108 fun a12 => zz_cR (zF_J8_toString ρ a12 σ11) (fun v15 σ16 => zz_rR v15 σ16) zz_P) zz_P) = zz_rR (some s) σ' ∧ zp_le zp_no (j + 3 * 0 + 3) σ0 σ' ∧ cStr σ' s v' (X ++ pa_pieces A x P.length 0 ++ (if x.1.2.1 = 1 then [124] else [])) ∧ n0 ≤ s ∧ n0 ≤ v' ∧ s < σ'.1.1 ∧ v' < σ'.1.1 ∧ s ≠ v' := by
      intro k Y hY hY2 eY
      have hY0 := hY
      obtain ⟨s0, sv0, y1, -⟩ := hY
      obtain ⟨σ1, v1, cap1, a1, a2, a3, a4, a5⟩ := kd_app (ρ := ρ) (g := 2) hS hY0 hY2 hb hv hz hw.1 (hl.gas (n := 2 + 1) (hG.le (by omega))) (by omega) y1 (by have := hl.2.1; omega)
      have l1 : zp_le zp_no (j + 1) σ0 σ1 := hl.trans a2 fun c hc h => by omega
      obtain ⟨σ2, s, v', b1, b2, b3, b4, b5, b6, b7, b8⟩ := jS_toString (ρ := ρ) (g := 0) a3 (l1.wf hw0.1) (l1.gas (n := 0 + 2) (hG.le (by omega)))
      rw [hS.ck, y1, a1, cc_R, a3.ck, b1, cc_R]
      have hn1 := l1.2.1
      refine ⟨σ2, s, v', rfl, (l1.trans b2 fun _ _ h => h).mono (fun _ _ h => h) (by omega), ?_, by omega, by omega, b6, b7, b8⟩
      rw [← eY, show pa_pieces A x P.length 0 = [] from rfl, List.append_nil]
      exact b3
    by_cases h1 : x.1.2.1 = 1
    · rw [if_neg (show ¬ Int32.ofNat x.1.2.1 = 0 from by rw [h1]; decide)]
      exact fin 3884 [124] hD1.2.2.2.2 (by decide) (if_pos h1).symm
    · rw [if_pos (show Int32.ofNat x.1.2.1 = 0 from by rw [show x.1.2.1 = 0 by omega]; rfl)]
      exact fin 3879 [] hD1.2.1 (by decide) (if_neg h1).symm
  | succ r ih =>
    intro n j P σ g' v cap X hP hn hl hj hpq hh hi hin hPn hPl hPlt hk hS hv hvq hXl hX0
    obtain ⟨n, rfl⟩ : ∃ m, n = m + 1 := ⟨n - 1, by omega⟩
    have hw := hw0.le hl
    have hE : ∀ i, i < r + 1 → g' i ∈ R := fun i hi' => by
      obtain ⟨i', -, h2⟩ := (hin (g' i)).mp ⟨i, hi', rfl⟩
      exact List.mem_of_getElem? h2
    have hpl' := hl.2.1
    obtain ⟨σ1, g1, p1, p2, p3, p4, p5, p6⟩ := jq_poll (ρ := ρ) (n0 := n0) hpq (by omega) hqa hq hqc.1 hqc.2 hk hE hh hi hw.1 hfu
    have l1 : zp_le zp_no j σ0 σ1 := (hl.trans p2 fun c hc h => by omega).mono (fun _ _ h => h) (by omega)
    have hw1 := hw0.le l1
    -- the place of the polled
    obtain ⟨y, hy⟩ : ∃ y, y = g' 0 := ⟨_, rfl⟩
    obtain ⟨mm, hmP, hmR⟩ := (hin (g' 0)).mp ⟨0, by omega, rfl⟩
    have hml : mm < x.2.1.length := by rw [← hlR]; exact (List.getElem?_eq_some_iff.mp hmR).1
    have hrm := List.getElem?_eq_getElem hml
    have hmin : ∀ k, k < R.length → k ∉ P → ¬ pa_lt (pa_sk A x.2.1) k mm = true := fun k hk hkP hlt => by
      have hkR := List.getElem?_eq_getElem hk
      obtain ⟨i, hi', he⟩ := (hin R[k]).mpr ⟨k, hkP, hkR⟩
      have h1 := hh.root i hi'
      rw [he, aKey_at hnd hmR hrm, aKey_at hnd hkR (List.getElem?_eq_getElem (hlR ▸ hk))] at h1
      rw [pa_lt_key hxo.2.2.2.2.2.2.2.2.2.1 htk (List.getElem?_eq_getElem (hlR ▸ hk : k < x.2.1.length)) hrm] at hlt
      omega
    have hah : pa_ahead (pa_sk A x.2.1) mm = P.length := pa_ahead_eq hPn (fun j hj => by rw [show (pa_sk A x.2.1).length = x.2.1.length by simp [pa_sk], ← hlR]; exact hPl j hj) fun k hk => by
      rw [show (pa_sk A x.2.1).length = x.2.1.length by simp [pa_sk], ← hlR] at hk
      constructor
      · intro h1
        by_cases hkP : k ∈ P
        · exact hkP
        · exact absurd h1 (hmin k hk hkP)
      · intro h1; exact hPlt k mm h1 (by omega) hmP
    have hrk : pa_ranked (pa_sk A x.2.1) P.length = some mm := pa_ranked_of (by simpa [pa_sk] using hml) hah
    have hfr : pa_rfrog A x P.length = (x.2.1[mm]).1 := by
      unfold pa_rfrog
      rw [hrk, Option.getD_some, hrm]; rfl
    have hq1 := hq0.same (σ' := σ1) (l1.same (by omega) fun _ _ h => h)
    obtain ⟨u1, w, u2⟩ := hq1.2.2.2.2 mm (g' 0) _ hmR hrm
    have hfl := (hxo.2.2.2.2.2.2.2.1 _ (List.getElem_mem hml)).1
    have hX1 := hX.al ho (by omega) hw0 l1
    obtain ⟨f1, -, -, f4, -, -, -, -, -⟩ := hX1.fl (ρ := ρ)
    have hXa := hX.al ho (by omega) hw0 hl
    obtain ⟨f1a, -, -, -, -, -, -, -, -⟩ := hXa.fl (ρ := ρ)
    obtain ⟨⟨e, cF⟩, eF, kF⟩ := hX1.frogs
    obtain ⟨z, hz1⟩ : ∃ z, F[(x.2.1[mm]).1]? = some z := ⟨_, List.getElem?_eq_getElem (eF ▸ hfl : (x.2.1[mm]).1 < F.length)⟩
    obtain ⟨tz, cz⟩ := kF _ z hz1 hfl
    have hzl : z < n0 := by rw [hn0]; exact hw0.lt (by omega)
    have hbl : b < σ.1.1 ∧ v < σ.1.1 := by
      obtain ⟨⟨m', b1⟩, ⟨f, b2, -⟩, -⟩ := hS
      exact ⟨hw.1.lt b1, hw.1.lt b2⟩
    have hS1 : cSB σ1 b v cap X := hS.keep (p2.keep hbl.1 fun h => by omega) (p2.keep hbl.2 fun h => by omega)
    have hlenX := hS1.len (ρ := ρ)
    have hk01 : zo_k (fun t => t ≠ 0) τ σ0 τ σ1 := zo_k.of_le hw0 l1 (by simp) fun _ h => h.elim
    have hD1 := hD.keep hk01 (by decide)
    have hw7 : zz_ok σ1 (some (g' 0)) [7] = true := by simp [zz_ok, zz_cl, u2]
    have h12 := ho.1
    have hnum2 : (pa_num (x.2.1[mm]).1).length ≤ 2 := by unfold pa_num; split <;> simp
    have hnum1 : 1 ≤ (pa_num (x.2.1[mm]).1).length := by unfold pa_num; split <;> simp
    -- the pieces
    have step : ∀ (k : Nat) (Y : List Nat), rStr ρ τ σ1 k Y → Y.length ≤ 1 → Y = (if P.length = 0 then [] else [44]) → ∃ σ' s v', zJ_X2_describeList_58 ρ (zL_X2_describeList_14 ρ n) a (some p) (some b) (some q) (some z) (ρ.1 k) (some b) σ1 = zz_rR (some s) σ' ∧ zp_le zp_no (j + 3 * (r + 1) + 3) σ0 σ' ∧ cStr σ' s v' (X ++ pa_pieces A x P.length (r + 1) ++ (if x.1.2.1 = 1 then [124] else [])) ∧ n0 ≤ s ∧ n0 ≤ v' ∧ s < σ'.1.1 ∧ v' < σ'.1.1 ∧ s ≠ v' := by
      intro k Y hY hY1 eY
      have hY0 := hY
      obtain ⟨s0, sv0, y1, -⟩ := hY
      have hl1' := l1.2.1
      obtain ⟨σ2, v2, cap2, a1, a2, a3, a4, a5⟩ := kd_app (ρ := ρ) (g := 3 * r + 5) hS1 hY0 (by omega) hb hv hz hw1.1 (l1.gas (n := 3 * r + 5 + 1) (hG.le (by omega))) (by omega) y1 (by omega)
      have l2 : zp_le zp_no (j + 1) σ0 σ2 := l1.trans a2 fun c hc h => by omega
      have hw2 := hw0.le l2
      have hk02 : zo_k (fun t => t ≠ 0) τ σ0 τ σ2 := zo_k.of_le hw0 l2 (by simp) fun _ h => h.elim
      have hD2 := hD.keep hk02 (by decide)
      have cz2 : σ2.2.2 z = _ := (a2.keep (by omega) fun h => by omega).trans cz
      have hl2' := l2.2.1
      obtain ⟨σ3, v3, cap3, b1, b2, b3, b4⟩ := jS_appendN (ρ := ρ) (g := 3 * r + 4) (n := (x.2.1[mm]).1) (τ := τ) a3 (by omega) hD2.1 ⟨by rw [hz b hb]; decide, by rw [hz v2 a4]; decide⟩ hw2 (l2.gas (n := 3 * r + 4 + 1) (hG.le (by omega))) (by rw [List.length_append]; omega) (by omega)
      have l3 : zp_le zp_no (j + 1 + 1) σ0 σ3 := l2.trans b2 fun c hc h => by omega
      have hw3 := hw0.le l3
      have hv3 : n0 ≤ v3 := by omega
      have hk03 : zo_k (fun t => t ≠ 0) τ σ0 τ σ3 := zo_k.of_le hw0 l3 (by simp) fun _ h => h.elim
      have hD3 := hD.keep hk03 (by decide)
      have cz3 : σ3.2.2 z = _ := (b2.keep (by omega) fun h => by omega).trans cz2
      have hl3' := l3.2.1
      -- the mark
      have fin : ∀ (k : Nat) (W : List Nat), rStr ρ τ σ3 k W → W.length ≤ 1 → W = (if (pa_frog A (x.2.1[mm]).1).2.2.1 = 0 then [126] else []) → ∃ σ' s v', zJ_X2_describeList_85 ρ (zL_X2_describeList_14 ρ n) a (some p) (some b) (some q) (ρ.1 k) (some b) σ3 = zz_rR (some s) σ' ∧ zp_le zp_no (j + 3 * (r + 1) + 3) σ0 σ' ∧ cStr σ' s v' (X ++ pa_pieces A x P.length (r + 1) ++ (if x.1.2.1 = 1 then [124] else [])) ∧ n0 ≤ s ∧ n0 ≤ v' ∧ s < σ'.1.1 ∧ v' < σ'.1.1 ∧ s ≠ v' := by
        intro k W hW hW1 eW
        have hW0 := hW
        obtain ⟨s1, sv1, y1', -⟩ := hW
        obtain ⟨σ4, v4, cap4, d1, d2, d3, d4, d5⟩ := kd_app (ρ := ρ) (g := 3 * r + 3) b3 hW0 (by omega) hb hv3 hz hw3.1 (l3.gas (n := 3 * r + 3 + 1) (hG.le (by omega))) (by simp only [List.length_append]; omega) y1' (by omega)
        have l4 : zp_le zp_no (j + 3) σ0 σ4 := (l3.trans d2 fun c hc h => by omega).mono (fun _ _ h => h) (by omega)
        have hpiece : X ++ Y ++ pa_num (x.2.1[mm]).1 ++ W = X ++ pa_piece A x P.length := by
          unfold pa_piece
          rw [hfr, eY, eW]
          simp only [List.append_assoc]
        -- the queue is as it was
        have kall : ∀ c, c < σ1.1.1 → c ≠ b → c ≠ v → σ4.2.2 c = σ1.2.2 c := fun c hc hcb hcv => by
          have g1' := a2.2.1
          have g2' := b2.2.1
          rw [d2.keep (by omega) fun h => by omega, b2.keep (by omega) fun h => by omega, a2.keep hc fun h => by omega]
        have hql : q < σ1.1.1 ∧ qa < σ1.1.1 := by
          obtain ⟨_, ⟨mc, c1⟩, f, c2, -⟩ := p3
          exact ⟨hw1.1.lt c1, hw1.1.lt c2⟩
        have hpq4 : cPQ σ4 q qa c r g1 := by
          rw [show r + 1 - 1 = r by omega] at p3
          obtain ⟨c0, ⟨mc, c1⟩, f, c2, c3⟩ := p3
          exact ⟨c0, ⟨mc, (kall q hql.1 (by omega) (by omega)).trans c1⟩, f, (kall qa hql.2 (by omega) (by omega)).trans c2, c3⟩
        have hcl' : c < σ.1.1 := by obtain ⟨⟨u, c1⟩, -⟩ := hk; exact hw.1.lt c1
        have hk4 : kCmp ρ n0 σ4 c (aKey A R x.2.1) (fun y => y ∈ R) := by
          refine hk.same (fun d hd => ?_) ?_
          · rw [kall d (by omega) (by omega) (by omega)]
            exact p2.keep (by omega) fun h => by omega
          · rw [kall c (by have := p2.2.1; omega) (by omega) (by omega)]
            exact p2.keep hcl' fun h => by omega
        rw [show r + 1 - 1 = r by omega] at p4 p5 p6
        have hX4 : (X ++ pa_piece A x P.length).length ≤ 4 * (P ++ [mm]).length := by
          rw [← hpiece]
          simp only [List.length_append, List.length_cons, List.length_nil]; omega
        rw [hpiece] at d3
        obtain ⟨σ', s, v', t1, t2, t3, t4⟩ := ih n (j + 3) (P ++ [mm]) σ4 g1 v4 cap4 _ (by simp; omega) (by omega) l4 (by omega) hpq4 p4 p6 (fun y => by
          rw [p5 y, hin y]
          constructor
          · rintro ⟨⟨i, h1, h2⟩, h3⟩
            refine ⟨i, ?_, h2⟩
            rw [List.mem_append, List.mem_singleton]
            rintro (h4 | h4)
            · exact h1 h4
            · rw [h4, hmR] at h2; exact h3 (Option.some.inj h2).symm
          · rintro ⟨i, h1, h2⟩
            rw [List.mem_append, List.mem_singleton] at h1
            refine ⟨⟨i, fun h => h1 (.inl h), h2⟩, fun h3 => h1 (.inr ?_)⟩
            rw [h3] at h2
            exact (List.getElem?_inj (List.getElem?_eq_some_iff.mp h2).1 hnd).mp (h2.trans hmR.symm)) (by
          rw [List.nodup_append]
          refine ⟨hPn, by simp, fun a ha b hb => ?_⟩
          have : b = mm := by simpa using hb
          rw [this]; intro h; exact hmP (h ▸ ha)) (fun i hi => by
          rcases List.mem_append.mp hi with h | h
          · exact hPl i h
          · have : i = mm := by simpa using h
            omega) (fun i k hi hk hkP => by
          rw [List.mem_append, List.mem_singleton] at hkP
          rcases List.mem_append.mp hi with h | h
          · exact hPlt i k h hk fun h => hkP (.inl h)
          · have : i = mm := by simpa using h
            subst this
            rcases pa_lt_total (S := pa_sk A x.2.1) (i := i) (j := k) (fun h => hkP (.inr h.symm)) with h1 | h1
            · exact h1
            · exact absurd h1 (hmin k hk fun h => hkP (.inl h))) hk4 d3 d4 (by have := p2.2.1; have := a2.2.1; have := b2.2.1; omega) hX4 (by
          rw [← hpiece]
          simp only [List.length_append, List.length_cons, List.length_nil]; omega)
        refine ⟨σ', s, v', ?_, t2.mono (fun _ _ h => h) (by omega), ?_, t4⟩
        · unfold zJ_X2_describeList_85
          rw [b3.ck, y1', d1, cc_R, t1]
        · rw [pa_pieces_succ, ← List.append_assoc]
          rw [show (P ++ [mm]).length = P.length + 1 by simp] at t3
          exact t3
      unfold zJ_X2_describeList_58
      rw [hS1.ck, y1, a1, cc_R, kf_num cz2, Option.bind_some, a3.ck, b1, cc_R, kf_ck cz3, kf_sits cz3 (ho.fr hfl).2.2.1, cc_I]
      by_cases hs : (pa_frog A (x.2.1[mm]).1).2.2.1 = 0
      · rw [if_pos (by rw [if_pos hs])]
        exact fin 3883 [126] hD3.2.2.2.1 (by decide) (if_pos hs).symm
      · rw [if_neg (by rw [if_neg hs]; decide)]
        exact fin 3879 [] hD3.2.1 (by decide) (if_neg hs).symm
    rw [zL_X2_describeList_14, hpq.ck, jq_isEmpty hpq, if_neg (by omega), cc_I, if_pos z00, f1a, Option.bind_some, hpq.ck, p1, cc_R, if_neg (fun h => h hw7), zp_gI u2 (k := 0) (v := .ofNat (x.2.1[mm]).1) rfl, Option.bind_some, f4, ja_get cF hz1, cc_R, if_neg (fun h => h (kf_cast cz)), hS1.ck, hlenX, cc_I]
    by_cases hP0 : P.length = 0
    · rw [if_pos (by rw [hX0.mpr hP0]; rfl)]
      exact step 3879 [] hD1.2.1 (by decide) (if_pos hP0).symm
    · rw [if_neg (show ¬ Int32.ofNat X.length = 0 from by rw [show (0 : Int32) = Int32.ofNat 0 from rfl, ci_eq (by omega) (by decide)]; exact fun h => hP0 (hX0.mp h))]
      exact step 3880 [44] hD1.2.2.1 (by decide) (if_neg hP0).symm
theorem kc_describe {g a p m l qq bb n cc : Nat} {A : pa_A} {x : pa_Mo} {N R : List Nat} (h : rAs τ σ g a A) (hok : pa_ok A cc) (hcc : cc ≤ 1000) (hg : 1000 ≤ g) (hw : zo_wf τ σ) (hG : zp_gas (n + 50) σ) (hfu : 100 ≤ ρ.2) (hxo : pa_okM A cc x) (hm : σ.2.2 p = some (true, mcell m x l qq bb)) (hq : kReqs σ.1.1 σ l N R x.2.1) (h11 : x.2.1.length ≤ 11) (hD : rDes ρ τ σ) :
    ∃ σ' s v', zF_X2_describeList ρ a (some p) σ = zz_rR (some s) σ' ∧ zp_le zp_no 50 σ σ' ∧ cStr σ' s v' (pa_text A x) ∧ σ.1.1 ≤ s ∧ σ.1.1 ≤ v' ∧ s < σ'.1.1 ∧ v' < σ'.1.1 ∧ s ≠ v' := by
  have ho := hok.w hcc
  have hf100 := (hxo.f100 ho.1).1
  have hnd := reqs_nodup hq hxo.2.2.2.2.2.2.2.2.1 hf100
  unfold zF_X2_describeList
  rw [zp_al_eq (n := n + 49) hG (by decide)]
  obtain ⟨s1, e1⟩ : ∃ s, s = zp_al σ (.inr (108, [.null, .int 0, .int 0, .int 0])) 4 := ⟨_, rfl⟩
  have l1 : zp_le zp_no 1 σ s1 := by rw [e1]; exact zp_al_le (by decide)
  have n1 : s1.1.1 = σ.1.1 + 1 := by rw [e1]; rfl
  obtain ⟨s2, i1, i2, i3, i4⟩ := jS_init (ρ := ρ) (a := σ.1.1) (σ := s1) (n := n + 48) (by rw [e1]; exact zp_al_new) (l1.wf hw.1) (l1.gas (n := n + 49) hG)
  have l2 : zp_le zp_no 2 σ s2 := l1.trans i2 fun b hb h => by omega
  have hw2 := hw.le l2
  have hA2 := h.al ho.1 ho.2.2.1 (by omega) hw l2
  have hpl := hw.1.lt hm
  have hm2 := (l2.keep hpl fun h => h).trans hm
  have hq2 : kReqs s2.1.1 s2 l N R x.2.1 := by
    obtain ⟨u1, u2, u3, u4, u5⟩ := hq.same (l2.same (Nat.le_refl _) fun _ _ h => h)
    have := l2.2.1
    exact ⟨u1, u2, by omega, fun n hn => by have := u4 n hn; omega, fun j a r ha hr => ⟨by have := (u5 j a r ha hr).1; omega, (u5 j a r ha hr).2⟩⟩
  obtain ⟨s3, g', q, qa, c, j1, j2, j3, j4, j5, j6, j7, j8, j9, j10, j11, j12, j13⟩ := kc_queue (ρ := ρ) (n := n + 44) hA2 hok hcc (by omega) hw2 (l2.gas (n := n + 48) hG) hfu hxo hm2 hq2 h11
  have l3 : zp_le zp_no 6 σ s3 := l2.trans j2 fun _ _ h => h
  have hbl : σ.1.1 < s2.1.1 ∧ s1.1.1 < s2.1.1 := ⟨by omega, by omega⟩
  have i4' : cSB s3 σ.1.1 s1.1.1 16 [] := i4.keep (j2.keep hbl.1 fun h => h) (j2.keep hbl.2 fun h => h)
  obtain ⟨af, ac, am, F, C, Mo, hX⟩ := h
  have hlR : R.length = x.2.1.length := hq.2.1
  have j7' : kCmp ρ σ.1.1 s3 c (aKey A R x.2.1) (fun y => y ∈ R) := by
    have hA3 : rAs τ s3 g a A := rAs.al ⟨af, ac, am, F, C, Mo, hX⟩ ho.1 ho.2.2.1 (by omega) hw l3
    exact kCmp_of hA3 hok hcc hw.2 (by omega) hxo j13 (hq.same (l3.same (Nat.le_refl _) fun _ _ h => h))
  obtain ⟨s4, s, v', k1, k2, k3, k4⟩ := kl_desc (ρ := ρ) (G := n + 50) hX hok hcc hg hw hG hfu hxo hm rfl hq h11 hD hnd (b := σ.1.1) (q := q) (qa := qa) (c := c) (Nat.le_refl _) (by omega) (by omega) (by omega) (by omega) ⟨j11, j12⟩ R.length ρ.2 6 [] s3 g' s1.1.1 16 [] (by simp) (by omega) l3 (by omega) j3 j4 j5 (fun y => by
    rw [j6 y]
    constructor
    · intro h
      obtain ⟨i, hi⟩ := List.getElem?_of_mem h
      exact ⟨i, by simp, hi⟩
    · rintro ⟨i, -, hi⟩
      exact List.mem_of_getElem? hi) List.nodup_nil (fun i hi => by simp at hi) (fun i k hi => by simp at hi) j7' i4' (by omega) (by omega) (by simp) (by simp)
  rw [← e1, i1, cc_V, hA2.ck, j1, cc_R, k1]
  refine ⟨s4, s, v', rfl, k2.mono (fun _ _ h => h) (by omega), ?_, k4⟩
  unfold pa_text
  rw [← hlR]
  exact k3
end CDE
