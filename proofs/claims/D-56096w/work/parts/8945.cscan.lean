/-! ===== nextByScan, frogsBefore ===== -/
section CSN
variable {ρ : zz_C} {σ : zz_S} {τ : Nat → Nat}
/-- the comparator c says the order of the keys, in every state that is as σ below n0 -/
def kCmp2 (ρ : zz_C) (n0 : Nat) (σ : zz_S) (c : Nat) (κ : Nat → Nat) (R : List Nat) : Prop := (∃ a, σ.2.2 c = some (true, .inr (3, [.ref a]))) ∧ (∀ p, p ∈ R → p < n0 ∧ ∃ w fs, σ.2.2 p = some (w, .inr (7, fs))) ∧ ∀ σ1, kSame n0 σ σ1 → σ1.2.2 c = σ.2.2 c → ∀ p q, p ∈ R → q ∈ R → ∃ d, zF_X3_compare_2 ρ c (some p) (some q) σ1 = zz_rI d σ1 ∧ (d < 0 ↔ κ p < κ q)
theorem kCmp2.same {n0 c : Nat} {κ : Nat → Nat} {R : List Nat} {σ' : zz_S} (h : kCmp2 ρ n0 σ c κ R) (hs : kSame n0 σ σ') (hc : σ'.2.2 c = σ.2.2 c) : kCmp2 ρ n0 σ' c κ R := by
  obtain ⟨⟨a, h1⟩, h2, h3⟩ := h
  refine ⟨⟨a, hc.trans h1⟩, fun p hp => ?_, fun σ1 hs1 hc1 p q hp hq => h3 σ1 (hs.trans hs1) (hc1.trans hc) p q hp hq⟩
  obtain ⟨g1, w, fs, g2⟩ := h2 p hp
  exact ⟨g1, w, fs, (hs p g1).trans g2⟩
theorem kCmp2_of {n0 g a c : Nat} {A : pa_A} {l : Nat} {N R : List Nat} {x : pa_Mo} {cc : Nat} (h : rAs τ σ g a A) (hok : pa_ok A cc) (hcc : cc ≤ 1000) (hw : ∀ b, n0 ≤ b → τ b = 0) (hg0 : g ≠ 0) (hxo : pa_okM A cc x) (hc : σ.2.2 c = some (true, .inr (3, [.ref a]))) (hq : kReqs n0 σ l N R x.2.1) : kCmp2 ρ n0 σ c (aKey A R x.2.1) R := by
  have ho := hok.w hcc
  have hf100 := (hxo.f100 ho.1).1
  have hnd := reqs_nodup hq hxo.2.2.2.2.2.2.2.2.1 hf100
  obtain ⟨q1, q2, q3, q4, q5⟩ := hq
  have hget : ∀ p, p ∈ R → ∃ j r, R[j]? = some p ∧ x.2.1[j]? = some r := fun p hp => by
    obtain ⟨j, hj⟩ := List.getElem?_of_mem hp
    exact ⟨j, _, hj, List.getElem?_eq_getElem (q2 ▸ (List.getElem?_eq_some_iff.mp hj).1)⟩
  refine ⟨⟨a, hc⟩, fun p hp => ?_, fun σ1 hs hc1 p q hp hq => ?_⟩
  · obtain ⟨j, r, j1, j2⟩ := hget p hp
    obtain ⟨g1, w, g2⟩ := q5 j p r j1 j2
    exact ⟨g1, w, _, g2⟩
  · obtain ⟨j, r, j1, j2⟩ := hget p hp
    obtain ⟨k, s, k1, k2⟩ := hget q hq
    obtain ⟨g1, w, g2⟩ := q5 j p r j1 j2
    obtain ⟨g3, w', g4⟩ := q5 k q s k1 k2
    have hr := hxo.2.2.2.2.2.2.2.1 r (List.mem_of_getElem? j2)
    have hs' := hxo.2.2.2.2.2.2.2.1 s (List.mem_of_getElem? k2)
    have ht := hxo.2.2.2.2.2.1
    have h1 : rAs τ σ1 g a A := h.keep (G := fun t => t ≠ 0) (hs.k hw) (by simp) (fun t h1 _ => by omega) ho.1 ho.2.2.1
    have e := kc_compare2 (ρ := ρ) h1 ho (hc1.trans hc) ((hs p g1).trans g2) ((hs q g3).trans g4) hr.1 hs'.1
    refine ⟨cmpv (pa_frog A r.1).2.2.2 r.2 (pa_frog A s.1).2.2.2 s.2, e, ?_⟩
    rw [aKey_at hnd j1 j2, aKey_at hnd k1 k2]
    exact (cmpv_lt (ho.fr hr.1).2.2.2 (ho.fr hs'.1).2.2.2 (by omega) (by omega)).1
theorem kc_ge0 {d : Int32} : (0 ≤ d) ↔ ¬ d < 0 := by
  rw [Int32.le_iff_toInt_le, Int32.lt_iff_toInt_lt]; omega
theorem kl_scan {n0 l it c : Nat} {κ : Nat → Nat} {N R : List Nat} {L : List pa_R} (hit : n0 ≤ it) (hic : it ≠ c) :
    ∀ (r k n best : Nat) (σ : zz_S), k + r = L.length → r < n → kReqs n0 σ l N R L → zp_wf σ → cN σ it l N k → kCmp2 ρ n0 σ c κ R → best ∈ R → (∀ p, p ∈ R.take k → κ best ≤ κ p) →
      ∃ σ2 b, zL_X2_nextByScan_47 ρ n (some c) (some best) (some it) σ = zz_rR (some b) σ2 ∧ zp_le (fun b => b = it) 0 σ σ2 ∧ b ∈ R ∧ ∀ p, p ∈ R → κ b ≤ κ p := by
  intro r
  induction r with
  | zero =>
    intro k n best σ hk hn hq hw hi hc hb hm
    obtain ⟨n, rfl⟩ : ∃ m, n = m + 1 := ⟨n - 1, by omega⟩
    obtain ⟨q1, q2, q3, q4, q5⟩ := hq
    rw [zL_X2_nextByScan_47, hi.ck, jl_hasNext hi q1 (by omega), if_pos (by omega), cc_I, if_pos z00]
    rw [List.take_of_length_le (by omega)] at hm
    exact ⟨σ, best, rfl, zp_le.refl _ _ _, hb, hm⟩
  | succ r ih =>
    intro k n best σ hk hn hq hw hi hc hb hm
    obtain ⟨n, rfl⟩ : ∃ m, n = m + 1 := ⟨n - 1, by omega⟩
    have hq0 := hq
    obtain ⟨q1, q2, q3, q4, q5⟩ := hq
    have hk1 : k < L.length := by omega
    obtain ⟨a, ha⟩ : ∃ a, R[k]? = some a := ⟨_, List.getElem?_eq_getElem (q2 ▸ hk1 : k < R.length)⟩
    have haR := List.mem_of_getElem? ha
    have hi0 := hi
    obtain ⟨σ2, n1, n2, n3, n4⟩ := kn_step (ρ := ρ) q3 hit q1 hi hw ha
    have hcc : c < σ.1.1 := by obtain ⟨⟨u, h1⟩, -⟩ := hc; exact hw.lt h1
    have hc2 := hc.same n4 (n2.keep hcc (by show ¬ c = it; omega))
    obtain ⟨d, d1, d2⟩ := hc2.2.2 σ2 (fun _ _ => rfl) rfl a best haR hb
    obtain ⟨w1, w, fs, w2⟩ := hc2.2.1 a haR
    obtain ⟨⟨u, c3⟩, -⟩ := hc2
    have hc2' := hc.same n4 (n2.keep hcc (by show ¬ c = it; omega))
    have ht : R.take (k + 1) = R.take k ++ [a] := (take_snoc ha).symm
    rw [zL_X2_nextByScan_47, hi.ck, jl_hasNext hi q1 (by omega), if_neg (by omega), cc_I, if_neg n10, hi.ck, n1, cc_R, if_neg (show ¬ ¬ (zz_ok σ2 (some a) [7] = true) from fun h => h (by simp [zz_ok, zz_cl, w2])), zp_ck c3, d1, cc_I]
    unfold zJ_X2_nextByScan_85
    by_cases hd : d < 0
    · rw [if_neg (fun h => kc_ge0.mp h hd)]
      obtain ⟨σ3, b, m1, m2, m3, m4⟩ := ih (k + 1) n a σ2 (by omega) (by omega) (hq0.same n4) (n2.wf hw) n3 hc2' haR fun p hp => by
        rw [ht, List.mem_append] at hp
        have h1 := d2.mp hd
        rcases hp with hp | hp
        · have := hm p hp; omega
        · have : p = a := by simpa using hp
          rw [this]; exact Nat.le_refl _
      exact ⟨σ3, b, m1, n2.trans (k' := 0) m2 fun _ _ h => h, m3, m4⟩
    · rw [if_pos (kc_ge0.mpr hd)]
      obtain ⟨σ3, b, m1, m2, m3, m4⟩ := ih (k + 1) n best σ2 (by omega) (by omega) (hq0.same n4) (n2.wf hw) n3 hc2' hb fun p hp => by
        rw [ht, List.mem_append] at hp
        rcases hp with hp | hp
        · exact hm p hp
        · have : p = a := by simpa using hp
          rw [this]
          rcases Nat.lt_or_ge (κ a) (κ best) with h1 | h1
          · exact absurd (d2.mpr h1) hd
          · exact h1
      exact ⟨σ3, b, m1, n2.trans (k' := 0) m2 fun _ _ h => h, m3, m4⟩
/-- a comparator and an iterator are made -/
theorem kc_cmpIter {g a p m l qq b n cc : Nat} {A : pa_A} {x : pa_Mo} {N R : List Nat} (h : rAs τ σ g a A) (hok : pa_ok A cc) (hcc : cc ≤ 1000) (hg0 : g ≠ 0) (hw : zo_wf τ σ) (hg : zp_gas (n + 2) σ) (hfu : 100 ≤ ρ.2) (hxo : pa_okM A cc x) (hm : σ.2.2 p = some (true, mcell m x l qq b)) (hq : kReqs σ.1.1 σ l N R x.2.1) (K : Nat → Option Nat → zz_S → zz_R) :
    ∃ c σ1 it σ2, (zz_al σ (.inr (3, [.null])) 1 fun a5 σ6 => zz_cV (zF_X3_init ρ a5 (some a) σ6) (fun σ10 => K a5 none σ10) zz_P) = K c none σ1 ∧ zp_le zp_no 1 σ σ1 ∧ c = σ.1.1 ∧ zF_J39_iterator ρ l σ1 = zz_rR (some it) σ2 ∧ zp_le zp_no 1 σ1 σ2 ∧ σ.1.1 ≤ it ∧ it ≠ c ∧ cN σ2 it l N 0 ∧ zp_wf σ2 ∧ kReqs σ.1.1 σ1 l N R x.2.1 ∧ kReqs σ.1.1 σ2 l N R x.2.1 ∧ σ1.2.2 p = some (true, mcell m x l qq b) ∧ kCmp2 ρ σ.1.1 σ2 c (aKey A R x.2.1) R := by
  have ho := hok.w hcc
  have hpl := hw.1.lt hm
  rw [zp_al_eq (n := n + 1) hg (by decide)]
  unfold zF_X3_init
  rw [zq_pf (N := 1) zp_al_new rfl (fs' := [.ref a]) rfl, Option.bind_some, cs_al_set, cc_V]
  obtain ⟨s2, e2⟩ : ∃ s, s = zp_al σ (.inr (3, [.ref a])) 1 := ⟨_, rfl⟩
  have l2 : zp_le zp_no 1 σ s2 := by rw [e2]; exact zp_al_le (by decide)
  have n2 : s2.1.1 = σ.1.1 + 1 := by rw [e2]; rfl
  have c2 : s2.2.2 σ.1.1 = some (true, .inr (3, [.ref a])) := by rw [e2]; exact zp_al_new
  have w2 := l2.wf hw.1
  have hq2 := hq.same (l2.same (Nat.le_refl _) fun _ _ h => h)
  obtain ⟨s5, i1, i2, i3⟩ := jl_iterator (ρ := ρ) (f := ρ.2 - 1) hq2.1 w2 (l2.gas (n := n + 1) hg) (by omega)
  rw [← e2]
  have l05 : zp_le zp_no 2 σ s5 := l2.trans i2 fun _ _ h => h
  have hq5 := hq.same (l05.same (Nat.le_refl _) fun _ _ h => h)
  refine ⟨σ.1.1, s2, s2.1.1, s5, rfl, l2, rfl, i1, i2, by omega, by omega, i3, i2.wf w2, hq2, hq5, (l2.keep hpl fun h => h).trans hm, ?_⟩
  exact kCmp2_of (h.al ho.1 ho.2.2.1 hg0 hw l05) hok hcc hw.2 hg0 hxo ((i2.keep (by omega) fun h => h).trans c2) hq5
theorem kc_nextByScan {g a p m l qq b n cc : Nat} {A : pa_A} {x : pa_Mo} {N R : List Nat} (h : rAs τ σ g a A) (hok : pa_ok A cc) (hcc : cc ≤ 1000) (hg0 : g ≠ 0) (hw : zo_wf τ σ) (hg : zp_gas (n + 4) σ) (hfu : 100 ≤ ρ.2) (hxo : pa_okM A cc x) (hm : σ.2.2 p = some (true, mcell m x l qq b)) (hq : kReqs σ.1.1 σ l N R x.2.1) (h12 : x.2.1.length ≤ 12) (hne : x.2.1 ≠ []) :
    ∃ σ' k q, zF_X2_nextByScan ρ a (some p) σ = zz_rR (some q) σ' ∧ zp_le zp_no 4 σ σ' ∧ R[k]? = some q ∧ pa_ranked (pa_sk A x.2.1) 0 = some k := by
  have ho := hok.w hcc
  have hf100 := (hxo.f100 ho.1).1
  have hnd := reqs_nodup hq hxo.2.2.2.2.2.2.2.2.1 hf100
  have hlen : R.length ≠ 0 := by rw [hq.2.1]; intro h; exact hne (List.length_eq_zero_iff.mp h)
  obtain ⟨y, R', hR⟩ : ∃ y R', R = y :: R' := by
    cases R with
    | nil => exact absurd rfl hlen
    | cons y R' => exact ⟨y, R', rfl⟩
  obtain ⟨c, s1, it, s2, e1, l1, ec, e2, l2, i1, i2, i3, w2, hq1, hq2, hm1, hc⟩ := kc_cmpIter (ρ := ρ) (n := n + 2) h hok hcc hg0 hw hg hfu hxo hm hq (fun a5 _ σ10 => (zz_gR σ10 (some p) 6 2).bind fun v11 => zz_ck σ10 v11 140 fun a12 => zz_cR (zF_J40_getFirst ρ a12 σ10) (fun v15 σ16 => if ¬ (zz_ok σ16 v15 [7] = true) then none else (zz_gR σ16 (some p) 6 2).bind fun v17 => zz_ck σ16 v17 140 fun a18 => zz_cR (zF_J39_iterator ρ a18 σ16) (fun v21 σ22 => zL_X2_nextByScan_47 ρ ρ.2 (some a5) v15 v21 σ22) zz_P) zz_P)
  obtain ⟨σ', bb, j1, j2, j3, j4⟩ := kl_scan (ρ := ρ) i1 i2 x.2.1.length 0 ρ.2 y s2 (Nat.zero_add _) (by omega) hq2 w2 i3 hc (by rw [hR]; exact List.mem_cons_self) fun p hp => by simp at hp
  obtain ⟨k, hk⟩ := List.getElem?_of_mem j3
  have hy7 : zz_ok s1 (some y) [7] = true := by
    obtain ⟨w1, w, w2⟩ := hq1.2.2.2.2 0 y _ (by rw [hR]; rfl) (List.getElem?_eq_getElem (by rw [← hq.2.1]; omega))
    simp [zz_ok, zz_cl, w2]
  have hcL := hq1.1
  rw [hR] at hcL
  refine ⟨σ', k, bb, ?_, ((l1.trans l2 fun _ _ h => h).trans j2 fun b hb h => by omega).mono (fun _ _ h => h) (by omega), hk, pa_least hxo hcc hq.2.1 hnd hk j4⟩
  unfold zF_X2_nextByScan zJ_X2_nextByScan_15
  rw [zp_gR hm (k := 2) (v := some l) rfl, Option.bind_some, hq.1.ck, jl_isEmpty hq.1, if_neg hlen, cc_I, if_pos z00, jk_elem_yes, cc_V, e1, zp_gR hm1 (k := 2) (v := some l) rfl, Option.bind_some, hq1.1.ck, jl_getFirst hcL, cc_R, if_neg (fun h => h hy7), zp_gR hm1 (k := 2) (v := some l) rfl, Option.bind_some, hq1.1.ck, e2, cc_R, j1]
theorem kc_nextByScan_no {g a p m l qq b n : Nat} {A : pa_A} {x : pa_Mo} {N R : List Nat} (hg : zp_gas (n + 1) σ) (hm : σ.2.2 p = some (true, mcell m x l qq b)) (hq : kReqs σ.1.1 σ l N R x.2.1) (he : x.2.1 = []) : zthr (zF_X2_nextByScan ρ a (some p) σ) 119 1 σ := by
  unfold zF_X2_nextByScan zJ_X2_nextByScan_15
  rw [zp_gR hm (k := 2) (v := some l) rfl, Option.bind_some, hq.1.ck, jl_isEmpty hq.1, if_pos (by rw [hq.2.1, he]; rfl), cc_I, if_neg n10]
  exact (jk_elem_no hg).cV
theorem kl_before {n0 l it c tgt : Nat} {A : pa_A} {x : pa_Mo} {cc m : Nat} {N R : List Nat} (hit : n0 ≤ it) (hic : it ≠ c) (hxo : pa_okM A cc x) (hcc : cc ≤ 1000) (hnd : R.Nodup) (ht : R[m]? = some tgt) :
    ∀ (r k n acc : Nat) (σ : zz_S), k + r = x.2.1.length → r < n → kReqs n0 σ l N R x.2.1 → zp_wf σ → cN σ it l N k → kCmp2 ρ n0 σ c (aKey A R x.2.1) R →
      ∃ σ2, zL_X2_frogsBefore_40 ρ n (some tgt) (some c) (.ofNat acc) (some it) σ = zz_rI (.ofNat (acc + (((List.range x.2.1.length).drop k).map fun j => if pa_lt (pa_sk A x.2.1) j m then 1 else 0).sum)) σ2 ∧ zp_le (fun b => b = it) 0 σ σ2 := by
  have htk : ∀ r, r ∈ x.2.1 → r.2 ≤ 1000 := fun r hr => by have := (hxo.2.2.2.2.2.2.2.1 r hr).2; have := hxo.2.2.2.2.2.1; omega
  intro r
  induction r with
  | zero =>
    intro k n acc σ hk hn hq hw hi hc
    obtain ⟨n, rfl⟩ : ∃ m, n = m + 1 := ⟨n - 1, by omega⟩
    obtain ⟨q1, q2, q3, q4, q5⟩ := hq
    rw [zL_X2_frogsBefore_40, hi.ck, jl_hasNext hi q1 (by omega), if_pos (by omega), cc_I, if_pos z00, ps_end _ (by simp; omega)]
    exact ⟨σ, rfl, zp_le.refl _ _ _⟩
  | succ r ih =>
    intro k n acc σ hk hn hq hw hi hc
    obtain ⟨n, rfl⟩ : ∃ m, n = m + 1 := ⟨n - 1, by omega⟩
    have hq0 := hq
    obtain ⟨q1, q2, q3, q4, q5⟩ := hq
    have hk1 : k < x.2.1.length := by omega
    have hm1 : m < x.2.1.length := q2 ▸ (List.getElem?_eq_some_iff.mp ht).1
    obtain ⟨a, ha⟩ : ∃ a, R[k]? = some a := ⟨_, List.getElem?_eq_getElem (q2 ▸ hk1 : k < R.length)⟩
    have haR := List.mem_of_getElem? ha
    obtain ⟨σ2, n1, n2, n3, n4⟩ := kn_step (ρ := ρ) q3 hit q1 hi hw ha
    have hcl : c < σ.1.1 := by obtain ⟨⟨u, h1⟩, -⟩ := hc; exact hw.lt h1
    have hc2 := hc.same n4 (n2.keep hcl (by show ¬ c = it; omega))
    obtain ⟨d, d1, d2⟩ := hc2.2.2 σ2 (fun _ _ => rfl) rfl a tgt haR (List.mem_of_getElem? ht)
    obtain ⟨w1, w, fs, w2⟩ := hc2.2.1 a haR
    have hc2' := hc2
    obtain ⟨⟨u, c3⟩, -⟩ := hc2
    rw [aKey_at hnd ha (List.getElem?_eq_getElem hk1), aKey_at hnd ht (List.getElem?_eq_getElem hm1), ← pa_lt_key hxo.2.2.2.2.2.2.2.2.2.1 htk (List.getElem?_eq_getElem hk1) (List.getElem?_eq_getElem hm1)] at d2
    obtain ⟨σ3, m1, m2⟩ := ih (k + 1) n (acc + if pa_lt (pa_sk A x.2.1) k m then 1 else 0) σ2 (by omega) (by omega) (hq0.same n4) (n2.wf hw) n3 hc2'
    refine ⟨σ3, ?_, n2.trans (k' := 0) m2 fun _ _ h => h⟩
    rw [zL_X2_frogsBefore_40, hi.ck, jl_hasNext hi q1 (by omega), if_neg (by omega), cc_I, if_neg n10, hi.ck, n1, cc_R, if_neg (show ¬ ¬ (zz_ok σ2 (some a) [7] = true) from fun h => h (by simp [zz_ok, zz_cl, w2])), zp_ck c3, d1, cc_I, ps_step (x := k) _ (by rw [List.getElem?_range hk1]), ← Nat.add_assoc, ← m1]
    unfold zJ_X2_frogsBefore_80
    by_cases hd : d < 0
    · rw [if_neg (fun h => kc_ge0.mp h hd), if_pos (d2.mp hd), ci_succ]
    · rw [if_pos (kc_ge0.mpr hd), if_neg (fun h => hd (d2.mpr h)), Int32.add_zero, Nat.add_zero]
theorem kc_frogsBefore {g a p m l qq b n cc f : Nat} {A : pa_A} {x : pa_Mo} {N R : List Nat} (h : rAs τ σ g a A) (hok : pa_ok A cc) (hcc : cc ≤ 1000) (hg0 : g ≠ 0) (hw : zo_wf τ σ) (hg : zp_gas (n + 3) σ) (hfu : 100 ≤ ρ.2) (hxo : pa_okM A cc x) (hm : σ.2.2 p = some (true, mcell m x l qq b)) (hq : kReqs σ.1.1 σ l N R x.2.1) (h12 : x.2.1.length ≤ 12) (hf : f < 100) :
    match pa_place x.2.1 f with
    | none => zthr (zF_X2_frogsBefore ρ a (some p) (.ofNat f) σ) 119 2 σ
    | some k => ∃ σ', zF_X2_frogsBefore ρ a (some p) (.ofNat f) σ = zz_rI (.ofNat (pa_ahead (pa_sk A x.2.1) k)) σ' ∧ zp_le zp_no 3 σ σ' := by
  have ho := hok.w hcc
  have hf100 := (hxo.f100 ho.1).1
  have hnd := reqs_nodup hq hxo.2.2.2.2.2.2.2.2.1 hf100
  have hpl := hw.1.lt hm
  obtain ⟨σ1, s1, s2⟩ := kc_requestOf (ρ := ρ) (f := f) (n := n + 2) hm hq hf hf100 hw.1 hg hfu h12
  have g1 : zp_gas (n + 2) σ1 := s2.gas (n := n + 2) hg
  have hw1 := hw.le s2
  have hm1 : σ1.2.2 p = some (true, mcell m x l qq b) := (s2.keep hpl fun h => h).trans hm
  cases hp : pa_place x.2.1 f with
  | none =>
    show zthr _ _ _ _
    unfold zF_X2_frogsBefore
    rw [zp_ck hm, s1, cc_R, hp]
    show zthr (zz_nul none _ _) _ _ _
    rw [cn_none]
    unfold zJ_X2_frogsBefore_15
    exact ((jk_elem_no (g := n + 1) g1).cV).after s2
  | some k =>
    have hk : k < x.2.1.length := by
      unfold pa_place at hp
      exact (List.findIdx?_eq_some_iff_getElem.mp hp).1
    obtain ⟨t, ht⟩ : ∃ t, R[k]? = some t := ⟨_, List.getElem?_eq_getElem (by rw [hq.2.1]; exact hk)⟩
    show ∃ σ', _ ∧ _
    unfold zF_X2_frogsBefore
    rw [zp_ck hm, s1, cc_R, hp]
    rw [show ((some k).bind fun j => R[j]?) = some t from ht, cn_some]
    unfold zJ_X2_frogsBefore_15
    have hq1 : kReqs σ1.1.1 σ1 l N R x.2.1 := by
      obtain ⟨u1, u2, u3, u4, u5⟩ := hq.same (s2.same (Nat.le_refl _) fun _ _ h => h)
      have := s2.2.1
      exact ⟨u1, u2, by omega, fun n hn => by have := u4 n hn; omega, fun j a r ha hr => ⟨by have := (u5 j a r ha hr).1; omega, (u5 j a r ha hr).2⟩⟩
    obtain ⟨c, s3, it, s4, e1, l1, ec, e2, l2, i1, i2, i3, w2, hq3, hq4, hm3, hc⟩ := kc_cmpIter (ρ := ρ) (n := n) (h.al ho.1 ho.2.2.1 hg0 hw s2) hok hcc hg0 hw1 g1 hfu hxo hm1 hq1 (fun a5 _ σ10 => (zz_gR σ10 (some p) 6 2).bind fun v11 => zz_ck σ10 v11 140 fun a12 => zz_cR (zF_J39_iterator ρ a12 σ10) (fun v15 σ16 => zL_X2_frogsBefore_40 ρ ρ.2 (some t) (some a5) (0 : Int32) v15 σ16) zz_P)
    obtain ⟨σ', j1, j2⟩ := kl_before (ρ := ρ) i1 i2 hxo hcc hnd ht x.2.1.length 0 ρ.2 0 s4 (Nat.zero_add _) (by omega) hq4 w2 i3 hc
    rw [jk_elem_yes, cc_V, e1, zp_gR hm3 (k := 2) (v := some l) rfl, Option.bind_some, hq3.1.ck, e2, cc_R]
    refine ⟨σ', j1.trans ?_, (((s2.trans l1 fun _ _ h => h).trans l2 fun _ _ h => h).trans j2 fun b hb h => by have := s2.2.1; omega).mono (fun _ _ h => h) (by omega)⟩
    rw [Nat.zero_add, List.drop_zero]
    unfold pa_ahead
    rw [show (pa_sk A x.2.1).length = x.2.1.length by simp [pa_sk]]
end CSN
