/-! ===== queue, nextByQueue, nextByScan, frogsBefore ===== -/
section CJ
variable {ρ : zz_C} {σ : zz_S} {τ : Nat → Nat}
theorem kl_queue {n0 l it q qa c : Nat} {κ : Nat → Nat} {N R : List Nat} {L : List pa_R} (hit : n0 ≤ it) (hq : n0 ≤ q) (hqa : n0 ≤ qa) (hc0 : n0 ≤ c) (h1 : it ≠ q) (h2 : it ≠ qa) (h3 : it ≠ c) (h4 : qa ≠ c) (h5 : q ≠ c) (h11 : R.length ≤ 11) (hn : R.Nodup) (hfu : 100 ≤ ρ.2) :
    ∀ (r k fu : Nat) (σ : zz_S) (g : Nat → Nat), k + r = R.length → r < fu → kReqs n0 σ l N R L → zp_wf σ → cN σ it l N k → kCmp ρ n0 σ c κ (fun p => p ∈ R) → cPQ σ q qa c k g → hHeap κ g k → hInj g k → (∀ p, hIn g k p ↔ p ∈ R.take k) →
      ∃ σ' g', zL_X2_queue_24 ρ fu (some q) (some it) σ = zz_rR (some q) σ' ∧ zp_le (fun b => b = it ∨ b = q ∨ b = qa) 0 σ σ' ∧ cPQ σ' q qa c R.length g' ∧ hHeap κ g' R.length ∧ hInj g' R.length ∧ (∀ p, hIn g' R.length p ↔ p ∈ R) := by
  intro r
  induction r with
  | zero =>
    intro k fu σ g hk hf hR hw hi hc hp hh hj hin
    obtain ⟨fu, rfl⟩ : ∃ m, fu = m + 1 := ⟨fu - 1, by omega⟩
    have hkR : k = R.length := by omega
    subst hkR
    obtain ⟨q1, q2, q3, q4, q5⟩ := hR
    rw [zL_X2_queue_24, hi.ck, jl_hasNext hi q1 (Nat.le_refl _), if_pos rfl, cc_I, if_pos z00]
    exact ⟨σ, g, rfl, zp_le.refl _ _ _, hp, hh, hj, fun p => by rw [hin p, List.take_length]⟩
  | succ r ih =>
    intro k fu σ g hk hf hR hw hi hc hp hh hj hin
    obtain ⟨fu, rfl⟩ : ∃ m, fu = m + 1 := ⟨fu - 1, by omega⟩
    have hk1 : k < R.length := by omega
    have hR0 := hR
    obtain ⟨q1, q2, q3, q4, q5⟩ := hR
    obtain ⟨x, hx⟩ : ∃ x, R[k]? = some x := ⟨_, List.getElem?_eq_getElem hk1⟩
    obtain ⟨σ1, n1, n2, n3, n4⟩ := kn_step (ρ := ρ) q3 hit q1 hi hw hx
    have hw1 := n2.wf hw
    have hxR : x ∈ R := List.mem_of_getElem? hx
    have k1 : ∀ b, b ≠ it → b < σ.1.1 → σ1.2.2 b = σ.2.2 b := fun b hb hbl => n2.keep hbl hb
    have hc1 : kCmp ρ n0 σ1 c κ (fun p => p ∈ R) := hc.same n4 (by obtain ⟨⟨a, c1⟩, -⟩ := hc; exact k1 c (fun h => h3 h.symm) (hw.lt c1))
    have hp1 : cPQ σ1 q qa c k g := by
      obtain ⟨p0, ⟨mc, p1⟩, f, p2, p3⟩ := hp
      exact ⟨p0, ⟨mc, (k1 q (fun h => h1 h.symm) (hw.lt p1)).trans p1⟩, f, (k1 qa (fun h => h2 h.symm) (hw.lt p2)).trans p2, p3⟩
    obtain ⟨y1, w, fs, y2⟩ := hc1.2.1 x hxR
    have hE : ∀ i, i < k → g i ∈ R := fun i hi => List.mem_of_mem_take ((hin (g i)).mp ⟨i, hi, rfl⟩)
    obtain ⟨σ2, g2, a1, a2, a3, a4, a5, a6⟩ := jq_add (ρ := ρ) hp1 (by omega) hqa hq h4 h5 hc1 hE hxR hh hw1 hfu
    have hs2 : kSame n0 σ1 σ2 := a2.same (by have := n2.2.1; obtain ⟨⟨aa, c1⟩, -⟩ := hc; have := hw.lt c1; omega) fun b hb he => by omega
    have hw2 := a2.wf hw1
    have hR2 := (hR0.same n4).same hs2
    have hi2 : cN σ2 it l N (k + 1) := by
      obtain ⟨lr, mc, w', r', t1, t2⟩ := n3
      refine cN.keep ⟨lr, mc, w', r', t1, t2⟩ (a2.keep (hw1.lt t1) fun h => by rcases h with h | h; exact h1 h; exact h2 h) (hs2 l q3)
    have hc2 : kCmp ρ n0 σ2 c κ (fun p => p ∈ R) := hc1.same hs2 (by obtain ⟨⟨aa, c1⟩, -⟩ := hc1; exact a2.keep (hw1.lt c1) fun h => by rcases h with h | h; exact h5 h.symm; exact h4 h.symm)
    have hxn : ¬ hIn g k x := fun h => by
      have h := (hin x).mp h
      obtain ⟨j, hj'⟩ := List.getElem?_of_mem h
      have hjl := (List.getElem?_eq_some_iff.mp hj').1
      have hjk : j < k := by simp at hjl; omega
      rw [List.getElem?_take_of_lt hjk] at hj'
      have := (List.getElem?_inj (by omega) hn).mp (hj'.trans hx.symm)
      omega
    obtain ⟨σ3, g3, i1, i2, i3, i4, i5, i6⟩ := ih (k + 1) fu σ2 g2 (by omega) (by omega) hR2 hw2 hi2 hc2 a3 a4 (a6 hj hxn) (fun p => by
      rw [a5 p, hin p, List.take_add_one, hx]
      simp)
    rw [zL_X2_queue_24, hi.ck, jl_hasNext hi q1 (by omega), if_neg (by omega), cc_I, if_neg n10, hi.ck, n1, cc_R, if_neg (show ¬ ¬ (zz_ok σ1 (some x) [7] = true) from fun h => h (by simp [zz_ok, zz_cl, y2])), hp1.ck, a1, cc_I, i1]
    refine ⟨σ3, g3, rfl, ?_, i3, i4, i5, i6⟩
    have m1 : zp_le (fun b => b = it ∨ b = q ∨ b = qa) 0 σ σ1 := n2.mono (fun b _ h => .inl h) (Nat.le_refl _)
    have m2 := m1.trans (k' := 0) a2 fun b _ h => .inr h
    exact m2.trans (k' := 0) i2 fun _ _ h => h
theorem kc_queue {g a p m l qq b n cc : Nat} {A : pa_A} {x : pa_Mo} {N R : List Nat} (h : rAs τ σ g a A) (hok : pa_ok A cc) (hcc : cc ≤ 1000) (hg0 : g ≠ 0) (hw : zo_wf τ σ) (hg : zp_gas (n + 4) σ) (hfu : 100 ≤ ρ.2) (hxo : pa_okM A cc x) (hm : σ.2.2 p = some (true, mcell m x l qq b)) (hq : kReqs σ.1.1 σ l N R x.2.1) (h11 : x.2.1.length ≤ 11) :
    ∃ σ' g' q qa c, zF_X2_queue ρ a (some p) σ = zz_rR (some q) σ' ∧ zp_le zp_no 4 σ σ' ∧ cPQ σ' q qa c R.length g' ∧ hHeap (aKey A R x.2.1) g' R.length ∧ hInj g' R.length ∧ (∀ p, hIn g' R.length p ↔ p ∈ R) ∧ kCmp ρ σ.1.1 σ' c (aKey A R x.2.1) (fun p => p ∈ R) ∧ σ.1.1 ≤ q ∧ σ.1.1 ≤ qa ∧ σ.1.1 ≤ c ∧ qa ≠ c ∧ q ≠ c ∧ σ'.2.2 c = some (true, .inr (3, [.ref a])) := by
  have ho := hok.w hcc
  have hf100 := (hxo.f100 ho.1).1
  have hnd := reqs_nodup hq hxo.2.2.2.2.2.2.2.2.1 hf100
  have hpl := hw.1.lt hm
  unfold zF_X2_queue
  rw [zp_al_eq (n := n + 3) hg (by decide)]
  obtain ⟨s1, e1⟩ : ∃ s, s = zp_al σ (.inr (121, [.null, .int 0, .null, .int 0])) 4 := ⟨_, rfl⟩
  have l1 : zp_le zp_no 1 σ s1 := by rw [e1]; exact zp_al_le (by decide)
  have n1 : s1.1.1 = σ.1.1 + 1 := by rw [e1]; rfl
  have q1 : s1.2.2 σ.1.1 = some (true, .inr (121, [.null, .int 0, .null, .int 0])) := by rw [e1]; exact zp_al_new
  have g1 : zp_gas (n + 3) s1 := l1.gas (n := n + 3) hg
  have w1 := l1.wf hw.1
  rw [← e1, zp_al_eq (n := n + 2) g1 (by decide)]
  unfold zF_X3_init
  rw [zq_pf (N := 1) zp_al_new rfl (fs' := [.ref a]) rfl, Option.bind_some, cs_al_set, cc_V]
  obtain ⟨s2, e2⟩ : ∃ s, s = zp_al s1 (.inr (3, [.ref a])) 1 := ⟨_, rfl⟩
  have l2 : zp_le zp_no 1 s1 s2 := by rw [e2]; exact zp_al_le (by decide)
  have n2 : s2.1.1 = s1.1.1 + 1 := by rw [e2]; rfl
  have c2 : s2.2.2 s1.1.1 = some (true, .inr (3, [.ref a])) := by rw [e2]; exact zp_al_new
  have q2 : s2.2.2 σ.1.1 = some (true, .inr (121, [.null, .int 0, .null, .int 0])) := by rw [l2.keep (by omega) (fun h => h)]; exact q1
  have g2 : zp_gas (n + 2) s2 := l2.gas (n := n + 2) g1
  have w2 := l2.wf w1
  rw [← e2]
  unfold zF_J21_init zF_J21_init_2 zF_J20_init zF_J0_init_at_J21
  rw [cc_V, cc_V, if_pos (by decide), show (11 : Int32) = Int32.ofNat 11 from rfl, zp_na_eq (g := n + 1) g2 (by decide)]
  obtain ⟨s3, e3⟩ : ∃ s, s = zp_al s2 (zz_z 5 11) 11 := ⟨_, rfl⟩
  have l3 : zp_le zp_no 1 s2 s3 := by rw [e3]; exact zp_al_le (by decide)
  have n3 : s3.1.1 = s2.1.1 + 1 := by rw [e3]; rfl
  have a3 : s3.2.2 s2.1.1 = some (true, .inl (5, (11, .inr (.inr (.inr (.inr (fun _ => none))))))) := by rw [e3]; exact zp_al_new
  have q3 : s3.2.2 σ.1.1 = some (true, .inr (121, [.null, .int 0, .null, .int 0])) := by rw [l3.keep (by omega) (fun h => h)]; exact q2
  have c3 : s3.2.2 s1.1.1 = some (true, .inr (3, [.ref a])) := by rw [l3.keep (by omega) (fun h => h)]; exact c2
  have w3 := l3.wf w2
  have g3 : zp_gas (n + 1) s3 := l3.gas (n := n + 1) g2
  rw [← e3, zq_pf (N := 4) q3 rfl (fs' := [.ref s2.1.1, .int 0, .null, .int 0]) rfl, Option.bind_some, zq_pf (N := 4) zp_set_at rfl (fs' := [.ref s2.1.1, .int 0, .ref s1.1.1, .int 0]) rfl, Option.bind_some, cs_set_set, cc_V, cc_V]
  obtain ⟨s4, e4⟩ : ∃ s, s = zz_set s3 σ.1.1 (.inr (121, [.ref s2.1.1, .int 0, .ref s1.1.1, .int 0])) := ⟨_, rfl⟩
  have l4 : zp_le (fun b => b = σ.1.1) 0 s3 s4 := by rw [e4]; exact zp_set_le (by omega) rfl
  have n4 : s4.1.1 = s3.1.1 := by rw [e4]; rfl
  have q4 : s4.2.2 σ.1.1 = some (true, .inr (121, [.ref s2.1.1, .int 0, .ref s1.1.1, .int 0])) := by rw [e4]; exact zp_set_at
  have a4 : s4.2.2 s2.1.1 = some (true, .inl (5, (11, .inr (.inr (.inr (.inr (fun _ => none))))))) := by rw [l4.keep (by omega) (by show ¬ _ = _; omega)]; exact a3
  have c4 : s4.2.2 s1.1.1 = some (true, .inr (3, [.ref a])) := by rw [l4.keep (by omega) (by show ¬ _ = _; omega)]; exact c3
  have w4 := l4.wf w3
  have g4 : zp_gas (n + 1) s4 := l4.gas (n := n + 1) g3
  have l04 : zp_le zp_no 3 σ s4 := (((l1.trans l2 fun _ _ h => h).trans l3 fun _ _ h => h).trans l4 fun b hb h => by omega).mono (fun _ _ h => h) (by omega)
  have hm4 : s4.2.2 p = some (true, mcell m x l qq b) := by rw [l04.keep hpl (fun h => h)]; exact hm
  have hq4 := hq.same (l04.same (Nat.le_refl _) fun _ _ h => h)
  obtain ⟨u1, u2, u3, u4, u5⟩ := hq4
  obtain ⟨s5, i1, i2, i3⟩ := jl_iterator (ρ := ρ) (f := ρ.2 - 1) u1 w4 g4 (by omega)
  have l05 : zp_le zp_no 4 σ s5 := l04.trans i2 fun _ _ h => h
  have hs5 := l05.same (Nat.le_refl σ.1.1) fun _ _ h => h
  have hA5 := h.al ho.1 ho.2.2.1 hg0 hw l05
  have q5 : s5.2.2 σ.1.1 = _ := (i2.keep (by omega) (fun h => h)).trans q4
  have a5 : s5.2.2 s2.1.1 = _ := (i2.keep (by omega) (fun h => h)).trans a4
  have c5 : s5.2.2 s1.1.1 = _ := (i2.keep (by omega) (fun h => h)).trans c4
  have hk5 := kCmp_of (ρ := ρ) (n0 := σ.1.1) hA5 hok hcc hw.2 hg0 hxo c5 (hq.same hs5)
  obtain ⟨s6, g6, j1, j2, j3, j4, j5, j6⟩ := kl_queue (ρ := ρ) (n0 := σ.1.1) (it := s4.1.1) (q := σ.1.1) (qa := s2.1.1) (c := s1.1.1) (κ := aKey A R x.2.1) (by omega) (Nat.le_refl _) (by omega) (by omega) (by omega) (by omega) (by omega) (by omega) (by omega) (by rw [hq.2.1]; exact h11) hnd hfu R.length 0 ρ.2 s5 (fun _ => 0) (Nat.zero_add _) (by rw [hq.2.1]; omega) (hq.same hs5) (i2.wf w4) i3 hk5 ⟨by omega, ⟨0, q5⟩, _, a5, fun i hi => by omega⟩ (fun i _ h => by omega) (fun i j h => by omega) fun p => ⟨fun ⟨i, hi, _⟩ => by omega, fun h => by simp at h⟩
  rw [← e4, zp_gR hm4 (k := 2) (v := some l) rfl, Option.bind_some, u1.ck, i1, cc_R, j1]
  refine ⟨s6, g6, σ.1.1, s2.1.1, s1.1.1, rfl, l05.trans (k' := 0) j2 fun b hb h => by omega, j3, j4, j5, j6, ?_, Nat.le_refl _, by omega, by omega, by omega, by omega, (j2.keep ((i2.wf w4).lt c5) fun h => by omega).trans c5⟩
  exact hk5.same (j2.same (by have := l05.2.1; omega) fun b hb h => by omega) (j2.keep ((i2.wf w4).lt c5) fun h => by omega)
/-- the least of a list stands at rank 0 -/
theorem pa_least {A : pa_A} {cc m : Nat} {x : pa_Mo} {R : List Nat} {p : Nat} (hxo : pa_okM A cc x) (hcc : cc ≤ 1000) (hl : R.length = x.2.1.length) (hn : R.Nodup) (hp : R[m]? = some p) (hmin : ∀ q, q ∈ R → aKey A R x.2.1 p ≤ aKey A R x.2.1 q) : pa_ranked (pa_sk A x.2.1) 0 = some m := by
  have hm : m < x.2.1.length := hl ▸ (List.getElem?_eq_some_iff.mp hp).1
  have ht : ∀ r, r ∈ x.2.1 → r.2 ≤ 1000 := fun r hr => by have := (hxo.2.2.2.2.2.2.2.1 r hr).2; have := hxo.2.2.2.2.2.1; omega
  refine pa_ranked_of (by simpa [pa_sk] using hm) ?_
  refine pa_ahead_eq (P := []) List.nodup_nil (fun j h => by simp at h) fun j hj => ?_
  have hj' : j < x.2.1.length := by simpa [pa_sk] using hj
  rw [pa_lt_key hxo.2.2.2.2.2.2.2.2.2.1 ht (List.getElem?_eq_getElem hj') (List.getElem?_eq_getElem hm)]
  obtain ⟨q, hq⟩ : ∃ q, R[j]? = some q := ⟨_, List.getElem?_eq_getElem (hl ▸ hj' : j < R.length)⟩
  have := hmin q (List.mem_of_getElem? hq)
  rw [aKey_at hn hp (List.getElem?_eq_getElem hm), aKey_at hn hq (List.getElem?_eq_getElem hj')] at this
  constructor
  · intro h; omega
  · intro h; simp at h
theorem kc_nextByQueue {g a p m l qq b n cc : Nat} {A : pa_A} {x : pa_Mo} {N R : List Nat} (h : rAs τ σ g a A) (hok : pa_ok A cc) (hcc : cc ≤ 1000) (hg0 : g ≠ 0) (hw : zo_wf τ σ) (hg : zp_gas (n + 4) σ) (hfu : 100 ≤ ρ.2) (hxo : pa_okM A cc x) (hm : σ.2.2 p = some (true, mcell m x l qq b)) (hq : kReqs σ.1.1 σ l N R x.2.1) (h11 : x.2.1.length ≤ 11) (hne : x.2.1 ≠ []) :
    ∃ σ' k q, zF_X2_nextByQueue ρ a (some p) σ = zz_rR (some q) σ' ∧ zp_le zp_no 4 σ σ' ∧ R[k]? = some q ∧ pa_ranked (pa_sk A x.2.1) 0 = some k := by
  have ho := hok.w hcc
  have hf100 := (hxo.f100 ho.1).1
  have hnd := reqs_nodup hq hxo.2.2.2.2.2.2.2.2.1 hf100
  have hlen : R.length ≠ 0 := by rw [hq.2.1]; intro h; exact hne (List.length_eq_zero_iff.mp h)
  obtain ⟨σ', g', q, qa, c, s1, s2, s3, s4, s5, s6, s7, -⟩ := kc_queue (ρ := ρ) (n := n) h hok hcc hg0 hw hg hfu hxo hm hq h11
  have h0R : g' 0 ∈ R := (s6 (g' 0)).mp ⟨0, by omega, rfl⟩
  obtain ⟨k, hk⟩ := List.getElem?_of_mem h0R
  obtain ⟨y1, w, fs, y2⟩ := s7.2.1 (g' 0) h0R
  refine ⟨σ', k, g' 0, ?_, s2, hk, pa_least hxo hcc hq.2.1 hnd hk fun r hr => ?_⟩
  · unfold zF_X2_nextByQueue
    rw [zp_gR hm (k := 2) (v := some l) rfl, Option.bind_some, hq.1.ck, jl_isEmpty hq.1, if_neg hlen, cc_I, if_pos z00, jk_elem_yes, cc_V, h.ck, s1, cc_R, s3.ck, jq_peek s3 (by omega), cc_R, if_neg (show ¬ ¬ (zz_ok σ' (some (g' 0)) [7] = true) from fun h => h (by simp [zz_ok, zz_cl, y2]))]
  · obtain ⟨i, hi, he⟩ := (s6 r).mpr hr
    rw [← he]
    exact s4.root i hi
theorem kc_nextByQueue_no {g a p m l qq b n : Nat} {A : pa_A} {x : pa_Mo} {N R : List Nat} (hg : zp_gas (n + 1) σ) (hm : σ.2.2 p = some (true, mcell m x l qq b)) (hq : kReqs σ.1.1 σ l N R x.2.1) (he : x.2.1 = []) : zthr (zF_X2_nextByQueue ρ a (some p) σ) 119 1 σ := by
  unfold zF_X2_nextByQueue
  rw [zp_gR hm (k := 2) (v := some l) rfl, Option.bind_some, hq.1.ck, jl_isEmpty hq.1, if_pos (by rw [hq.2.1, he]; rfl), cc_I, if_neg n10]
  exact (jk_elem_no hg).cV
end CJ
