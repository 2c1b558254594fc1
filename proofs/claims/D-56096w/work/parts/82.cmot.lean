/-! ===== A MOTION's LISTS ARE CHANGED ===== -/
section CM
variable {ρ : zz_C} {σ : zz_S} {τ : Nat → Nat}
theorem kq_addLast {gl l x n : Nat} {X : List Nat} (h : rL τ σ gl l X) (hw : zo_wf τ σ) (hg : zp_gas (n + 1) σ) (hX : X.length < 64) (hgl : gl ≠ 0) :
    ∃ σ', zF_J40_addLast ρ l (some x) σ = zz_rV σ' ∧ zp_le (fun b => τ b = gl) 1 σ σ' ∧ zo_wf (zo_tg τ σ.1.1 gl) σ' ∧ rL (zo_tg τ σ.1.1 gl) σ' gl l (X ++ [x]) := by
  obtain ⟨N, l1, l2, l3⟩ := h
  obtain ⟨σ', s1, s2, s3⟩ := jl_addLast (ρ := ρ) (x := x) l3 hw.1 hg hX
  have hll : l < σ.1.1 := hw.lt (by rw [l1]; exact hgl)
  have hnew : σ.1.1 < σ'.1.1 := by
    rcases Nat.lt_or_ge σ.1.1 σ'.1.1 with h1 | h1
    · exact h1
    · exfalso
      obtain ⟨fs, hfs⟩ := s3.node (n := σ.1.1) (by simp)
      have := (s2.wf hw.1).lt hfs
      omega
  refine ⟨σ', s1, s2.mono (fun b _ hb => ?_) (Nat.le_refl _), (hw.le s2).tg hnew, N ++ [σ.1.1], (zo_tg_ne (by omega)).trans l1, fun m hm => ?_, s3⟩
  · rcases hb with rfl | hb
    · exact l1
    · exact l2 b hb
  · rcases List.mem_append.mp hm with h1 | h1
    · have : m < σ.1.1 := hw.lt (by rw [l2 m h1]; exact hgl)
      exact (zo_tg_ne (by omega)).trans (l2 m h1)
    · have : m = σ.1.1 := by simpa using h1
      rw [this]; exact zo_tg_at _ _ _
theorem kq_removeFirst {gl l x : Nat} {X : List Nat} (h : rL τ σ gl l (x :: X)) (hw : zo_wf τ σ) :
    ∃ σ', zF_J40_removeFirst ρ l σ = zz_rR (some x) σ' ∧ zp_le (fun b => τ b = gl) 0 σ σ' ∧ rL τ σ' gl l X := by
  obtain ⟨N, l1, l2, l3⟩ := h
  obtain ⟨n, N', e, σ', s1, s2, s3⟩ := jl_removeFirst (ρ := ρ) l3 hw.1
  subst e
  refine ⟨σ', s1, s2.mono (fun b _ hb => ?_) (Nat.le_refl _), N', l1, fun m hm => l2 m (List.mem_cons_of_mem _ hm), s3⟩
  rcases hb with rfl | hb
  · exact l1
  · exact l2 b hb
theorem rL.ck {gl l : Nat} {X : List Nat} {K : Nat → zz_R} (h : rL τ σ gl l X) : zz_ck σ (some l) 140 K = K l := by
  obtain ⟨N, l1, l2, l3⟩ := h
  exact l3.ck
theorem rL.size {gl l : Nat} {X : List Nat} (h : rL τ σ gl l X) : zF_J40_size ρ l σ = zz_rI (.ofNat X.length) σ := by
  obtain ⟨N, l1, l2, l3⟩ := h
  exact jl_size l3
theorem rL.len {gl l : Nat} {X : List Nat} (h : rL τ σ gl l X) : X.length ≤ 64 := by
  obtain ⟨N, l1, l2, l3⟩ := h
  exact l3.2.2.2.1
/-- the loop of remove: each of X is put behind Y, but one -/
theorem kl_remove {p m l q b : Nat} {x : pa_Mo} {gl rem : Nat} (hgl : 1 < gl) :
    ∀ (X Y : List Nat) (n k : Nat) (τ : Nat → Nat) (σ : zz_S), X.length < n → zo_wf τ σ → zp_gas (k + X.length) σ → rL τ σ gl l (X ++ Y) → τ p ≠ gl → τ p ≠ 0 → σ.2.2 p = some (true, mcell m x l q b) → (∀ a, a ∈ X → τ a = 1 ∧ ∃ w fs, σ.2.2 a = some (w, .inr (7, fs))) →
      ∃ τ' σ', zL_X6_remove_8 ρ n p (some rem) (.ofNat X.length) σ = zz_rV σ' ∧ zp_le (fun b => τ b = gl) X.length σ σ' ∧ zo_wf τ' σ' ∧ (∀ b, τ b ≠ 0 → τ' b = τ b) ∧ (∀ b, τ' b = τ b ∨ τ' b = gl) ∧ rL τ' σ' gl l (Y ++ X.filter fun a => decide (a ≠ rem)) := by
  intro X
  induction X with
  | nil =>
    intro Y n k τ σ hn hw hg hl hp hp0 hc hX
    obtain ⟨n, rfl⟩ : ∃ j, n = j + 1 := ⟨n - 1, by omega⟩
    rw [zL_X6_remove_8, if_pos (by decide)]
    exact ⟨τ, σ, rfl, zp_le.refl _ _ _, hw, fun _ _ => rfl, fun _ => .inl rfl, by simpa using hl⟩
  | cons y X ih =>
    intro Y n k τ σ hn hw hg hl hp hp0 hc hX
    obtain ⟨n, rfl⟩ : ∃ j, n = j + 1 := ⟨n - 1, by omega⟩
    have hlen := hl.len
    have hlen' : X.length + 1 + Y.length ≤ 64 := by simp at hlen; omega
    obtain ⟨σ1, r1, r2, r3⟩ := kq_removeFirst (ρ := ρ) hl hw
    have hw1 := hw.le r2
    have hpl : p < σ.1.1 := hw.1.lt hc
    have hc1 : σ1.2.2 p = some (true, mcell m x l q b) := by rw [r2.keep hpl hp]; exact hc
    have hX1 : ∀ a, a ∈ y :: X → τ a = 1 ∧ ∃ w fs, σ1.2.2 a = some (w, .inr (7, fs)) := fun a ha => by
      obtain ⟨t1, w, fs, t2⟩ := hX a ha
      exact ⟨t1, w, fs, by rw [r2.keep (hw.1.lt t2) (by show ¬ τ a = gl; omega)]; exact t2⟩
    have hcnt : Int32.ofNat (y :: X).length + (-1 : Int32) = Int32.ofNat X.length := by
      rw [List.length_cons, ← ci_succ, Int32.add_assoc, show (1 : Int32) + (-1) = 0 from by decide, Int32.add_zero]
    have hy7 : zz_ok σ1 (some y) [7] = true := by
      obtain ⟨-, w, fs, t2⟩ := hX1 y List.mem_cons_self
      simp [zz_ok, zz_cl, t2]
    rw [zL_X6_remove_8, if_neg (show ¬ Int32.ofNat (y :: X).length ≤ 0 from by
      rw [show (0 : Int32) = Int32.ofNat 0 from rfl, ci_le (by simp; omega) (by decide)]; simp), zp_gR hc (k := 2) (v := some l) rfl, Option.bind_some, hl.ck, r1, cc_R, if_neg (show ¬ ¬ (zz_ok σ1 (some y) [7] = true) from fun h => h hy7)]
    unfold zJ_X6_remove_36
    rw [hcnt]
    by_cases he : y = rem
    · subst he
      rw [if_pos rfl]
      obtain ⟨τ', σ', i1, i2, i3, i4, i5, i6⟩ := ih Y n (k + 1) τ σ1 (by simp at hn; omega) hw1 (r2.gas (n := k + 1 + X.length) (hg.le (by simp; omega))) r3 hp hp0 hc1 fun a ha => hX1 a (List.mem_cons_of_mem _ ha)
      refine ⟨τ', σ', i1, (r2.trans i2 fun _ _ h => h).mono (fun _ _ h => h) (by simp), i3, i4, i5, ?_⟩
      rw [List.filter_cons, if_neg (by simp)]
      exact i6
    · rw [if_neg (fun h => he (Option.some.inj h)), zp_gR hc1 (k := 2) (v := some l) rfl, Option.bind_some, r3.ck]
      obtain ⟨σ2, a1, a2, a3, a4⟩ := kq_addLast (ρ := ρ) (x := y) (n := k + X.length) r3 hw1 (r2.gas (n := k + X.length + 1) (hg.le (by simp; omega))) (by simp; omega) (by omega)
      have htn : τ σ1.1.1 = 0 := hw1.new
      have ht : ∀ b, τ b ≠ 0 → zo_tg τ σ1.1.1 gl b = τ b := fun b hb => zo_tg_ne fun h => hb (h ▸ htn)
      have hpl1 : p < σ1.1.1 := hw1.1.lt hc1
      have hc2 : σ2.2.2 p = some (true, mcell m x l q b) := by rw [a2.keep hpl1 hp]; exact hc1
      rw [a1, cc_V]
      obtain ⟨τ', σ', i1, i2, i3, i4, i5, i6⟩ := ih (Y ++ [y]) n k (zo_tg τ σ1.1.1 gl) σ2 (by simp at hn; omega) a3 (a2.gas (n := k + X.length) (r2.gas (n := k + X.length + 1) (hg.le (by simp; omega)))) (by rw [← List.append_assoc]; exact a4) (by rw [ht p hp0]; exact hp) (by rw [ht p hp0]; exact hp0) hc2 fun a ha => by
        obtain ⟨t1, w, fs, t2⟩ := hX1 a (List.mem_cons_of_mem _ ha)
        exact ⟨(ht a (by omega)).trans t1, w, fs, by rw [a2.keep (hw1.1.lt t2) (by show ¬ τ a = gl; omega)]; exact t2⟩
      refine ⟨τ', σ', i1, ?_, i3, fun b hb => (i4 b (by rw [ht b hb]; exact hb)).trans (ht b hb), fun b => ?_, ?_⟩
      · have h12 : zp_le (fun b => τ b = gl) 1 σ σ2 := (r2.trans a2 fun _ _ h => h).mono (fun _ _ h => h) (by omega)
        refine (h12.trans i2 fun b hb h => ?_).mono (fun _ _ h => h) (by simp; omega)
        have hb1 : b ≠ σ1.1.1 := by have := r2.2.1; omega
        have h : zo_tg τ σ1.1.1 gl b = gl := h
        rw [zo_tg_ne hb1] at h
        exact h
      · rcases i5 b with h | h
        · by_cases hb : b = σ1.1.1
          · right; rw [h, hb, zo_tg_at]
          · left; rw [h, zo_tg_ne hb]
        · exact .inr h
      · rw [List.filter_cons, if_pos (by simpa using he)]
        simpa using i6
theorem filt_erase : ∀ (R : List Nat) (k a : Nat), R.Nodup → R[k]? = some a → (R.filter fun b => decide (b ≠ a)) = R.eraseIdx k
  | [], k, a, _, h => by simp at h
  | b :: R, 0, a, hn, h => by
    have hb : b = a := by simpa using h
    subst hb
    rw [List.filter_cons, if_neg (by simp), List.eraseIdx_zero, List.tail_cons]
    refine List.filter_eq_self.mpr fun c hc => ?_
    have := (List.nodup_cons.mp hn).1
    simp only [decide_eq_true_eq]
    exact fun he => this (he ▸ hc)
  | b :: R, k + 1, a, hn, h => by
    have h' : R[k]? = some a := by simpa using h
    have hba : b ≠ a := fun he => (List.nodup_cons.mp hn).1 (he ▸ List.mem_of_getElem? h')
    rw [List.filter_cons, if_pos (by simpa using hba), List.eraseIdx_cons_succ, filt_erase R k a (List.nodup_cons.mp hn).2 h']
/-- the requests of a list stand at different addresses -/
theorem reqs_nodup {n0 l : Nat} {N R : List Nat} {L : List pa_R} (hq : kReqs n0 σ l N R L) (hn : (L.map (·.1)).Nodup) (hL : ∀ r, r ∈ L → r.1 < 100) : R.Nodup := by
  obtain ⟨q1, q2, q3, q4, q5⟩ := hq
  unfold List.Nodup at hn ⊢
  rw [List.pairwise_iff_getElem] at hn ⊢
  intro i j hi' hj hij he
  have ha := List.getElem?_eq_getElem hi'
  have hb : R[j]? = some R[i] := by rw [he]; exact List.getElem?_eq_getElem hj
  have hli : i < L.length := q2 ▸ hi'
  have hlj : j < L.length := q2 ▸ hj
  obtain ⟨-, w, t1⟩ := q5 i _ _ ha (List.getElem?_eq_getElem hli)
  obtain ⟨-, w', t2⟩ := q5 j _ _ hb (List.getElem?_eq_getElem hlj)
  rw [t1] at t2
  have e : Int32.ofNat (L[i]).1 = Int32.ofNat (L[j]).1 := by
    have := t2
    simp only [Option.some.injEq, Prod.mk.injEq, Sum.inr.injEq, List.cons.injEq, Value.int.injEq] at this
    exact this.2.2.1
  have h1 := hL _ (List.getElem_mem hli)
  have h2 := hL _ (List.getElem_mem hlj)
  rw [ci_eq (by omega) (by omega)] at e
  exact hn i j (by simpa using hli) (by simpa using hlj) hij (by simpa using e)
/-- one motion's picture is changed, all others kept -/
theorem rAx.setM {g a m p : Nat} {A : pa_A} {af ac am : Nat} {F C Mo : List Nat} {y : pa_Mo} {τ' : Nat → Nat} {σ' : zz_S} (h : rAx τ σ g a A af ac am F C Mo) (ho : pw A) (hg2 : 1000 ≤ g) (hp : Mo[m]? = some p) (hk : zo_k (fun t => t ≠ 0 ∧ ¬ (g + 100 + 10 * m ≤ t ∧ t < g + 104 + 10 * m)) τ σ τ' σ') (hy : rMo τ' σ' A.1 (g + 100 + 10 * m) p m y) :
    rAx τ' σ' g a (pa_setM A m y) af ac am F C Mo := by
  obtain ⟨k0, k1, ⟨k2, k3, k4⟩, ⟨k5, k6, k7⟩, k8, k9, k10⟩ := h
  have h12 := ho.1
  have hm : m < A.2.2.1.length := k9 ▸ (List.getElem?_eq_some_iff.mp hp).1
  have ka := hk a ⟨by omega, by omega⟩
  refine ⟨ka.1.trans k0, ka.2.trans k1, ⟨k2.keep hk ⟨by omega, by omega⟩, k3, fun k q x hq hx => ?_⟩, ⟨k5.keep hk ⟨by omega, by omega⟩, k6, fun k q r hq hr => ?_⟩, k8.keep hk ⟨by omega, by omega⟩, by simpa [pa_setM] using k9, fun n q x hq hx => ?_⟩
  · obtain ⟨t1, t2⟩ := k4 k q x hq hx
    have hkl := (List.getElem?_eq_some_iff.mp hx).1
    have hkl : k < A.1.length := hkl
    have := hk q ⟨by omega, by omega⟩
    exact ⟨this.1.trans t1, this.2.trans t2⟩
  · obtain ⟨t1, w, t2⟩ := k7 k q r hq hr
    have := hk q ⟨by omega, by omega⟩
    exact ⟨this.1.trans t1, w, this.2.trans t2⟩
  · by_cases hn : n = m
    · subst hn
      have e1 : q = p := by rw [hp] at hq; exact (Option.some.inj hq).symm
      have e2 : x = y := by simp [pa_setM, hm] at hx; exact hx.symm
      subst e1 e2
      exact hy
    · have hx' : A.2.2.1[n]? = some x := by simpa [pa_setM, List.getElem?_set, Ne.symm hn] using hx
      exact (k10 n q x hq hx').keep hk ⟨by omega, by omega⟩ fun t g1 g2 => ⟨by omega, by omega⟩
end CM
