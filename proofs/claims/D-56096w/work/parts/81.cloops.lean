/-! ===== LOOPS OVER A MOTION's LISTS ===== -/
section CL
variable {ρ : zz_C} {σ : zz_S} {τ : Nat → Nat}
/-- a list of requests, below n0 -/
def kReqs (n0 : Nat) (σ : zz_S) (l : Nat) (N R : List Nat) (L : List pa_R) : Prop := cL σ l N R ∧ R.length = L.length ∧ l < n0 ∧ (∀ n, n ∈ N → n < n0) ∧ (∀ (j a : Nat) (r : pa_R), R[j]? = some a → L[j]? = some r → a < n0 ∧ ∃ w, σ.2.2 a = some (w, .inr (7, [.int (.ofNat r.1), .int (.ofNat r.2)])))
theorem kReqs.same {n0 : Nat} {σ' : zz_S} {l : Nat} {N R : List Nat} {L : List pa_R} (h : kReqs n0 σ l N R L) (hs : kSame n0 σ σ') : kReqs n0 σ' l N R L := by
  obtain ⟨h1, h2, h3, h4, h5⟩ := h
  refine ⟨h1.keep (hs l h3) fun n hn => hs n (h4 n hn), h2, h3, h4, fun j a r ha hr => ?_⟩
  obtain ⟨g1, w, g2⟩ := h5 j a r ha hr
  exact ⟨g1, w, (hs a g1).trans g2⟩
def kCros (n0 : Nat) (σ : zz_S) (fr : List pa_F) (l : Nat) (N R : List Nat) (L : List pa_K) : Prop := cL σ l N R ∧ R.length = L.length ∧ l < n0 ∧ (∀ n, n ∈ N → n < n0) ∧ (∀ (j a : Nat) (k : pa_K), R[j]? = some a → L[j]? = some k → a < n0 ∧ ∃ w, σ.2.2 a = some (w, .inr (8, [.int (.ofNat k.1), .int (.ofNat (fr[k.1]?.getD (0, 1, 0, 0)).1), .int (.ofNat (k.2.1 * (fr[k.1]?.getD (0, 1, 0, 0)).2.1)), .int (.ofNat k.2.2)])))
theorem kCros.same {n0 : Nat} {σ' : zz_S} {fr : List pa_F} {l : Nat} {N R : List Nat} {L : List pa_K} (h : kCros n0 σ fr l N R L) (hs : kSame n0 σ σ') : kCros n0 σ' fr l N R L := by
  obtain ⟨h1, h2, h3, h4, h5⟩ := h
  refine ⟨h1.keep (hs l h3) fun n hn => hs n (h4 n hn), h2, h3, h4, fun j a r ha hr => ?_⟩
  obtain ⟨g1, w, g2⟩ := h5 j a r ha hr
  exact ⟨g1, w, (hs a g1).trans g2⟩
theorem rMo.reqs {fr : List pa_F} {g p m : Nat} {x : pa_Mo} (h : rMo τ σ fr g p m x) (hw : zo_wf τ σ) : ∃ l q b N R, σ.2.2 p = some (true, mcell m x l q b) ∧ rL τ σ (g + 1) l R ∧ kReqs σ.1.1 σ l N R x.2.1 ∧ (∀ (j a : Nat) (r : pa_R), R[j]? = some a → x.2.1[j]? = some r → rReq τ σ a r) := by
  obtain ⟨k0, l, q, b, R, K, k1, k2, k3, k4, k5, k6, k7, k8⟩ := h
  have k2' := k2
  obtain ⟨N, l1, l2, l3⟩ := k2
  refine ⟨l, q, b, N, R, k1, k2', ⟨l3, k5, hw.lt (by rw [l1]; omega), fun n hn => hw.lt (by rw [l2 n hn]; omega), fun j a r ha hr => ?_⟩, k6⟩
  obtain ⟨t1, t2⟩ := k6 j a r ha hr
  exact ⟨hw.lt (by rw [t1]; decide), t2⟩
theorem rMo.cros {fr : List pa_F} {g p m : Nat} {x : pa_Mo} (h : rMo τ σ fr g p m x) (hw : zo_wf τ σ) : ∃ l q b N R, σ.2.2 p = some (true, mcell m x l q b) ∧ rL τ σ (g + 2) q R ∧ kCros σ.1.1 σ fr q N R x.2.2 ∧ (∀ (j a : Nat) (k : pa_K), R[j]? = some a → x.2.2[j]? = some k → rCro τ σ fr a k) := by
  obtain ⟨k0, l, q, b, R, K, k1, k2, k3, k4, k5, k6, k7, k8⟩ := h
  have k3' := k3
  obtain ⟨N, l1, l2, l3⟩ := k3
  refine ⟨l, q, b, N, K, k1, k3', ⟨l3, k7, hw.lt (by rw [l1]; omega), fun n hn => hw.lt (by rw [l2 n hn]; omega), fun j a r ha hr => ?_⟩, k8⟩
  obtain ⟨t1, t2⟩ := k8 j a r ha hr
  exact ⟨hw.lt (by rw [t1]; decide), t2⟩
/-- one step of an iterator over a list below n0 -/
theorem kn_step {n0 l it k x : Nat} {N R : List Nat} (hl : l < n0) (hit : n0 ≤ it) (hc : cL σ l N R) (hi : cN σ it l N k) (hw : zp_wf σ) (hx : R[k]? = some x) :
    ∃ σ', zF_J26_next ρ it σ = zz_rR (some x) σ' ∧ zp_le (fun b => b = it) 0 σ σ' ∧ cN σ' it l N (k + 1) ∧ kSame n0 σ σ' := by
  obtain ⟨σ', n1, n2, n3⟩ := jl_next (ρ := ρ) hi hc hx hw
  obtain ⟨lr, mc, w, r, q1, q2⟩ := hi
  have := hw.lt q1
  exact ⟨σ', n1, n2, n3, n2.same (by omega) fun b hb he => by omega⟩
theorem kl_requestOf {n0 l it f : Nat} {N R : List Nat} {L : List pa_R} (hit : n0 ≤ it) (hf : f < 100) (hL : ∀ r, r ∈ L → r.1 < 100) :
    ∀ (r k n : Nat) (σ : zz_S), k + r = L.length → r < n → kReqs n0 σ l N R L → zp_wf σ → cN σ it l N k →
      ∃ σ2, zL_X6_requestOf_8 ρ n (.ofNat f) (some it) σ = zz_rR (((L.drop k).findIdx? fun r => r.1 == f).bind fun j => R[k + j]?) σ2 ∧ zp_le (fun b => b = it) 0 σ σ2 := by
  intro r
  induction r with
  | zero =>
    intro k n σ hk hn hq hw hi
    obtain ⟨n, rfl⟩ : ∃ m, n = m + 1 := ⟨n - 1, by omega⟩
    obtain ⟨q1, q2, q3, q4, q5⟩ := hq
    rw [zL_X6_requestOf_8, hi.ck, jl_hasNext hi q1 (by omega), if_pos (by omega), cc_I, if_pos z00, List.drop_eq_nil_of_le (by omega)]
    exact ⟨σ, rfl, zp_le.refl _ _ _⟩
  | succ r ih =>
    intro k n σ hk hn hq hw hi
    obtain ⟨n, rfl⟩ : ∃ m, n = m + 1 := ⟨n - 1, by omega⟩
    have hq0 := hq
    obtain ⟨q1, q2, q3, q4, q5⟩ := hq
    have hk1 : k < L.length := by omega
    obtain ⟨a, ha⟩ : ∃ a, R[k]? = some a := ⟨_, List.getElem?_eq_getElem (q2 ▸ hk1 : k < R.length)⟩
    have hr := List.getElem?_eq_getElem hk1
    obtain ⟨σ2, n1, n2, n3, n4⟩ := kn_step (ρ := ρ) q3 hit q1 hi hw ha
    have hq2 := hq0.same n4
    obtain ⟨w1, w, w2⟩ := hq2.2.2.2.2 k a _ ha hr
    have hrl := hL _ (List.getElem_mem hk1)
    rw [zL_X6_requestOf_8, hi.ck, jl_hasNext hi q1 (by omega), if_neg (by omega), cc_I, if_neg n10, hi.ck, n1, cc_R, if_neg (show ¬ ¬ (zz_ok σ2 (some a) [7] = true) from fun h => h (by simp [zz_ok, zz_cl, w2])), zp_gI w2 (k := 0) (v := .ofNat (L[k]).1) rfl, Option.bind_some, List.drop_eq_getElem_cons hk1, List.findIdx?_cons]
    by_cases he : (L[k]).1 = f
    · rw [if_pos (by rw [he]), if_pos (by simp [he])]
      refine ⟨σ2, ?_, n2⟩
      show _ = zz_rR (R[k + 0]?) σ2
      rw [Nat.add_zero, ha]
    · rw [if_neg (show ¬ (Int32.ofNat (L[k]).1 = Int32.ofNat f) from by rw [ci_eq (by omega) (by omega)]; exact he), if_neg (by simp [he])]
      obtain ⟨σ3, m1, m2⟩ := ih (k + 1) n σ2 (by omega) (by omega) hq2 (n2.wf hw) n3
      refine ⟨σ3, ?_, n2.trans (k' := 0) m2 fun _ _ h => h⟩
      rw [m1]
      cases (L.drop (k + 1)).findIdx? fun r => r.1 == f with
      | none => rfl
      | some j => show zz_rR (R[k + 1 + j]?) σ3 = zz_rR (R[k + (j + 1)]?) σ3; rw [show k + 1 + j = k + (j + 1) by omega]
theorem kc_requestOf {p m f l q b n : Nat} {x : pa_Mo} {N R : List Nat} (hm : σ.2.2 p = some (true, mcell m x l q b)) (hq : kReqs σ.1.1 σ l N R x.2.1) (hf : f < 100) (hL : ∀ r, r ∈ x.2.1 → r.1 < 100) (hw : zp_wf σ) (hg : zp_gas (n + 1) σ) (hfu : 100 ≤ ρ.2) (h12 : x.2.1.length ≤ 12) :
    ∃ σ', zF_X6_requestOf ρ p (.ofNat f) σ = zz_rR ((pa_place x.2.1 f).bind fun j => R[j]?) σ' ∧ zp_le zp_no 1 σ σ' := by
  have hq0 := hq
  obtain ⟨q1, q2, q3, q4, q5⟩ := hq
  obtain ⟨σ1, i1, i2, i3⟩ := jl_iterator (ρ := ρ) (f := ρ.2 - 1) q1 hw hg (by omega)
  obtain ⟨σ2, s1, s2⟩ := kl_requestOf (ρ := ρ) (n0 := σ.1.1) (it := σ.1.1) (Nat.le_refl _) hf hL _ 0 ρ.2 σ1 (Nat.zero_add _) (by omega) (hq0.same (i2.same (Nat.le_refl _) fun _ _ h => h)) (i2.wf hw) i3
  refine ⟨σ2, ?_, i2.trans (k' := 0) s2 fun b hb he => by omega⟩
  unfold zF_X6_requestOf
  rw [zp_gR hm (k := 2) (v := some l) rfl, Option.bind_some, q1.ck, i1, cc_R, s1]
  simp [pa_place]
theorem kl_hasCroaked {n0 l it f : Nat} {fr : List pa_F} {N R : List Nat} {L : List pa_K} (hit : n0 ≤ it) (hf : f < 100) (hL : ∀ r, r ∈ L → r.1 < 100) :
    ∀ (r k n : Nat) (σ : zz_S), k + r = L.length → r < n → kCros n0 σ fr l N R L → zp_wf σ → cN σ it l N k →
      ∃ σ2, zL_X6_hasCroaked_8 ρ n (.ofNat f) (some it) σ = zz_rI (if pa_croaked (L.drop k) f = true then 1 else 0) σ2 ∧ zp_le (fun b => b = it) 0 σ σ2 := by
  intro r
  induction r with
  | zero =>
    intro k n σ hk hn hq hw hi
    obtain ⟨n, rfl⟩ : ∃ m, n = m + 1 := ⟨n - 1, by omega⟩
    obtain ⟨q1, q2, q3, q4, q5⟩ := hq
    rw [zL_X6_hasCroaked_8, hi.ck, jl_hasNext hi q1 (by omega), if_pos (by omega), cc_I, if_pos z00, List.drop_eq_nil_of_le (by omega)]
    exact ⟨σ, rfl, zp_le.refl _ _ _⟩
  | succ r ih =>
    intro k n σ hk hn hq hw hi
    obtain ⟨n, rfl⟩ : ∃ m, n = m + 1 := ⟨n - 1, by omega⟩
    have hq0 := hq
    obtain ⟨q1, q2, q3, q4, q5⟩ := hq
    have hk1 : k < L.length := by omega
    obtain ⟨a, ha⟩ : ∃ a, R[k]? = some a := ⟨_, List.getElem?_eq_getElem (q2 ▸ hk1 : k < R.length)⟩
    have hr := List.getElem?_eq_getElem hk1
    obtain ⟨σ2, n1, n2, n3, n4⟩ := kn_step (ρ := ρ) q3 hit q1 hi hw ha
    have hq2 := hq0.same n4
    obtain ⟨w1, w, w2⟩ := hq2.2.2.2.2 k a _ ha hr
    have hrl := hL _ (List.getElem_mem hk1)
    rw [zL_X6_hasCroaked_8, hi.ck, jl_hasNext hi q1 (by omega), if_neg (by omega), cc_I, if_neg n10, hi.ck, n1, cc_R, if_neg (show ¬ ¬ (zz_ok σ2 (some a) [8] = true) from fun h => h (by simp [zz_ok, zz_cl, w2])), zp_gI w2 (k := 0) (v := .ofNat (L[k]).1) rfl, Option.bind_some, List.drop_eq_getElem_cons hk1]
    by_cases he : (L[k]).1 = f
    · rw [if_pos (by rw [he]), if_pos (by unfold pa_croaked; rw [List.any_cons, show ((L[k]).1 == f) = true by simp [he]]; rfl)]
      exact ⟨σ2, rfl, n2⟩
    · rw [if_neg (show ¬ (Int32.ofNat (L[k]).1 = Int32.ofNat f) from by rw [ci_eq (by omega) (by omega)]; exact he)]
      obtain ⟨σ3, m1, m2⟩ := ih (k + 1) n σ2 (by omega) (by omega) hq2 (n2.wf hw) n3
      refine ⟨σ3, ?_, n2.trans (k' := 0) m2 fun _ _ h => h⟩
      rw [m1]
      unfold pa_croaked
      rw [List.any_cons, show ((L[k]).1 == f) = false by simp [he], Bool.false_or]
theorem kc_hasCroaked {p m f l q b n : Nat} {x : pa_Mo} {fr : List pa_F} {N R : List Nat} (hm : σ.2.2 p = some (true, mcell m x l q b)) (hq : kCros σ.1.1 σ fr q N R x.2.2) (hf : f < 100) (hL : ∀ r, r ∈ x.2.2 → r.1 < 100) (hw : zp_wf σ) (hg : zp_gas (n + 1) σ) (hfu : 100 ≤ ρ.2) (h12 : x.2.2.length ≤ 12) :
    ∃ σ', zF_X6_hasCroaked ρ p (.ofNat f) σ = zz_rI (if pa_croaked x.2.2 f = true then 1 else 0) σ' ∧ zp_le zp_no 1 σ σ' := by
  have hq0 := hq
  obtain ⟨q1, q2, q3, q4, q5⟩ := hq
  obtain ⟨σ1, i1, i2, i3⟩ := jl_iterator (ρ := ρ) (f := ρ.2 - 1) q1 hw hg (by omega)
  obtain ⟨σ2, s1, s2⟩ := kl_hasCroaked (ρ := ρ) (n0 := σ.1.1) (it := σ.1.1) (Nat.le_refl _) hf hL _ 0 ρ.2 σ1 (Nat.zero_add _) (by omega) (hq0.same (i2.same (Nat.le_refl _) fun _ _ h => h)) (i2.wf hw) i3
  refine ⟨σ2, ?_, i2.trans (k' := 0) s2 fun b hb he => by omega⟩
  unfold zF_X6_hasCroaked
  rw [zp_gR hm (k := 3) (v := some q) rfl, Option.bind_some, q1.ck, i1, cc_R, s1]
  rfl
/-- the strength of a croak over the frogs -/
def ps_str (fr : List pa_F) (k : pa_K) : Nat := k.2.1 * (fr[k.1]?.getD (0, 1, 0, 0)).2.1
theorem kl_strengths {n0 l it s : Nat} {fr : List pa_F} {N R : List Nat} {L : List pa_K} (hit : n0 ≤ it) (hs : s ≤ 1) (hL : ∀ r, r ∈ L → r.2.2 ≤ 1) :
    ∀ (r k n acc : Nat) (σ : zz_S), k + r = L.length → r < n → kCros n0 σ fr l N R L → zp_wf σ → cN σ it l N k →
      ∃ σ2, zL_X6_strengths_10 ρ n (.ofNat s) (.ofNat acc) (some it) σ = zz_rI (.ofNat (acc + ((L.drop k).map fun k => if k.2.2 = s then ps_str fr k else 0).sum)) σ2 ∧ zp_le (fun b => b = it) 0 σ σ2 := by
  intro r
  induction r with
  | zero =>
    intro k n acc σ hk hn hq hw hi
    obtain ⟨n, rfl⟩ : ∃ m, n = m + 1 := ⟨n - 1, by omega⟩
    obtain ⟨q1, q2, q3, q4, q5⟩ := hq
    rw [zL_X6_strengths_10, hi.ck, jl_hasNext hi q1 (by omega), if_pos (by omega), cc_I, if_pos z00, ps_end _ (by omega)]
    exact ⟨σ, rfl, zp_le.refl _ _ _⟩
  | succ r ih =>
    intro k n acc σ hk hn hq hw hi
    obtain ⟨n, rfl⟩ : ∃ m, n = m + 1 := ⟨n - 1, by omega⟩
    have hq0 := hq
    obtain ⟨q1, q2, q3, q4, q5⟩ := hq
    have hk1 : k < L.length := by omega
    obtain ⟨a, ha⟩ : ∃ a, R[k]? = some a := ⟨_, List.getElem?_eq_getElem (q2 ▸ hk1 : k < R.length)⟩
    have hr := List.getElem?_eq_getElem hk1
    obtain ⟨σ2, n1, n2, n3, n4⟩ := kn_step (ρ := ρ) q3 hit q1 hi hw ha
    have hq2 := hq0.same n4
    obtain ⟨w1, w, w2⟩ := hq2.2.2.2.2 k a _ ha hr
    have hrl := hL _ (List.getElem_mem hk1)
    rw [zL_X6_strengths_10, hi.ck, jl_hasNext hi q1 (by omega), if_neg (by omega), cc_I, if_neg n10, hi.ck, n1, cc_R, if_neg (show ¬ ¬ (zz_ok σ2 (some a) [8] = true) from fun h => h (by simp [zz_ok, zz_cl, w2])), zp_gI w2 (k := 3) (v := .ofNat (L[k]).2.2) rfl, Option.bind_some, zp_gI w2 (k := 2) (v := .ofNat (ps_str fr L[k])) rfl, Option.bind_some, ps_step _ hr]
    unfold zJ_X6_strengths_49
    obtain ⟨σ3, m1, m2⟩ := ih (k + 1) n (acc + (if (L[k]).2.2 = s then ps_str fr L[k] else 0)) σ2 (by omega) (by omega) hq2 (n2.wf hw) n3
    refine ⟨σ3, ?_, n2.trans (k' := 0) m2 fun _ _ h => h⟩
    rw [← Nat.add_assoc, ← m1]
    by_cases he : (L[k]).2.2 = s
    · rw [if_pos (show Int32.ofNat (L[k]).2.2 = Int32.ofNat s from by rw [he]), if_pos he, ci_add]
    · rw [if_neg (show ¬ (Int32.ofNat (L[k]).2.2 = Int32.ofNat s) from by rw [ci_eq (by omega) (by omega)]; exact he), if_neg he, Int32.add_zero, Nat.add_zero]
theorem kc_strengths {p m s l q b n : Nat} {A : pa_A} {x : pa_Mo} {N R : List Nat} (hm : σ.2.2 p = some (true, mcell m x l q b)) (hq : kCros σ.1.1 σ A.1 q N R x.2.2) (hs : s ≤ 1) (hL : ∀ r, r ∈ x.2.2 → r.2.2 ≤ 1) (hw : zp_wf σ) (hg : zp_gas (n + 1) σ) (hfu : 100 ≤ ρ.2) (h12 : x.2.2.length ≤ 12) :
    ∃ σ', zF_X6_strengths ρ p (.ofNat s) σ = zz_rI (.ofNat (pa_sum A x.2.2 s)) σ' ∧ zp_le zp_no 1 σ σ' := by
  have hq0 := hq
  obtain ⟨q1, q2, q3, q4, q5⟩ := hq
  obtain ⟨σ1, i1, i2, i3⟩ := jl_iterator (ρ := ρ) (f := ρ.2 - 1) q1 hw hg (by omega)
  obtain ⟨σ2, s1, s2⟩ := kl_strengths (ρ := ρ) (n0 := σ.1.1) (it := σ.1.1) (Nat.le_refl _) hs hL _ 0 ρ.2 0 σ1 (Nat.zero_add _) (by omega) (hq0.same (i2.same (Nat.le_refl _) fun _ _ h => h)) (i2.wf hw) i3
  refine ⟨σ2, ?_, i2.trans (k' := 0) s2 fun b hb he => by omega⟩
  unfold zF_X6_strengths
  rw [zp_gR hm (k := 3) (v := some q) rfl, Option.bind_some, q1.ck, i1, cc_R]
  refine s1.trans ?_
  rw [Nat.zero_add]
  rfl
end CL
