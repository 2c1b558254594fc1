/-! ===== THE ORDER ON A LIST: keys, ranks; nextByQueue ===== -/
section CK
variable {ρ : zz_C} {σ : zz_S} {τ : Nat → Nat}
/-- a request's key: speeches of its frog, then the ticket -/
def pa_key (A : pa_A) (r : pa_R) : Nat := (pa_frog A r.1).2.2.2 * 1048576 + r.2
/-- the difference that the comparator answers -/
def cmpv (s1 t1 s2 t2 : Nat) : Int32 := if Int32.ofNat s1 - Int32.ofNat s2 = 0 then Int32.ofNat t1 - Int32.ofNat t2 else Int32.ofNat s1 - Int32.ofNat s2
theorem ci_diff {a b : Nat} (ha : a < 2 ^ 30) (hb : b < 2 ^ 30) : (Int32.ofNat a - Int32.ofNat b).toInt = (a : Int) - b := by
  rw [Int32.toInt_sub, ci_int (by omega), ci_int (by omega)]
  exact Int.bmod_eq_of_le (by omega) (by omega)
theorem cmpv_lt {s1 t1 s2 t2 : Nat} (h1 : s1 ≤ 1000) (h2 : s2 ≤ 1000) (h3 : t1 ≤ 1000) (h4 : t2 ≤ 1000) : (cmpv s1 t1 s2 t2 < 0 ↔ s1 * 1048576 + t1 < s2 * 1048576 + t2) ∧ (0 < cmpv s1 t1 s2 t2 ↔ s2 * 1048576 + t2 < s1 * 1048576 + t1) := by
  have e0 : (0 : Int32).toInt = 0 := rfl
  have ds := ci_diff (a := s1) (b := s2) (by omega) (by omega)
  have dt := ci_diff (a := t1) (b := t2) (by omega) (by omega)
  have hz : (Int32.ofNat s1 - Int32.ofNat s2 = 0) ↔ s1 = s2 := by
    constructor
    · intro h
      rw [h, e0] at ds; omega
    · intro h; rw [h]; simp
  unfold cmpv
  by_cases he : s1 = s2
  · rw [if_pos (hz.mpr he), Int32.lt_iff_toInt_lt, Int32.lt_iff_toInt_lt, dt, e0]
    omega
  · rw [if_neg (fun h => he (hz.mp h)), Int32.lt_iff_toInt_lt, Int32.lt_iff_toInt_lt, ds, e0]
    omega
theorem kc_compare2 {g a c p q : Nat} {A : pa_A} {r s : pa_R} {w w' : Bool} (h : rAs τ σ g a A) (ho : pw A) (hc : σ.2.2 c = some (true, .inr (3, [.ref a]))) (hp : σ.2.2 p = some (w, .inr (7, [.int (.ofNat r.1), .int (.ofNat r.2)]))) (hq : σ.2.2 q = some (w', .inr (7, [.int (.ofNat s.1), .int (.ofNat s.2)]))) (hr : r.1 < A.1.length) (hs : s.1 < A.1.length) :
    zF_X3_compare_2 ρ c (some p) (some q) σ = zz_rI (cmpv (pa_frog A r.1).2.2.2 r.2 (pa_frog A s.1).2.2.2 s.2) σ := by
  obtain ⟨af, ac, am, F, C, Mo, k0, k1, ⟨⟨e, k2, k2', k2''⟩, k3, k4⟩, -⟩ := h
  obtain ⟨u, hu⟩ : ∃ u, F[r.1]? = some u := ⟨_, List.getElem?_eq_getElem (k3 ▸ hr : r.1 < F.length)⟩
  obtain ⟨v, hv⟩ : ∃ v, F[s.1]? = some v := ⟨_, List.getElem?_eq_getElem (k3 ▸ hs : s.1 < F.length)⟩
  obtain ⟨-, u2⟩ := k4 _ _ _ hu (pa_frog_eq hr)
  obtain ⟨-, v2⟩ := k4 _ _ _ hv (pa_frog_eq hs)
  have hga : zz_gR σ (some c) 3 0 = some (some a) := zp_gR hc rfl
  have hgf : zz_gR σ (some a) 2 0 = some (some af) := zp_gR k1 rfl
  unfold zF_X3_compare_2
  rw [hga, Option.bind_some, hgf, Option.bind_some, zp_gI hp (k := 0) (v := .ofNat r.1) rfl, Option.bind_some, ja_ck k2'', ja_get k2'' hu, cc_R, if_neg (fun hh => hh (kf_cast u2)), kf_spoke u2, Option.bind_some, hga, Option.bind_some, hgf, Option.bind_some, zp_gI hq (k := 0) (v := .ofNat s.1) rfl, Option.bind_some, ja_ck k2'', ja_get k2'' hv, cc_R, if_neg (fun hh => hh (kf_cast v2)), kf_spoke v2, Option.bind_some, zp_gI hp (k := 1) (v := .ofNat r.2) rfl, Option.bind_some, zp_gI hq (k := 1) (v := .ofNat s.2) rfl, Option.bind_some]
  unfold cmpv
  split <;> rfl
/-- the key of an address on the list -/
noncomputable def aKey (A : pa_A) (R : List Nat) (L : List pa_R) (p : Nat) : Nat := pa_key A ((L[R.idxOf p]?).getD (0, 0))
theorem aKey_at {A : pa_A} {R : List Nat} {L : List pa_R} {j p : Nat} {r : pa_R} (hn : R.Nodup) (hp : R[j]? = some p) (hr : L[j]? = some r) : aKey A R L p = pa_key A r := by
  unfold aKey
  obtain ⟨hj, he⟩ := List.getElem?_eq_some_iff.mp hp
  have : R.idxOf p = j := by rw [← he]; exact hn.idxOf_getElem j hj
  rw [this, hr]; rfl
theorem kCmp_of {n0 g a c : Nat} {A : pa_A} {l : Nat} {N R : List Nat} {x : pa_Mo} {cc : Nat} (h : rAs τ σ g a A) (hok : pa_ok A cc) (hcc : cc ≤ 1000) (hw : ∀ b, n0 ≤ b → τ b = 0) (hg0 : g ≠ 0) (hxo : pa_okM A cc x) (hc : σ.2.2 c = some (true, .inr (3, [.ref a]))) (hq : kReqs n0 σ l N R x.2.1) : kCmp ρ n0 σ c (aKey A R x.2.1) (fun p => p ∈ R) := by
  have ho := hok.w hcc
  have hf100 := (hxo.f100 ho.1).1
  have hnd := reqs_nodup hq hxo.2.2.2.2.2.2.2.2.1 hf100
  obtain ⟨q1, q2, q3, q4, q5⟩ := hq
  have hget : ∀ p, p ∈ R → ∃ j r, R[j]? = some p ∧ x.2.1[j]? = some r := fun p hp => by
    obtain ⟨j, hj⟩ := List.getElem?_of_mem hp
    exact ⟨j, _, hj, List.getElem?_eq_getElem (q2 ▸ (List.getElem?_eq_some_iff.mp hj).1)⟩
  refine ⟨⟨a, hc⟩, fun p hp => ?_, fun σ1 hs hc1 p q hp hq => ?_⟩
  · obtain ⟨j, r, j1, j2⟩ := hget p hp
    obtain ⟨g1, w, g2⟩ := q5 j p r j1 j2
    exact ⟨g1, w, _, g2⟩
  · obtain ⟨j, r, j1, j2⟩ := hget p hp
    obtain ⟨k, s, k1, k2⟩ := hget q hq
    obtain ⟨g1, w, g2⟩ := q5 j p r j1 j2
    obtain ⟨g3, w', g4⟩ := q5 k q s k1 k2
    have hr := hxo.2.2.2.2.2.2.2.1 r (List.mem_of_getElem? j2)
    have hs' := hxo.2.2.2.2.2.2.2.1 s (List.mem_of_getElem? k2)
    have ht := hxo.2.2.2.2.2.1
    have h1 : rAs τ σ1 g a A := h.keep (G := fun t => t ≠ 0) (hs.k hw) (by simp) (fun t h1 _ => by omega) ho.1 ho.2.2.1
    have g2' := (hs p g1).trans g2
    have g4' := (hs q g3).trans g4
    have hc1' := hc1.trans hc
    have e := kc_compare2 (ρ := ρ) h1 ho hc1' g2' g4' hr.1 hs'.1
    refine ⟨cmpv (pa_frog A r.1).2.2.2 r.2 (pa_frog A s.1).2.2.2 s.2, ?_, ?_⟩
    · unfold zF_X3_compare
      rw [if_neg (show ¬ ¬ (zz_ok σ1 (some p) [7] = true) from fun h => h (by simp [zz_ok, zz_cl, g2'])), if_neg (show ¬ ¬ (zz_ok σ1 (some q) [7] = true) from fun h => h (by simp [zz_ok, zz_cl, g4'])), zp_ck hc1', e, cc_I]
    · rw [aKey_at hnd j1 j2, aKey_at hnd k1 k2]
      exact cmpv_lt (ho.fr hr.1).2.2.2 (ho.fr hs'.1).2.2.2 (by omega) (by omega)
/-! ranks -/
/-- keys of the places, and the abstract order -/
theorem pa_lt_key {A : pa_A} {L : List pa_R} (hp : L.Pairwise (fun r s => r.2 < s.2)) (ht : ∀ r, r ∈ L → r.2 ≤ 1000) {j k : Nat} {r s : pa_R} (hr : L[j]? = some r) (hs : L[k]? = some s) : pa_lt (pa_sk A L) j k = true ↔ pa_key A r < pa_key A s := by
  have e1 : (pa_sk A L)[j]?.getD 0 = (pa_frog A r.1).2.2.2 := by rw [pa_sk_at hr]; rfl
  have e2 : (pa_sk A L)[k]?.getD 0 = (pa_frog A s.1).2.2.2 := by rw [pa_sk_at hs]; rfl
  have hr1 := ht r (List.mem_of_getElem? hr)
  have hs1 := ht s (List.mem_of_getElem? hs)
  obtain ⟨hj, ej⟩ := List.getElem?_eq_some_iff.mp hr
  obtain ⟨hk, ek⟩ := List.getElem?_eq_some_iff.mp hs
  rw [List.pairwise_iff_getElem] at hp
  have hjk : j < k → r.2 < s.2 := fun h => by have := hp j k hj hk h; rw [ej, ek] at this; exact this
  have hkj : k < j → s.2 < r.2 := fun h => by have := hp k j hk hj h; rw [ej, ek] at this; exact this
  have heq : j = k → r.2 = s.2 := fun h => by subst h; rw [← ej, ← ek]
  unfold pa_lt pa_key
  rw [e1, e2]
  simp only [Bool.or_eq_true, Bool.and_eq_true, decide_eq_true_eq]
  constructor
  · rintro (h | ⟨h1, h2⟩)
    · omega
    · have := hjk h2; omega
  · intro h
    by_cases h1 : (pa_frog A r.1).2.2.2 < (pa_frog A s.1).2.2.2
    · exact .inl h1
    · right
      refine ⟨by omega, ?_⟩
      rcases Nat.lt_trichotomy j k with h2 | h2 | h2
      · exact h2
      · have := heq h2; omega
      · have := hkj h2; omega
theorem pa_count_mem (n : Nat) : ∀ (P : List Nat), P.Nodup → (∀ j, j ∈ P → j < n) → ((List.range n).map fun j => if j ∈ P then 1 else 0).sum = P.length := by
  induction n with
  | zero =>
    intro P hn h
    cases P with
    | nil => rfl
    | cons p P => exact absurd (h p List.mem_cons_self) (Nat.not_lt_zero _)
  | succ n ih =>
    intro P hn h
    rw [List.range_succ, List.map_append, List.sum_append]
    have ih' := ih (P.erase n) (hn.erase n) fun j hj => by
      have h2 := (List.Nodup.mem_erase_iff hn).mp hj
      have := h j h2.2
      have := h2.1
      omega
    have e : ((List.range n).map fun j => if j ∈ P then 1 else 0) = ((List.range n).map fun j => if j ∈ P.erase n then 1 else 0) := by
      apply List.map_congr_left
      intro j hj
      have hjn : j ≠ n := by have := List.mem_range.mp hj; omega
      have : j ∈ P.erase n ↔ j ∈ P := by rw [List.Nodup.mem_erase_iff hn]; exact ⟨fun h => h.2, fun h => ⟨hjn, h⟩⟩
      by_cases hm : j ∈ P
      · rw [if_pos hm, if_pos (this.mpr hm)]
      · rw [if_neg hm, if_neg (fun h => hm (this.mp h))]
    rw [e, ih', List.length_erase]
    by_cases hm : n ∈ P
    · have hpos : 0 < P.length := List.length_pos_of_mem hm
      simp [hm]
      omega
    · simp [hm]
/-- the one whose earlier ones are just P stands at rank |P| -/
theorem pa_ahead_eq {S : List Nat} {m : Nat} {P : List Nat} (hn : P.Nodup) (hP : ∀ j, j ∈ P → j < S.length) (h : ∀ j, j < S.length → (pa_lt S j m = true ↔ j ∈ P)) : pa_ahead S m = P.length := by
  rw [← pa_count_mem S.length P hn hP]
  unfold pa_ahead
  congr 1
  apply List.map_congr_left
  intro j hj
  have := h j (List.mem_range.mp hj)
  by_cases hm : j ∈ P
  · rw [if_pos (this.mpr hm), if_pos hm]
  · rw [if_neg (fun h => hm (this.mp h)), if_neg hm]
theorem pa_lt_trans {S : List Nat} {i j k : Nat} (h1 : pa_lt S i j = true) (h2 : pa_lt S j k = true) : pa_lt S i k = true := by
  unfold pa_lt at *
  simp only [Bool.or_eq_true, Bool.and_eq_true, decide_eq_true_eq] at *
  omega
theorem pa_lt_irrefl {S : List Nat} {i : Nat} : pa_lt S i i = false := by
  unfold pa_lt
  simp
theorem pa_lt_total {S : List Nat} {i j : Nat} (h : i ≠ j) : pa_lt S i j = true ∨ pa_lt S j i = true := by
  unfold pa_lt
  simp only [Bool.or_eq_true, Bool.and_eq_true, decide_eq_true_eq]
  omega
theorem ps_lt {α : Type} (f g : α → Nat) : ∀ (L : List α), (∀ x, x ∈ L → f x ≤ g x) → (∃ x, x ∈ L ∧ f x < g x) → (L.map f).sum < (L.map g).sum
  | [], _, h => by obtain ⟨x, hx, _⟩ := h; simp at hx
  | y :: L, h, hx => by
    have h1 := h y List.mem_cons_self
    have h2 : (L.map f).sum ≤ (L.map g).sum := by
      have : ∀ (L : List α), (∀ x, x ∈ L → f x ≤ g x) → (L.map f).sum ≤ (L.map g).sum := fun L => by
        induction L with
        | nil => intro _; exact Nat.le_refl _
        | cons z L ih => intro hh; have := hh z List.mem_cons_self; have := ih fun x hx => hh x (List.mem_cons_of_mem _ hx); simp; omega
      exact this L fun x hx => h x (List.mem_cons_of_mem _ hx)
    obtain ⟨x, hx, hlt⟩ := hx
    rcases List.mem_cons.mp hx with rfl | hx
    · simp; omega
    · have := ps_lt f g L (fun x hx => h x (List.mem_cons_of_mem _ hx)) ⟨x, hx, hlt⟩
      simp; omega
theorem pa_ahead_lt {S : List Nat} {i j : Nat} (hi : i < S.length) (h : pa_lt S i j = true) : pa_ahead S i < pa_ahead S j := by
  unfold pa_ahead
  refine ps_lt _ _ _ (fun k _ => ?_) ⟨i, List.mem_range.mpr hi, ?_⟩
  · by_cases hk : pa_lt S k i = true
    · rw [if_pos hk, if_pos (pa_lt_trans hk h)]; exact Nat.le_refl _
    · rw [if_neg hk]; exact Nat.zero_le _
  · rw [if_neg (by rw [pa_lt_irrefl]; decide), if_pos h]; decide
/-- ranks name places -/
theorem pa_ranked_of {S : List Nat} {m r : Nat} (hm : m < S.length) (h : pa_ahead S m = r) : pa_ranked S r = some m := by
  unfold pa_ranked
  cases hf : (List.range S.length).find? fun k => pa_ahead S k == r with
  | none =>
    have := List.find?_eq_none.mp hf m (List.mem_range.mpr hm)
    simp [h] at this
  | some k =>
    have h1 : pa_ahead S k = r := by have := List.find?_some hf; simpa using this
    have h2 : k < S.length := by have := List.mem_of_find?_eq_some hf; simpa using this
    by_cases hkm : k = m
    · rw [hkm]
    · exfalso
      rcases pa_lt_total (S := S) hkm with h3 | h3
      · have := pa_ahead_lt h2 h3; omega
      · have := pa_ahead_lt hm h3; omega
end CK
