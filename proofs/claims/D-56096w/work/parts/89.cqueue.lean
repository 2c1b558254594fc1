/-! ===== java.util.PriorityQueue ===== -/
section PQ
variable {ρ : zz_C} {σ : zz_S} {τ : Nat → Nat}
/-- the comparator of requests at c, in every state that is as σ below n0 and at c -/
def kCmp (ρ : zz_C) (n0 : Nat) (σ : zz_S) (c : Nat) (κ : Nat → Nat) (E : Nat → Prop) : Prop := (∃ a, σ.2.2 c = some (true, .inr (3, [.ref a]))) ∧ (∀ p, E p → p < n0 ∧ ∃ w fs, σ.2.2 p = some (w, .inr (7, fs))) ∧ ∀ σ1, kSame n0 σ σ1 → σ1.2.2 c = σ.2.2 c → ∀ p q, E p → E q → ∃ d, zF_X3_compare ρ c (some p) (some q) σ1 = zz_rI d σ1 ∧ (d < 0 ↔ κ p < κ q) ∧ (0 < d ↔ κ q < κ p)
theorem kCmp.same {n0 c : Nat} {κ : Nat → Nat} {E : Nat → Prop} {σ' : zz_S} (h : kCmp ρ n0 σ c κ E) (hs : kSame n0 σ σ') (hc : σ'.2.2 c = σ.2.2 c) : kCmp ρ n0 σ' c κ E := by
  obtain ⟨⟨a, h1⟩, h2, h3⟩ := h
  refine ⟨⟨a, hc.trans h1⟩, fun p hp => ?_, fun σ1 hs1 hc1 p q hp hq => h3 σ1 (hs.trans hs1) (hc1.trans hc) p q hp hq⟩
  obtain ⟨g1, w, fs, g2⟩ := h2 p hp
  exact ⟨g1, w, fs, (hs p g1).trans g2⟩
/-- the array of the queue: the first n places hold g -/
def cQA (σ : zz_S) (qa n : Nat) (g : Nat → Nat) : Prop := ∃ f : Nat → Option Nat, σ.2.2 qa = some (true, .inl (5, (11, .inr (.inr (.inr (.inr f)))))) ∧ ∀ i, i < n → f i = some (g i)
theorem jq_par : ∀ k, k < 12 → 0 < k → (((Int32.ofNat k - (1 : Int32)).toUInt32 >>> ((1 : Int32).toUInt32 &&& Int32.toUInt32 31)).toInt32) = Int32.ofNat ((k - 1) / 2) := by decide
theorem jq_half : ∀ n, n < 12 → (((Int32.ofNat n).toUInt32 >>> ((1 : Int32).toUInt32 &&& Int32.toUInt32 31)).toInt32) = Int32.ofNat (n / 2) := by decide
theorem jq_child : ∀ k, k < 12 → ((Int32.ofNat k) <<< ((1 : Int32) &&& 31)) + (1 : Int32) = Int32.ofNat (2 * k + 1) := by decide
theorem jq_okC {p : Nat} {w : Bool} {fs : List Value} (h : σ.2.2 p = some (w, .inr (7, fs))) : zz_ok σ (some p) zz_cO = true := by simp [zz_ok, zz_cl, h, zz_cO]
theorem jq_aR {qa : Nat} {f : Nat → Option Nat} {i p : Nat} (h : σ.2.2 qa = some (true, .inl (5, (11, .inr (.inr (.inr (.inr f))))))) (hi : i < 11) (hp : f i = some p) : zz_aR σ (some qa) 5 (.ofNat i) = some (some p) := by
  unfold zz_aR zz_ar
  simp only [h, if_true, tw_inb (show i < 11 from hi) (by decide), tw_nat (show i < 2 ^ 31 by omega), hp]
theorem jq_sR {qa : Nat} {f : Nat → Option Nat} {i : Nat} {v : Option Nat} (h : σ.2.2 qa = some (true, .inl (5, (11, .inr (.inr (.inr (.inr f))))))) (hi : i < 11) : zz_sR σ (some qa) 5 (.ofNat i) v = some (zz_set σ qa (.inl (5, (11, .inr (.inr (.inr (.inr (va_up f i v)))))))) := by
  unfold zz_sR zz_ar
  simp only [h, if_true, tw_inb (show i < 11 from hi) (by decide), tw_nat (show i < 2 ^ 31 by omega)]
  rfl
theorem jl_up {n0 c qa n : Nat} {κ : Nat → Nat} {E : Nat → Prop} (hqa : n0 ≤ qa) (hqc : qa ≠ c) (hn : n ≤ 11) :
    ∀ (fu k : Nat) (g : Nat → Nat) (f : Nat → Option Nat) (σ : zz_S), k < fu → k < n → kCmp ρ n0 σ c κ E → (∀ i, i < n → E (g i)) → hUp κ g n k → σ.2.2 qa = some (true, .inl (5, (11, .inr (.inr (.inr (.inr f)))))) → (∀ i, i < n → i ≠ k → f i = some (g i)) → zp_wf σ →
      ∃ σ' g', zL_J21_siftUpUsingComparator_0 ρ fu (.ofNat k) (some (g k)) (some qa) (some c) σ = zz_rV σ' ∧ zp_le (fun b => b = qa) 0 σ σ' ∧ cQA σ' qa n g' ∧ hHeap κ g' n ∧ (∀ p, hIn g' n p ↔ hIn g n p) ∧ (hInj g n → hInj g' n) := by
  intro fu
  induction fu with
  | zero => intro k g f σ hk; omega
  | succ fu ih =>
    intro k g f σ hk hkn hc hE hu hf hfg hw
    have hc0 := hc
    obtain ⟨⟨a, c1⟩, c2, c3⟩ := hc
    obtain ⟨x1, w, fs, x2⟩ := c2 (g k) (hE k hkn)
    have hql := hw.lt hf
    -- x is laid at k
    have fin : (k = 0 ∨ κ (g ((k - 1) / 2)) ≤ κ (g k)) → ∃ σ' g', ((zz_sR σ (some qa) 5 (.ofNat k) (some (g k))).bind fun σ1 => zz_rV σ1) = zz_rV σ' ∧ zp_le (fun b => b = qa) 0 σ σ' ∧ cQA σ' qa n g' ∧ hHeap κ g' n ∧ (∀ p, hIn g' n p ↔ hIn g n p) ∧ (hInj g n → hInj g' n) := fun he => by
      refine ⟨_, g, by rw [jq_sR hf (by omega)]; rfl, zp_set_le hql rfl, ⟨_, zp_set_at, fun i hi => ?_⟩, hUp_end hu he, fun _ => Iff.rfl, fun h => h⟩
      unfold va_up
      by_cases hik : i = k
      · rw [if_pos hik, hik]
      · rw [if_neg hik]; exact hfg i hi hik
    by_cases h0 : k = 0
    · subst h0
      rw [zL_J21_siftUpUsingComparator_0, if_pos (by decide), if_neg (show ¬ ¬ (zz_ok σ (some (g 0)) zz_cO = true) from fun h => h (jq_okC x2))]
      exact fin (.inl rfl)
    · have hpar := jq_par k (by omega) (by omega)
      obtain ⟨d, d1, d2, d3⟩ := c3 σ (fun _ _ => rfl) rfl (g k) (g ((k - 1) / 2)) (hE k hkn) (hE _ (by omega))
      obtain ⟨y1, w', fs', y2⟩ := c2 (g ((k - 1) / 2)) (hE _ (by omega))
      rw [zL_J21_siftUpUsingComparator_0, if_neg (show ¬ Int32.ofNat k ≤ 0 from by rw [show (0 : Int32) = Int32.ofNat 0 from rfl, ci_le (by omega) (by decide)]; omega), hpar, jq_aR hf (by omega) (hfg _ (by omega) (by omega)), Option.bind_some, zp_ck c1, d1, cc_I]
      by_cases hlt : κ (g k) < κ (g ((k - 1) / 2))
      · rw [if_pos (d2.mpr hlt), if_neg (show ¬ ¬ (zz_ok σ (some (g ((k - 1) / 2))) zz_cO = true) from fun h => h (jq_okC y2)), jq_sR hf (by omega), Option.bind_some]
        obtain ⟨s1, e1⟩ : ∃ s, s = zz_set σ qa (.inl (5, (11, .inr (.inr (.inr (.inr (va_up f k (some (g ((k - 1) / 2)))))))))) := ⟨_, rfl⟩
        have l1 : zp_le (fun b => b = qa) 0 σ s1 := by rw [e1]; exact zp_set_le hql rfl
        have q1 : s1.2.2 qa = some (true, .inl (5, (11, .inr (.inr (.inr (.inr (va_up f k (some (g ((k - 1) / 2))))))))))  := by rw [e1]; exact zp_set_at
        have hs1 : kSame n0 σ s1 := fun b hb => by rw [e1]; exact zp_set_old (by omega)
        have hcc : s1.2.2 c = σ.2.2 c := by rw [e1]; exact zp_set_old (fun h => hqc h.symm)
        have ek : hSwap g k ((k - 1) / 2) ((k - 1) / 2) = g k := hSwap_b _ _
        obtain ⟨σ', g', i1, i2, i3, i4, i5, i6⟩ := ih ((k - 1) / 2) (hSwap g k ((k - 1) / 2)) _ s1 (by omega) (by omega) (hc0.same hs1 hcc) (fun i hi => by
            obtain ⟨j, hj, he⟩ := (hSwap_in (g := g) (p := hSwap g k ((k - 1) / 2) i) hkn (show (k - 1) / 2 < n by omega)).mp ⟨i, hi, rfl⟩
            rw [← he]; exact hE j hj) (hUp_step hu (by omega) hkn hlt) q1 (fun i hi hik => by
            unfold va_up
            by_cases h : i = k
            · subst h; rw [if_pos rfl, hSwap_a]
            · rw [if_neg h, hSwap_o h hik]; exact hfg i hi h) (l1.wf hw)
        rw [ek] at i1
        rw [← e1]
        exact ⟨σ', g', i1, l1.trans (k' := 0) i2 fun _ _ h => h, i3, i4, fun p => (i5 p).trans (hSwap_in hkn (by omega)), fun h => i6 (hSwap_inj hkn (by omega) h)⟩
      · rw [if_neg (fun h => hlt (d2.mp h)), if_neg (show ¬ ¬ (zz_ok σ (some (g k)) zz_cO = true) from fun h => h (jq_okC x2))]
        exact fin (.inr (by omega))
/-- a queue at q over the array qa with comparator c: n requests g -/
def cPQ (σ : zz_S) (q qa c n : Nat) (g : Nat → Nat) : Prop := n ≤ 11 ∧ (∃ mc : Int32, σ.2.2 q = some (true, .inr (121, [.ref qa, .int (.ofNat n), .ref c, .int mc]))) ∧ cQA σ qa n g
theorem cPQ.ck {q qa c n : Nat} {g : Nat → Nat} {K : Nat → zz_R} (h : cPQ σ q qa c n g) : zz_ck σ (some q) 121 K = K q := by
  obtain ⟨-, ⟨mc, h1⟩, -⟩ := h
  exact zp_ck h1
theorem jq_add {n0 q qa c n x : Nat} {κ g : Nat → Nat} {E : Nat → Prop} (h : cPQ σ q qa c n g) (hn : n < 11) (hqa : n0 ≤ qa) (hq : n0 ≤ q) (hqc : qa ≠ c) (hq2 : q ≠ c) (hc : kCmp ρ n0 σ c κ E) (hE : ∀ i, i < n → E (g i)) (hx : E x) (hh : hHeap κ g n) (hw : zp_wf σ) (hfu : 100 ≤ ρ.2) :
    ∃ σ' g', zF_J21_add ρ q (some x) σ = zz_rI 1 σ' ∧ zp_le (fun b => b = q ∨ b = qa) 0 σ σ' ∧ cPQ σ' q qa c (n + 1) g' ∧ hHeap κ g' (n + 1) ∧ (∀ p, hIn g' (n + 1) p ↔ hIn g n p ∨ p = x) ∧ (hInj g n → ¬ hIn g n x → hInj g' (n + 1)) := by
  obtain ⟨h0, ⟨mc, h1⟩, f, h2, h3⟩ := h
  have hc0 := hc
  have hqq : q ≠ qa := fun he => by rw [he, h2] at h1; cases h1
  have hql := hw.lt h1
  have hqal := hw.lt h2
  unfold zF_J21_add zF_J21_offer
  rw [zp_ck h1, cn_some, zp_gI h1 (k := 3) (v := mc) rfl, Option.bind_some, zq_pf (N := 4) h1 rfl (fs' := [.ref qa, .int (.ofNat n), .ref c, .int (mc + 1)]) rfl, Option.bind_some]
  obtain ⟨s1, e1⟩ : ∃ s, s = zz_set σ q (.inr (121, [.ref qa, .int (.ofNat n), .ref c, .int (mc + 1)])) := ⟨_, rfl⟩
  have l1 : zp_le (fun b => b = q ∨ b = qa) 0 σ s1 := by rw [e1]; exact zp_set_le hql (.inl rfl)
  have q1 : s1.2.2 q = some (true, .inr (121, [.ref qa, .int (.ofNat n), .ref c, .int (mc + 1)])) := by rw [e1]; exact zp_set_at
  have a1 : s1.2.2 qa = some (true, .inl (5, (11, .inr (.inr (.inr (.inr f)))))) := by rw [e1, zp_set_old hqq.symm]; exact h2
  have hs1 : kSame n0 σ s1 := fun b hb => by rw [e1]; exact zp_set_old (by omega)
  have hcc : s1.2.2 c = σ.2.2 c := by rw [e1]; exact zp_set_old (fun h => hq2 h.symm)
  have hc1 := hc0.same hs1 hcc
  obtain ⟨⟨aa, cc1⟩, -⟩ := hc1
  have hw1 := l1.wf hw
  rw [← e1, zp_gI q1 (k := 1) (v := .ofNat n) rfl, Option.bind_some, zp_gR q1 (k := 0) (v := some qa) rfl, Option.bind_some, zp_len a1, Option.bind_some, if_pos (show Int32.ofNat n < Int32.ofNat 11 from (ci_lt (by omega) (by decide)).mpr hn), zp_ck q1]
  -- x stands at the end
  have eg : ∀ i, i < n → (fun i => if i = n then x else g i) i = g i := fun i hi => if_neg (by omega)
  obtain ⟨σ2, g', i1, i2, i3, i4, i5, i6⟩ := jl_up (ρ := ρ) (n := n + 1) (κ := κ) (E := E) hqa hqc (by omega) (ρ.2 + 1) n (fun i => if i = n then x else g i) f s1 (by omega) (by omega) (hc0.same hs1 hcc) (fun i hi => by
      by_cases hin : i = n
      · show E (if i = n then x else g i); rw [if_pos hin]; exact hx
      · show E (if i = n then x else g i); rw [if_neg hin]; exact hE i (by omega)) ⟨fun i i1 i2 i3 => by
        show κ (if _ then x else _) ≤ κ (if _ then x else _)
        rw [if_neg (by omega), if_neg i3]; exact hh i i1 (by omega), fun i i1 i2 i3 i4 => by omega⟩ a1 (fun i hi hin => by
        show f i = some (if i = n then x else g i)
        rw [if_neg hin]; exact h3 i (by omega)) hw1
  have es : zF_J21_siftUpUsingComparator ρ (.ofNat n) (some x) (some qa) (some c) s1 = zz_rV σ2 := by
    rw [if_pos rfl] at i1
    rw [← i1, zL_J21_siftUpUsingComparator_0]
    rfl
  have q2 : σ2.2.2 q = some (true, .inr (121, [.ref qa, .int (.ofNat n), .ref c, .int (mc + 1)])) := by rw [i2.keep (hw1.lt q1) hqq]; exact q1
  have hw2 := i2.wf hw1
  unfold zF_J21_siftUp
  rw [zp_gR q1 (k := 2) (v := some c) rfl, Option.bind_some, cn_some, zp_gR q1 (k := 0) (v := some qa) rfl, Option.bind_some, Option.bind_some, es, cc_V, cc_V, zq_pf (N := 4) q2 rfl (fs' := [.ref qa, .int (.ofNat n + 1), .ref c, .int (mc + 1)]) rfl, Option.bind_some, ci_succ, cb_b1, cc_I]
  have l2 : zp_le (fun b => b = q ∨ b = qa) 0 σ σ2 := l1.trans (k' := 0) i2 fun b _ hb => .inr hb
  refine ⟨_, g', rfl, l2.trans (k' := 0) (zp_set_le (M := fun b => b = q ∨ b = qa) (hw2.lt q2) (.inl rfl)) fun _ _ h => h, ⟨by omega, ⟨_, zp_set_at⟩, ?_⟩, i4, fun p => ?_, fun hi hnx => i6 ?_⟩
  · obtain ⟨f', j1, j2⟩ := i3
    exact ⟨f', (zp_set_old hqq.symm).trans j1, j2⟩
  · rw [i5 p]
    constructor
    · rintro ⟨i, hi, he⟩
      have he : (if i = n then x else g i) = p := he
      by_cases hin : i = n
      · rw [if_pos hin] at he; exact .inr he.symm
      · rw [if_neg hin] at he; exact .inl ⟨i, by omega, he⟩
    · rintro (⟨i, hi, he⟩ | he)
      · exact ⟨i, by omega, by show (if i = n then x else g i) = p; rw [if_neg (by omega)]; exact he⟩
      · exact ⟨n, by omega, by show (if n = n then x else g n) = p; rw [if_pos rfl]; exact he.symm⟩
  · intro i j hi' hj he
    have he : (if i = n then x else g i) = (if j = n then x else g j) := he
    by_cases h1 : i = n
    · by_cases h2 : j = n
      · omega
      · rw [if_pos h1, if_neg h2] at he
        exact absurd ⟨j, by omega, he.symm⟩ hnx
    · by_cases h2 : j = n
      · rw [if_neg h1, if_pos h2] at he
        exact absurd ⟨i, by omega, he⟩ hnx
      · rw [if_neg h1, if_neg h2] at he
        exact hi i j (by omega) (by omega) he
end PQ
