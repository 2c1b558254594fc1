/-! ===== BINARY HEAPS, in plain numbers ===== -/
def hSwap (g : Nat → Nat) (a b : Nat) : Nat → Nat := fun i => if i = a then g b else if i = b then g a else g i
def hHeap (κ : Nat → Nat) (g : Nat → Nat) (n : Nat) : Prop := ∀ i, 0 < i → i < n → κ (g ((i - 1) / 2)) ≤ κ (g i)
def hUp (κ : Nat → Nat) (g : Nat → Nat) (n k : Nat) : Prop := (∀ i, 0 < i → i < n → i ≠ k → κ (g ((i - 1) / 2)) ≤ κ (g i)) ∧ ∀ i, 0 < i → i < n → (i - 1) / 2 = k → 0 < k → κ (g ((k - 1) / 2)) ≤ κ (g i)
def hDn (κ : Nat → Nat) (g : Nat → Nat) (n k : Nat) : Prop := (∀ i, 0 < i → i < n → (i - 1) / 2 ≠ k → κ (g ((i - 1) / 2)) ≤ κ (g i)) ∧ ∀ i, 0 < i → i < n → (i - 1) / 2 = k → 0 < k → κ (g ((k - 1) / 2)) ≤ κ (g i)
section HP
variable {κ g : Nat → Nat} {n k : Nat}
theorem hSwap_a (a b : Nat) : hSwap g a b a = g b := if_pos rfl
theorem hSwap_b (a b : Nat) : hSwap g a b b = g a := by
  unfold hSwap
  by_cases h : b = a
  · rw [if_pos h, h]
  · rw [if_neg h, if_pos rfl]
theorem hSwap_o {a b i : Nat} (h1 : i ≠ a) (h2 : i ≠ b) : hSwap g a b i = g i := by
  unfold hSwap
  rw [if_neg h1, if_neg h2]
theorem hUp_start (h : hHeap κ g n) : hUp κ g (n + 1) n := ⟨fun i h1 h2 h3 => h i h1 (by omega), fun i h1 h2 h3 h4 => by omega⟩
theorem hUp_step (h : hUp κ g n k) (hk : 0 < k) (hkn : k < n) (hlt : κ (g k) < κ (g ((k - 1) / 2))) : hUp κ (hSwap g k ((k - 1) / 2)) n ((k - 1) / 2) := by
  obtain ⟨h1, h2⟩ := h
  have hpk : (k - 1) / 2 ≠ k := by omega
  refine ⟨fun i i1 i2 i3 => ?_, fun i i1 i2 i3 i4 => ?_⟩
  · by_cases hik : i = k
    · subst hik
      rw [hSwap_a, hSwap_b]; omega
    · rw [hSwap_o (i := i) hik i3]
      by_cases hp : (i - 1) / 2 = k
      · rw [hp, hSwap_a]
        exact h2 i i1 i2 hp hk
      · by_cases hq : (i - 1) / 2 = (k - 1) / 2
        · rw [hq, hSwap_b]
          have := h1 i i1 i2 hik
          rw [hq] at this
          omega
        · rw [hSwap_o hp hq]
          exact h1 i i1 i2 hik
  · have e1 : hSwap g k ((k - 1) / 2) (((k - 1) / 2 - 1) / 2) = g (((k - 1) / 2 - 1) / 2) := hSwap_o (by omega) (by omega)
    rw [e1]
    have e2 := h1 ((k - 1) / 2) i4 (by omega) hpk
    by_cases hik : i = k
    · subst hik
      rw [hSwap_a]; exact e2
    · rw [hSwap_o hik (by omega)]
      have := h1 i i1 i2 hik
      rw [i3] at this
      omega
theorem hUp_end (h : hUp κ g n k) (he : k = 0 ∨ κ (g ((k - 1) / 2)) ≤ κ (g k)) : hHeap κ g n := fun i i1 i2 => by
  by_cases hik : i = k
  · subst hik
    rcases he with he | he
    · omega
    · exact he
  · exact h.1 i i1 i2 hik
theorem hDn_step {c : Nat} (h : hDn κ g n k) (hcn : c < n) (hc0 : 0 < c) (hck : (c - 1) / 2 = k) (hlt : κ (g c) ≤ κ (g k)) (hmin : ∀ i, 0 < i → i < n → (i - 1) / 2 = k → κ (g c) ≤ κ (g i)) : hDn κ (hSwap g k c) n c := by
  obtain ⟨h1, h2⟩ := h
  refine ⟨fun i i1 i2 i3 => ?_, fun i i1 i2 i3 i4 => ?_⟩
  · by_cases hp : (i - 1) / 2 = k
    · rw [hp, hSwap_a]
      by_cases hic : i = c
      · subst hic
        rw [hSwap_b]; exact hlt
      · rw [hSwap_o (by omega) hic]
        exact hmin i i1 i2 hp
    · rw [hSwap_o hp i3]
      by_cases hik : i = k
      · subst hik
        rw [hSwap_a]
        exact h2 c hc0 hcn hck i1
      · rw [hSwap_o hik (by omega)]
        exact h1 i i1 i2 hp
  · rw [hck, hSwap_a]
    rw [hSwap_o (by omega) (by omega)]
    have := h1 i i1 i2 (by omega)
    rw [i3] at this
    exact this
theorem hDn_end (h : hDn κ g n k) (he : ∀ i, 0 < i → i < n → (i - 1) / 2 = k → κ (g k) ≤ κ (g i)) : hHeap κ g n := fun i i1 i2 => by
  by_cases hp : (i - 1) / 2 = k
  · rw [hp]; exact he i i1 i2 hp
  · exact h.1 i i1 i2 hp
/-- the root is least -/
theorem hHeap.root (h : hHeap κ g n) : ∀ i, i < n → κ (g 0) ≤ κ (g i) := by
  intro i
  induction i using Nat.strongRecOn with
  | ind i ih =>
    intro hi
    by_cases h0 : i = 0
    · rw [h0]; exact Nat.le_refl _
    · exact Nat.le_trans (ih ((i - 1) / 2) (by omega) (by omega)) (h i (by omega) hi)
def hIn (g : Nat → Nat) (n p : Nat) : Prop := ∃ i, i < n ∧ g i = p
def hInj (g : Nat → Nat) (n : Nat) : Prop := ∀ i j, i < n → j < n → g i = g j → i = j
theorem hSwap_in {a b p : Nat} (ha : a < n) (hb : b < n) : hIn (hSwap g a b) n p ↔ hIn g n p := by
  constructor
  · rintro ⟨i, hi, he⟩
    by_cases h1 : i = a
    · subst h1; rw [hSwap_a] at he; exact ⟨b, hb, he⟩
    · by_cases h2 : i = b
      · subst h2; rw [hSwap_b] at he; exact ⟨a, ha, he⟩
      · rw [hSwap_o h1 h2] at he; exact ⟨i, hi, he⟩
  · rintro ⟨i, hi, he⟩
    by_cases h1 : i = a
    · subst h1; exact ⟨b, hb, by rw [hSwap_b]; exact he⟩
    · by_cases h2 : i = b
      · subst h2; exact ⟨a, ha, by rw [hSwap_a]; exact he⟩
      · exact ⟨i, hi, by rw [hSwap_o h1 h2]; exact he⟩
theorem hSwap_inj {a b : Nat} (ha : a < n) (hb : b < n) (h : hInj g n) : hInj (hSwap g a b) n := by
  have e : ∀ i, i < n → ∃ j, j < n ∧ hSwap g a b i = g j ∧ (i = a → j = b) ∧ (i = b → j = a) ∧ (i ≠ a → i ≠ b → j = i) := by
    intro i hi
    by_cases h1 : i = a
    · subst h1; exact ⟨b, hb, hSwap_a _ _, fun _ => rfl, fun h => h.symm, fun h => absurd rfl h⟩
    · by_cases h2 : i = b
      · subst h2; exact ⟨a, ha, hSwap_b _ _, fun h => h.symm, fun _ => rfl, fun _ h => absurd rfl h⟩
      · exact ⟨i, hi, hSwap_o h1 h2, fun h => absurd h h1, fun h => absurd h h2, fun _ _ => rfl⟩
  intro i j hi hj he
  obtain ⟨i', i1, i2, i3, i4, i5⟩ := e i hi
  obtain ⟨j', j1, j2, j3, j4, j5⟩ := e j hj
  rw [i2, j2] at he
  have := h i' j' i1 j1 he
  by_cases h1 : i = a
  · by_cases h2 : j = a
    · omega
    · by_cases h3 : j = b
      · have := i3 h1; have := j4 h3; omega
      · have := i3 h1; have := j5 h2 h3; omega
  · by_cases h2 : i = b
    · by_cases h3 : j = a
      · have := i4 h2; have := j3 h3; omega
      · by_cases h4 : j = b
        · omega
        · have := i4 h2; have := j5 h3 h4; omega
    · have := i5 h1 h2
      by_cases h3 : j = a
      · have := j3 h3; omega
      · by_cases h4 : j = b
        · have := j4 h4; omega
        · have := j5 h3 h4; omega
end HP
