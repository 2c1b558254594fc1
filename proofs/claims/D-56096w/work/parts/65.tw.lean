/-! ===== THE TWIN's METHODS over its row: reads, writes, and the relation to the abstract assembly ===== -/
def pt_F (v : Nat → Int32) (f : Nat) (x : pa_F) : Prop := v (5 + f) = .ofNat x.1 ∧ v (17 + f) = .ofNat x.2.1 ∧ v (29 + f) = .ofNat x.2.2.1 ∧ v (41 + f) = .ofNat x.2.2.2
def pt_Mo (v : Nat → Int32) (m : Nat) (x : pa_Mo) : Prop :=
  v (59 + 10 * m) = .ofNat x.1.1 ∧ v (60 + 10 * m) = .ofNat x.1.2.1 ∧ v (61 + 10 * m) = .ofNat (if x.1.2.2.1 = 0 then 0 else 1) ∧ v (62 + 10 * m) = .ofNat (if x.1.2.2.1 = 1 then 1 else 0) ∧ v (63 + 10 * m) = .ofNat x.1.2.2.2.1 ∧
  v (64 + 10 * m) = .ofNat x.2.1.length ∧ v (65 + 10 * m) = .ofNat x.1.2.2.2.2.2 ∧ v (66 + 10 * m) = .ofNat x.2.2.length ∧
  (∀ k r, x.2.1[k]? = some r → v (119 + 12 * m + k) = .ofNat r.1) ∧
  (∀ k q, x.2.2[k]? = some q → v (191 + 36 * m + 3 * k) = .ofNat q.1 ∧ v (192 + 36 * m + 3 * k) = .ofNat q.2.1 ∧ v (193 + 36 * m + 3 * k) = .ofNat q.2.2)
def pt_N (v : Nat → Int32) (m : Nat) : Prop := ∀ k, 1 ≤ k → k ≤ 7 → v (59 + 10 * m + k) = 0
def pt (v : Nat → Int32) (A : pa_A) : Prop :=
  v 0 = .ofNat A.1.length ∧ v 1 = .ofNat A.2.1.length ∧ v 2 = .ofNat A.2.2.1.length ∧ v 3 = .ofNat A.2.2.2.1 ∧ v 4 = .ofNat A.2.2.2.2 ∧
  (∀ f x, A.1[f]? = some x → pt_F v f x) ∧ (∀ f, A.1.length ≤ f → f < 12 → v (29 + f) = 0 ∧ v (41 + f) = 0) ∧
  (∀ p c, A.2.1[p]? = some c → v (53 + p) = .ofNat c) ∧
  (∀ m x, A.2.2.1[m]? = some x → pt_Mo v m x) ∧ (∀ m, A.2.2.1.length ≤ m → m < 6 → pt_N v m)
theorem upd_ne {v : Nat → Int32} {i j : Nat} {x : Int32} (h : j ≠ i) : upd v i x j = v j := if_neg h
theorem upd_at {v : Nat → Int32} {i : Nat} {x : Int32} : upd v i x i = x := if_pos rfl
theorem tc_I (v : Int32) (M : zt_M) (K : Int32 → zt_M → zg_R) : zg_cI (zg_rI v M) K = K v M := rfl
theorem tc_V (M : zt_M) (K : zt_M → zg_R) : zg_cV (zg_rV M) K = K M := rfl
theorem tb_0 (M : zt_M) : zg_rN .boolean (0 : Int32) M = zg_rI 0 M := rfl
theorem tb_1 (M : zt_M) : zg_rN .boolean (1 : Int32) M = zg_rI 1 M := rfl
section TG
variable {fu : Nat} {M : zt_M} {A : pa_A}
theorem tg_v {a : Nat} (ha : a < 407) : zg_aI M 5 (Int32.ofNat a) = some (M.2 5 a) := by
  unfold zg_aI
  rw [if_pos (tw_inb (n := zt_n 5) ha (by decide)), tw_nat (by omega)]
theorem tg_s {a : Nat} {x : Int32} (ha : a < 407) : zg_sI M 5 (Int32.ofNat a) x = some (zt_uA M 5 a x) := by
  unfold zg_sI
  rw [if_pos (tw_inb (n := zt_n 5) ha (by decide)), tw_nat (by omega)]
theorem tg_5 {a : Nat} {x : Int32} : (zt_uA M 5 a x).2 5 = upd (M.2 5) a x := rfl

theorem tg_v0 : zg_aI M 5 (0 : Int32) = some (M.2 5 0) := tg_v (a := 0) (by decide)
theorem tg_s0 {x : Int32} : zg_sI M 5 (0 : Int32) x = some (zt_uA M 5 0 x) := tg_s (a := 0) (by decide)
theorem tg_v1 : zg_aI M 5 (1 : Int32) = some (M.2 5 1) := tg_v (a := 1) (by decide)
theorem tg_s1 {x : Int32} : zg_sI M 5 (1 : Int32) x = some (zt_uA M 5 1 x) := tg_s (a := 1) (by decide)
theorem tg_v2 : zg_aI M 5 (2 : Int32) = some (M.2 5 2) := tg_v (a := 2) (by decide)
theorem tg_s2 {x : Int32} : zg_sI M 5 (2 : Int32) x = some (zt_uA M 5 2 x) := tg_s (a := 2) (by decide)
theorem tg_v3 : zg_aI M 5 (3 : Int32) = some (M.2 5 3) := tg_v (a := 3) (by decide)
theorem tg_s3 {x : Int32} : zg_sI M 5 (3 : Int32) x = some (zt_uA M 5 3 x) := tg_s (a := 3) (by decide)
theorem tg_v4 : zg_aI M 5 (4 : Int32) = some (M.2 5 4) := tg_v (a := 4) (by decide)
theorem tg_s4 {x : Int32} : zg_sI M 5 (4 : Int32) x = some (zt_uA M 5 4 x) := tg_s (a := 4) (by decide)
theorem tg_r5 {f : Nat} (h : f < 12) : zg_aI M 5 ((5 : Int32) + Int32.ofNat f) = some (M.2 5 (5 + f)) := by
  rw [show (5 : Int32) + Int32.ofNat f = Int32.ofNat (5 + f) from ci_add 5 f, tg_v (by omega)]
theorem tg_w5 {f : Nat} {x : Int32} (h : f < 12) : zg_sI M 5 ((5 : Int32) + Int32.ofNat f) x = some (zt_uA M 5 (5 + f) x) := by
  rw [show (5 : Int32) + Int32.ofNat f = Int32.ofNat (5 + f) from ci_add 5 f, tg_s (by omega)]
theorem tg_r17 {f : Nat} (h : f < 12) : zg_aI M 5 ((17 : Int32) + Int32.ofNat f) = some (M.2 5 (17 + f)) := by
  rw [show (17 : Int32) + Int32.ofNat f = Int32.ofNat (17 + f) from ci_add 17 f, tg_v (by omega)]
theorem tg_w17 {f : Nat} {x : Int32} (h : f < 12) : zg_sI M 5 ((17 : Int32) + Int32.ofNat f) x = some (zt_uA M 5 (17 + f) x) := by
  rw [show (17 : Int32) + Int32.ofNat f = Int32.ofNat (17 + f) from ci_add 17 f, tg_s (by omega)]
theorem tg_r29 {f : Nat} (h : f < 12) : zg_aI M 5 ((29 : Int32) + Int32.ofNat f) = some (M.2 5 (29 + f)) := by
  rw [show (29 : Int32) + Int32.ofNat f = Int32.ofNat (29 + f) from ci_add 29 f, tg_v (by omega)]
theorem tg_w29 {f : Nat} {x : Int32} (h : f < 12) : zg_sI M 5 ((29 : Int32) + Int32.ofNat f) x = some (zt_uA M 5 (29 + f) x) := by
  rw [show (29 : Int32) + Int32.ofNat f = Int32.ofNat (29 + f) from ci_add 29 f, tg_s (by omega)]
theorem tg_r41 {f : Nat} (h : f < 12) : zg_aI M 5 ((41 : Int32) + Int32.ofNat f) = some (M.2 5 (41 + f)) := by
  rw [show (41 : Int32) + Int32.ofNat f = Int32.ofNat (41 + f) from ci_add 41 f, tg_v (by omega)]
theorem tg_w41 {f : Nat} {x : Int32} (h : f < 12) : zg_sI M 5 ((41 : Int32) + Int32.ofNat f) x = some (zt_uA M 5 (41 + f) x) := by
  rw [show (41 : Int32) + Int32.ofNat f = Int32.ofNat (41 + f) from ci_add 41 f, tg_s (by omega)]
theorem tg_r53 {f : Nat} (h : f < 12) : zg_aI M 5 ((53 : Int32) + Int32.ofNat f) = some (M.2 5 (53 + f)) := by
  rw [show (53 : Int32) + Int32.ofNat f = Int32.ofNat (53 + f) from ci_add 53 f, tg_v (by omega)]
theorem tg_w53 {f : Nat} {x : Int32} (h : f < 12) : zg_sI M 5 ((53 : Int32) + Int32.ofNat f) x = some (zt_uA M 5 (53 + f) x) := by
  rw [show (53 : Int32) + Int32.ofNat f = Int32.ofNat (53 + f) from ci_add 53 f, tg_s (by omega)]
theorem tg_of0 {m : Nat} : gF_X4_of fu (Int32.ofNat m) (0 : Int32) M = zg_rI (Int32.ofNat (59 + 10 * m)) M := by
  unfold gF_X4_of
  rw [show 59 + 10 * m = 59 + 10 * m + 0 by omega, ← ci_add, ← ci_add, ← ci_mul]; rfl
theorem tg_of1 {m : Nat} : gF_X4_of fu (Int32.ofNat m) (1 : Int32) M = zg_rI (Int32.ofNat (60 + 10 * m)) M := by
  unfold gF_X4_of
  rw [show 60 + 10 * m = 59 + 10 * m + 1 by omega, ← ci_add, ← ci_add, ← ci_mul]; rfl
theorem tg_of2 {m : Nat} : gF_X4_of fu (Int32.ofNat m) (2 : Int32) M = zg_rI (Int32.ofNat (61 + 10 * m)) M := by
  unfold gF_X4_of
  rw [show 61 + 10 * m = 59 + 10 * m + 2 by omega, ← ci_add, ← ci_add, ← ci_mul]; rfl
theorem tg_of3 {m : Nat} : gF_X4_of fu (Int32.ofNat m) (3 : Int32) M = zg_rI (Int32.ofNat (62 + 10 * m)) M := by
  unfold gF_X4_of
  rw [show 62 + 10 * m = 59 + 10 * m + 3 by omega, ← ci_add, ← ci_add, ← ci_mul]; rfl
theorem tg_of4 {m : Nat} : gF_X4_of fu (Int32.ofNat m) (4 : Int32) M = zg_rI (Int32.ofNat (63 + 10 * m)) M := by
  unfold gF_X4_of
  rw [show 63 + 10 * m = 59 + 10 * m + 4 by omega, ← ci_add, ← ci_add, ← ci_mul]; rfl
theorem tg_of5 {m : Nat} : gF_X4_of fu (Int32.ofNat m) (5 : Int32) M = zg_rI (Int32.ofNat (64 + 10 * m)) M := by
  unfold gF_X4_of
  rw [show 64 + 10 * m = 59 + 10 * m + 5 by omega, ← ci_add, ← ci_add, ← ci_mul]; rfl
theorem tg_of6 {m : Nat} : gF_X4_of fu (Int32.ofNat m) (6 : Int32) M = zg_rI (Int32.ofNat (65 + 10 * m)) M := by
  unfold gF_X4_of
  rw [show 65 + 10 * m = 59 + 10 * m + 6 by omega, ← ci_add, ← ci_add, ← ci_mul]; rfl
theorem tg_of7 {m : Nat} : gF_X4_of fu (Int32.ofNat m) (7 : Int32) M = zg_rI (Int32.ofNat (66 + 10 * m)) M := by
  unfold gF_X4_of
  rw [show 66 + 10 * m = 59 + 10 * m + 7 by omega, ← ci_add, ← ci_add, ← ci_mul]; rfl
theorem tg_listed {m k : Nat} : gF_X4_listed fu (Int32.ofNat m) (Int32.ofNat k) M = zg_rI (Int32.ofNat (119 + 12 * m + k)) M := by
  unfold gF_X4_listed
  rw [← ci_add, ← ci_add, ← ci_mul]; rfl
theorem tg_croaked {m k : Nat} : gF_X4_croaked fu (Int32.ofNat m) (Int32.ofNat k) M = zg_rI (Int32.ofNat (191 + 36 * m + 3 * k)) M := by
  unfold gF_X4_croaked
  rw [← ci_add, ← ci_add, ← ci_mul, ← ci_mul]; rfl
theorem tg_isIn_no {x a b : Int32} (h : x < a ∨ b < x) : gF_X4_isIn fu x a b M = zg_rI 0 M := by
  unfold gF_X4_isIn
  by_cases h1 : x < a
  · rw [if_pos h1]; rfl
  · rw [if_neg h1, if_pos (h.resolve_left h1)]; rfl
theorem tg_isIn_yes {x a b : Int32} (h : ¬ x < a ∧ ¬ b < x) : gF_X4_isIn fu x a b M = zg_rI 1 M := by
  unfold gF_X4_isIn
  rw [if_neg h.1, if_neg h.2]; rfl
theorem tg_in_no {x : Int32} {lo n : Nat} (a b : Int32) (ea : a = Int32.ofNat lo) (eb : b = Int32.ofNat n - 1) (hl : lo < 2 ^ 31) (hn : n < 2 ^ 31) (h : pd x lo n = none) : gF_X4_isIn fu x a b M = zg_rI 0 M := by
  subst ea eb
  exact tg_isIn_no (pd_none hl hn h)
theorem tg_in_yes {k lo n : Nat} (a b : Int32) (ea : a = Int32.ofNat lo) (eb : b = Int32.ofNat n - 1) (hn : n < 2 ^ 31) (hl : lo ≤ k) (hk : k < n) : gF_X4_isIn fu (Int32.ofNat k) a b M = zg_rI 1 M := by
  subst ea eb
  exact tg_isIn_yes (pd_in hn hl hk)
theorem tg_isFrog (hp : pt (M.2 5) A) (hl : A.1.length ≤ 12) (x : Int32) : gF_X4_isFrog fu x M = zg_rI (if (pd x 0 A.1.length).isSome then 1 else 0) M := by
  unfold gF_X4_isFrog
  rw [tg_v0, Option.bind_some, hp.1]
  cases h : pd x 0 A.1.length with
  | none => rw [tg_in_no 0 (Int32.ofNat A.1.length - 1) rfl rfl (by decide) (by omega) h, tc_I]; rfl
  | some k =>
    obtain ⟨-, hk, rfl⟩ := pd_some h
    rw [tg_in_yes 0 (Int32.ofNat A.1.length - 1) rfl rfl (by omega) (Nat.zero_le _) hk, tc_I]; rfl
theorem tg_isPad (hp : pt (M.2 5) A) (hl : A.2.1.length ≤ 6) (x : Int32) : gF_X4_isPad fu x M = zg_rI (if (pd x 0 A.2.1.length).isSome then 1 else 0) M := by
  unfold gF_X4_isPad
  rw [tg_v1, Option.bind_some, hp.2.1]
  cases h : pd x 0 A.2.1.length with
  | none => rw [tg_in_no 0 (Int32.ofNat A.2.1.length - 1) rfl rfl (by decide) (by omega) h, tc_I]; rfl
  | some k =>
    obtain ⟨-, hk, rfl⟩ := pd_some h
    rw [tg_in_yes 0 (Int32.ofNat A.2.1.length - 1) rfl rfl (by omega) (Nat.zero_le _) hk, tc_I]; rfl
theorem tg_isMotion (hp : pt (M.2 5) A) (hl : A.2.2.1.length ≤ 6) (x : Int32) : gF_X4_isMotion fu x M = zg_rI (if (pd x 0 A.2.2.1.length).isSome then 1 else 0) M := by
  unfold gF_X4_isMotion
  rw [tg_v2, Option.bind_some, hp.2.2.1]
  cases h : pd x 0 A.2.2.1.length with
  | none => rw [tg_in_no 0 (Int32.ofNat A.2.2.1.length - 1) rfl rfl (by decide) (by omega) h, tc_I]; rfl
  | some k =>
    obtain ⟨-, hk, rfl⟩ := pd_some h
    rw [tg_in_yes 0 (Int32.ofNat A.2.2.1.length - 1) rfl rfl (by omega) (Nat.zero_le _) hk, tc_I]; rfl
theorem tg_areThere (hp : pt (M.2 5) A) (hl : A.2.2.1.length ≤ 6) (hl' : A.1.length ≤ 12) (x y : Int32) : gF_X4_areThere fu x y M = zg_rI (if (pd x 0 A.2.2.1.length).isSome && (pd y 0 A.1.length).isSome then 1 else 0) M := by
  unfold gF_X4_areThere
  rw [tg_isMotion hp hl, tc_I]
  cases h : pd x 0 A.2.2.1.length with
  | none => rfl
  | some k =>
    show (if (1 : Int32) = 0 then _ else _) = _
    rw [if_neg (by decide), tg_isFrog hp hl', tc_I]
    cases h2 : pd y 0 A.1.length <;> rfl
theorem pt.fr (hp : pt (M.2 5) A) {f : Nat} (h : f < A.1.length) : pt_F (M.2 5) f (pa_frog A f) := hp.2.2.2.2.2.1 f _ (pa_frog_eq h)
theorem pt.mo (hp : pt (M.2 5) A) {m : Nat} (h : m < A.2.2.1.length) : pt_Mo (M.2 5) m (pa_mot A m) := hp.2.2.2.2.2.2.2.2.1 m _ (pa_mot_eq h)
/-- a sum over a list from a place on -/
theorem ps_step {α : Type} {L : List α} {f : Nat} {x : α} (g : α → Nat) (h : L[f]? = some x) : ((L.drop f).map g).sum = g x + ((L.drop (f + 1)).map g).sum := by
  have hf := (List.getElem?_eq_some_iff.mp h).1
  have hx := (List.getElem?_eq_some_iff.mp h).2
  rw [List.drop_eq_getElem_cons hf, hx]
  simp
theorem ps_end {α : Type} {L : List α} {f : Nat} (g : α → Nat) (h : L.length ≤ f) : ((L.drop f).map g).sum = 0 := by
  rw [List.drop_eq_nil_of_le h]; rfl
/-- the numbers are small -/
def pw (A : pa_A) : Prop := A.1.length ≤ 12 ∧ A.2.1.length ≤ 6 ∧ A.2.2.1.length ≤ 6 ∧ (∀ x, x ∈ A.1 → x.1 < 4 ∧ x.2.1 < 10 ∧ x.2.2.1 ≤ 6 ∧ x.2.2.2 ≤ 1000) ∧ (∀ r, r ∈ A.2.1 → r < 5) ∧
  (∀ x, x ∈ A.2.2.1 → x.1.1 < 16 ∧ x.1.2.1 ≤ 1 ∧ x.1.2.2.2.1 < 4096 ∧ x.2.1.length ≤ 12 ∧ x.2.2.length ≤ 12 ∧ (∀ r, r ∈ x.2.1 → r.1 < A.1.length) ∧ ∀ k, k ∈ x.2.2 → k.1 < A.1.length ∧ k.2.1 < 10 ∧ k.2.2 ≤ 1)
theorem pw.fr (ho : pw A) {f : Nat} (h : f < A.1.length) : (pa_frog A f).1 < 4 ∧ (pa_frog A f).2.1 < 10 ∧ (pa_frog A f).2.2.1 ≤ 6 ∧ (pa_frog A f).2.2.2 ≤ 1000 := ho.2.2.2.1 _ (List.mem_of_getElem? (pa_frog_eq h))
theorem pw.mo (ho : pw A) {m : Nat} (h : m < A.2.2.1.length) : (pa_mot A m).1.1 < 16 ∧ (pa_mot A m).1.2.1 ≤ 1 ∧ (pa_mot A m).1.2.2.2.1 < 4096 ∧ (pa_mot A m).2.1.length ≤ 12 ∧ (pa_mot A m).2.2.length ≤ 12 ∧ (∀ r, r ∈ (pa_mot A m).2.1 → r.1 < A.1.length) ∧ ∀ k, k ∈ (pa_mot A m).2.2 → k.1 < A.1.length ∧ k.2.1 < 10 ∧ k.2.2 ≤ 1 := ho.2.2.2.2.2 _ (List.mem_of_getElem? (pa_mot_eq h))
theorem pa_pigeon : ∀ (n : Nat) (L : List Nat), L.Nodup → (∀ x, x ∈ L → x < n) → L.length ≤ n
  | 0, L, _, h => by
    cases L with
    | nil => exact Nat.le_refl _
    | cons x L => exact absurd (h x List.mem_cons_self) (Nat.not_lt_zero _)
  | n + 1, L, hn, h => by
    have h1 := pa_pigeon n (L.erase n) (hn.erase n) fun x hx => by
      have h2 := (List.Nodup.mem_erase_iff hn).mp hx
      have h3 := h x h2.2
      have := h2.1
      omega
    have h4 : L.length ≤ (L.erase n).length + 1 := by
      rw [List.length_erase]
      split <;> omega
    omega
theorem pa_okM.list {c : Nat} {x : pa_Mo} (h : pa_okM A c x) : x.2.1.length ≤ A.1.length := by
  have := pa_pigeon A.1.length (x.2.1.map (·.1)) h.2.2.2.2.2.2.2.2.1 fun y hy => by
    obtain ⟨r, hr, rfl⟩ := List.mem_map.mp hy
    exact (h.2.2.2.2.2.2.2.1 r hr).1
  simpa using this
theorem pa_okM.croaks {c : Nat} {x : pa_Mo} (h : pa_okM A c x) : x.2.2.length ≤ A.1.length := by
  have := pa_pigeon A.1.length (x.2.2.map (·.1)) h.2.2.2.2.2.2.2.2.2.2.2 fun y hy => by
    obtain ⟨r, hr, rfl⟩ := List.mem_map.mp hy
    exact (h.2.2.2.2.2.2.2.2.2.2.1 r hr).1
  simpa using this
theorem pa_ok.w {c : Nat} (ho : pa_ok A c) (hc : c ≤ 1000) : pw A := by
  obtain ⟨a1, a2, a3, a4, a5, a6, a7, a8, a9, a10, a11⟩ := ho
  refine ⟨a1, a2, a3, fun x hx => ?_, fun r hr => (a5 r hr).2, fun x hx => ?_⟩
  · obtain ⟨b1, b2, b3, b4, b5⟩ := a4 x hx
    exact ⟨b1, b3, by omega, by omega⟩
  · have hm := a6 x hx
    have h1 := hm.list
    have h2 := hm.croaks
    obtain ⟨b1, b2, b3, b4, b5, b6, b7, b8, b9, b10, b11, b12⟩ := hm
    refine ⟨b2, b3, Nat.lt_of_lt_of_le b5 (Nat.pow_le_pow_right (n := 2) (by decide) a1), by omega, by omega, fun r hr => (b8 r hr).1, fun k hk => ⟨(b11 k hk).1, (b11 k hk).2.2.1, (b11 k hk).2.2.2⟩⟩
theorem pw.setF (ho : pw A) {f : Nat} {y : pa_F} (hy : y.1 < 4 ∧ y.2.1 < 10 ∧ y.2.2.1 ≤ 6 ∧ y.2.2.2 ≤ 1000) : pw (pa_setF A f y) := by
  obtain ⟨a1, a2, a3, a4, a5, a6⟩ := ho
  refine ⟨by simpa [pa_setF] using a1, a2, a3, fun x hx => ?_, a5, fun x hx => ?_⟩
  · rcases List.mem_or_eq_of_mem_set hx with h | rfl
    · exact a4 x h
    · exact hy
  · simpa [pa_setF] using a6 x hx
theorem pw.setM (ho : pw A) {m : Nat} {x : pa_Mo} (hx : x.1.1 < 16 ∧ x.1.2.1 ≤ 1 ∧ x.1.2.2.2.1 < 4096 ∧ x.2.1.length ≤ 12 ∧ x.2.2.length ≤ 12 ∧ (∀ r, r ∈ x.2.1 → r.1 < A.1.length) ∧ ∀ k, k ∈ x.2.2 → k.1 < A.1.length ∧ k.2.1 < 10 ∧ k.2.2 ≤ 1) : pw (pa_setM A m x) := by
  obtain ⟨a1, a2, a3, a4, a5, a6⟩ := ho
  refine ⟨a1, a2, by simpa [pa_setM] using a3, a4, a5, fun y hy => ?_⟩
  rcases List.mem_or_eq_of_mem_set hy with h | rfl
  · exact a6 y h
  · exact hx
theorem tl_on (hp : pt (M.2 5) A) (ho : pw A) {p : Nat} (hpp : p < 100) : ∀ (k f n acc : Nat), f + k = A.1.length → k < n →
    gL_X4_on_4 fu n (Int32.ofNat p) (Int32.ofNat acc) (Int32.ofNat f) M = zg_rI (Int32.ofNat (acc + ((A.1.drop f).map fun x => if x.2.2.1 = p + 1 then 1 else 0).sum)) M
  | k, f, 0, acc, _, hf => absurd hf (Nat.not_lt_zero _)
  | 0, f, n + 1, acc, hk, _ => by
    have hl := ho.1
    rw [gL_X4_on_4, tg_v0, Option.bind_some, hp.1, if_pos ((ci_le (by omega) (by omega)).mpr (by omega)), ps_end _ (by omega)]
    rfl
  | k + 1, f, n + 1, acc, hk, hf => by
    have hl := ho.1
    have hf1 : f < A.1.length := by omega
    have hs := (ho.fr hf1).2.2.1
    have hP := ho.2.1
    have ih := fun acc => tl_on hp ho hpp k (f + 1) n acc (by omega) (by omega)
    rw [gL_X4_on_4, tg_v0, Option.bind_some, hp.1, if_neg (fun hh => by have := (ci_le (by omega) (by omega)).mp hh; omega), tg_r29 (by omega), Option.bind_some, (hp.fr hf1).2.2.1, ci_succ, ps_step _ (pa_frog_eq hf1)]
    unfold gJ_X4_on_35
    simp only [ci_succ, Int32.add_zero, ih]
    by_cases hc : (pa_frog A f).2.2.1 = p + 1
    · rw [if_pos ((ci_eq (by omega) (by omega)).mpr hc), if_pos hc, Nat.add_assoc]
    · rw [if_neg (fun h => hc ((ci_eq (by omega) (by omega)).mp h)), if_neg hc, Nat.zero_add]
theorem tg_on (hp : pt (M.2 5) A) (ho : pw A) (hfu : 100 ≤ fu) {p : Nat} (hpp : p < 100) : gF_X4_on fu (Int32.ofNat p) M = zg_rI (Int32.ofNat (pa_on A p)) M := by
  unfold gF_X4_on
  have hl := ho.1
  have := tl_on (fu := fu) hp ho hpp A.1.length 0 fu 0 (by omega) (by omega)
  rw [Nat.zero_add] at this
  exact this
theorem tg_isOn (hp : pt (M.2 5) A) (ho : pw A) {f : Nat} (hf : f < A.1.length) : gF_X4_isOn fu (Int32.ofNat f) M = zg_rI (if (pa_frog A f).2.2.1 = 0 then 0 else 1) M := by
  have hl := ho.1
  have hs := (ho.fr hf).2.2.1
  have hP := ho.2.1
  unfold gF_X4_isOn
  rw [tg_r29 (by omega), Option.bind_some, (hp.fr hf).2.2.1]
  by_cases h : (pa_frog A f).2.2.1 = 0
  · rw [if_pos h, h, if_pos (by decide)]; rfl
  · rw [if_neg h, if_neg (by rw [show (0 : Int32) = Int32.ofNat 0 from rfl, ci_le (by omega) (by omega)]; omega)]; rfl
theorem tb_for : ∀ p, p < 16 → ∀ q, q < 4 → ((((Int32.ofNat p) >>> ((Int32.ofNat q) &&& 31)) &&& (1 : Int32)) = (1 : Int32) ↔ p.testBit q = true) := by decide
theorem tg_isFor (hp : pt (M.2 5) A) (ho : pw A) {m f : Nat} (hm : m < A.2.2.1.length) (hf : f < A.1.length) : gF_X4_isFor fu (Int32.ofNat m) (Int32.ofNat f) M = zg_rI (if pa_for (pa_mot A m) (pa_frog A f) = true then 1 else 0) M := by
  have hl := ho.1
  have hl2 := ho.2.2.1
  unfold gF_X4_isFor
  rw [tg_of0, tc_I, tg_v (by omega), Option.bind_some, (hp.mo hm).1, tg_r5 (by omega), Option.bind_some, (hp.fr hf).1]
  have e := tb_for _ (ho.mo hm).1 _ (ho.fr hf).1
  by_cases h : pa_for (pa_mot A m) (pa_frog A f) = true
  · rw [if_pos h, if_pos (e.mpr h)]; rfl
  · rw [if_neg h, if_neg (fun hh => h (e.mp hh))]; rfl
theorem tg_isShut (hp : pt (M.2 5) A) (ho : pw A) {m : Nat} (hm : m < A.2.2.1.length) : gF_X4_isShut fu (Int32.ofNat m) M = zg_rI (if pa_shut (pa_mot A m) = true then 1 else 0) M := by
  have hl2 := ho.2.2.1
  have hq := hp.mo hm
  have hk := ho.mo hm
  unfold gF_X4_isShut
  rw [tg_of2, tc_I, tg_v (by omega), Option.bind_some, hq.2.2.1]
  by_cases h : (pa_mot A m).1.2.2.1 = 0
  · rw [if_pos h, if_neg (by decide), tg_of1, tc_I, tg_v (by omega), Option.bind_some, hq.2.1]
    by_cases h1 : (pa_mot A m).1.2.1 = 1
    · rw [h1, if_pos (by decide), if_pos (by simp [pa_shut, h1])]; rfl
    · rw [if_neg (by rw [show (1 : Int32) = Int32.ofNat 1 from rfl, ci_eq (by have := hk.2.1; omega) (by omega)]; exact h1), if_neg (by simp [pa_shut, h1, h])]; rfl
  · rw [if_neg h, if_pos (by decide), if_pos (by simp [pa_shut, h])]; rfl
theorem tg_isDue (hp : pt (M.2 5) A) (ho : pw A) {m : Nat} (hm : m < A.2.2.1.length) : gF_X4_isDue fu (Int32.ofNat m) M = zg_rI (if pa_due (pa_mot A m) = true then 1 else 0) M := by
  have hl2 := ho.2.2.1
  have hl1 := ho.1
  have hq := hp.mo hm
  have hk := ho.mo hm
  have hL := hk.2.2.2.1
  unfold gF_X4_isDue
  rw [tg_of2, tc_I, tg_v (by omega), Option.bind_some, hq.2.2.1]
  by_cases h : (pa_mot A m).1.2.2.1 = 0
  · rw [if_pos h, if_pos (by decide), tg_of1, tc_I, tg_v (by omega), Option.bind_some, hq.2.1]
    by_cases h1 : (pa_mot A m).1.2.1 = 1
    · rw [h1, if_pos (by decide), tg_of5, tc_I, tg_v (by omega), Option.bind_some, hq.2.2.2.2.2.1]
      cases hx : (pa_mot A m).2.1 with
      | nil => rw [if_pos (by decide), if_pos (by simp [pa_due, h, h1, hx])]; rfl
      | cons r L =>
        rw [hx] at hL
        rw [if_neg (by rw [show (0 : Int32) = Int32.ofNat 0 from rfl, ci_eq (by omega) (by omega)]; simp), if_neg (by simp [pa_due, hx])]; rfl
    · rw [if_neg (by rw [show (1 : Int32) = Int32.ofNat 1 from rfl, ci_eq (by have := hk.2.1; omega) (by omega)]; exact h1), if_neg (by simp [pa_due, h1])]; rfl
  · rw [if_neg h, if_neg (by decide), if_neg (by simp [pa_due, h])]; rfl
/-- the place of a frog on a list, from a place on -/
theorem tl_place (hp : pt (M.2 5) A) (ho : pw A) {m f : Nat} (hm : m < A.2.2.1.length) (hf : f < 100) : ∀ (r k n : Nat), k + r = (pa_mot A m).2.1.length → r < n →
    gL_X4_place_2 fu n (Int32.ofNat m) (Int32.ofNat f) (Int32.ofNat k) M = zg_rI (match ((pa_mot A m).2.1.drop k).findIdx? fun r => r.1 == f with | some j => Int32.ofNat (k + j) | none => -1) M
  | r, k, 0, _, hn => absurd hn (Nat.not_lt_zero _)
  | 0, k, n + 1, hk, _ => by
    have hl2 := ho.2.2.1
    have hl1 := ho.1
    have hL := (ho.mo hm).2.2.2.1
    rw [gL_X4_place_2, tg_of5, tc_I, tg_v (by omega), Option.bind_some, (hp.mo hm).2.2.2.2.2.1, if_pos ((ci_le (by omega) (by omega)).mpr (by omega)), List.drop_eq_nil_of_le (by omega)]
    rfl
  | r + 1, k, n + 1, hk, hn => by
    have hl2 := ho.2.2.1
    have hl1 := ho.1
    have hL := (ho.mo hm).2.2.2.1
    have hk1 : k < (pa_mot A m).2.1.length := by omega
    have ih := tl_place hp ho hm hf r (k + 1) n (by omega) (by omega)
    have hx := List.getElem?_eq_getElem hk1
    have hb := (ho.mo hm).2.2.2.2.2.1 _ (List.getElem_mem hk1)
    rw [gL_X4_place_2, tg_of5, tc_I, tg_v (by omega), Option.bind_some, (hp.mo hm).2.2.2.2.2.1, if_neg (fun hh => by have := (ci_le (by omega) (by omega)).mp hh; omega), tg_listed, tc_I, tg_v (by omega), Option.bind_some, (hp.mo hm).2.2.2.2.2.2.2.2.1 k _ hx, List.drop_eq_getElem_cons hk1, List.findIdx?_cons]
    by_cases he : ((pa_mot A m).2.1[k]).1 = f
    · rw [if_pos (by rw [he]), if_pos (by simp [he])]; rfl
    · rw [if_neg (by rw [ci_eq (by omega) (by omega)]; exact he), if_neg (by simp [he]), ci_succ, ih]
      cases ((pa_mot A m).2.1.drop (k + 1)).findIdx? fun r => r.1 == f with
      | none => rfl
      | some j => show zg_rI (Int32.ofNat (k + 1 + j)) M = zg_rI (Int32.ofNat (k + (j + 1))) M; rw [show k + 1 + j = k + (j + 1) by omega]
theorem tg_place (hp : pt (M.2 5) A) (ho : pw A) (hfu : 100 ≤ fu) {m f : Nat} (hm : m < A.2.2.1.length) (hf : f < 100) :
    gF_X4_place fu (Int32.ofNat m) (Int32.ofNat f) M = zg_rI (match pa_place (pa_mot A m).2.1 f with | some j => Int32.ofNat j | none => -1) M := by
  have hl1 := ho.1
  have hL := (ho.mo hm).2.2.2.1
  have := tl_place (fu := fu) hp ho hm hf _ 0 fu (Nat.zero_add _) (by omega)
  unfold gF_X4_place pa_place
  refine this.trans ?_
  rw [List.drop_zero]
  cases (pa_mot A m).2.1.findIdx? fun r => r.1 == f with
  | none => rfl
  | some j => show zg_rI (Int32.ofNat (0 + j)) M = _; rw [Nat.zero_add]
end TG
