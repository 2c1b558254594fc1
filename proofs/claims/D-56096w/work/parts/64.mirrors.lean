/-! ===== THE TWIN's METHODS AS FUNCTIONS OF ITS STATE: mirrors and their proofs; printed by tools/genmirror.py ===== -/
set_option maxRecDepth 20000
def gL_X4_lays_2 (fu : Nat) : Nat → Nat → Nat → Int32 → zt_M → zg_R
  | 0, _, _, _, _ => none
  | n + 1, x0, x1, x2, M =>
    if (407 : Int32) ≤ x2 then
      zg_rV M
    else
    (zg_aI M x1 x2).bind fun v1 =>
    (zg_sI M x0 x2 v1).bind fun M2 =>
    gL_X4_lays_2 fu n x0 x1 (x2 + (1 : Int32)) M2
theorem gl_L_X4_lays_2 {ρ : zz_C} {σ : zz_S} {m : Nat} {ma : Nat → Nat} (hok : zt_ok m ma) : ∀ {x0 : Nat} (hl_x0 : 5 ≤ x0) (hu_x0 : x0 ≤ 13) {x1 : Nat} (hl_x1 : 5 ≤ x1) (hu_x1 : x1 ≤ 13) (n : Nat) (x2 : Int32) (M : zt_M), zL_X4_lays_2 ρ n (some (ma x0)) (some (ma x1)) x2 (zt σ m ma M) = zg_lift σ m ma (gL_X4_lays_2 ρ.2 n x0 x1 x2 M) := by
  intro x0 hl_x0 hu_x0 x1 hl_x1 hu_x1 n
  induction n with
  | zero => intros; rfl
  | succ n ih =>
    intro x2 M
    rw [zL_X4_lays_2, gL_X4_lays_2]
    refine gl_ite ?_ ?_
    · skip
      exact gl_rV
    · skip
      refine gl_aI hok hl_x1 hu_x1 fun v1 => ?_
      refine gl_sI hok hl_x0 hu_x0 fun M2 => ?_
      exact ih _ _
def gF_X4_lays (fu : Nat) (x0 : Nat) (x1 : Nat) (M : zt_M) : zg_R :=
  gL_X4_lays_2 fu fu x0 x1 (0 : Int32) M
theorem gl_F_X4_lays {ρ : zz_C} {σ : zz_S} {m : Nat} {ma : Nat → Nat} (hok : zt_ok m ma) {x0 : Nat} (hl_x0 : 5 ≤ x0) (hu_x0 : x0 ≤ 13) {x1 : Nat} (hl_x1 : 5 ≤ x1) (hu_x1 : x1 ≤ 13) (M : zt_M) : zF_X4_lays ρ (some (ma x0)) (some (ma x1)) (zt σ m ma M) = zg_lift σ m ma (gF_X4_lays ρ.2 x0 x1 M) := by
  unfold zF_X4_lays gF_X4_lays
  exact (gl_L_X4_lays_2 hok hl_x0 hu_x0 hl_x1 hu_x1 _ _ _)
def gF_X4_begins (fu : Nat) (M : zt_M) : zg_R :=
  zg_cV (gF_X4_lays fu 6 5 (zt_uI M 0 (0 : Int32))) (fun M7 =>
    zg_rV M7)
theorem gl_F_X4_begins {ρ : zz_C} {σ : zz_S} {m : Nat} {ma : Nat → Nat} (hok : zt_ok m ma) (M : zt_M) : zF_X4_begins ρ m (zt σ m ma M) = zg_lift σ m ma (gF_X4_begins ρ.2 M) := by
  unfold zF_X4_begins gF_X4_begins
  refine gl_pf (by decide) ?_
  refine gl_gR (by decide) (by decide) ?_
  refine gl_gR (by decide) (by decide) ?_
  refine gl_cV (gl_F_X4_lays hok (by decide) (by decide) (by decide) (by decide) _) fun M7 => ?_
  exact gl_rV
def gF_X4_isIn (fu : Nat) (x0 : Int32) (x1 : Int32) (x2 : Int32) (M : zt_M) : zg_R :=
  if x0 < x1 then
    zg_rN .boolean (0 : Int32) M
  else
  if x2 < x0 then
    zg_rN .boolean (0 : Int32) M
  else
  zg_rN .boolean (1 : Int32) M
theorem gl_F_X4_isIn {ρ : zz_C} {σ : zz_S} {m : Nat} {ma : Nat → Nat} (hok : zt_ok m ma) (x0 : Int32) (x1 : Int32) (x2 : Int32) (M : zt_M) : zF_X4_isIn ρ x0 x1 x2 (zt σ m ma M) = zg_lift σ m ma (gF_X4_isIn ρ.2 x0 x1 x2 M) := by
  unfold zF_X4_isIn gF_X4_isIn
  refine gl_ite ?_ ?_
  · skip
    exact gl_rN
  · skip
    refine gl_ite ?_ ?_
    · skip
      exact gl_rN
    · skip
      exact gl_rN
def gF_X4_fail (fu : Nat) (x1 : Int32) (M : zt_M) : zg_R :=
  zg_rI (0 : Int32) (zt_uI M 0 x1)
theorem gl_F_X4_fail {ρ : zz_C} {σ : zz_S} {m : Nat} {ma : Nat → Nat} (hok : zt_ok m ma) (x1 : Int32) (M : zt_M) : zF_X4_fail ρ m x1 (zt σ m ma M) = zg_lift σ m ma (gF_X4_fail ρ.2 x1 M) := by
  unfold zF_X4_fail gF_X4_fail
  refine gl_pf (by decide) ?_
  exact gl_rI
def gF_X4_adds (fu : Nat) (x1 : Int32) (x2 : Int32) (M : zt_M) : zg_R :=
  zg_cI (gF_X4_isIn fu x1 (0 : Int32) (3 : Int32) M) (fun v3 M4 =>
    if v3 = 0 then
      zg_cI (gF_X4_fail fu (1 : Int32) M4) (fun v31 M32 =>
        zg_rI v31 M32)
    else
    zg_cI (gF_X4_isIn fu x2 (1 : Int32) (9 : Int32) M4) (fun v7 M8 =>
      if v7 = 0 then
        zg_cI (gF_X4_fail fu (2 : Int32) M8) (fun v26 M27 =>
          zg_rI v26 M27)
      else
      (zg_aI M8 5 (0 : Int32)).bind fun v10 =>
      if v10 = (12 : Int32) then
        zg_cI (gF_X4_fail fu (3 : Int32) M8) (fun v21 M22 =>
          zg_rI v21 M22)
      else
      (zg_sI M8 5 ((5 : Int32) + v10) x1).bind fun M12 =>
      (zg_sI M12 5 ((17 : Int32) + v10) x2).bind fun M14 =>
      (zg_aI M14 5 (0 : Int32)).bind fun v16 =>
      (zg_sI M14 5 (0 : Int32) (v16 + (1 : Int32))).bind fun M17 =>
      zg_rI v10 M17))
theorem gl_F_X4_adds {ρ : zz_C} {σ : zz_S} {m : Nat} {ma : Nat → Nat} (hok : zt_ok m ma) (x1 : Int32) (x2 : Int32) (M : zt_M) : zF_X4_adds ρ m x1 x2 (zt σ m ma M) = zg_lift σ m ma (gF_X4_adds ρ.2 x1 x2 M) := by
  unfold zF_X4_adds gF_X4_adds
  refine gl_cI (gl_F_X4_isIn hok _ _ _ _) fun v3 M4 => ?_
  refine gl_ite ?_ ?_
  · skip
    refine gl_ck ?_
    refine gl_cI (gl_F_X4_fail hok _ _) fun v31 M32 => ?_
    exact gl_rI
  · skip
    refine gl_cI (gl_F_X4_isIn hok _ _ _ _) fun v7 M8 => ?_
    refine gl_ite ?_ ?_
    · skip
      refine gl_ck ?_
      refine gl_cI (gl_F_X4_fail hok _ _) fun v26 M27 => ?_
      exact gl_rI
    · skip
      refine gl_gR (by decide) (by decide) ?_
      refine gl_aI hok (by decide) (by decide) fun v10 => ?_
      refine gl_ite ?_ ?_
      · skip
        refine gl_ck ?_
        refine gl_cI (gl_F_X4_fail hok _ _) fun v21 M22 => ?_
        exact gl_rI
      · skip
        refine gl_gR (by decide) (by decide) ?_
        refine gl_sI hok (by decide) (by decide) fun M12 => ?_
        refine gl_gR (by decide) (by decide) ?_
        refine gl_sI hok (by decide) (by decide) fun M14 => ?_
        refine gl_gR (by decide) (by decide) ?_
        refine gl_aI hok (by decide) (by decide) fun v16 => ?_
        refine gl_sI hok (by decide) (by decide) fun M17 => ?_
        exact gl_rI
def gL_X4_ends_72 (fu : Nat) : Nat → Int32 → Int32 → zt_M → zg_R
  | 0, _, _, _ => none
  | n + 1, x1, x2, M =>
    if (407 : Int32) ≤ x2 then
      zg_rI x1 (zt_uI M 1 ((M.1 1) + (1 : Int32)))
    else
    (zg_aI M 6 x2).bind fun v6 =>
    (zg_sI M 8 (((M.1 1) * (407 : Int32)) + x2) v6).bind fun M7 =>
    gL_X4_ends_72 fu n x1 (x2 + (1 : Int32)) M7
theorem gl_L_X4_ends_72 {ρ : zz_C} {σ : zz_S} {m : Nat} {ma : Nat → Nat} (hok : zt_ok m ma) : ∀ (n : Nat) (x1 : Int32) (x2 : Int32) (M : zt_M), zL_X4_ends_72 ρ n m x1 x2 (zt σ m ma M) = zg_lift σ m ma (gL_X4_ends_72 ρ.2 n x1 x2 M) := by
  intro n
  induction n with
  | zero => intros; rfl
  | succ n ih =>
    intro x1 x2 M
    rw [zL_X4_ends_72, gL_X4_ends_72]
    refine gl_ite ?_ ?_
    · skip
      refine gl_gI (by decide) ?_
      refine gl_pf (by decide) ?_
      exact gl_rI
    · skip
      refine gl_gR (by decide) (by decide) ?_
      refine gl_gI (by decide) ?_
      refine gl_gR (by decide) (by decide) ?_
      refine gl_aI hok (by decide) (by decide) fun v6 => ?_
      refine gl_sI hok (by decide) (by decide) fun M7 => ?_
      exact ih _ _ _
def gJ_X4_ends_70 (fu : Nat) (x1 : Int32) (M : zt_M) : zg_R :=
  gL_X4_ends_72 fu fu x1 (0 : Int32) M
theorem gl_J_X4_ends_70 {ρ : zz_C} {σ : zz_S} {m : Nat} {ma : Nat → Nat} (hok : zt_ok m ma) (x1 : Int32) (M : zt_M) : zJ_X4_ends_70 ρ m x1 (zt σ m ma M) = zg_lift σ m ma (gJ_X4_ends_70 ρ.2 x1 M) := by
  unfold zJ_X4_ends_70 gJ_X4_ends_70
  exact (gl_L_X4_ends_72 hok _ _ _ _)
def gL_X4_ends_31 (fu : Nat) : Nat → Int32 → Int32 → zt_M → zg_R
  | 0, _, _, _ => none
  | n + 1, x1, x2, M =>
    if (2849 : Int32) ≤ x2 then
      gJ_X4_ends_70 fu x1 (zt_uI M 1 ((M.1 1) - (1 : Int32)))
    else
    (zg_aI M 8 (x2 + (407 : Int32))).bind fun v5 =>
    (zg_sI M 8 x2 v5).bind fun M6 =>
    gL_X4_ends_31 fu n x1 (x2 + (1 : Int32)) M6
theorem gl_L_X4_ends_31 {ρ : zz_C} {σ : zz_S} {m : Nat} {ma : Nat → Nat} (hok : zt_ok m ma) : ∀ (n : Nat) (x1 : Int32) (x2 : Int32) (M : zt_M), zL_X4_ends_31 ρ n m x1 x2 (zt σ m ma M) = zg_lift σ m ma (gL_X4_ends_31 ρ.2 n x1 x2 M) := by
  intro n
  induction n with
  | zero => intros; rfl
  | succ n ih =>
    intro x1 x2 M
    rw [zL_X4_ends_31, gL_X4_ends_31]
    refine gl_ite ?_ ?_
    · skip
      refine gl_gI (by decide) ?_
      refine gl_pf (by decide) ?_
      exact (gl_J_X4_ends_70 hok _ _)
    · skip
      refine gl_gR (by decide) (by decide) ?_
      refine gl_gR (by decide) (by decide) ?_
      refine gl_aI hok (by decide) (by decide) fun v5 => ?_
      refine gl_sI hok (by decide) (by decide) fun M6 => ?_
      exact ih _ _ _
def gF_X4_ends (fu : Nat) (x1 : Int32) (M : zt_M) : zg_R :=
  if (M.1 0) = 0 then
    if (M.1 1) = (8 : Int32) then
      gL_X4_ends_31 fu fu x1 (0 : Int32) M
    else
    gJ_X4_ends_70 fu x1 M
  else
  zg_cV (gF_X4_lays fu 5 6 M) (fun M8 =>
    zg_rI (0 : Int32) M8)
theorem gl_F_X4_ends {ρ : zz_C} {σ : zz_S} {m : Nat} {ma : Nat → Nat} (hok : zt_ok m ma) (x1 : Int32) (M : zt_M) : zF_X4_ends ρ m x1 (zt σ m ma M) = zg_lift σ m ma (gF_X4_ends ρ.2 x1 M) := by
  unfold zF_X4_ends gF_X4_ends
  refine gl_gI (by decide) ?_
  refine gl_ite ?_ ?_
  · skip
    refine gl_gI (by decide) ?_
    refine gl_ite ?_ ?_
    · skip
      exact (gl_L_X4_ends_31 hok _ _ _ _)
    · skip
      exact (gl_J_X4_ends_70 hok _ _)
  · skip
    refine gl_gR (by decide) (by decide) ?_
    refine gl_gR (by decide) (by decide) ?_
    refine gl_cV (gl_F_X4_lays hok (by decide) (by decide) (by decide) (by decide) _) fun M8 => ?_
    exact gl_rI
def gF_X4_addFrog (fu : Nat) (x1 : Int32) (x2 : Int32) (M : zt_M) : zg_R :=
  zg_cV (gF_X4_begins fu M) (fun M5 =>
    zg_cI (gF_X4_adds fu x1 x2 M5) (fun v9 M10 =>
      zg_cI (gF_X4_ends fu v9 M10) (fun v14 M15 =>
        zg_rI v14 M15)))
theorem gl_F_X4_addFrog {ρ : zz_C} {σ : zz_S} {m : Nat} {ma : Nat → Nat} (hok : zt_ok m ma) (x1 : Int32) (x2 : Int32) (M : zt_M) : zF_X4_addFrog ρ m x1 x2 (zt σ m ma M) = zg_lift σ m ma (gF_X4_addFrog ρ.2 x1 x2 M) := by
  unfold zF_X4_addFrog gF_X4_addFrog
  refine gl_ck ?_
  refine gl_cV (gl_F_X4_begins hok _) fun M5 => ?_
  refine gl_ck ?_
  refine gl_cI (gl_F_X4_adds hok _ _ _) fun v9 M10 => ?_
  refine gl_ck ?_
  refine gl_cI (gl_F_X4_ends hok _ _) fun v14 M15 => ?_
  exact gl_rI
def gF_X4_thrown (fu : Nat) (M : zt_M) : zg_R :=
  zg_rI (M.1 0) M
theorem gl_F_X4_thrown {ρ : zz_C} {σ : zz_S} {m : Nat} {ma : Nat → Nat} (hok : zt_ok m ma) (M : zt_M) : zF_X4_thrown ρ m (zt σ m ma M) = zg_lift σ m ma (gF_X4_thrown ρ.2 M) := by
  unfold zF_X4_thrown gF_X4_thrown
  refine gl_gI (by decide) ?_
  exact gl_rI
def gF_X4_addsPad (fu : Nat) (x1 : Int32) (M : zt_M) : zg_R :=
  zg_cI (gF_X4_isIn fu x1 (1 : Int32) (4 : Int32) M) (fun v3 M4 =>
    if v3 = 0 then
      zg_cI (gF_X4_fail fu (1 : Int32) M4) (fun v20 M21 =>
        zg_rI v20 M21)
    else
    (zg_aI M4 5 (1 : Int32)).bind fun v6 =>
    if v6 = (6 : Int32) then
      zg_cI (gF_X4_fail fu (2 : Int32) M4) (fun v15 M16 =>
        zg_rI v15 M16)
    else
    (zg_sI M4 5 ((53 : Int32) + v6) x1).bind fun M8 =>
    (zg_aI M8 5 (1 : Int32)).bind fun v10 =>
    (zg_sI M8 5 (1 : Int32) (v10 + (1 : Int32))).bind fun M11 =>
    zg_rI v6 M11)
theorem gl_F_X4_addsPad {ρ : zz_C} {σ : zz_S} {m : Nat} {ma : Nat → Nat} (hok : zt_ok m ma) (x1 : Int32) (M : zt_M) : zF_X4_addsPad ρ m x1 (zt σ m ma M) = zg_lift σ m ma (gF_X4_addsPad ρ.2 x1 M) := by
  unfold zF_X4_addsPad gF_X4_addsPad
  refine gl_cI (gl_F_X4_isIn hok _ _ _ _) fun v3 M4 => ?_
  refine gl_ite ?_ ?_
  · skip
    refine gl_ck ?_
    refine gl_cI (gl_F_X4_fail hok _ _) fun v20 M21 => ?_
    exact gl_rI
  · skip
    refine gl_gR (by decide) (by decide) ?_
    refine gl_aI hok (by decide) (by decide) fun v6 => ?_
    refine gl_ite ?_ ?_
    · skip
      refine gl_ck ?_
      refine gl_cI (gl_F_X4_fail hok _ _) fun v15 M16 => ?_
      exact gl_rI
    · skip
      refine gl_gR (by decide) (by decide) ?_
      refine gl_sI hok (by decide) (by decide) fun M8 => ?_
      refine gl_gR (by decide) (by decide) ?_
      refine gl_aI hok (by decide) (by decide) fun v10 => ?_
      refine gl_sI hok (by decide) (by decide) fun M11 => ?_
      exact gl_rI
def gF_X4_addPad (fu : Nat) (x1 : Int32) (M : zt_M) : zg_R :=
  zg_cV (gF_X4_begins fu M) (fun M5 =>
    zg_cI (gF_X4_addsPad fu x1 M5) (fun v9 M10 =>
      zg_cI (gF_X4_ends fu v9 M10) (fun v14 M15 =>
        zg_rI v14 M15)))
theorem gl_F_X4_addPad {ρ : zz_C} {σ : zz_S} {m : Nat} {ma : Nat → Nat} (hok : zt_ok m ma) (x1 : Int32) (M : zt_M) : zF_X4_addPad ρ m x1 (zt σ m ma M) = zg_lift σ m ma (gF_X4_addPad ρ.2 x1 M) := by
  unfold zF_X4_addPad gF_X4_addPad
  refine gl_ck ?_
  refine gl_cV (gl_F_X4_begins hok _) fun M5 => ?_
  refine gl_ck ?_
  refine gl_cI (gl_F_X4_addsPad hok _ _) fun v9 M10 => ?_
  refine gl_ck ?_
  refine gl_cI (gl_F_X4_ends hok _ _) fun v14 M15 => ?_
  exact gl_rI
def gF_X4_isFrog (fu : Nat) (x1 : Int32) (M : zt_M) : zg_R :=
  (zg_aI M 5 (0 : Int32)).bind fun v2 =>
  zg_cI (gF_X4_isIn fu x1 (0 : Int32) (v2 - (1 : Int32)) M) (fun v5 M6 =>
    zg_rN .boolean v5 M6)
theorem gl_F_X4_isFrog {ρ : zz_C} {σ : zz_S} {m : Nat} {ma : Nat → Nat} (hok : zt_ok m ma) (x1 : Int32) (M : zt_M) : zF_X4_isFrog ρ m x1 (zt σ m ma M) = zg_lift σ m ma (gF_X4_isFrog ρ.2 x1 M) := by
  unfold zF_X4_isFrog gF_X4_isFrog
  refine gl_gR (by decide) (by decide) ?_
  refine gl_aI hok (by decide) (by decide) fun v2 => ?_
  refine gl_cI (gl_F_X4_isIn hok _ _ _ _) fun v5 M6 => ?_
  exact gl_rN
def gF_X4_isPad (fu : Nat) (x1 : Int32) (M : zt_M) : zg_R :=
  (zg_aI M 5 (1 : Int32)).bind fun v2 =>
  zg_cI (gF_X4_isIn fu x1 (0 : Int32) (v2 - (1 : Int32)) M) (fun v5 M6 =>
    zg_rN .boolean v5 M6)
theorem gl_F_X4_isPad {ρ : zz_C} {σ : zz_S} {m : Nat} {ma : Nat → Nat} (hok : zt_ok m ma) (x1 : Int32) (M : zt_M) : zF_X4_isPad ρ m x1 (zt σ m ma M) = zg_lift σ m ma (gF_X4_isPad ρ.2 x1 M) := by
  unfold zF_X4_isPad gF_X4_isPad
  refine gl_gR (by decide) (by decide) ?_
  refine gl_aI hok (by decide) (by decide) fun v2 => ?_
  refine gl_cI (gl_F_X4_isIn hok _ _ _ _) fun v5 M6 => ?_
  exact gl_rN
def gJ_X4_on_35 (fu : Nat) (K4' : Int32 → Int32 → Int32 → zt_M → zg_R) (x1 : Int32) (x3 : Int32) (t0 : Int32) (t1 : Int32) (M : zt_M) : zg_R :=
  K4' x1 (t1 + t0) (x3 + (1 : Int32)) M
theorem gl_J_X4_on_35 {ρ : zz_C} {σ : zz_S} {m : Nat} {ma : Nat → Nat} (hok : zt_ok m ma) {K4 : Nat → Int32 → Int32 → Int32 → zz_S → zz_R} {K4' : Int32 → Int32 → Int32 → zt_M → zg_R} (hK4 : ∀ (x1 : Int32) (x2 : Int32) (x3 : Int32) (M : zt_M), K4 m x1 x2 x3 (zt σ m ma M) = zg_lift σ m ma (K4' x1 x2 x3 M)) (x1 : Int32) (x3 : Int32) (t0 : Int32) (t1 : Int32) (M : zt_M) : zJ_X4_on_35 ρ K4 m x1 x3 t0 t1 (zt σ m ma M) = zg_lift σ m ma (gJ_X4_on_35 ρ.2 K4' x1 x3 t0 t1 M) := by
  unfold zJ_X4_on_35 gJ_X4_on_35
  exact hK4 _ _ _ _
def gL_X4_on_4 (fu : Nat) : Nat → Int32 → Int32 → Int32 → zt_M → zg_R
  | 0, _, _, _, _ => none
  | n + 1, x1, x2, x3, M =>
    (zg_aI M 5 (0 : Int32)).bind fun v2 =>
    if v2 ≤ x3 then
      zg_rI x2 M
    else
    (zg_aI M 5 ((29 : Int32) + x3)).bind fun v4 =>
    if v4 = (x1 + (1 : Int32)) then
      gJ_X4_on_35 fu (gL_X4_on_4 fu n) x1 x3 (1 : Int32) x2 M
    else
    gJ_X4_on_35 fu (gL_X4_on_4 fu n) x1 x3 (0 : Int32) x2 M
theorem gl_L_X4_on_4 {ρ : zz_C} {σ : zz_S} {m : Nat} {ma : Nat → Nat} (hok : zt_ok m ma) : ∀ (n : Nat) (x1 : Int32) (x2 : Int32) (x3 : Int32) (M : zt_M), zL_X4_on_4 ρ n m x1 x2 x3 (zt σ m ma M) = zg_lift σ m ma (gL_X4_on_4 ρ.2 n x1 x2 x3 M) := by
  intro n
  induction n with
  | zero => intros; rfl
  | succ n ih =>
    intro x1 x2 x3 M
    rw [zL_X4_on_4, gL_X4_on_4]
    refine gl_gR (by decide) (by decide) ?_
    refine gl_aI hok (by decide) (by decide) fun v2 => ?_
    refine gl_ite ?_ ?_
    · skip
      exact gl_rI
    · skip
      refine gl_gR (by decide) (by decide) ?_
      refine gl_aI hok (by decide) (by decide) fun v4 => ?_
      refine gl_ite ?_ ?_
      · skip
        exact (gl_J_X4_on_35 hok ih _ _ _ _ _)
      · skip
        exact (gl_J_X4_on_35 hok ih _ _ _ _ _)
def gF_X4_on (fu : Nat) (x1 : Int32) (M : zt_M) : zg_R :=
  gL_X4_on_4 fu fu x1 (0 : Int32) (0 : Int32) M
theorem gl_F_X4_on {ρ : zz_C} {σ : zz_S} {m : Nat} {ma : Nat → Nat} (hok : zt_ok m ma) (x1 : Int32) (M : zt_M) : zF_X4_on ρ m x1 (zt σ m ma M) = zg_lift σ m ma (gF_X4_on ρ.2 x1 M) := by
  unfold zF_X4_on gF_X4_on
  exact (gl_L_X4_on_4 hok _ _ _ _ _)
def gF_X4_hops (fu : Nat) (x1 : Int32) (x2 : Int32) (M : zt_M) : zg_R :=
  zg_cI (gF_X4_isFrog fu x1 M) (fun v4 M5 =>
    if v4 = 0 then
      zg_cI (gF_X4_fail fu (1 : Int32) M5) (fun v9 M10 =>
        zg_rI v9 M10)
    else
    zg_cI (gF_X4_isPad fu x2 M5) (fun v14 M15 =>
      if v14 = 0 then
        zg_cI (gF_X4_fail fu (1 : Int32) M15) (fun v45 M46 =>
          zg_rI v45 M46)
      else
      (zg_aI M15 5 ((29 : Int32) + x1)).bind fun v17 =>
      if v17 = (x2 + (1 : Int32)) then
        zg_cI (gF_X4_fail fu (2 : Int32) M15) (fun v21 M22 =>
          zg_rI v21 M22)
      else
      zg_cI (gF_X4_on fu x2 M15) (fun v26 M27 =>
        (zg_aI M27 5 ((53 : Int32) + x2)).bind fun v29 =>
        if v26 = v29 then
          zg_cI (gF_X4_fail fu (2 : Int32) M27) (fun v40 M41 =>
            zg_rI v40 M41)
        else
        (zg_sI M27 5 ((29 : Int32) + x1) (x2 + (1 : Int32))).bind fun M31 =>
        zg_cI (gF_X4_on fu x2 M31) (fun v35 M36 =>
          zg_rI v35 M36))))
theorem gl_F_X4_hops {ρ : zz_C} {σ : zz_S} {m : Nat} {ma : Nat → Nat} (hok : zt_ok m ma) (x1 : Int32) (x2 : Int32) (M : zt_M) : zF_X4_hops ρ m x1 x2 (zt σ m ma M) = zg_lift σ m ma (gF_X4_hops ρ.2 x1 x2 M) := by
  unfold zF_X4_hops gF_X4_hops
  refine gl_ck ?_
  refine gl_cI (gl_F_X4_isFrog hok _ _) fun v4 M5 => ?_
  refine gl_ite ?_ ?_
  · skip
    refine gl_ck ?_
    refine gl_cI (gl_F_X4_fail hok _ _) fun v9 M10 => ?_
    exact gl_rI
  · skip
    refine gl_ck ?_
    refine gl_cI (gl_F_X4_isPad hok _ _) fun v14 M15 => ?_
    refine gl_ite ?_ ?_
    · skip
      refine gl_ck ?_
      refine gl_cI (gl_F_X4_fail hok _ _) fun v45 M46 => ?_
      exact gl_rI
    · skip
      refine gl_gR (by decide) (by decide) ?_
      refine gl_aI hok (by decide) (by decide) fun v17 => ?_
      refine gl_ite ?_ ?_
      · skip
        refine gl_ck ?_
        refine gl_cI (gl_F_X4_fail hok _ _) fun v21 M22 => ?_
        exact gl_rI
      · skip
        refine gl_ck ?_
        refine gl_cI (gl_F_X4_on hok _ _) fun v26 M27 => ?_
        refine gl_gR (by decide) (by decide) ?_
        refine gl_aI hok (by decide) (by decide) fun v29 => ?_
        refine gl_ite ?_ ?_
        · skip
          refine gl_ck ?_
          refine gl_cI (gl_F_X4_fail hok _ _) fun v40 M41 => ?_
          exact gl_rI
        · skip
          refine gl_gR (by decide) (by decide) ?_
          refine gl_sI hok (by decide) (by decide) fun M31 => ?_
          refine gl_ck ?_
          refine gl_cI (gl_F_X4_on hok _ _) fun v35 M36 => ?_
          exact gl_rI
def gF_X4_hop (fu : Nat) (x1 : Int32) (x2 : Int32) (M : zt_M) : zg_R :=
  zg_cV (gF_X4_begins fu M) (fun M5 =>
    zg_cI (gF_X4_hops fu x1 x2 M5) (fun v9 M10 =>
      zg_cI (gF_X4_ends fu v9 M10) (fun v14 M15 =>
        zg_rI v14 M15)))
theorem gl_F_X4_hop {ρ : zz_C} {σ : zz_S} {m : Nat} {ma : Nat → Nat} (hok : zt_ok m ma) (x1 : Int32) (x2 : Int32) (M : zt_M) : zF_X4_hop ρ m x1 x2 (zt σ m ma M) = zg_lift σ m ma (gF_X4_hop ρ.2 x1 x2 M) := by
  unfold zF_X4_hop gF_X4_hop
  refine gl_ck ?_
  refine gl_cV (gl_F_X4_begins hok _) fun M5 => ?_
  refine gl_ck ?_
  refine gl_cI (gl_F_X4_hops hok _ _ _) fun v9 M10 => ?_
  refine gl_ck ?_
  refine gl_cI (gl_F_X4_ends hok _ _) fun v14 M15 => ?_
  exact gl_rI
def gF_X4_isOn (fu : Nat) (x1 : Int32) (M : zt_M) : zg_R :=
  (zg_aI M 5 ((29 : Int32) + x1)).bind fun v2 =>
  if v2 ≤ 0 then
    zg_rN .boolean (0 : Int32) M
  else
  zg_rN .boolean (1 : Int32) M
theorem gl_F_X4_isOn {ρ : zz_C} {σ : zz_S} {m : Nat} {ma : Nat → Nat} (hok : zt_ok m ma) (x1 : Int32) (M : zt_M) : zF_X4_isOn ρ m x1 (zt σ m ma M) = zg_lift σ m ma (gF_X4_isOn ρ.2 x1 M) := by
  unfold zF_X4_isOn gF_X4_isOn
  refine gl_gR (by decide) (by decide) ?_
  refine gl_aI hok (by decide) (by decide) fun v2 => ?_
  refine gl_ite ?_ ?_
  · skip
    exact gl_rN
  · skip
    exact gl_rN
def gF_X4_dives (fu : Nat) (x1 : Int32) (M : zt_M) : zg_R :=
  zg_cI (gF_X4_isFrog fu x1 M) (fun v4 M5 =>
    if v4 = 0 then
      zg_cI (gF_X4_fail fu (1 : Int32) M5) (fun v23 M24 =>
        zg_rI v23 M24)
    else
    zg_cI (gF_X4_isOn fu x1 M5) (fun v9 M10 =>
      if v9 = 0 then
        zg_cI (gF_X4_fail fu (2 : Int32) M10) (fun v18 M19 =>
          zg_rI v18 M19)
      else
      (zg_aI M10 5 ((29 : Int32) + x1)).bind fun v12 =>
      (zg_sI M10 5 ((29 : Int32) + x1) (0 : Int32)).bind fun M14 =>
      zg_rI (v12 - (1 : Int32)) M14))
theorem gl_F_X4_dives {ρ : zz_C} {σ : zz_S} {m : Nat} {ma : Nat → Nat} (hok : zt_ok m ma) (x1 : Int32) (M : zt_M) : zF_X4_dives ρ m x1 (zt σ m ma M) = zg_lift σ m ma (gF_X4_dives ρ.2 x1 M) := by
  unfold zF_X4_dives gF_X4_dives
  refine gl_ck ?_
  refine gl_cI (gl_F_X4_isFrog hok _ _) fun v4 M5 => ?_
  refine gl_ite ?_ ?_
  · skip
    refine gl_ck ?_
    refine gl_cI (gl_F_X4_fail hok _ _) fun v23 M24 => ?_
    exact gl_rI
  · skip
    refine gl_ck ?_
    refine gl_cI (gl_F_X4_isOn hok _ _) fun v9 M10 => ?_
    refine gl_ite ?_ ?_
    · skip
      refine gl_ck ?_
      refine gl_cI (gl_F_X4_fail hok _ _) fun v18 M19 => ?_
      exact gl_rI
    · skip
      refine gl_gR (by decide) (by decide) ?_
      refine gl_aI hok (by decide) (by decide) fun v12 => ?_
      refine gl_gR (by decide) (by decide) ?_
      refine gl_sI hok (by decide) (by decide) fun M14 => ?_
      exact gl_rI
def gF_X4_dive (fu : Nat) (x1 : Int32) (M : zt_M) : zg_R :=
  zg_cV (gF_X4_begins fu M) (fun M5 =>
    zg_cI (gF_X4_dives fu x1 M5) (fun v9 M10 =>
      zg_cI (gF_X4_ends fu v9 M10) (fun v14 M15 =>
        zg_rI v14 M15)))
theorem gl_F_X4_dive {ρ : zz_C} {σ : zz_S} {m : Nat} {ma : Nat → Nat} (hok : zt_ok m ma) (x1 : Int32) (M : zt_M) : zF_X4_dive ρ m x1 (zt σ m ma M) = zg_lift σ m ma (gF_X4_dive ρ.2 x1 M) := by
  unfold zF_X4_dive gF_X4_dive
  refine gl_ck ?_
  refine gl_cV (gl_F_X4_begins hok _) fun M5 => ?_
  refine gl_ck ?_
  refine gl_cI (gl_F_X4_dives hok _ _) fun v9 M10 => ?_
  refine gl_ck ?_
  refine gl_cI (gl_F_X4_ends hok _ _) fun v14 M15 => ?_
  exact gl_rI
def gF_X4_tells (fu : Nat) (x1 : Int32) (M : zt_M) : zg_R :=
  (zg_aI (zt_uI M 0 (0 : Int32)) 5 x1).bind fun v3 =>
  zg_rI v3 (zt_uI M 0 (0 : Int32))
theorem gl_F_X4_tells {ρ : zz_C} {σ : zz_S} {m : Nat} {ma : Nat → Nat} (hok : zt_ok m ma) (x1 : Int32) (M : zt_M) : zF_X4_tells ρ m x1 (zt σ m ma M) = zg_lift σ m ma (gF_X4_tells ρ.2 x1 M) := by
  unfold zF_X4_tells gF_X4_tells
  refine gl_pf (by decide) ?_
  refine gl_gR (by decide) (by decide) ?_
  refine gl_aI hok (by decide) (by decide) fun v3 => ?_
  exact gl_rI
def gF_X4_frogCount (fu : Nat) (M : zt_M) : zg_R :=
  zg_cI (gF_X4_tells fu (0 : Int32) M) (fun v4 M5 =>
    zg_rI v4 M5)
theorem gl_F_X4_frogCount {ρ : zz_C} {σ : zz_S} {m : Nat} {ma : Nat → Nat} (hok : zt_ok m ma) (M : zt_M) : zF_X4_frogCount ρ m (zt σ m ma M) = zg_lift σ m ma (gF_X4_frogCount ρ.2 M) := by
  unfold zF_X4_frogCount gF_X4_frogCount
  refine gl_ck ?_
  refine gl_cI (gl_F_X4_tells hok _ _) fun v4 M5 => ?_
  exact gl_rI
def gJ_X4_tellsFrog_14 (fu : Nat) (x1 : Int32) (x2 : Int32) (t0 : Int32) (M : zt_M) : zg_R :=
  if ((zt_uI M 0 t0).1 0) = 0 then
    (zg_aI (zt_uI M 0 t0) 5 (x2 + x1)).bind fun v4 =>
    zg_rI v4 (zt_uI M 0 t0)
  else
  zg_rI (0 : Int32) (zt_uI M 0 t0)
theorem gl_J_X4_tellsFrog_14 {ρ : zz_C} {σ : zz_S} {m : Nat} {ma : Nat → Nat} (hok : zt_ok m ma) (x1 : Int32) (x2 : Int32) (t0 : Int32) (M : zt_M) : zJ_X4_tellsFrog_14 ρ m x1 x2 t0 (some m) (zt σ m ma M) = zg_lift σ m ma (gJ_X4_tellsFrog_14 ρ.2 x1 x2 t0 M) := by
  unfold zJ_X4_tellsFrog_14 gJ_X4_tellsFrog_14
  refine gl_pf (by decide) ?_
  refine gl_gI (by decide) ?_
  refine gl_ite ?_ ?_
  · skip
    refine gl_gR (by decide) (by decide) ?_
    refine gl_aI hok (by decide) (by decide) fun v4 => ?_
    exact gl_rI
  · skip
    exact gl_rI
def gF_X4_tellsFrog (fu : Nat) (x1 : Int32) (x2 : Int32) (M : zt_M) : zg_R :=
  zg_cI (gF_X4_isFrog fu x1 M) (fun v4 M5 =>
    if v4 = 0 then
      gJ_X4_tellsFrog_14 fu x1 x2 (1 : Int32) M5
    else
    gJ_X4_tellsFrog_14 fu x1 x2 (0 : Int32) M5)
theorem gl_F_X4_tellsFrog {ρ : zz_C} {σ : zz_S} {m : Nat} {ma : Nat → Nat} (hok : zt_ok m ma) (x1 : Int32) (x2 : Int32) (M : zt_M) : zF_X4_tellsFrog ρ m x1 x2 (zt σ m ma M) = zg_lift σ m ma (gF_X4_tellsFrog ρ.2 x1 x2 M) := by
  unfold zF_X4_tellsFrog gF_X4_tellsFrog
  refine gl_ck ?_
  refine gl_cI (gl_F_X4_isFrog hok _ _) fun v4 M5 => ?_
  refine gl_ite ?_ ?_
  · skip
    exact (gl_J_X4_tellsFrog_14 hok _ _ _ _)
  · skip
    exact (gl_J_X4_tellsFrog_14 hok _ _ _ _)
def gF_X4_pondOf (fu : Nat) (x1 : Int32) (M : zt_M) : zg_R :=
  zg_cI (gF_X4_tellsFrog fu x1 (5 : Int32) M) (fun v4 M5 =>
    zg_rI v4 M5)
theorem gl_F_X4_pondOf {ρ : zz_C} {σ : zz_S} {m : Nat} {ma : Nat → Nat} (hok : zt_ok m ma) (x1 : Int32) (M : zt_M) : zF_X4_pondOf ρ m x1 (zt σ m ma M) = zg_lift σ m ma (gF_X4_pondOf ρ.2 x1 M) := by
  unfold zF_X4_pondOf gF_X4_pondOf
  refine gl_ck ?_
  refine gl_cI (gl_F_X4_tellsFrog hok _ _ _) fun v4 M5 => ?_
  exact gl_rI
def gF_X4_weightOf (fu : Nat) (x1 : Int32) (M : zt_M) : zg_R :=
  zg_cI (gF_X4_tellsFrog fu x1 (17 : Int32) M) (fun v4 M5 =>
    zg_rI v4 M5)
theorem gl_F_X4_weightOf {ρ : zz_C} {σ : zz_S} {m : Nat} {ma : Nat → Nat} (hok : zt_ok m ma) (x1 : Int32) (M : zt_M) : zF_X4_weightOf ρ m x1 (zt σ m ma M) = zg_lift σ m ma (gF_X4_weightOf ρ.2 x1 M) := by
  unfold zF_X4_weightOf gF_X4_weightOf
  refine gl_ck ?_
  refine gl_cI (gl_F_X4_tellsFrog hok _ _ _) fun v4 M5 => ?_
  exact gl_rI
def gJ_X4_padOf_26 (fu : Nat) (x1 : Int32) (t0 : Int32) (M : zt_M) : zg_R :=
  if ((zt_uI M 0 t0).1 0) = 0 then
    (zg_aI (zt_uI M 0 t0) 5 ((29 : Int32) + x1)).bind fun v4 =>
    zg_rI (v4 - (1 : Int32)) (zt_uI M 0 t0)
  else
  zg_rI (0 : Int32) (zt_uI M 0 t0)
theorem gl_J_X4_padOf_26 {ρ : zz_C} {σ : zz_S} {m : Nat} {ma : Nat → Nat} (hok : zt_ok m ma) (x1 : Int32) (t0 : Int32) (M : zt_M) : zJ_X4_padOf_26 ρ m x1 t0 (some m) (zt σ m ma M) = zg_lift σ m ma (gJ_X4_padOf_26 ρ.2 x1 t0 M) := by
  unfold zJ_X4_padOf_26 gJ_X4_padOf_26
  refine gl_pf (by decide) ?_
  refine gl_gI (by decide) ?_
  refine gl_ite ?_ ?_
  · skip
    refine gl_gR (by decide) (by decide) ?_
    refine gl_aI hok (by decide) (by decide) fun v4 => ?_
    exact gl_rI
  · skip
    exact gl_rI
def gF_X4_padOf (fu : Nat) (x1 : Int32) (M : zt_M) : zg_R :=
  zg_cI (gF_X4_isFrog fu x1 M) (fun v4 M5 =>
    if v4 = 0 then
      gJ_X4_padOf_26 fu x1 (1 : Int32) M5
    else
    zg_cI (gF_X4_isOn fu x1 M5) (fun v9 M10 =>
      if v9 = 0 then
        gJ_X4_padOf_26 fu x1 (2 : Int32) M10
      else
      gJ_X4_padOf_26 fu x1 (0 : Int32) M10))
theorem gl_F_X4_padOf {ρ : zz_C} {σ : zz_S} {m : Nat} {ma : Nat → Nat} (hok : zt_ok m ma) (x1 : Int32) (M : zt_M) : zF_X4_padOf ρ m x1 (zt σ m ma M) = zg_lift σ m ma (gF_X4_padOf ρ.2 x1 M) := by
  unfold zF_X4_padOf gF_X4_padOf
  refine gl_ck ?_
  refine gl_cI (gl_F_X4_isFrog hok _ _) fun v4 M5 => ?_
  refine gl_ite ?_ ?_
  · skip
    exact (gl_J_X4_padOf_26 hok _ _ _)
  · skip
    refine gl_ck ?_
    refine gl_cI (gl_F_X4_isOn hok _ _) fun v9 M10 => ?_
    refine gl_ite ?_ ?_
    · skip
      exact (gl_J_X4_padOf_26 hok _ _ _)
    · skip
      exact (gl_J_X4_padOf_26 hok _ _ _)
def gF_X4_padCount (fu : Nat) (M : zt_M) : zg_R :=
  zg_cI (gF_X4_tells fu (1 : Int32) M) (fun v4 M5 =>
    zg_rI v4 M5)
theorem gl_F_X4_padCount {ρ : zz_C} {σ : zz_S} {m : Nat} {ma : Nat → Nat} (hok : zt_ok m ma) (M : zt_M) : zF_X4_padCount ρ m (zt σ m ma M) = zg_lift σ m ma (gF_X4_padCount ρ.2 M) := by
  unfold zF_X4_padCount gF_X4_padCount
  refine gl_ck ?_
  refine gl_cI (gl_F_X4_tells hok _ _) fun v4 M5 => ?_
  exact gl_rI
def gJ_X4_frogsOn_14 (fu : Nat) (x1 : Int32) (t0 : Int32) (M : zt_M) : zg_R :=
  if ((zt_uI M 0 t0).1 0) = 0 then
    zg_cI (gF_X4_on fu x1 (zt_uI M 0 t0)) (fun v6 M7 =>
      zg_rI v6 M7)
  else
  zg_rI (0 : Int32) (zt_uI M 0 t0)
theorem gl_J_X4_frogsOn_14 {ρ : zz_C} {σ : zz_S} {m : Nat} {ma : Nat → Nat} (hok : zt_ok m ma) (x1 : Int32) (t0 : Int32) (M : zt_M) : zJ_X4_frogsOn_14 ρ m x1 t0 (some m) (zt σ m ma M) = zg_lift σ m ma (gJ_X4_frogsOn_14 ρ.2 x1 t0 M) := by
  unfold zJ_X4_frogsOn_14 gJ_X4_frogsOn_14
  refine gl_pf (by decide) ?_
  refine gl_gI (by decide) ?_
  refine gl_ite ?_ ?_
  · skip
    refine gl_ck ?_
    refine gl_cI (gl_F_X4_on hok _ _) fun v6 M7 => ?_
    exact gl_rI
  · skip
    exact gl_rI
def gF_X4_frogsOn (fu : Nat) (x1 : Int32) (M : zt_M) : zg_R :=
  zg_cI (gF_X4_isPad fu x1 M) (fun v4 M5 =>
    if v4 = 0 then
      gJ_X4_frogsOn_14 fu x1 (1 : Int32) M5
    else
    gJ_X4_frogsOn_14 fu x1 (0 : Int32) M5)
theorem gl_F_X4_frogsOn {ρ : zz_C} {σ : zz_S} {m : Nat} {ma : Nat → Nat} (hok : zt_ok m ma) (x1 : Int32) (M : zt_M) : zF_X4_frogsOn ρ m x1 (zt σ m ma M) = zg_lift σ m ma (gF_X4_frogsOn ρ.2 x1 M) := by
  unfold zF_X4_frogsOn gF_X4_frogsOn
  refine gl_ck ?_
  refine gl_cI (gl_F_X4_isPad hok _ _) fun v4 M5 => ?_
  refine gl_ite ?_ ?_
  · skip
    exact (gl_J_X4_frogsOn_14 hok _ _ _)
  · skip
    exact (gl_J_X4_frogsOn_14 hok _ _ _)
def gJ_X4_padWeight_60 (fu : Nat) (K21' : Int32 → Int32 → Int32 → zt_M → zg_R) (x1 : Int32) (x3 : Int32) (t0 : Int32) (t1 : Int32) (M : zt_M) : zg_R :=
  K21' x1 (t1 + t0) (x3 + (1 : Int32)) M
theorem gl_J_X4_padWeight_60 {ρ : zz_C} {σ : zz_S} {m : Nat} {ma : Nat → Nat} (hok : zt_ok m ma) {K21 : Nat → Int32 → Int32 → Int32 → zz_S → zz_R} {K21' : Int32 → Int32 → Int32 → zt_M → zg_R} (hK21 : ∀ (x1 : Int32) (x2 : Int32) (x3 : Int32) (M : zt_M), K21 m x1 x2 x3 (zt σ m ma M) = zg_lift σ m ma (K21' x1 x2 x3 M)) (x1 : Int32) (x3 : Int32) (t0 : Int32) (t1 : Int32) (M : zt_M) : zJ_X4_padWeight_60 ρ K21 m x1 x3 t0 t1 (zt σ m ma M) = zg_lift σ m ma (gJ_X4_padWeight_60 ρ.2 K21' x1 x3 t0 t1 M) := by
  unfold zJ_X4_padWeight_60 gJ_X4_padWeight_60
  exact hK21 _ _ _ _
def gL_X4_padWeight_21 (fu : Nat) : Nat → Int32 → Int32 → Int32 → zt_M → zg_R
  | 0, _, _, _, _ => none
  | n + 1, x1, x2, x3, M =>
    (zg_aI M 5 (0 : Int32)).bind fun v2 =>
    if v2 ≤ x3 then
      if (M.1 0) = 0 then
        zg_rI x2 M
      else
      zg_rI (0 : Int32) M
    else
    (zg_aI M 5 ((29 : Int32) + x3)).bind fun v5 =>
    if v5 = (x1 + (1 : Int32)) then
      (zg_aI M 5 ((17 : Int32) + x3)).bind fun v7 =>
      gJ_X4_padWeight_60 fu (gL_X4_padWeight_21 fu n) x1 x3 v7 x2 M
    else
    gJ_X4_padWeight_60 fu (gL_X4_padWeight_21 fu n) x1 x3 (0 : Int32) x2 M
theorem gl_L_X4_padWeight_21 {ρ : zz_C} {σ : zz_S} {m : Nat} {ma : Nat → Nat} (hok : zt_ok m ma) : ∀ (n : Nat) (x1 : Int32) (x2 : Int32) (x3 : Int32) (M : zt_M), zL_X4_padWeight_21 ρ n m x1 x2 x3 (zt σ m ma M) = zg_lift σ m ma (gL_X4_padWeight_21 ρ.2 n x1 x2 x3 M) := by
  intro n
  induction n with
  | zero => intros; rfl
  | succ n ih =>
    intro x1 x2 x3 M
    rw [zL_X4_padWeight_21, gL_X4_padWeight_21]
    refine gl_gR (by decide) (by decide) ?_
    refine gl_aI hok (by decide) (by decide) fun v2 => ?_
    refine gl_ite ?_ ?_
    · skip
      refine gl_gI (by decide) ?_
      refine gl_ite ?_ ?_
      · skip
        exact gl_rI
      · skip
        exact gl_rI
    · skip
      refine gl_gR (by decide) (by decide) ?_
      refine gl_aI hok (by decide) (by decide) fun v5 => ?_
      refine gl_ite ?_ ?_
      · skip
        refine gl_gR (by decide) (by decide) ?_
        refine gl_aI hok (by decide) (by decide) fun v7 => ?_
        exact (gl_J_X4_padWeight_60 hok ih _ _ _ _ _)
      · skip
        exact (gl_J_X4_padWeight_60 hok ih _ _ _ _ _)
def gJ_X4_padWeight_14 (fu : Nat) (x1 : Int32) (t0 : Int32) (M : zt_M) : zg_R :=
  gL_X4_padWeight_21 fu fu x1 (0 : Int32) (0 : Int32) (zt_uI M 0 t0)
theorem gl_J_X4_padWeight_14 {ρ : zz_C} {σ : zz_S} {m : Nat} {ma : Nat → Nat} (hok : zt_ok m ma) (x1 : Int32) (t0 : Int32) (M : zt_M) : zJ_X4_padWeight_14 ρ m x1 t0 (some m) (zt σ m ma M) = zg_lift σ m ma (gJ_X4_padWeight_14 ρ.2 x1 t0 M) := by
  unfold zJ_X4_padWeight_14 gJ_X4_padWeight_14
  refine gl_pf (by decide) ?_
  exact (gl_L_X4_padWeight_21 hok _ _ _ _ _)
def gF_X4_padWeight (fu : Nat) (x1 : Int32) (M : zt_M) : zg_R :=
  zg_cI (gF_X4_isPad fu x1 M) (fun v4 M5 =>
    if v4 = 0 then
      gJ_X4_padWeight_14 fu x1 (1 : Int32) M5
    else
    gJ_X4_padWeight_14 fu x1 (0 : Int32) M5)
theorem gl_F_X4_padWeight {ρ : zz_C} {σ : zz_S} {m : Nat} {ma : Nat → Nat} (hok : zt_ok m ma) (x1 : Int32) (M : zt_M) : zF_X4_padWeight ρ m x1 (zt σ m ma M) = zg_lift σ m ma (gF_X4_padWeight ρ.2 x1 M) := by
  unfold zF_X4_padWeight gF_X4_padWeight
  refine gl_ck ?_
  refine gl_cI (gl_F_X4_isPad hok _ _) fun v4 M5 => ?_
  refine gl_ite ?_ ?_
  · skip
    exact (gl_J_X4_padWeight_14 hok _ _ _)
  · skip
    exact (gl_J_X4_padWeight_14 hok _ _ _)
def gJ_X4_sitting_28 (fu : Nat) (K4' : Int32 → Int32 → zt_M → zg_R) (x2 : Int32) (t0 : Int32) (t1 : Int32) (M : zt_M) : zg_R :=
  K4' (t1 + t0) (x2 + (1 : Int32)) M
theorem gl_J_X4_sitting_28 {ρ : zz_C} {σ : zz_S} {m : Nat} {ma : Nat → Nat} (hok : zt_ok m ma) {K4 : Nat → Int32 → Int32 → zz_S → zz_R} {K4' : Int32 → Int32 → zt_M → zg_R} (hK4 : ∀ (x1 : Int32) (x2 : Int32) (M : zt_M), K4 m x1 x2 (zt σ m ma M) = zg_lift σ m ma (K4' x1 x2 M)) (x2 : Int32) (t0 : Int32) (t1 : Int32) (M : zt_M) : zJ_X4_sitting_28 ρ K4 m x2 t0 t1 (zt σ m ma M) = zg_lift σ m ma (gJ_X4_sitting_28 ρ.2 K4' x2 t0 t1 M) := by
  unfold zJ_X4_sitting_28 gJ_X4_sitting_28
  exact hK4 _ _ _
def gL_X4_sitting_4 (fu : Nat) : Nat → Int32 → Int32 → zt_M → zg_R
  | 0, _, _, _ => none
  | n + 1, x1, x2, M =>
    (zg_aI M 5 (0 : Int32)).bind fun v2 =>
    if v2 ≤ x2 then
      zg_rI x1 M
    else
    zg_cI (gF_X4_isOn fu x2 M) (fun v6 M7 =>
      if v6 = 0 then
        gJ_X4_sitting_28 fu (gL_X4_sitting_4 fu n) x2 (0 : Int32) x1 M7
      else
      gJ_X4_sitting_28 fu (gL_X4_sitting_4 fu n) x2 (1 : Int32) x1 M7)
theorem gl_L_X4_sitting_4 {ρ : zz_C} {σ : zz_S} {m : Nat} {ma : Nat → Nat} (hok : zt_ok m ma) : ∀ (n : Nat) (x1 : Int32) (x2 : Int32) (M : zt_M), zL_X4_sitting_4 ρ n m x1 x2 (zt σ m ma M) = zg_lift σ m ma (gL_X4_sitting_4 ρ.2 n x1 x2 M) := by
  intro n
  induction n with
  | zero => intros; rfl
  | succ n ih =>
    intro x1 x2 M
    rw [zL_X4_sitting_4, gL_X4_sitting_4]
    refine gl_gR (by decide) (by decide) ?_
    refine gl_aI hok (by decide) (by decide) fun v2 => ?_
    refine gl_ite ?_ ?_
    · skip
      exact gl_rI
    · skip
      refine gl_ck ?_
      refine gl_cI (gl_F_X4_isOn hok _ _) fun v6 M7 => ?_
      refine gl_ite ?_ ?_
      · skip
        exact (gl_J_X4_sitting_28 hok ih _ _ _ _)
      · skip
        exact (gl_J_X4_sitting_28 hok ih _ _ _ _)
def gF_X4_sitting (fu : Nat) (M : zt_M) : zg_R :=
  gL_X4_sitting_4 fu fu (0 : Int32) (0 : Int32) M
theorem gl_F_X4_sitting {ρ : zz_C} {σ : zz_S} {m : Nat} {ma : Nat → Nat} (hok : zt_ok m ma) (M : zt_M) : zF_X4_sitting ρ m (zt σ m ma M) = zg_lift σ m ma (gF_X4_sitting ρ.2 M) := by
  unfold zF_X4_sitting gF_X4_sitting
  exact (gl_L_X4_sitting_4 hok _ _ _ _)
def gF_X4_sittingCount (fu : Nat) (M : zt_M) : zg_R :=
  zg_cI (gF_X4_sitting fu (zt_uI M 0 (0 : Int32))) (fun v5 M6 =>
    zg_rI v5 M6)
theorem gl_F_X4_sittingCount {ρ : zz_C} {σ : zz_S} {m : Nat} {ma : Nat → Nat} (hok : zt_ok m ma) (M : zt_M) : zF_X4_sittingCount ρ m (zt σ m ma M) = zg_lift σ m ma (gF_X4_sittingCount ρ.2 M) := by
  unfold zF_X4_sittingCount gF_X4_sittingCount
  refine gl_pf (by decide) ?_
  refine gl_ck ?_
  refine gl_cI (gl_F_X4_sitting hok _) fun v5 M6 => ?_
  exact gl_rI
def gF_X4_sittingCountBySet (fu : Nat) (M : zt_M) : zg_R :=
  zg_cI (gF_X4_sitting fu (zt_uI M 0 (0 : Int32))) (fun v5 M6 =>
    zg_rI v5 M6)
theorem gl_F_X4_sittingCountBySet {ρ : zz_C} {σ : zz_S} {m : Nat} {ma : Nat → Nat} (hok : zt_ok m ma) (M : zt_M) : zF_X4_sittingCountBySet ρ m (zt σ m ma M) = zg_lift σ m ma (gF_X4_sittingCountBySet ρ.2 M) := by
  unfold zF_X4_sittingCountBySet gF_X4_sittingCountBySet
  refine gl_pf (by decide) ?_
  refine gl_ck ?_
  refine gl_cI (gl_F_X4_sitting hok _) fun v5 M6 => ?_
  exact gl_rI
def gF_X4_of (fu : Nat) (x0 : Int32) (x1 : Int32) (M : zt_M) : zg_R :=
  zg_rI (((59 : Int32) + ((10 : Int32) * x0)) + x1) M
theorem gl_F_X4_of {ρ : zz_C} {σ : zz_S} {m : Nat} {ma : Nat → Nat} (hok : zt_ok m ma) (x0 : Int32) (x1 : Int32) (M : zt_M) : zF_X4_of ρ x0 x1 (zt σ m ma M) = zg_lift σ m ma (gF_X4_of ρ.2 x0 x1 M) := by
  unfold zF_X4_of gF_X4_of
  exact gl_rI
def gF_X4_moves (fu : Nat) (x1 : Int32) (M : zt_M) : zg_R :=
  zg_cI (gF_X4_isIn fu x1 (1 : Int32) (15 : Int32) M) (fun v3 M4 =>
    if v3 = 0 then
      zg_cI (gF_X4_fail fu (1 : Int32) M4) (fun v24 M25 =>
        zg_rI v24 M25)
    else
    (zg_aI M4 5 (2 : Int32)).bind fun v6 =>
    if v6 = (6 : Int32) then
      zg_cI (gF_X4_fail fu (2 : Int32) M4) (fun v19 M20 =>
        zg_rI v19 M20)
    else
    zg_cI (gF_X4_of fu v6 (0 : Int32) M4) (fun v10 M11 =>
      (zg_sI M11 5 v10 x1).bind fun M12 =>
      (zg_aI M12 5 (2 : Int32)).bind fun v14 =>
      (zg_sI M12 5 (2 : Int32) (v14 + (1 : Int32))).bind fun M15 =>
      zg_rI v6 M15))
theorem gl_F_X4_moves {ρ : zz_C} {σ : zz_S} {m : Nat} {ma : Nat → Nat} (hok : zt_ok m ma) (x1 : Int32) (M : zt_M) : zF_X4_moves ρ m x1 (zt σ m ma M) = zg_lift σ m ma (gF_X4_moves ρ.2 x1 M) := by
  unfold zF_X4_moves gF_X4_moves
  refine gl_cI (gl_F_X4_isIn hok _ _ _ _) fun v3 M4 => ?_
  refine gl_ite ?_ ?_
  · skip
    refine gl_ck ?_
    refine gl_cI (gl_F_X4_fail hok _ _) fun v24 M25 => ?_
    exact gl_rI
  · skip
    refine gl_gR (by decide) (by decide) ?_
    refine gl_aI hok (by decide) (by decide) fun v6 => ?_
    refine gl_ite ?_ ?_
    · skip
      refine gl_ck ?_
      refine gl_cI (gl_F_X4_fail hok _ _) fun v19 M20 => ?_
      exact gl_rI
    · skip
      refine gl_gR (by decide) (by decide) ?_
      refine gl_cI (gl_F_X4_of hok _ _ _) fun v10 M11 => ?_
      refine gl_sI hok (by decide) (by decide) fun M12 => ?_
      refine gl_gR (by decide) (by decide) ?_
      refine gl_aI hok (by decide) (by decide) fun v14 => ?_
      refine gl_sI hok (by decide) (by decide) fun M15 => ?_
      exact gl_rI
def gF_X4_addMotion (fu : Nat) (x1 : Int32) (M : zt_M) : zg_R :=
  zg_cV (gF_X4_begins fu M) (fun M5 =>
    zg_cI (gF_X4_moves fu x1 M5) (fun v9 M10 =>
      zg_cI (gF_X4_ends fu v9 M10) (fun v14 M15 =>
        zg_rI v14 M15)))
theorem gl_F_X4_addMotion {ρ : zz_C} {σ : zz_S} {m : Nat} {ma : Nat → Nat} (hok : zt_ok m ma) (x1 : Int32) (M : zt_M) : zF_X4_addMotion ρ m x1 (zt σ m ma M) = zg_lift σ m ma (gF_X4_addMotion ρ.2 x1 M) := by
  unfold zF_X4_addMotion gF_X4_addMotion
  refine gl_ck ?_
  refine gl_cV (gl_F_X4_begins hok _) fun M5 => ?_
  refine gl_ck ?_
  refine gl_cI (gl_F_X4_moves hok _ _) fun v9 M10 => ?_
  refine gl_ck ?_
  refine gl_cI (gl_F_X4_ends hok _ _) fun v14 M15 => ?_
  exact gl_rI
def gF_X4_motionCount (fu : Nat) (M : zt_M) : zg_R :=
  zg_cI (gF_X4_tells fu (2 : Int32) M) (fun v4 M5 =>
    zg_rI v4 M5)
theorem gl_F_X4_motionCount {ρ : zz_C} {σ : zz_S} {m : Nat} {ma : Nat → Nat} (hok : zt_ok m ma) (M : zt_M) : zF_X4_motionCount ρ m (zt σ m ma M) = zg_lift σ m ma (gF_X4_motionCount ρ.2 M) := by
  unfold zF_X4_motionCount gF_X4_motionCount
  refine gl_ck ?_
  refine gl_cI (gl_F_X4_tells hok _ _) fun v4 M5 => ?_
  exact gl_rI
def gF_X4_isMotion (fu : Nat) (x1 : Int32) (M : zt_M) : zg_R :=
  (zg_aI M 5 (2 : Int32)).bind fun v2 =>
  zg_cI (gF_X4_isIn fu x1 (0 : Int32) (v2 - (1 : Int32)) M) (fun v5 M6 =>
    zg_rN .boolean v5 M6)
theorem gl_F_X4_isMotion {ρ : zz_C} {σ : zz_S} {m : Nat} {ma : Nat → Nat} (hok : zt_ok m ma) (x1 : Int32) (M : zt_M) : zF_X4_isMotion ρ m x1 (zt σ m ma M) = zg_lift σ m ma (gF_X4_isMotion ρ.2 x1 M) := by
  unfold zF_X4_isMotion gF_X4_isMotion
  refine gl_gR (by decide) (by decide) ?_
  refine gl_aI hok (by decide) (by decide) fun v2 => ?_
  refine gl_cI (gl_F_X4_isIn hok _ _ _ _) fun v5 M6 => ?_
  exact gl_rN
def gF_X4_areThere (fu : Nat) (x1 : Int32) (x2 : Int32) (M : zt_M) : zg_R :=
  zg_cI (gF_X4_isMotion fu x1 M) (fun v4 M5 =>
    if v4 = 0 then
      zg_rN .boolean (0 : Int32) M5
    else
    zg_cI (gF_X4_isFrog fu x2 M5) (fun v9 M10 =>
      if v9 = 0 then
        zg_rN .boolean (0 : Int32) M10
      else
      zg_rN .boolean (1 : Int32) M10))
theorem gl_F_X4_areThere {ρ : zz_C} {σ : zz_S} {m : Nat} {ma : Nat → Nat} (hok : zt_ok m ma) (x1 : Int32) (x2 : Int32) (M : zt_M) : zF_X4_areThere ρ m x1 x2 (zt σ m ma M) = zg_lift σ m ma (gF_X4_areThere ρ.2 x1 x2 M) := by
  unfold zF_X4_areThere gF_X4_areThere
  refine gl_ck ?_
  refine gl_cI (gl_F_X4_isMotion hok _ _) fun v4 M5 => ?_
  refine gl_ite ?_ ?_
  · skip
    exact gl_rN
  · skip
    refine gl_ck ?_
    refine gl_cI (gl_F_X4_isFrog hok _ _) fun v9 M10 => ?_
    refine gl_ite ?_ ?_
    · skip
      exact gl_rN
    · skip
      exact gl_rN
def gF_X4_isFor (fu : Nat) (x1 : Int32) (x2 : Int32) (M : zt_M) : zg_R :=
  zg_cI (gF_X4_of fu x1 (0 : Int32) M) (fun v4 M5 =>
    (zg_aI M5 5 v4).bind fun v6 =>
    (zg_aI M5 5 ((5 : Int32) + x2)).bind fun v8 =>
    if ((v6 >>> (v8 &&& 31)) &&& (1 : Int32)) = (1 : Int32) then
      zg_rN .boolean (1 : Int32) M5
    else
    zg_rN .boolean (0 : Int32) M5)
theorem gl_F_X4_isFor {ρ : zz_C} {σ : zz_S} {m : Nat} {ma : Nat → Nat} (hok : zt_ok m ma) (x1 : Int32) (x2 : Int32) (M : zt_M) : zF_X4_isFor ρ m x1 x2 (zt σ m ma M) = zg_lift σ m ma (gF_X4_isFor ρ.2 x1 x2 M) := by
  unfold zF_X4_isFor gF_X4_isFor
  refine gl_gR (by decide) (by decide) ?_
  refine gl_cI (gl_F_X4_of hok _ _ _) fun v4 M5 => ?_
  refine gl_aI hok (by decide) (by decide) fun v6 => ?_
  refine gl_gR (by decide) (by decide) ?_
  refine gl_aI hok (by decide) (by decide) fun v8 => ?_
  refine gl_ite ?_ ?_
  · skip
    exact gl_rN
  · skip
    exact gl_rN
def gJ_X4_isEntitled_15 (fu : Nat) (x1 : Int32) (x2 : Int32) (t0 : Int32) (M : zt_M) : zg_R :=
  if ((zt_uI M 0 t0).1 0) = 0 then
    zg_cI (gF_X4_isFor fu x1 x2 (zt_uI M 0 t0)) (fun v6 M7 =>
      if v6 = 0 then
        zg_rN .boolean (0 : Int32) M7
      else
      zg_rN .boolean (1 : Int32) M7)
  else
  zg_rN .boolean (0 : Int32) (zt_uI M 0 t0)
theorem gl_J_X4_isEntitled_15 {ρ : zz_C} {σ : zz_S} {m : Nat} {ma : Nat → Nat} (hok : zt_ok m ma) (x1 : Int32) (x2 : Int32) (t0 : Int32) (M : zt_M) : zJ_X4_isEntitled_15 ρ m x1 x2 t0 (some m) (zt σ m ma M) = zg_lift σ m ma (gJ_X4_isEntitled_15 ρ.2 x1 x2 t0 M) := by
  unfold zJ_X4_isEntitled_15 gJ_X4_isEntitled_15
  refine gl_pf (by decide) ?_
  refine gl_gI (by decide) ?_
  refine gl_ite ?_ ?_
  · skip
    refine gl_ck ?_
    refine gl_cI (gl_F_X4_isFor hok _ _ _) fun v6 M7 => ?_
    refine gl_ite ?_ ?_
    · skip
      exact gl_rN
    · skip
      exact gl_rN
  · skip
    exact gl_rN
def gF_X4_isEntitled (fu : Nat) (x1 : Int32) (x2 : Int32) (M : zt_M) : zg_R :=
  zg_cI (gF_X4_areThere fu x1 x2 M) (fun v4 M5 =>
    if v4 = 0 then
      gJ_X4_isEntitled_15 fu x1 x2 (1 : Int32) M5
    else
    gJ_X4_isEntitled_15 fu x1 x2 (0 : Int32) M5)
theorem gl_F_X4_isEntitled {ρ : zz_C} {σ : zz_S} {m : Nat} {ma : Nat → Nat} (hok : zt_ok m ma) (x1 : Int32) (x2 : Int32) (M : zt_M) : zF_X4_isEntitled ρ m x1 x2 (zt σ m ma M) = zg_lift σ m ma (gF_X4_isEntitled ρ.2 x1 x2 M) := by
  unfold zF_X4_isEntitled gF_X4_isEntitled
  refine gl_ck ?_
  refine gl_cI (gl_F_X4_areThere hok _ _ _) fun v4 M5 => ?_
  refine gl_ite ?_ ?_
  · skip
    exact (gl_J_X4_isEntitled_15 hok _ _ _ _)
  · skip
    exact (gl_J_X4_isEntitled_15 hok _ _ _ _)
def gF_X4_isShut (fu : Nat) (x1 : Int32) (M : zt_M) : zg_R :=
  zg_cI (gF_X4_of fu x1 (2 : Int32) M) (fun v4 M5 =>
    (zg_aI M5 5 v4).bind fun v6 =>
    if v6 = (1 : Int32) then
      zg_rN .boolean (1 : Int32) M5
    else
    zg_cI (gF_X4_of fu x1 (1 : Int32) M5) (fun v10 M11 =>
      (zg_aI M11 5 v10).bind fun v12 =>
      if v12 = (1 : Int32) then
        zg_rN .boolean (1 : Int32) M11
      else
      zg_rN .boolean (0 : Int32) M11))
theorem gl_F_X4_isShut {ρ : zz_C} {σ : zz_S} {m : Nat} {ma : Nat → Nat} (hok : zt_ok m ma) (x1 : Int32) (M : zt_M) : zF_X4_isShut ρ m x1 (zt σ m ma M) = zg_lift σ m ma (gF_X4_isShut ρ.2 x1 M) := by
  unfold zF_X4_isShut gF_X4_isShut
  refine gl_gR (by decide) (by decide) ?_
  refine gl_cI (gl_F_X4_of hok _ _ _) fun v4 M5 => ?_
  refine gl_aI hok (by decide) (by decide) fun v6 => ?_
  refine gl_ite ?_ ?_
  · skip
    exact gl_rN
  · skip
    refine gl_gR (by decide) (by decide) ?_
    refine gl_cI (gl_F_X4_of hok _ _ _) fun v10 M11 => ?_
    refine gl_aI hok (by decide) (by decide) fun v12 => ?_
    refine gl_ite ?_ ?_
    · skip
      exact gl_rN
    · skip
      exact gl_rN
def gF_X4_listed (fu : Nat) (x0 : Int32) (x1 : Int32) (M : zt_M) : zg_R :=
  zg_rI (((119 : Int32) + ((12 : Int32) * x0)) + x1) M
theorem gl_F_X4_listed {ρ : zz_C} {σ : zz_S} {m : Nat} {ma : Nat → Nat} (hok : zt_ok m ma) (x0 : Int32) (x1 : Int32) (M : zt_M) : zF_X4_listed ρ x0 x1 (zt σ m ma M) = zg_lift σ m ma (gF_X4_listed ρ.2 x0 x1 M) := by
  unfold zF_X4_listed gF_X4_listed
  exact gl_rI
def gL_X4_place_2 (fu : Nat) : Nat → Int32 → Int32 → Int32 → zt_M → zg_R
  | 0, _, _, _, _ => none
  | n + 1, x1, x2, x3, M =>
    zg_cI (gF_X4_of fu x1 (5 : Int32) M) (fun v4 M5 =>
      (zg_aI M5 5 v4).bind fun v6 =>
      if v6 ≤ x3 then
        zg_rI (-1 : Int32) M5
      else
      zg_cI (gF_X4_listed fu x1 x3 M5) (fun v10 M11 =>
        (zg_aI M11 5 v10).bind fun v12 =>
        if v12 = x2 then
          zg_rI x3 M11
        else
        gL_X4_place_2 fu n x1 x2 (x3 + (1 : Int32)) M11))
theorem gl_L_X4_place_2 {ρ : zz_C} {σ : zz_S} {m : Nat} {ma : Nat → Nat} (hok : zt_ok m ma) : ∀ (n : Nat) (x1 : Int32) (x2 : Int32) (x3 : Int32) (M : zt_M), zL_X4_place_2 ρ n m x1 x2 x3 (zt σ m ma M) = zg_lift σ m ma (gL_X4_place_2 ρ.2 n x1 x2 x3 M) := by
  intro n
  induction n with
  | zero => intros; rfl
  | succ n ih =>
    intro x1 x2 x3 M
    rw [zL_X4_place_2, gL_X4_place_2]
    refine gl_gR (by decide) (by decide) ?_
    refine gl_cI (gl_F_X4_of hok _ _ _) fun v4 M5 => ?_
    refine gl_aI hok (by decide) (by decide) fun v6 => ?_
    refine gl_ite ?_ ?_
    · skip
      exact gl_rI
    · skip
      refine gl_gR (by decide) (by decide) ?_
      refine gl_cI (gl_F_X4_listed hok _ _ _) fun v10 M11 => ?_
      refine gl_aI hok (by decide) (by decide) fun v12 => ?_
      refine gl_ite ?_ ?_
      · skip
        exact gl_rI
      · skip
        exact ih _ _ _ _
def gF_X4_place (fu : Nat) (x1 : Int32) (x2 : Int32) (M : zt_M) : zg_R :=
  gL_X4_place_2 fu fu x1 x2 (0 : Int32) M
theorem gl_F_X4_place {ρ : zz_C} {σ : zz_S} {m : Nat} {ma : Nat → Nat} (hok : zt_ok m ma) (x1 : Int32) (x2 : Int32) (M : zt_M) : zF_X4_place ρ m x1 x2 (zt σ m ma M) = zg_lift σ m ma (gF_X4_place ρ.2 x1 x2 M) := by
  unfold zF_X4_place gF_X4_place
  exact (gl_L_X4_place_2 hok _ _ _ _ _)
def gF_X4_signs (fu : Nat) (x1 : Int32) (x2 : Int32) (M : zt_M) : zg_R :=
  zg_cI (gF_X4_areThere fu x1 x2 M) (fun v4 M5 =>
    if v4 = 0 then
      zg_cI (gF_X4_fail fu (1 : Int32) M5) (fun v64 M65 =>
        zg_rI v64 M65)
    else
    zg_cI (gF_X4_isFor fu x1 x2 M5) (fun v9 M10 =>
      if v9 = 0 then
        zg_cI (gF_X4_fail fu (2 : Int32) M10) (fun v59 M60 =>
          zg_rI v59 M60)
      else
      zg_cI (gF_X4_isShut fu x1 M10) (fun v14 M15 =>
        if v14 = 0 then
          zg_cI (gF_X4_place fu x1 x2 M15) (fun v19 M20 =>
            if v19 < 0 then
              zg_cI (gF_X4_of fu x1 (5 : Int32) M20) (fun v25 M26 =>
                (zg_aI M26 5 v25).bind fun v27 =>
                zg_cI (gF_X4_listed fu x1 v27 M26) (fun v30 M31 =>
                  (zg_sI M31 5 v30 x2).bind fun M32 =>
                  zg_cI (gF_X4_of fu x1 (5 : Int32) M32) (fun v36 M37 =>
                    (zg_aI M37 5 v36).bind fun v38 =>
                    (zg_sI M37 5 v36 (v38 + (1 : Int32))).bind fun M39 =>
                    zg_cI (gF_X4_of fu x1 (5 : Int32) M39) (fun v43 M44 =>
                      (zg_aI M44 5 v43).bind fun v45 =>
                      zg_rI v45 M44))))
            else
            zg_cI (gF_X4_fail fu (4 : Int32) M20) (fun v49 M50 =>
              zg_rI v49 M50))
        else
        zg_cI (gF_X4_fail fu (3 : Int32) M15) (fun v54 M55 =>
          zg_rI v54 M55))))
theorem gl_F_X4_signs {ρ : zz_C} {σ : zz_S} {m : Nat} {ma : Nat → Nat} (hok : zt_ok m ma) (x1 : Int32) (x2 : Int32) (M : zt_M) : zF_X4_signs ρ m x1 x2 (zt σ m ma M) = zg_lift σ m ma (gF_X4_signs ρ.2 x1 x2 M) := by
  unfold zF_X4_signs gF_X4_signs
  refine gl_ck ?_
  refine gl_cI (gl_F_X4_areThere hok _ _ _) fun v4 M5 => ?_
  refine gl_ite ?_ ?_
  · skip
    refine gl_ck ?_
    refine gl_cI (gl_F_X4_fail hok _ _) fun v64 M65 => ?_
    exact gl_rI
  · skip
    refine gl_ck ?_
    refine gl_cI (gl_F_X4_isFor hok _ _ _) fun v9 M10 => ?_
    refine gl_ite ?_ ?_
    · skip
      refine gl_ck ?_
      refine gl_cI (gl_F_X4_fail hok _ _) fun v59 M60 => ?_
      exact gl_rI
    · skip
      refine gl_ck ?_
      refine gl_cI (gl_F_X4_isShut hok _ _) fun v14 M15 => ?_
      refine gl_ite ?_ ?_
      · skip
        refine gl_ck ?_
        refine gl_cI (gl_F_X4_place hok _ _ _) fun v19 M20 => ?_
        refine gl_ite ?_ ?_
        · skip
          refine gl_gR (by decide) (by decide) ?_
          refine gl_gR (by decide) (by decide) ?_
          refine gl_cI (gl_F_X4_of hok _ _ _) fun v25 M26 => ?_
          refine gl_aI hok (by decide) (by decide) fun v27 => ?_
          refine gl_cI (gl_F_X4_listed hok _ _ _) fun v30 M31 => ?_
          refine gl_sI hok (by decide) (by decide) fun M32 => ?_
          refine gl_gR (by decide) (by decide) ?_
          refine gl_cI (gl_F_X4_of hok _ _ _) fun v36 M37 => ?_
          refine gl_aI hok (by decide) (by decide) fun v38 => ?_
          refine gl_sI hok (by decide) (by decide) fun M39 => ?_
          refine gl_gR (by decide) (by decide) ?_
          refine gl_cI (gl_F_X4_of hok _ _ _) fun v43 M44 => ?_
          refine gl_aI hok (by decide) (by decide) fun v45 => ?_
          exact gl_rI
        · skip
          refine gl_ck ?_
          refine gl_cI (gl_F_X4_fail hok _ _) fun v49 M50 => ?_
          exact gl_rI
      · skip
        refine gl_ck ?_
        refine gl_cI (gl_F_X4_fail hok _ _) fun v54 M55 => ?_
        exact gl_rI
def gF_X4_signUp (fu : Nat) (x1 : Int32) (x2 : Int32) (M : zt_M) : zg_R :=
  zg_cV (gF_X4_begins fu M) (fun M5 =>
    zg_cI (gF_X4_signs fu x1 x2 M5) (fun v9 M10 =>
      zg_cI (gF_X4_ends fu v9 M10) (fun v14 M15 =>
        zg_rI v14 M15)))
theorem gl_F_X4_signUp {ρ : zz_C} {σ : zz_S} {m : Nat} {ma : Nat → Nat} (hok : zt_ok m ma) (x1 : Int32) (x2 : Int32) (M : zt_M) : zF_X4_signUp ρ m x1 x2 (zt σ m ma M) = zg_lift σ m ma (gF_X4_signUp ρ.2 x1 x2 M) := by
  unfold zF_X4_signUp gF_X4_signUp
  refine gl_ck ?_
  refine gl_cV (gl_F_X4_begins hok _) fun M5 => ?_
  refine gl_ck ?_
  refine gl_cI (gl_F_X4_signs hok _ _ _) fun v9 M10 => ?_
  refine gl_ck ?_
  refine gl_cI (gl_F_X4_ends hok _ _) fun v14 M15 => ?_
  exact gl_rI
def gL_X4_takes_16 (fu : Nat) : Nat → Int32 → Int32 → zt_M → zg_R
  | 0, _, _, _ => none
  | n + 1, x1, x3, M =>
    zg_cI (gF_X4_of fu x1 (5 : Int32) M) (fun v4 M5 =>
      (zg_aI M5 5 v4).bind fun v6 =>
      if v6 ≤ x3 then
        zg_cI (gF_X4_of fu x1 (5 : Int32) M5) (fun v11 M12 =>
          (zg_aI M12 5 v11).bind fun v13 =>
          zg_cI (gF_X4_listed fu x1 v13 M12) (fun v16 M17 =>
            (zg_sI M17 5 v16 (0 : Int32)).bind fun M18 =>
            zg_rV M18))
      else
      zg_cI (gF_X4_listed fu x1 x3 M5) (fun v22 M23 =>
        zg_cI (gF_X4_listed fu x1 (x3 + (1 : Int32)) M23) (fun v27 M28 =>
          (zg_aI M28 5 v27).bind fun v29 =>
          (zg_sI M28 5 v22 v29).bind fun M30 =>
          gL_X4_takes_16 fu n x1 (x3 + (1 : Int32)) M30)))
theorem gl_L_X4_takes_16 {ρ : zz_C} {σ : zz_S} {m : Nat} {ma : Nat → Nat} (hok : zt_ok m ma) : ∀ (n : Nat) (x1 : Int32) (x3 : Int32) (M : zt_M), zL_X4_takes_16 ρ n m x1 x3 (zt σ m ma M) = zg_lift σ m ma (gL_X4_takes_16 ρ.2 n x1 x3 M) := by
  intro n
  induction n with
  | zero => intros; rfl
  | succ n ih =>
    intro x1 x3 M
    rw [zL_X4_takes_16, gL_X4_takes_16]
    refine gl_gR (by decide) (by decide) ?_
    refine gl_cI (gl_F_X4_of hok _ _ _) fun v4 M5 => ?_
    refine gl_aI hok (by decide) (by decide) fun v6 => ?_
    refine gl_ite ?_ ?_
    · skip
      refine gl_gR (by decide) (by decide) ?_
      refine gl_gR (by decide) (by decide) ?_
      refine gl_cI (gl_F_X4_of hok _ _ _) fun v11 M12 => ?_
      refine gl_aI hok (by decide) (by decide) fun v13 => ?_
      refine gl_cI (gl_F_X4_listed hok _ _ _) fun v16 M17 => ?_
      refine gl_sI hok (by decide) (by decide) fun M18 => ?_
      exact gl_rV
    · skip
      refine gl_gR (by decide) (by decide) ?_
      refine gl_cI (gl_F_X4_listed hok _ _ _) fun v22 M23 => ?_
      refine gl_gR (by decide) (by decide) ?_
      refine gl_cI (gl_F_X4_listed hok _ _ _) fun v27 M28 => ?_
      refine gl_aI hok (by decide) (by decide) fun v29 => ?_
      refine gl_sI hok (by decide) (by decide) fun M30 => ?_
      exact ih _ _ _
def gF_X4_takes (fu : Nat) (x1 : Int32) (x2 : Int32) (M : zt_M) : zg_R :=
  zg_cI (gF_X4_of fu x1 (5 : Int32) M) (fun v4 M5 =>
    (zg_aI M5 5 v4).bind fun v6 =>
    (zg_sI M5 5 v4 (v6 - (1 : Int32))).bind fun M7 =>
    gL_X4_takes_16 fu fu x1 x2 M7)
theorem gl_F_X4_takes {ρ : zz_C} {σ : zz_S} {m : Nat} {ma : Nat → Nat} (hok : zt_ok m ma) (x1 : Int32) (x2 : Int32) (M : zt_M) : zF_X4_takes ρ m x1 x2 (zt σ m ma M) = zg_lift σ m ma (gF_X4_takes ρ.2 x1 x2 M) := by
  unfold zF_X4_takes gF_X4_takes
  refine gl_gR (by decide) (by decide) ?_
  refine gl_cI (gl_F_X4_of hok _ _ _) fun v4 M5 => ?_
  refine gl_aI hok (by decide) (by decide) fun v6 => ?_
  refine gl_sI hok (by decide) (by decide) fun M7 => ?_
  exact (gl_L_X4_takes_16 hok _ _ _ _)
def gF_X4_strikes (fu : Nat) (x1 : Int32) (x2 : Int32) (M : zt_M) : zg_R :=
  zg_cI (gF_X4_areThere fu x1 x2 M) (fun v4 M5 =>
    if v4 = 0 then
      zg_cI (gF_X4_fail fu (1 : Int32) M5) (fun v30 M31 =>
        zg_rI v30 M31)
    else
    zg_cI (gF_X4_place fu x1 x2 M5) (fun v9 M10 =>
      if 0 ≤ v9 then
        zg_cV (gF_X4_takes fu x1 v9 M10) (fun M15 =>
          zg_cI (gF_X4_of fu x1 (5 : Int32) M15) (fun v19 M20 =>
            (zg_aI M20 5 v19).bind fun v21 =>
            zg_rI v21 M20))
      else
      zg_cI (gF_X4_fail fu (2 : Int32) M10) (fun v25 M26 =>
        zg_rI v25 M26)))
theorem gl_F_X4_strikes {ρ : zz_C} {σ : zz_S} {m : Nat} {ma : Nat → Nat} (hok : zt_ok m ma) (x1 : Int32) (x2 : Int32) (M : zt_M) : zF_X4_strikes ρ m x1 x2 (zt σ m ma M) = zg_lift σ m ma (gF_X4_strikes ρ.2 x1 x2 M) := by
  unfold zF_X4_strikes gF_X4_strikes
  refine gl_ck ?_
  refine gl_cI (gl_F_X4_areThere hok _ _ _) fun v4 M5 => ?_
  refine gl_ite ?_ ?_
  · skip
    refine gl_ck ?_
    refine gl_cI (gl_F_X4_fail hok _ _) fun v30 M31 => ?_
    exact gl_rI
  · skip
    refine gl_ck ?_
    refine gl_cI (gl_F_X4_place hok _ _ _) fun v9 M10 => ?_
    refine gl_ite ?_ ?_
    · skip
      refine gl_ck ?_
      refine gl_cV (gl_F_X4_takes hok _ _ _) fun M15 => ?_
      refine gl_gR (by decide) (by decide) ?_
      refine gl_cI (gl_F_X4_of hok _ _ _) fun v19 M20 => ?_
      refine gl_aI hok (by decide) (by decide) fun v21 => ?_
      exact gl_rI
    · skip
      refine gl_ck ?_
      refine gl_cI (gl_F_X4_fail hok _ _) fun v25 M26 => ?_
      exact gl_rI
def gF_X4_strike (fu : Nat) (x1 : Int32) (x2 : Int32) (M : zt_M) : zg_R :=
  zg_cV (gF_X4_begins fu M) (fun M5 =>
    zg_cI (gF_X4_strikes fu x1 x2 M5) (fun v9 M10 =>
      zg_cI (gF_X4_ends fu v9 M10) (fun v14 M15 =>
        zg_rI v14 M15)))
theorem gl_F_X4_strike {ρ : zz_C} {σ : zz_S} {m : Nat} {ma : Nat → Nat} (hok : zt_ok m ma) (x1 : Int32) (x2 : Int32) (M : zt_M) : zF_X4_strike ρ m x1 x2 (zt σ m ma M) = zg_lift σ m ma (gF_X4_strike ρ.2 x1 x2 M) := by
  unfold zF_X4_strike gF_X4_strike
  refine gl_ck ?_
  refine gl_cV (gl_F_X4_begins hok _) fun M5 => ?_
  refine gl_ck ?_
  refine gl_cI (gl_F_X4_strikes hok _ _ _) fun v9 M10 => ?_
  refine gl_ck ?_
  refine gl_cI (gl_F_X4_ends hok _ _) fun v14 M15 => ?_
  exact gl_rI
def gJ_X4_ahead_86 (fu : Nat) (K25' : Int32 → Int32 → Int32 → Int32 → Int32 → zt_M → zg_R) (x1 : Int32) (x2 : Int32) (x3 : Int32) (x5 : Int32) (t0 : Int32) (t1 : Int32) (M : zt_M) : zg_R :=
  K25' x1 x2 x3 (t1 + t0) (x5 + (1 : Int32)) M
theorem gl_J_X4_ahead_86 {ρ : zz_C} {σ : zz_S} {m : Nat} {ma : Nat → Nat} (hok : zt_ok m ma) {K25 : Nat → Int32 → Int32 → Int32 → Int32 → Int32 → zz_S → zz_R} {K25' : Int32 → Int32 → Int32 → Int32 → Int32 → zt_M → zg_R} (hK25 : ∀ (x1 : Int32) (x2 : Int32) (x3 : Int32) (x4 : Int32) (x5 : Int32) (M : zt_M), K25 m x1 x2 x3 x4 x5 (zt σ m ma M) = zg_lift σ m ma (K25' x1 x2 x3 x4 x5 M)) (x1 : Int32) (x2 : Int32) (x3 : Int32) (x5 : Int32) (t0 : Int32) (t1 : Int32) (M : zt_M) : zJ_X4_ahead_86 ρ K25 m x1 x2 x3 x5 t0 t1 (zt σ m ma M) = zg_lift σ m ma (gJ_X4_ahead_86 ρ.2 K25' x1 x2 x3 x5 t0 t1 M) := by
  unfold zJ_X4_ahead_86 gJ_X4_ahead_86
  exact hK25 _ _ _ _ _ _
def gJ_X4_ahead_81 (fu : Nat) (K25' : Int32 → Int32 → Int32 → Int32 → Int32 → zt_M → zg_R) (x1 : Int32) (x2 : Int32) (x3 : Int32) (x5 : Int32) (t0 : Int32) (M : zt_M) : zg_R :=
  gJ_X4_ahead_86 fu K25' x1 x2 x3 x5 (1 : Int32) t0 M
theorem gl_J_X4_ahead_81 {ρ : zz_C} {σ : zz_S} {m : Nat} {ma : Nat → Nat} (hok : zt_ok m ma) {K25 : Nat → Int32 → Int32 → Int32 → Int32 → Int32 → zz_S → zz_R} {K25' : Int32 → Int32 → Int32 → Int32 → Int32 → zt_M → zg_R} (hK25 : ∀ (x1 : Int32) (x2 : Int32) (x3 : Int32) (x4 : Int32) (x5 : Int32) (M : zt_M), K25 m x1 x2 x3 x4 x5 (zt σ m ma M) = zg_lift σ m ma (K25' x1 x2 x3 x4 x5 M)) (x1 : Int32) (x2 : Int32) (x3 : Int32) (x5 : Int32) (t0 : Int32) (M : zt_M) : zJ_X4_ahead_81 ρ K25 m x1 x2 x3 x5 t0 (zt σ m ma M) = zg_lift σ m ma (gJ_X4_ahead_81 ρ.2 K25' x1 x2 x3 x5 t0 M) := by
  unfold zJ_X4_ahead_81 gJ_X4_ahead_81
  exact (gl_J_X4_ahead_86 hok hK25 _ _ _ _ _ _ _)
def gJ_X4_ahead_85 (fu : Nat) (K25' : Int32 → Int32 → Int32 → Int32 → Int32 → zt_M → zg_R) (x1 : Int32) (x2 : Int32) (x3 : Int32) (x5 : Int32) (t0 : Int32) (M : zt_M) : zg_R :=
  gJ_X4_ahead_86 fu K25' x1 x2 x3 x5 (0 : Int32) t0 M
theorem gl_J_X4_ahead_85 {ρ : zz_C} {σ : zz_S} {m : Nat} {ma : Nat → Nat} (hok : zt_ok m ma) {K25 : Nat → Int32 → Int32 → Int32 → Int32 → Int32 → zz_S → zz_R} {K25' : Int32 → Int32 → Int32 → Int32 → Int32 → zt_M → zg_R} (hK25 : ∀ (x1 : Int32) (x2 : Int32) (x3 : Int32) (x4 : Int32) (x5 : Int32) (M : zt_M), K25 m x1 x2 x3 x4 x5 (zt σ m ma M) = zg_lift σ m ma (K25' x1 x2 x3 x4 x5 M)) (x1 : Int32) (x2 : Int32) (x3 : Int32) (x5 : Int32) (t0 : Int32) (M : zt_M) : zJ_X4_ahead_85 ρ K25 m x1 x2 x3 x5 t0 (zt σ m ma M) = zg_lift σ m ma (gJ_X4_ahead_85 ρ.2 K25' x1 x2 x3 x5 t0 M) := by
  unfold zJ_X4_ahead_85 gJ_X4_ahead_85
  exact (gl_J_X4_ahead_86 hok hK25 _ _ _ _ _ _ _)
def gL_X4_ahead_25 (fu : Nat) : Nat → Int32 → Int32 → Int32 → Int32 → Int32 → zt_M → zg_R
  | 0, _, _, _, _, _, _ => none
  | n + 1, x1, x2, x3, x4, x5, M =>
    zg_cI (gF_X4_of fu x1 (5 : Int32) M) (fun v4 M5 =>
      (zg_aI M5 5 v4).bind fun v6 =>
      if v6 ≤ x5 then
        zg_rI x4 M5
      else
      zg_cI (gF_X4_listed fu x1 x5 M5) (fun v11 M12 =>
        (zg_aI M12 5 v11).bind fun v13 =>
        (zg_aI M12 5 ((41 : Int32) + v13)).bind fun v14 =>
        if v14 < x3 then
          gJ_X4_ahead_81 fu (gL_X4_ahead_25 fu n) x1 x2 x3 x5 x4 M12
        else
        if v14 = x3 then
          if x2 ≤ x5 then
            gJ_X4_ahead_85 fu (gL_X4_ahead_25 fu n) x1 x2 x3 x5 x4 M12
          else
          gJ_X4_ahead_81 fu (gL_X4_ahead_25 fu n) x1 x2 x3 x5 x4 M12
        else
        gJ_X4_ahead_85 fu (gL_X4_ahead_25 fu n) x1 x2 x3 x5 x4 M12))
theorem gl_L_X4_ahead_25 {ρ : zz_C} {σ : zz_S} {m : Nat} {ma : Nat → Nat} (hok : zt_ok m ma) : ∀ (n : Nat) (x1 : Int32) (x2 : Int32) (x3 : Int32) (x4 : Int32) (x5 : Int32) (M : zt_M), zL_X4_ahead_25 ρ n m x1 x2 x3 x4 x5 (zt σ m ma M) = zg_lift σ m ma (gL_X4_ahead_25 ρ.2 n x1 x2 x3 x4 x5 M) := by
  intro n
  induction n with
  | zero => intros; rfl
  | succ n ih =>
    intro x1 x2 x3 x4 x5 M
    rw [zL_X4_ahead_25, gL_X4_ahead_25]
    refine gl_gR (by decide) (by decide) ?_
    refine gl_cI (gl_F_X4_of hok _ _ _) fun v4 M5 => ?_
    refine gl_aI hok (by decide) (by decide) fun v6 => ?_
    refine gl_ite ?_ ?_
    · skip
      exact gl_rI
    · skip
      refine gl_gR (by decide) (by decide) ?_
      refine gl_gR (by decide) (by decide) ?_
      refine gl_cI (gl_F_X4_listed hok _ _ _) fun v11 M12 => ?_
      refine gl_aI hok (by decide) (by decide) fun v13 => ?_
      refine gl_aI hok (by decide) (by decide) fun v14 => ?_
      refine gl_ite ?_ ?_
      · skip
        exact (gl_J_X4_ahead_81 hok ih _ _ _ _ _ _)
      · skip
        refine gl_ite ?_ ?_
        · skip
          refine gl_ite ?_ ?_
          · skip
            exact (gl_J_X4_ahead_85 hok ih _ _ _ _ _ _)
          · skip
            exact (gl_J_X4_ahead_81 hok ih _ _ _ _ _ _)
        · skip
          exact (gl_J_X4_ahead_85 hok ih _ _ _ _ _ _)
def gF_X4_ahead (fu : Nat) (x1 : Int32) (x2 : Int32) (M : zt_M) : zg_R :=
  zg_cI (gF_X4_listed fu x1 x2 M) (fun v5 M6 =>
    (zg_aI M6 5 v5).bind fun v7 =>
    (zg_aI M6 5 ((41 : Int32) + v7)).bind fun v8 =>
    gL_X4_ahead_25 fu fu x1 x2 v8 (0 : Int32) (0 : Int32) M6)
theorem gl_F_X4_ahead {ρ : zz_C} {σ : zz_S} {m : Nat} {ma : Nat → Nat} (hok : zt_ok m ma) (x1 : Int32) (x2 : Int32) (M : zt_M) : zF_X4_ahead ρ m x1 x2 (zt σ m ma M) = zg_lift σ m ma (gF_X4_ahead ρ.2 x1 x2 M) := by
  unfold zF_X4_ahead gF_X4_ahead
  refine gl_gR (by decide) (by decide) ?_
  refine gl_gR (by decide) (by decide) ?_
  refine gl_cI (gl_F_X4_listed hok _ _ _) fun v5 M6 => ?_
  refine gl_aI hok (by decide) (by decide) fun v7 => ?_
  refine gl_aI hok (by decide) (by decide) fun v8 => ?_
  exact (gl_L_X4_ahead_25 hok _ _ _ _ _ _ _)
def gL_X4_ranked_2 (fu : Nat) : Nat → Int32 → Int32 → Int32 → zt_M → zg_R
  | 0, _, _, _, _ => none
  | n + 1, x1, x2, x3, M =>
    zg_cI (gF_X4_of fu x1 (5 : Int32) M) (fun v4 M5 =>
      (zg_aI M5 5 v4).bind fun v6 =>
      if v6 ≤ x3 then
        zg_rI (-1 : Int32) M5
      else
      zg_cI (gF_X4_ahead fu x1 x3 M5) (fun v10 M11 =>
        if v10 = x2 then
          zg_rI x3 M11
        else
        gL_X4_ranked_2 fu n x1 x2 (x3 + (1 : Int32)) M11))
theorem gl_L_X4_ranked_2 {ρ : zz_C} {σ : zz_S} {m : Nat} {ma : Nat → Nat} (hok : zt_ok m ma) : ∀ (n : Nat) (x1 : Int32) (x2 : Int32) (x3 : Int32) (M : zt_M), zL_X4_ranked_2 ρ n m x1 x2 x3 (zt σ m ma M) = zg_lift σ m ma (gL_X4_ranked_2 ρ.2 n x1 x2 x3 M) := by
  intro n
  induction n with
  | zero => intros; rfl
  | succ n ih =>
    intro x1 x2 x3 M
    rw [zL_X4_ranked_2, gL_X4_ranked_2]
    refine gl_gR (by decide) (by decide) ?_
    refine gl_cI (gl_F_X4_of hok _ _ _) fun v4 M5 => ?_
    refine gl_aI hok (by decide) (by decide) fun v6 => ?_
    refine gl_ite ?_ ?_
    · skip
      exact gl_rI
    · skip
      refine gl_ck ?_
      refine gl_cI (gl_F_X4_ahead hok _ _ _) fun v10 M11 => ?_
      refine gl_ite ?_ ?_
      · skip
        exact gl_rI
      · skip
        exact ih _ _ _ _
def gF_X4_ranked (fu : Nat) (x1 : Int32) (x2 : Int32) (M : zt_M) : zg_R :=
  gL_X4_ranked_2 fu fu x1 x2 (0 : Int32) M
theorem gl_F_X4_ranked {ρ : zz_C} {σ : zz_S} {m : Nat} {ma : Nat → Nat} (hok : zt_ok m ma) (x1 : Int32) (x2 : Int32) (M : zt_M) : zF_X4_ranked ρ m x1 x2 (zt σ m ma M) = zg_lift σ m ma (gF_X4_ranked ρ.2 x1 x2 M) := by
  unfold zF_X4_ranked gF_X4_ranked
  exact (gl_L_X4_ranked_2 hok _ _ _ _ _)
def gJ_X4_calls_55 (fu : Nat) (x1 : Int32) (x2 : Int32) (x3 : Int32) (t0 : Int32) (M : zt_M) : zg_R :=
  zg_cV (gF_X4_takes fu x1 x2 M) (fun M5 =>
    (zg_aI M5 5 ((41 : Int32) + x3)).bind fun v7 =>
    (zg_sI M5 5 ((41 : Int32) + x3) (v7 + t0)).bind fun M8 =>
    zg_cI (gF_X4_of fu x1 (6 : Int32) M8) (fun v12 M13 =>
      (zg_aI M13 5 v12).bind fun v14 =>
      (zg_sI M13 5 v12 (v14 + t0)).bind fun M15 =>
      (zg_aI M15 5 (3 : Int32)).bind fun v17 =>
      (zg_sI M15 5 (3 : Int32) (v17 + t0)).bind fun M18 =>
      (zg_aI M18 5 (4 : Int32)).bind fun v20 =>
      (zg_sI M18 5 (4 : Int32) (v20 + ((1 : Int32) - t0))).bind fun M21 =>
      zg_rI t0 M21))
theorem gl_J_X4_calls_55 {ρ : zz_C} {σ : zz_S} {m : Nat} {ma : Nat → Nat} (hok : zt_ok m ma) (x1 : Int32) (x2 : Int32) (x3 : Int32) (t0 : Int32) (M : zt_M) : zJ_X4_calls_55 ρ m x1 x2 x3 t0 (zt σ m ma M) = zg_lift σ m ma (gJ_X4_calls_55 ρ.2 x1 x2 x3 t0 M) := by
  unfold zJ_X4_calls_55 gJ_X4_calls_55
  refine gl_ck ?_
  refine gl_cV (gl_F_X4_takes hok _ _ _) fun M5 => ?_
  refine gl_gR (by decide) (by decide) ?_
  refine gl_aI hok (by decide) (by decide) fun v7 => ?_
  refine gl_sI hok (by decide) (by decide) fun M8 => ?_
  refine gl_gR (by decide) (by decide) ?_
  refine gl_cI (gl_F_X4_of hok _ _ _) fun v12 M13 => ?_
  refine gl_aI hok (by decide) (by decide) fun v14 => ?_
  refine gl_sI hok (by decide) (by decide) fun M15 => ?_
  refine gl_gR (by decide) (by decide) ?_
  refine gl_aI hok (by decide) (by decide) fun v17 => ?_
  refine gl_sI hok (by decide) (by decide) fun M18 => ?_
  refine gl_gR (by decide) (by decide) ?_
  refine gl_aI hok (by decide) (by decide) fun v20 => ?_
  refine gl_sI hok (by decide) (by decide) fun M21 => ?_
  exact gl_rI
def gF_X4_calls (fu : Nat) (x1 : Int32) (M : zt_M) : zg_R :=
  zg_cI (gF_X4_isMotion fu x1 M) (fun v4 M5 =>
    if v4 = 0 then
      zg_cI (gF_X4_fail fu (1 : Int32) M5) (fun v30 M31 =>
        zg_rI v30 M31)
    else
    zg_cI (gF_X4_ranked fu x1 (0 : Int32) M5) (fun v9 M10 =>
      if 0 ≤ v9 then
        zg_cI (gF_X4_listed fu x1 v9 M10) (fun v14 M15 =>
          (zg_aI M15 5 v14).bind fun v16 =>
          zg_cI (gF_X4_isOn fu v16 M15) (fun v20 M21 =>
            if v20 = 0 then
              gJ_X4_calls_55 fu x1 v9 v16 (0 : Int32) M21
            else
            gJ_X4_calls_55 fu x1 v9 v16 (1 : Int32) M21))
      else
      zg_cI (gF_X4_fail fu (2 : Int32) M10) (fun v25 M26 =>
        zg_rI v25 M26)))
theorem gl_F_X4_calls {ρ : zz_C} {σ : zz_S} {m : Nat} {ma : Nat → Nat} (hok : zt_ok m ma) (x1 : Int32) (M : zt_M) : zF_X4_calls ρ m x1 (zt σ m ma M) = zg_lift σ m ma (gF_X4_calls ρ.2 x1 M) := by
  unfold zF_X4_calls gF_X4_calls
  refine gl_ck ?_
  refine gl_cI (gl_F_X4_isMotion hok _ _) fun v4 M5 => ?_
  refine gl_ite ?_ ?_
  · skip
    refine gl_ck ?_
    refine gl_cI (gl_F_X4_fail hok _ _) fun v30 M31 => ?_
    exact gl_rI
  · skip
    refine gl_ck ?_
    refine gl_cI (gl_F_X4_ranked hok _ _ _) fun v9 M10 => ?_
    refine gl_ite ?_ ?_
    · skip
      refine gl_gR (by decide) (by decide) ?_
      refine gl_cI (gl_F_X4_listed hok _ _ _) fun v14 M15 => ?_
      refine gl_aI hok (by decide) (by decide) fun v16 => ?_
      refine gl_ck ?_
      refine gl_cI (gl_F_X4_isOn hok _ _) fun v20 M21 => ?_
      refine gl_ite ?_ ?_
      · skip
        exact (gl_J_X4_calls_55 hok _ _ _ _ _)
      · skip
        exact (gl_J_X4_calls_55 hok _ _ _ _ _)
    · skip
      refine gl_ck ?_
      refine gl_cI (gl_F_X4_fail hok _ _) fun v25 M26 => ?_
      exact gl_rI
def gF_X4_callNext (fu : Nat) (x1 : Int32) (M : zt_M) : zg_R :=
  zg_cV (gF_X4_begins fu M) (fun M5 =>
    zg_cI (gF_X4_calls fu x1 M5) (fun v9 M10 =>
      zg_cI (gF_X4_ends fu v9 M10) (fun v14 M15 =>
        if v14 = (1 : Int32) then
          zg_rN .boolean (1 : Int32) M15
        else
        zg_rN .boolean (0 : Int32) M15)))
theorem gl_F_X4_callNext {ρ : zz_C} {σ : zz_S} {m : Nat} {ma : Nat → Nat} (hok : zt_ok m ma) (x1 : Int32) (M : zt_M) : zF_X4_callNext ρ m x1 (zt σ m ma M) = zg_lift σ m ma (gF_X4_callNext ρ.2 x1 M) := by
  unfold zF_X4_callNext gF_X4_callNext
  refine gl_ck ?_
  refine gl_cV (gl_F_X4_begins hok _) fun M5 => ?_
  refine gl_ck ?_
  refine gl_cI (gl_F_X4_calls hok _ _) fun v9 M10 => ?_
  refine gl_ck ?_
  refine gl_cI (gl_F_X4_ends hok _ _) fun v14 M15 => ?_
  refine gl_ite ?_ ?_
  · skip
    exact gl_rN
  · skip
    exact gl_rN
def gJ_X4_tellsMotion_14 (fu : Nat) (x1 : Int32) (x2 : Int32) (t0 : Int32) (M : zt_M) : zg_R :=
  if ((zt_uI M 0 t0).1 0) = 0 then
    zg_cI (gF_X4_of fu x1 x2 (zt_uI M 0 t0)) (fun v6 M7 =>
      (zg_aI M7 5 v6).bind fun v8 =>
      zg_rI v8 M7)
  else
  zg_rI (0 : Int32) (zt_uI M 0 t0)
theorem gl_J_X4_tellsMotion_14 {ρ : zz_C} {σ : zz_S} {m : Nat} {ma : Nat → Nat} (hok : zt_ok m ma) (x1 : Int32) (x2 : Int32) (t0 : Int32) (M : zt_M) : zJ_X4_tellsMotion_14 ρ m x1 x2 t0 (some m) (zt σ m ma M) = zg_lift σ m ma (gJ_X4_tellsMotion_14 ρ.2 x1 x2 t0 M) := by
  unfold zJ_X4_tellsMotion_14 gJ_X4_tellsMotion_14
  refine gl_pf (by decide) ?_
  refine gl_gI (by decide) ?_
  refine gl_ite ?_ ?_
  · skip
    refine gl_gR (by decide) (by decide) ?_
    refine gl_cI (gl_F_X4_of hok _ _ _) fun v6 M7 => ?_
    refine gl_aI hok (by decide) (by decide) fun v8 => ?_
    exact gl_rI
  · skip
    exact gl_rI
def gF_X4_tellsMotion (fu : Nat) (x1 : Int32) (x2 : Int32) (M : zt_M) : zg_R :=
  zg_cI (gF_X4_isMotion fu x1 M) (fun v4 M5 =>
    if v4 = 0 then
      gJ_X4_tellsMotion_14 fu x1 x2 (1 : Int32) M5
    else
    gJ_X4_tellsMotion_14 fu x1 x2 (0 : Int32) M5)
theorem gl_F_X4_tellsMotion {ρ : zz_C} {σ : zz_S} {m : Nat} {ma : Nat → Nat} (hok : zt_ok m ma) (x1 : Int32) (x2 : Int32) (M : zt_M) : zF_X4_tellsMotion ρ m x1 x2 (zt σ m ma M) = zg_lift σ m ma (gF_X4_tellsMotion ρ.2 x1 x2 M) := by
  unfold zF_X4_tellsMotion gF_X4_tellsMotion
  refine gl_ck ?_
  refine gl_cI (gl_F_X4_isMotion hok _ _) fun v4 M5 => ?_
  refine gl_ite ?_ ?_
  · skip
    exact (gl_J_X4_tellsMotion_14 hok _ _ _ _)
  · skip
    exact (gl_J_X4_tellsMotion_14 hok _ _ _ _)
def gF_X4_listLength (fu : Nat) (x1 : Int32) (M : zt_M) : zg_R :=
  zg_cI (gF_X4_tellsMotion fu x1 (5 : Int32) M) (fun v4 M5 =>
    zg_rI v4 M5)
theorem gl_F_X4_listLength {ρ : zz_C} {σ : zz_S} {m : Nat} {ma : Nat → Nat} (hok : zt_ok m ma) (x1 : Int32) (M : zt_M) : zF_X4_listLength ρ m x1 (zt σ m ma M) = zg_lift σ m ma (gF_X4_listLength ρ.2 x1 M) := by
  unfold zF_X4_listLength gF_X4_listLength
  refine gl_ck ?_
  refine gl_cI (gl_F_X4_tellsMotion hok _ _ _) fun v4 M5 => ?_
  exact gl_rI
def gJ_X4_nextFrog_31 (fu : Nat) (x1 : Int32) (t0 : Int32) (M : zt_M) : zg_R :=
  if ((zt_uI M 0 t0).1 0) = 0 then
    zg_cI (gF_X4_ranked fu x1 (0 : Int32) (zt_uI M 0 t0)) (fun v7 M8 =>
      zg_cI (gF_X4_listed fu x1 v7 M8) (fun v11 M12 =>
        (zg_aI M12 5 v11).bind fun v13 =>
        zg_rI v13 M12))
  else
  zg_rI (0 : Int32) (zt_uI M 0 t0)
theorem gl_J_X4_nextFrog_31 {ρ : zz_C} {σ : zz_S} {m : Nat} {ma : Nat → Nat} (hok : zt_ok m ma) (x1 : Int32) (t0 : Int32) (M : zt_M) : zJ_X4_nextFrog_31 ρ m x1 t0 (some m) (zt σ m ma M) = zg_lift σ m ma (gJ_X4_nextFrog_31 ρ.2 x1 t0 M) := by
  unfold zJ_X4_nextFrog_31 gJ_X4_nextFrog_31
  refine gl_pf (by decide) ?_
  refine gl_gI (by decide) ?_
  refine gl_ite ?_ ?_
  · skip
    refine gl_gR (by decide) (by decide) ?_
    refine gl_ck ?_
    refine gl_cI (gl_F_X4_ranked hok _ _ _) fun v7 M8 => ?_
    refine gl_cI (gl_F_X4_listed hok _ _ _) fun v11 M12 => ?_
    refine gl_aI hok (by decide) (by decide) fun v13 => ?_
    exact gl_rI
  · skip
    exact gl_rI
def gF_X4_nextFrog (fu : Nat) (x1 : Int32) (M : zt_M) : zg_R :=
  zg_cI (gF_X4_isMotion fu x1 M) (fun v4 M5 =>
    if v4 = 0 then
      gJ_X4_nextFrog_31 fu x1 (1 : Int32) M5
    else
    zg_cI (gF_X4_of fu x1 (5 : Int32) M5) (fun v9 M10 =>
      (zg_aI M10 5 v9).bind fun v11 =>
      if v11 = 0 then
        gJ_X4_nextFrog_31 fu x1 (2 : Int32) M10
      else
      gJ_X4_nextFrog_31 fu x1 (0 : Int32) M10))
theorem gl_F_X4_nextFrog {ρ : zz_C} {σ : zz_S} {m : Nat} {ma : Nat → Nat} (hok : zt_ok m ma) (x1 : Int32) (M : zt_M) : zF_X4_nextFrog ρ m x1 (zt σ m ma M) = zg_lift σ m ma (gF_X4_nextFrog ρ.2 x1 M) := by
  unfold zF_X4_nextFrog gF_X4_nextFrog
  refine gl_ck ?_
  refine gl_cI (gl_F_X4_isMotion hok _ _) fun v4 M5 => ?_
  refine gl_ite ?_ ?_
  · skip
    exact (gl_J_X4_nextFrog_31 hok _ _ _)
  · skip
    refine gl_gR (by decide) (by decide) ?_
    refine gl_cI (gl_F_X4_of hok _ _ _) fun v9 M10 => ?_
    refine gl_aI hok (by decide) (by decide) fun v11 => ?_
    refine gl_ite ?_ ?_
    · skip
      exact (gl_J_X4_nextFrog_31 hok _ _ _)
    · skip
      exact (gl_J_X4_nextFrog_31 hok _ _ _)
def gF_X4_nextFrogByScan (fu : Nat) (x1 : Int32) (M : zt_M) : zg_R :=
  zg_cI (gF_X4_nextFrog fu x1 M) (fun v4 M5 =>
    zg_rI v4 M5)
theorem gl_F_X4_nextFrogByScan {ρ : zz_C} {σ : zz_S} {m : Nat} {ma : Nat → Nat} (hok : zt_ok m ma) (x1 : Int32) (M : zt_M) : zF_X4_nextFrogByScan ρ m x1 (zt σ m ma M) = zg_lift σ m ma (gF_X4_nextFrogByScan ρ.2 x1 M) := by
  unfold zF_X4_nextFrogByScan gF_X4_nextFrogByScan
  refine gl_ck ?_
  refine gl_cI (gl_F_X4_nextFrog hok _ _) fun v4 M5 => ?_
  exact gl_rI
def gJ_X4_frogsBefore_32 (fu : Nat) (x1 : Int32) (x3 : Int32) (t0 : Int32) (M : zt_M) : zg_R :=
  if ((zt_uI M 0 t0).1 0) = 0 then
    zg_cI (gF_X4_ahead fu x1 x3 (zt_uI M 0 t0)) (fun v6 M7 =>
      zg_rI v6 M7)
  else
  zg_rI (0 : Int32) (zt_uI M 0 t0)
theorem gl_J_X4_frogsBefore_32 {ρ : zz_C} {σ : zz_S} {m : Nat} {ma : Nat → Nat} (hok : zt_ok m ma) (x1 : Int32) (x3 : Int32) (t0 : Int32) (M : zt_M) : zJ_X4_frogsBefore_32 ρ m x1 x3 t0 (some m) (zt σ m ma M) = zg_lift σ m ma (gJ_X4_frogsBefore_32 ρ.2 x1 x3 t0 M) := by
  unfold zJ_X4_frogsBefore_32 gJ_X4_frogsBefore_32
  refine gl_pf (by decide) ?_
  refine gl_gI (by decide) ?_
  refine gl_ite ?_ ?_
  · skip
    refine gl_ck ?_
    refine gl_cI (gl_F_X4_ahead hok _ _ _) fun v6 M7 => ?_
    exact gl_rI
  · skip
    exact gl_rI
def gF_X4_frogsBefore (fu : Nat) (x1 : Int32) (x2 : Int32) (M : zt_M) : zg_R :=
  zg_cI (gF_X4_areThere fu x1 x2 M) (fun v4 M5 =>
    if v4 = 0 then
      zg_cI (gF_X4_fail fu (1 : Int32) M5) (fun v14 M15 =>
        zg_rI v14 M15)
    else
    zg_cI (gF_X4_place fu x1 x2 M5) (fun v9 M10 =>
      if 0 ≤ v9 then
        gJ_X4_frogsBefore_32 fu x1 v9 (0 : Int32) M10
      else
      gJ_X4_frogsBefore_32 fu x1 v9 (2 : Int32) M10))
theorem gl_F_X4_frogsBefore {ρ : zz_C} {σ : zz_S} {m : Nat} {ma : Nat → Nat} (hok : zt_ok m ma) (x1 : Int32) (x2 : Int32) (M : zt_M) : zF_X4_frogsBefore ρ m x1 x2 (zt σ m ma M) = zg_lift σ m ma (gF_X4_frogsBefore ρ.2 x1 x2 M) := by
  unfold zF_X4_frogsBefore gF_X4_frogsBefore
  refine gl_ck ?_
  refine gl_cI (gl_F_X4_areThere hok _ _ _) fun v4 M5 => ?_
  refine gl_ite ?_ ?_
  · skip
    refine gl_ck ?_
    refine gl_cI (gl_F_X4_fail hok _ _) fun v14 M15 => ?_
    exact gl_rI
  · skip
    refine gl_ck ?_
    refine gl_cI (gl_F_X4_place hok _ _ _) fun v9 M10 => ?_
    refine gl_ite ?_ ?_
    · skip
      exact (gl_J_X4_frogsBefore_32 hok _ _ _ _)
    · skip
      exact (gl_J_X4_frogsBefore_32 hok _ _ _ _)
def gF_X4_speeches (fu : Nat) (x1 : Int32) (M : zt_M) : zg_R :=
  zg_cI (gF_X4_tellsFrog fu x1 (41 : Int32) M) (fun v4 M5 =>
    zg_rI v4 M5)
theorem gl_F_X4_speeches {ρ : zz_C} {σ : zz_S} {m : Nat} {ma : Nat → Nat} (hok : zt_ok m ma) (x1 : Int32) (M : zt_M) : zF_X4_speeches ρ m x1 (zt σ m ma M) = zg_lift σ m ma (gF_X4_speeches ρ.2 x1 M) := by
  unfold zF_X4_speeches gF_X4_speeches
  refine gl_ck ?_
  refine gl_cI (gl_F_X4_tellsFrog hok _ _ _) fun v4 M5 => ?_
  exact gl_rI
def gF_X4_speechesOn (fu : Nat) (x1 : Int32) (M : zt_M) : zg_R :=
  zg_cI (gF_X4_tellsMotion fu x1 (6 : Int32) M) (fun v4 M5 =>
    zg_rI v4 M5)
theorem gl_F_X4_speechesOn {ρ : zz_C} {σ : zz_S} {m : Nat} {ma : Nat → Nat} (hok : zt_ok m ma) (x1 : Int32) (M : zt_M) : zF_X4_speechesOn ρ m x1 (zt σ m ma M) = zg_lift σ m ma (gF_X4_speechesOn ρ.2 x1 M) := by
  unfold zF_X4_speechesOn gF_X4_speechesOn
  refine gl_ck ?_
  refine gl_cI (gl_F_X4_tellsMotion hok _ _ _) fun v4 M5 => ?_
  exact gl_rI
def gJ_X4_frogAtRank_109 (fu : Nat) (K7' : Int32 → Int32 → zt_M → zg_R) (K22' : Int32 → Int32 → Int32 → Int32 → zt_M → zg_R) (x1 : Int32) (x2 : Int32) (x4 : Int32) (t0 : Int32) (t1 : Int32) (M : zt_M) : zg_R :=
  K22' x1 x2 (t1 + t0) (x4 + (1 : Int32)) M
theorem gl_J_X4_frogAtRank_109 {ρ : zz_C} {σ : zz_S} {m : Nat} {ma : Nat → Nat} (hok : zt_ok m ma) {K7 : Nat → Int32 → Int32 → zz_S → zz_R} {K7' : Int32 → Int32 → zt_M → zg_R} (hK7 : ∀ (x1 : Int32) (x2 : Int32) (M : zt_M), K7 m x1 x2 (zt σ m ma M) = zg_lift σ m ma (K7' x1 x2 M)) {K22 : Nat → Int32 → Int32 → Int32 → Int32 → zz_S → zz_R} {K22' : Int32 → Int32 → Int32 → Int32 → zt_M → zg_R} (hK22 : ∀ (x1 : Int32) (x2 : Int32) (x3 : Int32) (x4 : Int32) (M : zt_M), K22 m x1 x2 x3 x4 (zt σ m ma M) = zg_lift σ m ma (K22' x1 x2 x3 x4 M)) (x1 : Int32) (x2 : Int32) (x4 : Int32) (t0 : Int32) (t1 : Int32) (M : zt_M) : zJ_X4_frogAtRank_109 ρ K7 K22 m x1 x2 x4 t0 t1 (zt σ m ma M) = zg_lift σ m ma (gJ_X4_frogAtRank_109 ρ.2 K7' K22' x1 x2 x4 t0 t1 M) := by
  unfold zJ_X4_frogAtRank_109 gJ_X4_frogAtRank_109
  exact hK22 _ _ _ _ _
def gJ_X4_frogAtRank_104 (fu : Nat) (K7' : Int32 → Int32 → zt_M → zg_R) (K22' : Int32 → Int32 → Int32 → Int32 → zt_M → zg_R) (x1 : Int32) (x2 : Int32) (x4 : Int32) (t0 : Int32) (M : zt_M) : zg_R :=
  gJ_X4_frogAtRank_109 fu K7' K22' x1 x2 x4 (1 : Int32) t0 M
theorem gl_J_X4_frogAtRank_104 {ρ : zz_C} {σ : zz_S} {m : Nat} {ma : Nat → Nat} (hok : zt_ok m ma) {K7 : Nat → Int32 → Int32 → zz_S → zz_R} {K7' : Int32 → Int32 → zt_M → zg_R} (hK7 : ∀ (x1 : Int32) (x2 : Int32) (M : zt_M), K7 m x1 x2 (zt σ m ma M) = zg_lift σ m ma (K7' x1 x2 M)) {K22 : Nat → Int32 → Int32 → Int32 → Int32 → zz_S → zz_R} {K22' : Int32 → Int32 → Int32 → Int32 → zt_M → zg_R} (hK22 : ∀ (x1 : Int32) (x2 : Int32) (x3 : Int32) (x4 : Int32) (M : zt_M), K22 m x1 x2 x3 x4 (zt σ m ma M) = zg_lift σ m ma (K22' x1 x2 x3 x4 M)) (x1 : Int32) (x2 : Int32) (x4 : Int32) (t0 : Int32) (M : zt_M) : zJ_X4_frogAtRank_104 ρ K7 K22 m x1 x2 x4 t0 (zt σ m ma M) = zg_lift σ m ma (gJ_X4_frogAtRank_104 ρ.2 K7' K22' x1 x2 x4 t0 M) := by
  unfold zJ_X4_frogAtRank_104 gJ_X4_frogAtRank_104
  exact (gl_J_X4_frogAtRank_109 hok hK7 hK22 _ _ _ _ _ _)
def gJ_X4_frogAtRank_108 (fu : Nat) (K7' : Int32 → Int32 → zt_M → zg_R) (K22' : Int32 → Int32 → Int32 → Int32 → zt_M → zg_R) (x1 : Int32) (x2 : Int32) (x4 : Int32) (t0 : Int32) (M : zt_M) : zg_R :=
  gJ_X4_frogAtRank_109 fu K7' K22' x1 x2 x4 (0 : Int32) t0 M
theorem gl_J_X4_frogAtRank_108 {ρ : zz_C} {σ : zz_S} {m : Nat} {ma : Nat → Nat} (hok : zt_ok m ma) {K7 : Nat → Int32 → Int32 → zz_S → zz_R} {K7' : Int32 → Int32 → zt_M → zg_R} (hK7 : ∀ (x1 : Int32) (x2 : Int32) (M : zt_M), K7 m x1 x2 (zt σ m ma M) = zg_lift σ m ma (K7' x1 x2 M)) {K22 : Nat → Int32 → Int32 → Int32 → Int32 → zz_S → zz_R} {K22' : Int32 → Int32 → Int32 → Int32 → zt_M → zg_R} (hK22 : ∀ (x1 : Int32) (x2 : Int32) (x3 : Int32) (x4 : Int32) (M : zt_M), K22 m x1 x2 x3 x4 (zt σ m ma M) = zg_lift σ m ma (K22' x1 x2 x3 x4 M)) (x1 : Int32) (x2 : Int32) (x4 : Int32) (t0 : Int32) (M : zt_M) : zJ_X4_frogAtRank_108 ρ K7 K22 m x1 x2 x4 t0 (zt σ m ma M) = zg_lift σ m ma (gJ_X4_frogAtRank_108 ρ.2 K7' K22' x1 x2 x4 t0 M) := by
  unfold zJ_X4_frogAtRank_108 gJ_X4_frogAtRank_108
  exact (gl_J_X4_frogAtRank_109 hok hK7 hK22 _ _ _ _ _ _)
def gJ_X4_frogAtRank_85 (fu : Nat) (K7' : Int32 → Int32 → zt_M → zg_R) (K22' : Int32 → Int32 → Int32 → Int32 → zt_M → zg_R) (x1 : Int32) (x2 : Int32) (x3 : Int32) (x4 : Int32) (t0 : Int32) (M : zt_M) : zg_R :=
  if 0 < t0 then
    gJ_X4_frogAtRank_104 fu K7' K22' x1 x2 x4 x3 M
  else
  if t0 = 0 then
    if x2 ≤ x4 then
      gJ_X4_frogAtRank_108 fu K7' K22' x1 x2 x4 x3 M
    else
    gJ_X4_frogAtRank_104 fu K7' K22' x1 x2 x4 x3 M
  else
  gJ_X4_frogAtRank_108 fu K7' K22' x1 x2 x4 x3 M
theorem gl_J_X4_frogAtRank_85 {ρ : zz_C} {σ : zz_S} {m : Nat} {ma : Nat → Nat} (hok : zt_ok m ma) {K7 : Nat → Int32 → Int32 → zz_S → zz_R} {K7' : Int32 → Int32 → zt_M → zg_R} (hK7 : ∀ (x1 : Int32) (x2 : Int32) (M : zt_M), K7 m x1 x2 (zt σ m ma M) = zg_lift σ m ma (K7' x1 x2 M)) {K22 : Nat → Int32 → Int32 → Int32 → Int32 → zz_S → zz_R} {K22' : Int32 → Int32 → Int32 → Int32 → zt_M → zg_R} (hK22 : ∀ (x1 : Int32) (x2 : Int32) (x3 : Int32) (x4 : Int32) (M : zt_M), K22 m x1 x2 x3 x4 (zt σ m ma M) = zg_lift σ m ma (K22' x1 x2 x3 x4 M)) (x1 : Int32) (x2 : Int32) (x3 : Int32) (x4 : Int32) (t0 : Int32) (M : zt_M) : zJ_X4_frogAtRank_85 ρ K7 K22 m x1 x2 x3 x4 t0 (zt σ m ma M) = zg_lift σ m ma (gJ_X4_frogAtRank_85 ρ.2 K7' K22' x1 x2 x3 x4 t0 M) := by
  unfold zJ_X4_frogAtRank_85 gJ_X4_frogAtRank_85
  refine gl_ite ?_ ?_
  · skip
    exact (gl_J_X4_frogAtRank_104 hok hK7 hK22 _ _ _ _ _)
  · skip
    refine gl_ite ?_ ?_
    · skip
      refine gl_ite ?_ ?_
      · skip
        exact (gl_J_X4_frogAtRank_108 hok hK7 hK22 _ _ _ _ _)
      · skip
        exact (gl_J_X4_frogAtRank_104 hok hK7 hK22 _ _ _ _ _)
    · skip
      exact (gl_J_X4_frogAtRank_108 hok hK7 hK22 _ _ _ _ _)
def gL_X4_frogAtRank_22 (fu : Nat) (K7' : Int32 → Int32 → zt_M → zg_R) : Nat → Int32 → Int32 → Int32 → Int32 → zt_M → zg_R
  | 0, _, _, _, _, _ => none
  | n + 1, x1, x2, x3, x4, M =>
    (zg_aI M 5 (0 : Int32)).bind fun v2 =>
    if v2 ≤ x4 then
      if x3 = x1 then
        zg_rI x2 M
      else
      K7' x1 (x2 + (1 : Int32)) M
    else
    (zg_aI M 5 ((41 : Int32) + x4)).bind fun v4 =>
    (zg_aI M 5 ((41 : Int32) + x2)).bind fun v6 =>
    if (v4 - v6) = 0 then
      (zg_aI M 5 ((17 : Int32) + x4)).bind fun v8 =>
      (zg_aI M 5 ((17 : Int32) + x2)).bind fun v10 =>
      gJ_X4_frogAtRank_85 fu K7' (gL_X4_frogAtRank_22 fu K7' n) x1 x2 x3 x4 (v8 - v10) M
    else
    gJ_X4_frogAtRank_85 fu K7' (gL_X4_frogAtRank_22 fu K7' n) x1 x2 x3 x4 (v4 - v6) M
theorem gl_L_X4_frogAtRank_22 {ρ : zz_C} {σ : zz_S} {m : Nat} {ma : Nat → Nat} (hok : zt_ok m ma) {K7 : Nat → Int32 → Int32 → zz_S → zz_R} {K7' : Int32 → Int32 → zt_M → zg_R} (hK7 : ∀ (x1 : Int32) (x2 : Int32) (M : zt_M), K7 m x1 x2 (zt σ m ma M) = zg_lift σ m ma (K7' x1 x2 M)) : ∀ (n : Nat) (x1 : Int32) (x2 : Int32) (x3 : Int32) (x4 : Int32) (M : zt_M), zL_X4_frogAtRank_22 ρ K7 n m x1 x2 x3 x4 (zt σ m ma M) = zg_lift σ m ma (gL_X4_frogAtRank_22 ρ.2 K7' n x1 x2 x3 x4 M) := by
  intro n
  induction n with
  | zero => intros; rfl
  | succ n ih =>
    intro x1 x2 x3 x4 M
    rw [zL_X4_frogAtRank_22, gL_X4_frogAtRank_22]
    refine gl_gR (by decide) (by decide) ?_
    refine gl_aI hok (by decide) (by decide) fun v2 => ?_
    refine gl_ite ?_ ?_
    · skip
      refine gl_ite ?_ ?_
      · skip
        exact gl_rI
      · skip
        exact hK7 _ _ _
    · skip
      refine gl_gR (by decide) (by decide) ?_
      refine gl_aI hok (by decide) (by decide) fun v4 => ?_
      refine gl_gR (by decide) (by decide) ?_
      refine gl_aI hok (by decide) (by decide) fun v6 => ?_
      refine gl_ite ?_ ?_
      · skip
        refine gl_gR (by decide) (by decide) ?_
        refine gl_aI hok (by decide) (by decide) fun v8 => ?_
        refine gl_gR (by decide) (by decide) ?_
        refine gl_aI hok (by decide) (by decide) fun v10 => ?_
        exact (gl_J_X4_frogAtRank_85 hok hK7 ih _ _ _ _ _ _)
      · skip
        exact (gl_J_X4_frogAtRank_85 hok hK7 ih _ _ _ _ _ _)
def gL_X4_frogAtRank_7 (fu : Nat) : Nat → Int32 → Int32 → zt_M → zg_R
  | 0, _, _, _ => none
  | n + 1, x1, x2, M =>
    (zg_aI M 5 (0 : Int32)).bind fun v2 =>
    if v2 ≤ x2 then
      zg_cI (gF_X4_fail fu (1 : Int32) M) (fun v6 M7 =>
        zg_rI v6 M7)
    else
    gL_X4_frogAtRank_22 fu (gL_X4_frogAtRank_7 fu n) fu x1 x2 (0 : Int32) (0 : Int32) M
theorem gl_L_X4_frogAtRank_7 {ρ : zz_C} {σ : zz_S} {m : Nat} {ma : Nat → Nat} (hok : zt_ok m ma) : ∀ (n : Nat) (x1 : Int32) (x2 : Int32) (M : zt_M), zL_X4_frogAtRank_7 ρ n m x1 x2 (zt σ m ma M) = zg_lift σ m ma (gL_X4_frogAtRank_7 ρ.2 n x1 x2 M) := by
  intro n
  induction n with
  | zero => intros; rfl
  | succ n ih =>
    intro x1 x2 M
    rw [zL_X4_frogAtRank_7, gL_X4_frogAtRank_7]
    refine gl_gR (by decide) (by decide) ?_
    refine gl_aI hok (by decide) (by decide) fun v2 => ?_
    refine gl_ite ?_ ?_
    · skip
      refine gl_ck ?_
      refine gl_cI (gl_F_X4_fail hok _ _) fun v6 M7 => ?_
      exact gl_rI
    · skip
      exact (gl_L_X4_frogAtRank_22 hok ih _ _ _ _ _ _)
def gF_X4_frogAtRank (fu : Nat) (x1 : Int32) (M : zt_M) : zg_R :=
  gL_X4_frogAtRank_7 fu fu x1 (0 : Int32) (zt_uI M 0 (0 : Int32))
theorem gl_F_X4_frogAtRank {ρ : zz_C} {σ : zz_S} {m : Nat} {ma : Nat → Nat} (hok : zt_ok m ma) (x1 : Int32) (M : zt_M) : zF_X4_frogAtRank ρ m x1 (zt σ m ma M) = zg_lift σ m ma (gF_X4_frogAtRank ρ.2 x1 M) := by
  unfold zF_X4_frogAtRank gF_X4_frogAtRank
  refine gl_pf (by decide) ?_
  exact (gl_L_X4_frogAtRank_7 hok _ _ _ _)
def gJ_X4_backing_46 (fu : Nat) (K4' : Int32 → Int32 → Int32 → zt_M → zg_R) (x1 : Int32) (x3 : Int32) (t0 : Int32) (t1 : Int32) (M : zt_M) : zg_R :=
  K4' x1 (t1 + t0) (x3 + (1 : Int32)) M
theorem gl_J_X4_backing_46 {ρ : zz_C} {σ : zz_S} {m : Nat} {ma : Nat → Nat} (hok : zt_ok m ma) {K4 : Nat → Int32 → Int32 → Int32 → zz_S → zz_R} {K4' : Int32 → Int32 → Int32 → zt_M → zg_R} (hK4 : ∀ (x1 : Int32) (x2 : Int32) (x3 : Int32) (M : zt_M), K4 m x1 x2 x3 (zt σ m ma M) = zg_lift σ m ma (K4' x1 x2 x3 M)) (x1 : Int32) (x3 : Int32) (t0 : Int32) (t1 : Int32) (M : zt_M) : zJ_X4_backing_46 ρ K4 m x1 x3 t0 t1 (zt σ m ma M) = zg_lift σ m ma (gJ_X4_backing_46 ρ.2 K4' x1 x3 t0 t1 M) := by
  unfold zJ_X4_backing_46 gJ_X4_backing_46
  exact hK4 _ _ _ _
def gL_X4_backing_4 (fu : Nat) : Nat → Int32 → Int32 → Int32 → zt_M → zg_R
  | 0, _, _, _, _ => none
  | n + 1, x1, x2, x3, M =>
    (zg_aI M 5 (0 : Int32)).bind fun v2 =>
    if v2 ≤ x3 then
      zg_rI x2 M
    else
    zg_cI (gF_X4_of fu x1 (4 : Int32) M) (fun v6 M7 =>
      (zg_aI M7 5 v6).bind fun v8 =>
      if ((v8 >>> (x3 &&& 31)) &&& (1 : Int32)) = (1 : Int32) then
        (zg_aI M7 5 ((17 : Int32) + x3)).bind fun v10 =>
        gJ_X4_backing_46 fu (gL_X4_backing_4 fu n) x1 x3 v10 x2 M7
      else
      gJ_X4_backing_46 fu (gL_X4_backing_4 fu n) x1 x3 (0 : Int32) x2 M7)
theorem gl_L_X4_backing_4 {ρ : zz_C} {σ : zz_S} {m : Nat} {ma : Nat → Nat} (hok : zt_ok m ma) : ∀ (n : Nat) (x1 : Int32) (x2 : Int32) (x3 : Int32) (M : zt_M), zL_X4_backing_4 ρ n m x1 x2 x3 (zt σ m ma M) = zg_lift σ m ma (gL_X4_backing_4 ρ.2 n x1 x2 x3 M) := by
  intro n
  induction n with
  | zero => intros; rfl
  | succ n ih =>
    intro x1 x2 x3 M
    rw [zL_X4_backing_4, gL_X4_backing_4]
    refine gl_gR (by decide) (by decide) ?_
    refine gl_aI hok (by decide) (by decide) fun v2 => ?_
    refine gl_ite ?_ ?_
    · skip
      exact gl_rI
    · skip
      refine gl_gR (by decide) (by decide) ?_
      refine gl_cI (gl_F_X4_of hok _ _ _) fun v6 M7 => ?_
      refine gl_aI hok (by decide) (by decide) fun v8 => ?_
      refine gl_ite ?_ ?_
      · skip
        refine gl_gR (by decide) (by decide) ?_
        refine gl_aI hok (by decide) (by decide) fun v10 => ?_
        exact (gl_J_X4_backing_46 hok ih _ _ _ _ _)
      · skip
        exact (gl_J_X4_backing_46 hok ih _ _ _ _ _)
def gF_X4_backing (fu : Nat) (x1 : Int32) (M : zt_M) : zg_R :=
  gL_X4_backing_4 fu fu x1 (0 : Int32) (0 : Int32) M
theorem gl_F_X4_backing {ρ : zz_C} {σ : zz_S} {m : Nat} {ma : Nat → Nat} (hok : zt_ok m ma) (x1 : Int32) (M : zt_M) : zF_X4_backing ρ m x1 (zt σ m ma M) = zg_lift σ m ma (gF_X4_backing ρ.2 x1 M) := by
  unfold zF_X4_backing gF_X4_backing
  exact (gl_L_X4_backing_4 hok _ _ _ _ _)
def gJ_X4_entitled_37 (fu : Nat) (K4' : Int32 → Int32 → Int32 → zt_M → zg_R) (x1 : Int32) (x3 : Int32) (t0 : Int32) (t1 : Int32) (M : zt_M) : zg_R :=
  K4' x1 (t1 + t0) (x3 + (1 : Int32)) M
theorem gl_J_X4_entitled_37 {ρ : zz_C} {σ : zz_S} {m : Nat} {ma : Nat → Nat} (hok : zt_ok m ma) {K4 : Nat → Int32 → Int32 → Int32 → zz_S → zz_R} {K4' : Int32 → Int32 → Int32 → zt_M → zg_R} (hK4 : ∀ (x1 : Int32) (x2 : Int32) (x3 : Int32) (M : zt_M), K4 m x1 x2 x3 (zt σ m ma M) = zg_lift σ m ma (K4' x1 x2 x3 M)) (x1 : Int32) (x3 : Int32) (t0 : Int32) (t1 : Int32) (M : zt_M) : zJ_X4_entitled_37 ρ K4 m x1 x3 t0 t1 (zt σ m ma M) = zg_lift σ m ma (gJ_X4_entitled_37 ρ.2 K4' x1 x3 t0 t1 M) := by
  unfold zJ_X4_entitled_37 gJ_X4_entitled_37
  exact hK4 _ _ _ _
def gL_X4_entitled_4 (fu : Nat) : Nat → Int32 → Int32 → Int32 → zt_M → zg_R
  | 0, _, _, _, _ => none
  | n + 1, x1, x2, x3, M =>
    (zg_aI M 5 (0 : Int32)).bind fun v2 =>
    if v2 ≤ x3 then
      zg_rI x2 M
    else
    zg_cI (gF_X4_isFor fu x1 x3 M) (fun v6 M7 =>
      if v6 = 0 then
        gJ_X4_entitled_37 fu (gL_X4_entitled_4 fu n) x1 x3 (0 : Int32) x2 M7
      else
      (zg_aI M7 5 ((17 : Int32) + x3)).bind fun v9 =>
      gJ_X4_entitled_37 fu (gL_X4_entitled_4 fu n) x1 x3 v9 x2 M7)
theorem gl_L_X4_entitled_4 {ρ : zz_C} {σ : zz_S} {m : Nat} {ma : Nat → Nat} (hok : zt_ok m ma) : ∀ (n : Nat) (x1 : Int32) (x2 : Int32) (x3 : Int32) (M : zt_M), zL_X4_entitled_4 ρ n m x1 x2 x3 (zt σ m ma M) = zg_lift σ m ma (gL_X4_entitled_4 ρ.2 n x1 x2 x3 M) := by
  intro n
  induction n with
  | zero => intros; rfl
  | succ n ih =>
    intro x1 x2 x3 M
    rw [zL_X4_entitled_4, gL_X4_entitled_4]
    refine gl_gR (by decide) (by decide) ?_
    refine gl_aI hok (by decide) (by decide) fun v2 => ?_
    refine gl_ite ?_ ?_
    · skip
      exact gl_rI
    · skip
      refine gl_ck ?_
      refine gl_cI (gl_F_X4_isFor hok _ _ _) fun v6 M7 => ?_
      refine gl_ite ?_ ?_
      · skip
        exact (gl_J_X4_entitled_37 hok ih _ _ _ _ _)
      · skip
        refine gl_gR (by decide) (by decide) ?_
        refine gl_aI hok (by decide) (by decide) fun v9 => ?_
        exact (gl_J_X4_entitled_37 hok ih _ _ _ _ _)
def gF_X4_entitled (fu : Nat) (x1 : Int32) (M : zt_M) : zg_R :=
  gL_X4_entitled_4 fu fu x1 (0 : Int32) (0 : Int32) M
theorem gl_F_X4_entitled {ρ : zz_C} {σ : zz_S} {m : Nat} {ma : Nat → Nat} (hok : zt_ok m ma) (x1 : Int32) (M : zt_M) : zF_X4_entitled ρ m x1 (zt σ m ma M) = zg_lift σ m ma (gF_X4_entitled ρ.2 x1 M) := by
  unfold zF_X4_entitled gF_X4_entitled
  exact (gl_L_X4_entitled_4 hok _ _ _ _ _)
def gF_X4_backs (fu : Nat) (x1 : Int32) (x2 : Int32) (M : zt_M) : zg_R :=
  zg_cI (gF_X4_areThere fu x1 x2 M) (fun v4 M5 =>
    if v4 = 0 then
      zg_cI (gF_X4_fail fu (1 : Int32) M5) (fun v75 M76 =>
        zg_rI v75 M76)
    else
    zg_cI (gF_X4_isFor fu x1 x2 M5) (fun v9 M10 =>
      if v9 = 0 then
        zg_cI (gF_X4_fail fu (2 : Int32) M10) (fun v70 M71 =>
          zg_rI v70 M71)
      else
      zg_cI (gF_X4_isShut fu x1 M10) (fun v14 M15 =>
        if v14 = 0 then
          zg_cI (gF_X4_isOn fu x2 M15) (fun v19 M20 =>
            if v19 = 0 then
              zg_cI (gF_X4_fail fu (4 : Int32) M20) (fun v60 M61 =>
                zg_rI v60 M61)
            else
            zg_cI (gF_X4_of fu x1 (4 : Int32) M20) (fun v24 M25 =>
              (zg_aI M25 5 v24).bind fun v26 =>
              (zg_sI M25 5 v24 (v26 ||| ((1 : Int32) <<< (x2 &&& 31)))).bind fun M27 =>
              zg_cI (gF_X4_of fu x1 (1 : Int32) M27) (fun v31 M32 =>
                zg_cI (gF_X4_backing fu x1 M32) (fun v36 M37 =>
                  zg_cI (gF_X4_entitled fu x1 M37) (fun v41 M42 =>
                    if ((2 : Int32) * v36) ≤ v41 then
                      (zg_sI M42 5 v31 (0 : Int32)).bind fun M43 =>
                      zg_cI (gF_X4_of fu x1 (1 : Int32) M43) (fun v47 M48 =>
                        (zg_aI M48 5 v47).bind fun v49 =>
                        zg_rI v49 M48)
                    else
                    (zg_sI M42 5 v31 (1 : Int32)).bind fun M50 =>
                    zg_cI (gF_X4_of fu x1 (1 : Int32) M50) (fun v54 M55 =>
                      (zg_aI M55 5 v54).bind fun v56 =>
                      zg_rI v56 M55))))))
        else
        zg_cI (gF_X4_fail fu (3 : Int32) M15) (fun v65 M66 =>
          zg_rI v65 M66))))
theorem gl_F_X4_backs {ρ : zz_C} {σ : zz_S} {m : Nat} {ma : Nat → Nat} (hok : zt_ok m ma) (x1 : Int32) (x2 : Int32) (M : zt_M) : zF_X4_backs ρ m x1 x2 (zt σ m ma M) = zg_lift σ m ma (gF_X4_backs ρ.2 x1 x2 M) := by
  unfold zF_X4_backs gF_X4_backs
  refine gl_ck ?_
  refine gl_cI (gl_F_X4_areThere hok _ _ _) fun v4 M5 => ?_
  refine gl_ite ?_ ?_
  · skip
    refine gl_ck ?_
    refine gl_cI (gl_F_X4_fail hok _ _) fun v75 M76 => ?_
    exact gl_rI
  · skip
    refine gl_ck ?_
    refine gl_cI (gl_F_X4_isFor hok _ _ _) fun v9 M10 => ?_
    refine gl_ite ?_ ?_
    · skip
      refine gl_ck ?_
      refine gl_cI (gl_F_X4_fail hok _ _) fun v70 M71 => ?_
      exact gl_rI
    · skip
      refine gl_ck ?_
      refine gl_cI (gl_F_X4_isShut hok _ _) fun v14 M15 => ?_
      refine gl_ite ?_ ?_
      · skip
        refine gl_ck ?_
        refine gl_cI (gl_F_X4_isOn hok _ _) fun v19 M20 => ?_
        refine gl_ite ?_ ?_
        · skip
          refine gl_ck ?_
          refine gl_cI (gl_F_X4_fail hok _ _) fun v60 M61 => ?_
          exact gl_rI
        · skip
          refine gl_gR (by decide) (by decide) ?_
          refine gl_cI (gl_F_X4_of hok _ _ _) fun v24 M25 => ?_
          refine gl_aI hok (by decide) (by decide) fun v26 => ?_
          refine gl_sI hok (by decide) (by decide) fun M27 => ?_
          refine gl_gR (by decide) (by decide) ?_
          refine gl_cI (gl_F_X4_of hok _ _ _) fun v31 M32 => ?_
          refine gl_ck ?_
          refine gl_cI (gl_F_X4_backing hok _ _) fun v36 M37 => ?_
          refine gl_ck ?_
          refine gl_cI (gl_F_X4_entitled hok _ _) fun v41 M42 => ?_
          refine gl_ite ?_ ?_
          · skip
            refine gl_sI hok (by decide) (by decide) fun M43 => ?_
            refine gl_gR (by decide) (by decide) ?_
            refine gl_cI (gl_F_X4_of hok _ _ _) fun v47 M48 => ?_
            refine gl_aI hok (by decide) (by decide) fun v49 => ?_
            exact gl_rI
          · skip
            refine gl_sI hok (by decide) (by decide) fun M50 => ?_
            refine gl_gR (by decide) (by decide) ?_
            refine gl_cI (gl_F_X4_of hok _ _ _) fun v54 M55 => ?_
            refine gl_aI hok (by decide) (by decide) fun v56 => ?_
            exact gl_rI
      · skip
        refine gl_ck ?_
        refine gl_cI (gl_F_X4_fail hok _ _) fun v65 M66 => ?_
        exact gl_rI
def gF_X4_supportClosure (fu : Nat) (x1 : Int32) (x2 : Int32) (M : zt_M) : zg_R :=
  zg_cV (gF_X4_begins fu M) (fun M5 =>
    zg_cI (gF_X4_backs fu x1 x2 M5) (fun v9 M10 =>
      zg_cI (gF_X4_ends fu v9 M10) (fun v14 M15 =>
        if v14 = (1 : Int32) then
          zg_rN .boolean (1 : Int32) M15
        else
        zg_rN .boolean (0 : Int32) M15)))
theorem gl_F_X4_supportClosure {ρ : zz_C} {σ : zz_S} {m : Nat} {ma : Nat → Nat} (hok : zt_ok m ma) (x1 : Int32) (x2 : Int32) (M : zt_M) : zF_X4_supportClosure ρ m x1 x2 (zt σ m ma M) = zg_lift σ m ma (gF_X4_supportClosure ρ.2 x1 x2 M) := by
  unfold zF_X4_supportClosure gF_X4_supportClosure
  refine gl_ck ?_
  refine gl_cV (gl_F_X4_begins hok _) fun M5 => ?_
  refine gl_ck ?_
  refine gl_cI (gl_F_X4_backs hok _ _ _) fun v9 M10 => ?_
  refine gl_ck ?_
  refine gl_cI (gl_F_X4_ends hok _ _) fun v14 M15 => ?_
  refine gl_ite ?_ ?_
  · skip
    exact gl_rN
  · skip
    exact gl_rN
def gF_X4_isListClosed (fu : Nat) (x1 : Int32) (M : zt_M) : zg_R :=
  zg_cI (gF_X4_tellsMotion fu x1 (1 : Int32) M) (fun v4 M5 =>
    if v4 = (1 : Int32) then
      zg_rN .boolean (1 : Int32) M5
    else
    zg_rN .boolean (0 : Int32) M5)
theorem gl_F_X4_isListClosed {ρ : zz_C} {σ : zz_S} {m : Nat} {ma : Nat → Nat} (hok : zt_ok m ma) (x1 : Int32) (M : zt_M) : zF_X4_isListClosed ρ m x1 (zt σ m ma M) = zg_lift σ m ma (gF_X4_isListClosed ρ.2 x1 M) := by
  unfold zF_X4_isListClosed gF_X4_isListClosed
  refine gl_ck ?_
  refine gl_cI (gl_F_X4_tellsMotion hok _ _ _) fun v4 M5 => ?_
  refine gl_ite ?_ ?_
  · skip
    exact gl_rN
  · skip
    exact gl_rN
def gJ_X4_closureWeight_14 (fu : Nat) (x1 : Int32) (t0 : Int32) (M : zt_M) : zg_R :=
  if ((zt_uI M 0 t0).1 0) = 0 then
    zg_cI (gF_X4_backing fu x1 (zt_uI M 0 t0)) (fun v6 M7 =>
      zg_rI v6 M7)
  else
  zg_rI (0 : Int32) (zt_uI M 0 t0)
theorem gl_J_X4_closureWeight_14 {ρ : zz_C} {σ : zz_S} {m : Nat} {ma : Nat → Nat} (hok : zt_ok m ma) (x1 : Int32) (t0 : Int32) (M : zt_M) : zJ_X4_closureWeight_14 ρ m x1 t0 (some m) (zt σ m ma M) = zg_lift σ m ma (gJ_X4_closureWeight_14 ρ.2 x1 t0 M) := by
  unfold zJ_X4_closureWeight_14 gJ_X4_closureWeight_14
  refine gl_pf (by decide) ?_
  refine gl_gI (by decide) ?_
  refine gl_ite ?_ ?_
  · skip
    refine gl_ck ?_
    refine gl_cI (gl_F_X4_backing hok _ _) fun v6 M7 => ?_
    exact gl_rI
  · skip
    exact gl_rI
def gF_X4_closureWeight (fu : Nat) (x1 : Int32) (M : zt_M) : zg_R :=
  zg_cI (gF_X4_isMotion fu x1 M) (fun v4 M5 =>
    if v4 = 0 then
      gJ_X4_closureWeight_14 fu x1 (1 : Int32) M5
    else
    gJ_X4_closureWeight_14 fu x1 (0 : Int32) M5)
theorem gl_F_X4_closureWeight {ρ : zz_C} {σ : zz_S} {m : Nat} {ma : Nat → Nat} (hok : zt_ok m ma) (x1 : Int32) (M : zt_M) : zF_X4_closureWeight ρ m x1 (zt σ m ma M) = zg_lift σ m ma (gF_X4_closureWeight ρ.2 x1 M) := by
  unfold zF_X4_closureWeight gF_X4_closureWeight
  refine gl_ck ?_
  refine gl_cI (gl_F_X4_isMotion hok _ _) fun v4 M5 => ?_
  refine gl_ite ?_ ?_
  · skip
    exact (gl_J_X4_closureWeight_14 hok _ _ _)
  · skip
    exact (gl_J_X4_closureWeight_14 hok _ _ _)
def gJ_X4_entitledWeight_14 (fu : Nat) (x1 : Int32) (t0 : Int32) (M : zt_M) : zg_R :=
  if ((zt_uI M 0 t0).1 0) = 0 then
    zg_cI (gF_X4_entitled fu x1 (zt_uI M 0 t0)) (fun v6 M7 =>
      zg_rI v6 M7)
  else
  zg_rI (0 : Int32) (zt_uI M 0 t0)
theorem gl_J_X4_entitledWeight_14 {ρ : zz_C} {σ : zz_S} {m : Nat} {ma : Nat → Nat} (hok : zt_ok m ma) (x1 : Int32) (t0 : Int32) (M : zt_M) : zJ_X4_entitledWeight_14 ρ m x1 t0 (some m) (zt σ m ma M) = zg_lift σ m ma (gJ_X4_entitledWeight_14 ρ.2 x1 t0 M) := by
  unfold zJ_X4_entitledWeight_14 gJ_X4_entitledWeight_14
  refine gl_pf (by decide) ?_
  refine gl_gI (by decide) ?_
  refine gl_ite ?_ ?_
  · skip
    refine gl_ck ?_
    refine gl_cI (gl_F_X4_entitled hok _ _) fun v6 M7 => ?_
    exact gl_rI
  · skip
    exact gl_rI
def gF_X4_entitledWeight (fu : Nat) (x1 : Int32) (M : zt_M) : zg_R :=
  zg_cI (gF_X4_isMotion fu x1 M) (fun v4 M5 =>
    if v4 = 0 then
      gJ_X4_entitledWeight_14 fu x1 (1 : Int32) M5
    else
    gJ_X4_entitledWeight_14 fu x1 (0 : Int32) M5)
theorem gl_F_X4_entitledWeight {ρ : zz_C} {σ : zz_S} {m : Nat} {ma : Nat → Nat} (hok : zt_ok m ma) (x1 : Int32) (M : zt_M) : zF_X4_entitledWeight ρ m x1 (zt σ m ma M) = zg_lift σ m ma (gF_X4_entitledWeight ρ.2 x1 M) := by
  unfold zF_X4_entitledWeight gF_X4_entitledWeight
  refine gl_ck ?_
  refine gl_cI (gl_F_X4_isMotion hok _ _) fun v4 M5 => ?_
  refine gl_ite ?_ ?_
  · skip
    exact (gl_J_X4_entitledWeight_14 hok _ _ _)
  · skip
    exact (gl_J_X4_entitledWeight_14 hok _ _ _)
def gF_X4_isDue (fu : Nat) (x1 : Int32) (M : zt_M) : zg_R :=
  zg_cI (gF_X4_of fu x1 (2 : Int32) M) (fun v4 M5 =>
    (zg_aI M5 5 v4).bind fun v6 =>
    if v6 = 0 then
      zg_cI (gF_X4_of fu x1 (1 : Int32) M5) (fun v10 M11 =>
        (zg_aI M11 5 v10).bind fun v12 =>
        if v12 = (1 : Int32) then
          zg_cI (gF_X4_of fu x1 (5 : Int32) M11) (fun v16 M17 =>
            (zg_aI M17 5 v16).bind fun v18 =>
            if v18 = 0 then
              zg_rN .boolean (1 : Int32) M17
            else
            zg_rN .boolean (0 : Int32) M17)
        else
        zg_rN .boolean (0 : Int32) M11)
    else
    zg_rN .boolean (0 : Int32) M5)
theorem gl_F_X4_isDue {ρ : zz_C} {σ : zz_S} {m : Nat} {ma : Nat → Nat} (hok : zt_ok m ma) (x1 : Int32) (M : zt_M) : zF_X4_isDue ρ m x1 (zt σ m ma M) = zg_lift σ m ma (gF_X4_isDue ρ.2 x1 M) := by
  unfold zF_X4_isDue gF_X4_isDue
  refine gl_gR (by decide) (by decide) ?_
  refine gl_cI (gl_F_X4_of hok _ _ _) fun v4 M5 => ?_
  refine gl_aI hok (by decide) (by decide) fun v6 => ?_
  refine gl_ite ?_ ?_
  · skip
    refine gl_gR (by decide) (by decide) ?_
    refine gl_cI (gl_F_X4_of hok _ _ _) fun v10 M11 => ?_
    refine gl_aI hok (by decide) (by decide) fun v12 => ?_
    refine gl_ite ?_ ?_
    · skip
      refine gl_gR (by decide) (by decide) ?_
      refine gl_cI (gl_F_X4_of hok _ _ _) fun v16 M17 => ?_
      refine gl_aI hok (by decide) (by decide) fun v18 => ?_
      refine gl_ite ?_ ?_
      · skip
        exact gl_rN
      · skip
        exact gl_rN
    · skip
      exact gl_rN
  · skip
    exact gl_rN
def gF_X4_croaked (fu : Nat) (x0 : Int32) (x1 : Int32) (M : zt_M) : zg_R :=
  zg_rI (((191 : Int32) + ((36 : Int32) * x0)) + ((3 : Int32) * x1)) M
theorem gl_F_X4_croaked {ρ : zz_C} {σ : zz_S} {m : Nat} {ma : Nat → Nat} (hok : zt_ok m ma) (x0 : Int32) (x1 : Int32) (M : zt_M) : zF_X4_croaked ρ x0 x1 (zt σ m ma M) = zg_lift σ m ma (gF_X4_croaked ρ.2 x0 x1 M) := by
  unfold zF_X4_croaked gF_X4_croaked
  exact gl_rI
def gF_X4_strength (fu : Nat) (x1 : Int32) (x2 : Int32) (M : zt_M) : zg_R :=
  zg_cI (gF_X4_croaked fu x1 x2 M) (fun v4 M5 =>
    (zg_aI M5 5 (v4 + (1 : Int32))).bind fun v6 =>
    zg_cI (gF_X4_croaked fu x1 x2 M5) (fun v11 M12 =>
      (zg_aI M12 5 v11).bind fun v13 =>
      (zg_aI M12 5 ((17 : Int32) + v13)).bind fun v14 =>
      zg_rI (v6 * v14) M12))
theorem gl_F_X4_strength {ρ : zz_C} {σ : zz_S} {m : Nat} {ma : Nat → Nat} (hok : zt_ok m ma) (x1 : Int32) (x2 : Int32) (M : zt_M) : zF_X4_strength ρ m x1 x2 (zt σ m ma M) = zg_lift σ m ma (gF_X4_strength ρ.2 x1 x2 M) := by
  unfold zF_X4_strength gF_X4_strength
  refine gl_gR (by decide) (by decide) ?_
  refine gl_cI (gl_F_X4_croaked hok _ _ _) fun v4 M5 => ?_
  refine gl_aI hok (by decide) (by decide) fun v6 => ?_
  refine gl_gR (by decide) (by decide) ?_
  refine gl_gR (by decide) (by decide) ?_
  refine gl_cI (gl_F_X4_croaked hok _ _ _) fun v11 M12 => ?_
  refine gl_aI hok (by decide) (by decide) fun v13 => ?_
  refine gl_aI hok (by decide) (by decide) fun v14 => ?_
  exact gl_rI
def gJ_X4_sum_50 (fu : Nat) (K5' : Int32 → Int32 → Int32 → Int32 → zt_M → zg_R) (x1 : Int32) (x2 : Int32) (x4 : Int32) (t0 : Int32) (t1 : Int32) (M : zt_M) : zg_R :=
  K5' x1 x2 (t1 + t0) (x4 + (1 : Int32)) M
theorem gl_J_X4_sum_50 {ρ : zz_C} {σ : zz_S} {m : Nat} {ma : Nat → Nat} (hok : zt_ok m ma) {K5 : Nat → Int32 → Int32 → Int32 → Int32 → zz_S → zz_R} {K5' : Int32 → Int32 → Int32 → Int32 → zt_M → zg_R} (hK5 : ∀ (x1 : Int32) (x2 : Int32) (x3 : Int32) (x4 : Int32) (M : zt_M), K5 m x1 x2 x3 x4 (zt σ m ma M) = zg_lift σ m ma (K5' x1 x2 x3 x4 M)) (x1 : Int32) (x2 : Int32) (x4 : Int32) (t0 : Int32) (t1 : Int32) (M : zt_M) : zJ_X4_sum_50 ρ K5 m x1 x2 x4 t0 t1 (zt σ m ma M) = zg_lift σ m ma (gJ_X4_sum_50 ρ.2 K5' x1 x2 x4 t0 t1 M) := by
  unfold zJ_X4_sum_50 gJ_X4_sum_50
  exact hK5 _ _ _ _ _
def gL_X4_sum_5 (fu : Nat) : Nat → Int32 → Int32 → Int32 → Int32 → zt_M → zg_R
  | 0, _, _, _, _, _ => none
  | n + 1, x1, x2, x3, x4, M =>
    zg_cI (gF_X4_of fu x1 (7 : Int32) M) (fun v4 M5 =>
      (zg_aI M5 5 v4).bind fun v6 =>
      if v6 ≤ x4 then
        zg_rI x3 M5
      else
      zg_cI (gF_X4_croaked fu x1 x4 M5) (fun v10 M11 =>
        (zg_aI M11 5 (v10 + (2 : Int32))).bind fun v12 =>
        if v12 = x2 then
          zg_cI (gF_X4_strength fu x1 x4 M11) (fun v16 M17 =>
            gJ_X4_sum_50 fu (gL_X4_sum_5 fu n) x1 x2 x4 v16 x3 M17)
        else
        gJ_X4_sum_50 fu (gL_X4_sum_5 fu n) x1 x2 x4 (0 : Int32) x3 M11))
theorem gl_L_X4_sum_5 {ρ : zz_C} {σ : zz_S} {m : Nat} {ma : Nat → Nat} (hok : zt_ok m ma) : ∀ (n : Nat) (x1 : Int32) (x2 : Int32) (x3 : Int32) (x4 : Int32) (M : zt_M), zL_X4_sum_5 ρ n m x1 x2 x3 x4 (zt σ m ma M) = zg_lift σ m ma (gL_X4_sum_5 ρ.2 n x1 x2 x3 x4 M) := by
  intro n
  induction n with
  | zero => intros; rfl
  | succ n ih =>
    intro x1 x2 x3 x4 M
    rw [zL_X4_sum_5, gL_X4_sum_5]
    refine gl_gR (by decide) (by decide) ?_
    refine gl_cI (gl_F_X4_of hok _ _ _) fun v4 M5 => ?_
    refine gl_aI hok (by decide) (by decide) fun v6 => ?_
    refine gl_ite ?_ ?_
    · skip
      exact gl_rI
    · skip
      refine gl_gR (by decide) (by decide) ?_
      refine gl_cI (gl_F_X4_croaked hok _ _ _) fun v10 M11 => ?_
      refine gl_aI hok (by decide) (by decide) fun v12 => ?_
      refine gl_ite ?_ ?_
      · skip
        refine gl_ck ?_
        refine gl_cI (gl_F_X4_strength hok _ _ _) fun v16 M17 => ?_
        exact (gl_J_X4_sum_50 hok ih _ _ _ _ _ _)
      · skip
        exact (gl_J_X4_sum_50 hok ih _ _ _ _ _ _)
def gF_X4_sum (fu : Nat) (x1 : Int32) (x2 : Int32) (M : zt_M) : zg_R :=
  gL_X4_sum_5 fu fu x1 x2 (0 : Int32) (0 : Int32) M
theorem gl_F_X4_sum {ρ : zz_C} {σ : zz_S} {m : Nat} {ma : Nat → Nat} (hok : zt_ok m ma) (x1 : Int32) (x2 : Int32) (M : zt_M) : zF_X4_sum ρ m x1 x2 (zt σ m ma M) = zg_lift σ m ma (gF_X4_sum ρ.2 x1 x2 M) := by
  unfold zF_X4_sum gF_X4_sum
  exact (gl_L_X4_sum_5 hok _ _ _ _ _ _)
def gF_X4_decides (fu : Nat) (x1 : Int32) (M : zt_M) : zg_R :=
  zg_cI (gF_X4_isMotion fu x1 M) (fun v4 M5 =>
    if v4 = 0 then
      zg_cI (gF_X4_fail fu (1 : Int32) M5) (fun v54 M55 =>
        zg_rI v54 M55)
    else
    zg_cI (gF_X4_isDue fu x1 M5) (fun v9 M10 =>
      if v9 = 0 then
        zg_cI (gF_X4_fail fu (2 : Int32) M10) (fun v49 M50 =>
          zg_rI v49 M50)
      else
      zg_cI (gF_X4_of fu x1 (2 : Int32) M10) (fun v14 M15 =>
        (zg_sI M15 5 v14 (1 : Int32)).bind fun M16 =>
        zg_cI (gF_X4_of fu x1 (3 : Int32) M16) (fun v20 M21 =>
          zg_cI (gF_X4_sum fu x1 (1 : Int32) M21) (fun v25 M26 =>
            zg_cI (gF_X4_sum fu x1 (0 : Int32) M26) (fun v30 M31 =>
              if v25 ≤ v30 then
                (zg_sI M31 5 v20 (0 : Int32)).bind fun M32 =>
                zg_cI (gF_X4_of fu x1 (3 : Int32) M32) (fun v36 M37 =>
                  (zg_aI M37 5 v36).bind fun v38 =>
                  zg_rI v38 M37)
              else
              (zg_sI M31 5 v20 (1 : Int32)).bind fun M39 =>
              zg_cI (gF_X4_of fu x1 (3 : Int32) M39) (fun v43 M44 =>
                (zg_aI M44 5 v43).bind fun v45 =>
                zg_rI v45 M44)))))))
theorem gl_F_X4_decides {ρ : zz_C} {σ : zz_S} {m : Nat} {ma : Nat → Nat} (hok : zt_ok m ma) (x1 : Int32) (M : zt_M) : zF_X4_decides ρ m x1 (zt σ m ma M) = zg_lift σ m ma (gF_X4_decides ρ.2 x1 M) := by
  unfold zF_X4_decides gF_X4_decides
  refine gl_ck ?_
  refine gl_cI (gl_F_X4_isMotion hok _ _) fun v4 M5 => ?_
  refine gl_ite ?_ ?_
  · skip
    refine gl_ck ?_
    refine gl_cI (gl_F_X4_fail hok _ _) fun v54 M55 => ?_
    exact gl_rI
  · skip
    refine gl_ck ?_
    refine gl_cI (gl_F_X4_isDue hok _ _) fun v9 M10 => ?_
    refine gl_ite ?_ ?_
    · skip
      refine gl_ck ?_
      refine gl_cI (gl_F_X4_fail hok _ _) fun v49 M50 => ?_
      exact gl_rI
    · skip
      refine gl_gR (by decide) (by decide) ?_
      refine gl_cI (gl_F_X4_of hok _ _ _) fun v14 M15 => ?_
      refine gl_sI hok (by decide) (by decide) fun M16 => ?_
      refine gl_gR (by decide) (by decide) ?_
      refine gl_cI (gl_F_X4_of hok _ _ _) fun v20 M21 => ?_
      refine gl_ck ?_
      refine gl_cI (gl_F_X4_sum hok _ _ _) fun v25 M26 => ?_
      refine gl_ck ?_
      refine gl_cI (gl_F_X4_sum hok _ _ _) fun v30 M31 => ?_
      refine gl_ite ?_ ?_
      · skip
        refine gl_sI hok (by decide) (by decide) fun M32 => ?_
        refine gl_gR (by decide) (by decide) ?_
        refine gl_cI (gl_F_X4_of hok _ _ _) fun v36 M37 => ?_
        refine gl_aI hok (by decide) (by decide) fun v38 => ?_
        exact gl_rI
      · skip
        refine gl_sI hok (by decide) (by decide) fun M39 => ?_
        refine gl_gR (by decide) (by decide) ?_
        refine gl_cI (gl_F_X4_of hok _ _ _) fun v43 M44 => ?_
        refine gl_aI hok (by decide) (by decide) fun v45 => ?_
        exact gl_rI
def gF_X4_decide (fu : Nat) (x1 : Int32) (M : zt_M) : zg_R :=
  zg_cV (gF_X4_begins fu M) (fun M5 =>
    zg_cI (gF_X4_decides fu x1 M5) (fun v9 M10 =>
      zg_cI (gF_X4_ends fu v9 M10) (fun v14 M15 =>
        if v14 = (1 : Int32) then
          zg_rN .boolean (1 : Int32) M15
        else
        zg_rN .boolean (0 : Int32) M15)))
theorem gl_F_X4_decide {ρ : zz_C} {σ : zz_S} {m : Nat} {ma : Nat → Nat} (hok : zt_ok m ma) (x1 : Int32) (M : zt_M) : zF_X4_decide ρ m x1 (zt σ m ma M) = zg_lift σ m ma (gF_X4_decide ρ.2 x1 M) := by
  unfold zF_X4_decide gF_X4_decide
  refine gl_ck ?_
  refine gl_cV (gl_F_X4_begins hok _) fun M5 => ?_
  refine gl_ck ?_
  refine gl_cI (gl_F_X4_decides hok _ _) fun v9 M10 => ?_
  refine gl_ck ?_
  refine gl_cI (gl_F_X4_ends hok _ _) fun v14 M15 => ?_
  refine gl_ite ?_ ?_
  · skip
    exact gl_rN
  · skip
    exact gl_rN
def gF_X4_isDecided (fu : Nat) (x1 : Int32) (M : zt_M) : zg_R :=
  zg_cI (gF_X4_tellsMotion fu x1 (2 : Int32) M) (fun v4 M5 =>
    if v4 = (1 : Int32) then
      zg_rN .boolean (1 : Int32) M5
    else
    zg_rN .boolean (0 : Int32) M5)
theorem gl_F_X4_isDecided {ρ : zz_C} {σ : zz_S} {m : Nat} {ma : Nat → Nat} (hok : zt_ok m ma) (x1 : Int32) (M : zt_M) : zF_X4_isDecided ρ m x1 (zt σ m ma M) = zg_lift σ m ma (gF_X4_isDecided ρ.2 x1 M) := by
  unfold zF_X4_isDecided gF_X4_isDecided
  refine gl_ck ?_
  refine gl_cI (gl_F_X4_tellsMotion hok _ _ _) fun v4 M5 => ?_
  refine gl_ite ?_ ?_
  · skip
    exact gl_rN
  · skip
    exact gl_rN
def gF_X4_isAdopted (fu : Nat) (x1 : Int32) (M : zt_M) : zg_R :=
  zg_cI (gF_X4_tellsMotion fu x1 (3 : Int32) M) (fun v4 M5 =>
    if v4 = (1 : Int32) then
      zg_rN .boolean (1 : Int32) M5
    else
    zg_rN .boolean (0 : Int32) M5)
theorem gl_F_X4_isAdopted {ρ : zz_C} {σ : zz_S} {m : Nat} {ma : Nat → Nat} (hok : zt_ok m ma) (x1 : Int32) (M : zt_M) : zF_X4_isAdopted ρ m x1 (zt σ m ma M) = zg_lift σ m ma (gF_X4_isAdopted ρ.2 x1 M) := by
  unfold zF_X4_isAdopted gF_X4_isAdopted
  refine gl_ck ?_
  refine gl_cI (gl_F_X4_tellsMotion hok _ _ _) fun v4 M5 => ?_
  refine gl_ite ?_ ?_
  · skip
    exact gl_rN
  · skip
    exact gl_rN
def gJ_X4_side_14 (fu : Nat) (x1 : Int32) (x2 : Int32) (t0 : Int32) (M : zt_M) : zg_R :=
  if ((zt_uI M 0 t0).1 0) = 0 then
    zg_cI (gF_X4_sum fu x1 x2 (zt_uI M 0 t0)) (fun v6 M7 =>
      zg_rI v6 M7)
  else
  zg_rI (0 : Int32) (zt_uI M 0 t0)
theorem gl_J_X4_side_14 {ρ : zz_C} {σ : zz_S} {m : Nat} {ma : Nat → Nat} (hok : zt_ok m ma) (x1 : Int32) (x2 : Int32) (t0 : Int32) (M : zt_M) : zJ_X4_side_14 ρ m x1 x2 t0 (some m) (zt σ m ma M) = zg_lift σ m ma (gJ_X4_side_14 ρ.2 x1 x2 t0 M) := by
  unfold zJ_X4_side_14 gJ_X4_side_14
  refine gl_pf (by decide) ?_
  refine gl_gI (by decide) ?_
  refine gl_ite ?_ ?_
  · skip
    refine gl_ck ?_
    refine gl_cI (gl_F_X4_sum hok _ _ _) fun v6 M7 => ?_
    exact gl_rI
  · skip
    exact gl_rI
def gF_X4_side (fu : Nat) (x1 : Int32) (x2 : Int32) (M : zt_M) : zg_R :=
  zg_cI (gF_X4_isMotion fu x1 M) (fun v4 M5 =>
    if v4 = 0 then
      gJ_X4_side_14 fu x1 x2 (1 : Int32) M5
    else
    gJ_X4_side_14 fu x1 x2 (0 : Int32) M5)
theorem gl_F_X4_side {ρ : zz_C} {σ : zz_S} {m : Nat} {ma : Nat → Nat} (hok : zt_ok m ma) (x1 : Int32) (x2 : Int32) (M : zt_M) : zF_X4_side ρ m x1 x2 (zt σ m ma M) = zg_lift σ m ma (gF_X4_side ρ.2 x1 x2 M) := by
  unfold zF_X4_side gF_X4_side
  refine gl_ck ?_
  refine gl_cI (gl_F_X4_isMotion hok _ _) fun v4 M5 => ?_
  refine gl_ite ?_ ?_
  · skip
    exact (gl_J_X4_side_14 hok _ _ _ _)
  · skip
    exact (gl_J_X4_side_14 hok _ _ _ _)
def gF_X4_croaksFor (fu : Nat) (x1 : Int32) (M : zt_M) : zg_R :=
  zg_cI (gF_X4_side fu x1 (1 : Int32) M) (fun v4 M5 =>
    zg_rI v4 M5)
theorem gl_F_X4_croaksFor {ρ : zz_C} {σ : zz_S} {m : Nat} {ma : Nat → Nat} (hok : zt_ok m ma) (x1 : Int32) (M : zt_M) : zF_X4_croaksFor ρ m x1 (zt σ m ma M) = zg_lift σ m ma (gF_X4_croaksFor ρ.2 x1 M) := by
  unfold zF_X4_croaksFor gF_X4_croaksFor
  refine gl_ck ?_
  refine gl_cI (gl_F_X4_side hok _ _ _) fun v4 M5 => ?_
  exact gl_rI
def gF_X4_croaksForByPonds (fu : Nat) (x1 : Int32) (M : zt_M) : zg_R :=
  zg_cI (gF_X4_side fu x1 (1 : Int32) M) (fun v4 M5 =>
    zg_rI v4 M5)
theorem gl_F_X4_croaksForByPonds {ρ : zz_C} {σ : zz_S} {m : Nat} {ma : Nat → Nat} (hok : zt_ok m ma) (x1 : Int32) (M : zt_M) : zF_X4_croaksForByPonds ρ m x1 (zt σ m ma M) = zg_lift σ m ma (gF_X4_croaksForByPonds ρ.2 x1 M) := by
  unfold zF_X4_croaksForByPonds gF_X4_croaksForByPonds
  refine gl_ck ?_
  refine gl_cI (gl_F_X4_side hok _ _ _) fun v4 M5 => ?_
  exact gl_rI
def gF_X4_croaksAgainst (fu : Nat) (x1 : Int32) (M : zt_M) : zg_R :=
  zg_cI (gF_X4_side fu x1 (0 : Int32) M) (fun v4 M5 =>
    zg_rI v4 M5)
theorem gl_F_X4_croaksAgainst {ρ : zz_C} {σ : zz_S} {m : Nat} {ma : Nat → Nat} (hok : zt_ok m ma) (x1 : Int32) (M : zt_M) : zF_X4_croaksAgainst ρ m x1 (zt σ m ma M) = zg_lift σ m ma (gF_X4_croaksAgainst ρ.2 x1 M) := by
  unfold zF_X4_croaksAgainst gF_X4_croaksAgainst
  refine gl_ck ?_
  refine gl_cI (gl_F_X4_side hok _ _ _) fun v4 M5 => ?_
  exact gl_rI
def gJ_X4_strongestFrog_80 (fu : Nat) (K48' : Int32 → Int32 → Int32 → zt_M → zg_R) (x1 : Int32) (x2 : Int32) (x3 : Int32) (M : zt_M) : zg_R :=
  K48' x1 x2 (x3 + (1 : Int32)) M
theorem gl_J_X4_strongestFrog_80 {ρ : zz_C} {σ : zz_S} {m : Nat} {ma : Nat → Nat} (hok : zt_ok m ma) {K48 : Nat → Int32 → Int32 → Int32 → zz_S → zz_R} {K48' : Int32 → Int32 → Int32 → zt_M → zg_R} (hK48 : ∀ (x1 : Int32) (x2 : Int32) (x3 : Int32) (M : zt_M), K48 m x1 x2 x3 (zt σ m ma M) = zg_lift σ m ma (K48' x1 x2 x3 M)) (x1 : Int32) (x2 : Int32) (x3 : Int32) (M : zt_M) : zJ_X4_strongestFrog_80 ρ K48 m x1 x2 x3 (zt σ m ma M) = zg_lift σ m ma (gJ_X4_strongestFrog_80 ρ.2 K48' x1 x2 x3 M) := by
  unfold zJ_X4_strongestFrog_80 gJ_X4_strongestFrog_80
  exact hK48 _ _ _ _
def gL_X4_strongestFrog_48 (fu : Nat) : Nat → Int32 → Int32 → Int32 → zt_M → zg_R
  | 0, _, _, _, _ => none
  | n + 1, x1, x2, x3, M =>
    zg_cI (gF_X4_of fu x1 (7 : Int32) M) (fun v4 M5 =>
      (zg_aI M5 5 v4).bind fun v6 =>
      if v6 ≤ x3 then
        zg_cI (gF_X4_croaked fu x1 x2 M5) (fun v10 M11 =>
          (zg_aI M11 5 v10).bind fun v12 =>
          zg_rI v12 M11)
      else
      zg_cI (gF_X4_strength fu x1 x3 M5) (fun v16 M17 =>
        zg_cI (gF_X4_strength fu x1 x2 M17) (fun v21 M22 =>
          if v16 ≤ v21 then
            gJ_X4_strongestFrog_80 fu (gL_X4_strongestFrog_48 fu n) x1 x2 x3 M22
          else
          gJ_X4_strongestFrog_80 fu (gL_X4_strongestFrog_48 fu n) x1 x3 x3 M22)))
theorem gl_L_X4_strongestFrog_48 {ρ : zz_C} {σ : zz_S} {m : Nat} {ma : Nat → Nat} (hok : zt_ok m ma) : ∀ (n : Nat) (x1 : Int32) (x2 : Int32) (x3 : Int32) (M : zt_M), zL_X4_strongestFrog_48 ρ n m x1 x2 x3 (zt σ m ma M) = zg_lift σ m ma (gL_X4_strongestFrog_48 ρ.2 n x1 x2 x3 M) := by
  intro n
  induction n with
  | zero => intros; rfl
  | succ n ih =>
    intro x1 x2 x3 M
    rw [zL_X4_strongestFrog_48, gL_X4_strongestFrog_48]
    refine gl_gR (by decide) (by decide) ?_
    refine gl_cI (gl_F_X4_of hok _ _ _) fun v4 M5 => ?_
    refine gl_aI hok (by decide) (by decide) fun v6 => ?_
    refine gl_ite ?_ ?_
    · skip
      refine gl_gR (by decide) (by decide) ?_
      refine gl_cI (gl_F_X4_croaked hok _ _ _) fun v10 M11 => ?_
      refine gl_aI hok (by decide) (by decide) fun v12 => ?_
      exact gl_rI
    · skip
      refine gl_ck ?_
      refine gl_cI (gl_F_X4_strength hok _ _ _) fun v16 M17 => ?_
      refine gl_ck ?_
      refine gl_cI (gl_F_X4_strength hok _ _ _) fun v21 M22 => ?_
      refine gl_ite ?_ ?_
      · skip
        exact (gl_J_X4_strongestFrog_80 hok ih _ _ _ _)
      · skip
        exact (gl_J_X4_strongestFrog_80 hok ih _ _ _ _)
def gJ_X4_strongestFrog_32 (fu : Nat) (x1 : Int32) (t0 : Int32) (M : zt_M) : zg_R :=
  if ((zt_uI M 0 t0).1 0) = 0 then
    gL_X4_strongestFrog_48 fu fu x1 (0 : Int32) (1 : Int32) (zt_uI M 0 t0)
  else
  zg_rI (0 : Int32) (zt_uI M 0 t0)
theorem gl_J_X4_strongestFrog_32 {ρ : zz_C} {σ : zz_S} {m : Nat} {ma : Nat → Nat} (hok : zt_ok m ma) (x1 : Int32) (t0 : Int32) (M : zt_M) : zJ_X4_strongestFrog_32 ρ m x1 t0 (some m) (zt σ m ma M) = zg_lift σ m ma (gJ_X4_strongestFrog_32 ρ.2 x1 t0 M) := by
  unfold zJ_X4_strongestFrog_32 gJ_X4_strongestFrog_32
  refine gl_pf (by decide) ?_
  refine gl_gI (by decide) ?_
  refine gl_ite ?_ ?_
  · skip
    exact (gl_L_X4_strongestFrog_48 hok _ _ _ _ _)
  · skip
    exact gl_rI
def gF_X4_strongestFrog (fu : Nat) (x1 : Int32) (M : zt_M) : zg_R :=
  zg_cI (gF_X4_isMotion fu x1 M) (fun v4 M5 =>
    if v4 = 0 then
      gJ_X4_strongestFrog_32 fu x1 (1 : Int32) M5
    else
    zg_cI (gF_X4_of fu x1 (7 : Int32) M5) (fun v9 M10 =>
      (zg_aI M10 5 v9).bind fun v11 =>
      if v11 = 0 then
        gJ_X4_strongestFrog_32 fu x1 (2 : Int32) M10
      else
      gJ_X4_strongestFrog_32 fu x1 (0 : Int32) M10))
theorem gl_F_X4_strongestFrog {ρ : zz_C} {σ : zz_S} {m : Nat} {ma : Nat → Nat} (hok : zt_ok m ma) (x1 : Int32) (M : zt_M) : zF_X4_strongestFrog ρ m x1 (zt σ m ma M) = zg_lift σ m ma (gF_X4_strongestFrog ρ.2 x1 M) := by
  unfold zF_X4_strongestFrog gF_X4_strongestFrog
  refine gl_ck ?_
  refine gl_cI (gl_F_X4_isMotion hok _ _) fun v4 M5 => ?_
  refine gl_ite ?_ ?_
  · skip
    exact (gl_J_X4_strongestFrog_32 hok _ _ _)
  · skip
    refine gl_gR (by decide) (by decide) ?_
    refine gl_cI (gl_F_X4_of hok _ _ _) fun v9 M10 => ?_
    refine gl_aI hok (by decide) (by decide) fun v11 => ?_
    refine gl_ite ?_ ?_
    · skip
      exact (gl_J_X4_strongestFrog_32 hok _ _ _)
    · skip
      exact (gl_J_X4_strongestFrog_32 hok _ _ _)
def gJ_X4_shareFor_32 (fu : Nat) (x1 : Int32) (t0 : Int32) (M : zt_M) : zg_R :=
  if ((zt_uI M 0 t0).1 0) = 0 then
    zg_cI (gF_X4_sum fu x1 (1 : Int32) (zt_uI M 0 t0)) (fun v6 M7 =>
      zg_cI (gF_X4_sum fu x1 (1 : Int32) M7) (fun v11 M12 =>
        zg_cI (gF_X4_sum fu x1 (0 : Int32) M12) (fun v16 M17 =>
          if ¬ (zz_n32 (FP.fdiv (FP.i2f v6) (FP.i2f (v11 + v16))) = true) then none else
          zg_rF (FP.fdiv (FP.i2f v6) (FP.i2f (v11 + v16))) M17)))
  else
  zg_rF FP.fconst0 (zt_uI M 0 t0)
theorem gl_J_X4_shareFor_32 {ρ : zz_C} {σ : zz_S} {m : Nat} {ma : Nat → Nat} (hok : zt_ok m ma) (x1 : Int32) (t0 : Int32) (M : zt_M) : zJ_X4_shareFor_32 ρ m x1 t0 (some m) (zt σ m ma M) = zg_lift σ m ma (gJ_X4_shareFor_32 ρ.2 x1 t0 M) := by
  unfold zJ_X4_shareFor_32 gJ_X4_shareFor_32
  refine gl_pf (by decide) ?_
  refine gl_gI (by decide) ?_
  refine gl_ite ?_ ?_
  · skip
    refine gl_ck ?_
    refine gl_cI (gl_F_X4_sum hok _ _ _) fun v6 M7 => ?_
    refine gl_ck ?_
    refine gl_cI (gl_F_X4_sum hok _ _ _) fun v11 M12 => ?_
    refine gl_ck ?_
    refine gl_cI (gl_F_X4_sum hok _ _ _) fun v16 M17 => ?_
    refine gl_ite gl_none ?_
    exact gl_rF
  · skip
    exact gl_rF
def gF_X4_shareFor (fu : Nat) (x1 : Int32) (M : zt_M) : zg_R :=
  zg_cI (gF_X4_isMotion fu x1 M) (fun v4 M5 =>
    if v4 = 0 then
      gJ_X4_shareFor_32 fu x1 (1 : Int32) M5
    else
    zg_cI (gF_X4_of fu x1 (7 : Int32) M5) (fun v9 M10 =>
      (zg_aI M10 5 v9).bind fun v11 =>
      if v11 = 0 then
        gJ_X4_shareFor_32 fu x1 (2 : Int32) M10
      else
      gJ_X4_shareFor_32 fu x1 (0 : Int32) M10))
theorem gl_F_X4_shareFor {ρ : zz_C} {σ : zz_S} {m : Nat} {ma : Nat → Nat} (hok : zt_ok m ma) (x1 : Int32) (M : zt_M) : zF_X4_shareFor ρ m x1 (zt σ m ma M) = zg_lift σ m ma (gF_X4_shareFor ρ.2 x1 M) := by
  unfold zF_X4_shareFor gF_X4_shareFor
  refine gl_ck ?_
  refine gl_cI (gl_F_X4_isMotion hok _ _) fun v4 M5 => ?_
  refine gl_ite ?_ ?_
  · skip
    exact (gl_J_X4_shareFor_32 hok _ _ _)
  · skip
    refine gl_gR (by decide) (by decide) ?_
    refine gl_cI (gl_F_X4_of hok _ _ _) fun v9 M10 => ?_
    refine gl_aI hok (by decide) (by decide) fun v11 => ?_
    refine gl_ite ?_ ?_
    · skip
      exact (gl_J_X4_shareFor_32 hok _ _ _)
    · skip
      exact (gl_J_X4_shareFor_32 hok _ _ _)
def gF_X4_speechTotal (fu : Nat) (M : zt_M) : zg_R :=
  zg_cI (gF_X4_tells fu (3 : Int32) M) (fun v4 M5 =>
    zg_rI v4 M5)
theorem gl_F_X4_speechTotal {ρ : zz_C} {σ : zz_S} {m : Nat} {ma : Nat → Nat} (hok : zt_ok m ma) (M : zt_M) : zF_X4_speechTotal ρ m (zt σ m ma M) = zg_lift σ m ma (gF_X4_speechTotal ρ.2 M) := by
  unfold zF_X4_speechTotal gF_X4_speechTotal
  refine gl_ck ?_
  refine gl_cI (gl_F_X4_tells hok _ _) fun v4 M5 => ?_
  exact gl_rI
def gF_X4_missedTotal (fu : Nat) (M : zt_M) : zg_R :=
  zg_cI (gF_X4_tells fu (4 : Int32) M) (fun v4 M5 =>
    zg_rI v4 M5)
theorem gl_F_X4_missedTotal {ρ : zz_C} {σ : zz_S} {m : Nat} {ma : Nat → Nat} (hok : zt_ok m ma) (M : zt_M) : zF_X4_missedTotal ρ m (zt σ m ma M) = zg_lift σ m ma (gF_X4_missedTotal ρ.2 M) := by
  unfold zF_X4_missedTotal gF_X4_missedTotal
  refine gl_ck ?_
  refine gl_cI (gl_F_X4_tells hok _ _) fun v4 M5 => ?_
  exact gl_rI
def gL_X4_adoptedCount_9 (fu : Nat) : Nat → Int32 → Int32 → zt_M → zg_R
  | 0, _, _, _ => none
  | n + 1, x1, x2, M =>
    (zg_aI M 5 (2 : Int32)).bind fun v2 =>
    if v2 ≤ x2 then
      zg_rI x1 M
    else
    zg_cI (gF_X4_of fu x2 (3 : Int32) M) (fun v6 M7 =>
      (zg_aI M7 5 v6).bind fun v8 =>
      gL_X4_adoptedCount_9 fu n (x1 + v8) (x2 + (1 : Int32)) M7)
theorem gl_L_X4_adoptedCount_9 {ρ : zz_C} {σ : zz_S} {m : Nat} {ma : Nat → Nat} (hok : zt_ok m ma) : ∀ (n : Nat) (x1 : Int32) (x2 : Int32) (M : zt_M), zL_X4_adoptedCount_9 ρ n m x1 x2 (zt σ m ma M) = zg_lift σ m ma (gL_X4_adoptedCount_9 ρ.2 n x1 x2 M) := by
  intro n
  induction n with
  | zero => intros; rfl
  | succ n ih =>
    intro x1 x2 M
    rw [zL_X4_adoptedCount_9, gL_X4_adoptedCount_9]
    refine gl_gR (by decide) (by decide) ?_
    refine gl_aI hok (by decide) (by decide) fun v2 => ?_
    refine gl_ite ?_ ?_
    · skip
      exact gl_rI
    · skip
      refine gl_gR (by decide) (by decide) ?_
      refine gl_cI (gl_F_X4_of hok _ _ _) fun v6 M7 => ?_
      refine gl_aI hok (by decide) (by decide) fun v8 => ?_
      exact ih _ _ _
def gF_X4_adoptedCount (fu : Nat) (M : zt_M) : zg_R :=
  gL_X4_adoptedCount_9 fu fu (0 : Int32) (0 : Int32) (zt_uI M 0 (0 : Int32))
theorem gl_F_X4_adoptedCount {ρ : zz_C} {σ : zz_S} {m : Nat} {ma : Nat → Nat} (hok : zt_ok m ma) (M : zt_M) : zF_X4_adoptedCount ρ m (zt σ m ma M) = zg_lift σ m ma (gF_X4_adoptedCount ρ.2 M) := by
  unfold zF_X4_adoptedCount gF_X4_adoptedCount
  refine gl_pf (by decide) ?_
  exact (gl_L_X4_adoptedCount_9 hok _ _ _ _)
def gJ_X4_append_30 (fu : Nat) (x1 : Int32) (t0 : Int32) (M : zt_M) : zg_R :=
  if ((zt_uI M 0 t0).1 0) = 0 then
    (zg_sI (zt_uI M 0 t0) 9 ((zt_uI M 0 t0).1 14) x1).bind fun M5 =>
    zg_rI ((zt_uI M5 14 ((M5.1 14) + (1 : Int32))).1 14) (zt_uI M5 14 ((M5.1 14) + (1 : Int32)))
  else
  zg_rI (0 : Int32) (zt_uI M 0 t0)
theorem gl_J_X4_append_30 {ρ : zz_C} {σ : zz_S} {m : Nat} {ma : Nat → Nat} (hok : zt_ok m ma) (x1 : Int32) (t0 : Int32) (M : zt_M) : zJ_X4_append_30 ρ m x1 t0 (some m) (zt σ m ma M) = zg_lift σ m ma (gJ_X4_append_30 ρ.2 x1 t0 M) := by
  unfold zJ_X4_append_30 gJ_X4_append_30
  refine gl_pf (by decide) ?_
  refine gl_gI (by decide) ?_
  refine gl_ite ?_ ?_
  · skip
    refine gl_gR (by decide) (by decide) ?_
    refine gl_gI (by decide) ?_
    refine gl_sI hok (by decide) (by decide) fun M5 => ?_
    refine gl_gI (by decide) ?_
    refine gl_pf (by decide) ?_
    refine gl_gI (by decide) ?_
    exact gl_rI
  · skip
    exact gl_rI
def gF_X4_append (fu : Nat) (x1 : Int32) (M : zt_M) : zg_R :=
  zg_cI (gF_X4_isIn fu x1 (32 : Int32) (126 : Int32) M) (fun v3 M4 =>
    if v3 = 0 then
      gJ_X4_append_30 fu x1 (1 : Int32) M4
    else
    if (M4.1 14) = (60 : Int32) then
      gJ_X4_append_30 fu x1 (2 : Int32) M4
    else
    gJ_X4_append_30 fu x1 (0 : Int32) M4)
theorem gl_F_X4_append {ρ : zz_C} {σ : zz_S} {m : Nat} {ma : Nat → Nat} (hok : zt_ok m ma) (x1 : Int32) (M : zt_M) : zF_X4_append ρ m x1 (zt σ m ma M) = zg_lift σ m ma (gF_X4_append ρ.2 x1 M) := by
  unfold zF_X4_append gF_X4_append
  refine gl_cI (gl_F_X4_isIn hok _ _ _ _) fun v3 M4 => ?_
  refine gl_ite ?_ ?_
  · skip
    exact (gl_J_X4_append_30 hok _ _ _)
  · skip
    refine gl_gI (by decide) ?_
    refine gl_ite ?_ ?_
    · skip
      exact (gl_J_X4_append_30 hok _ _ _)
    · skip
      exact (gl_J_X4_append_30 hok _ _ _)
def gF_X4_sign (fu : Nat) (M : zt_M) : zg_R :=
  if (M.1 16) ≤ (M.1 15) then
    zg_rI (-1 : Int32) M
  else
  (zg_aI M 9 (M.1 15)).bind fun v5 =>
  zg_rI v5 M
theorem gl_F_X4_sign {ρ : zz_C} {σ : zz_S} {m : Nat} {ma : Nat → Nat} (hok : zt_ok m ma) (M : zt_M) : zF_X4_sign ρ m (zt σ m ma M) = zg_lift σ m ma (gF_X4_sign ρ.2 M) := by
  unfold zF_X4_sign gF_X4_sign
  refine gl_gI (by decide) ?_
  refine gl_gI (by decide) ?_
  refine gl_ite ?_ ?_
  · skip
    exact gl_rI
  · skip
    refine gl_gR (by decide) (by decide) ?_
    refine gl_gI (by decide) ?_
    refine gl_aI hok (by decide) (by decide) fun v5 => ?_
    exact gl_rI
def gJ_X4_word_212 (fu : Nat) (K25' : Int32 → Int32 → zt_M → zg_R) (K167' : Int32 → Int32 → Int32 → zt_M → zg_R) (x1 : Int32) (x4 : Int32) (t0 : Int32) (M : zt_M) : zg_R :=
  K167' x1 t0 (x4 + (1 : Int32)) M
theorem gl_J_X4_word_212 {ρ : zz_C} {σ : zz_S} {m : Nat} {ma : Nat → Nat} (hok : zt_ok m ma) {K25 : Nat → Int32 → Int32 → zz_S → zz_R} {K25' : Int32 → Int32 → zt_M → zg_R} (hK25 : ∀ (x1 : Int32) (x2 : Int32) (M : zt_M), K25 m x1 x2 (zt σ m ma M) = zg_lift σ m ma (K25' x1 x2 M)) {K167 : Nat → Int32 → Int32 → Int32 → zz_S → zz_R} {K167' : Int32 → Int32 → Int32 → zt_M → zg_R} (hK167 : ∀ (x1 : Int32) (x2 : Int32) (x4 : Int32) (M : zt_M), K167 m x1 x2 x4 (zt σ m ma M) = zg_lift σ m ma (K167' x1 x2 x4 M)) (x1 : Int32) (x4 : Int32) (t0 : Int32) (M : zt_M) : zJ_X4_word_212 ρ K25 K167 m x1 x4 t0 (zt σ m ma M) = zg_lift σ m ma (gJ_X4_word_212 ρ.2 K25' K167' x1 x4 t0 M) := by
  unfold zJ_X4_word_212 gJ_X4_word_212
  exact hK167 _ _ _ _
def gJ_X4_word_211 (fu : Nat) (K25' : Int32 → Int32 → zt_M → zg_R) (K167' : Int32 → Int32 → Int32 → zt_M → zg_R) (x1 : Int32) (x2 : Int32) (x4 : Int32) (M : zt_M) : zg_R :=
  gJ_X4_word_212 fu K25' K167' x1 x4 x2 M
theorem gl_J_X4_word_211 {ρ : zz_C} {σ : zz_S} {m : Nat} {ma : Nat → Nat} (hok : zt_ok m ma) {K25 : Nat → Int32 → Int32 → zz_S → zz_R} {K25' : Int32 → Int32 → zt_M → zg_R} (hK25 : ∀ (x1 : Int32) (x2 : Int32) (M : zt_M), K25 m x1 x2 (zt σ m ma M) = zg_lift σ m ma (K25' x1 x2 M)) {K167 : Nat → Int32 → Int32 → Int32 → zz_S → zz_R} {K167' : Int32 → Int32 → Int32 → zt_M → zg_R} (hK167 : ∀ (x1 : Int32) (x2 : Int32) (x4 : Int32) (M : zt_M), K167 m x1 x2 x4 (zt σ m ma M) = zg_lift σ m ma (K167' x1 x2 x4 M)) (x1 : Int32) (x2 : Int32) (x4 : Int32) (M : zt_M) : zJ_X4_word_211 ρ K25 K167 m x1 x2 x4 (zt σ m ma M) = zg_lift σ m ma (gJ_X4_word_211 ρ.2 K25' K167' x1 x2 x4 M) := by
  unfold zJ_X4_word_211 gJ_X4_word_211
  exact (gl_J_X4_word_212 hok hK25 hK167 _ _ _ _)
def gL_X4_word_167 (fu : Nat) (K25' : Int32 → Int32 → zt_M → zg_R) : Nat → Int32 → Int32 → Int32 → zt_M → zg_R
  | 0, _, _, _, _ => none
  | n + 1, x1, x2, x4, M =>
    if (11 : Int32) ≤ x4 then
      K25' x1 x2 M
    else
    (zg_aI M 11 x4).bind fun v2 =>
    if v2 = (1 : Int32) then
      (zg_aI M 13 x4).bind fun v4 =>
      (zg_aI M 13 (x4 + (1 : Int32))).bind fun v6 =>
      if (v4 + x1) = v6 then
        gJ_X4_word_212 fu K25' (gL_X4_word_167 fu K25' n) x1 x4 x4 M
      else
      gJ_X4_word_211 fu K25' (gL_X4_word_167 fu K25' n) x1 x2 x4 M
    else
    gJ_X4_word_211 fu K25' (gL_X4_word_167 fu K25' n) x1 x2 x4 M
theorem gl_L_X4_word_167 {ρ : zz_C} {σ : zz_S} {m : Nat} {ma : Nat → Nat} (hok : zt_ok m ma) {K25 : Nat → Int32 → Int32 → zz_S → zz_R} {K25' : Int32 → Int32 → zt_M → zg_R} (hK25 : ∀ (x1 : Int32) (x2 : Int32) (M : zt_M), K25 m x1 x2 (zt σ m ma M) = zg_lift σ m ma (K25' x1 x2 M)) : ∀ (n : Nat) (x1 : Int32) (x2 : Int32) (x4 : Int32) (M : zt_M), zL_X4_word_167 ρ K25 n m x1 x2 x4 (zt σ m ma M) = zg_lift σ m ma (gL_X4_word_167 ρ.2 K25' n x1 x2 x4 M) := by
  intro n
  induction n with
  | zero => intros; rfl
  | succ n ih =>
    intro x1 x2 x4 M
    rw [zL_X4_word_167, gL_X4_word_167]
    refine gl_ite ?_ ?_
    · skip
      exact hK25 _ _ _
    · skip
      refine gl_gR (by decide) (by decide) ?_
      refine gl_aI hok (by decide) (by decide) fun v2 => ?_
      refine gl_ite ?_ ?_
      · skip
        refine gl_gR (by decide) (by decide) ?_
        refine gl_aI hok (by decide) (by decide) fun v4 => ?_
        refine gl_gR (by decide) (by decide) ?_
        refine gl_aI hok (by decide) (by decide) fun v6 => ?_
        refine gl_ite ?_ ?_
        · skip
          exact (gl_J_X4_word_212 hok hK25 ih _ _ _ _)
        · skip
          exact (gl_J_X4_word_211 hok hK25 ih _ _ _ _)
      · skip
        exact (gl_J_X4_word_211 hok hK25 ih _ _ _ _)
def gJ_X4_word_157 (fu : Nat) (K25' : Int32 → Int32 → zt_M → zg_R) (x1 : Int32) (x2 : Int32) (t0 : Int32) (t1 : Int32) (M : zt_M) : zg_R :=
  gL_X4_word_167 fu K25' fu (x1 + (1 : Int32)) x2 (0 : Int32) (zt_uI M 15 (t1 + t0))
theorem gl_J_X4_word_157 {ρ : zz_C} {σ : zz_S} {m : Nat} {ma : Nat → Nat} (hok : zt_ok m ma) {K25 : Nat → Int32 → Int32 → zz_S → zz_R} {K25' : Int32 → Int32 → zt_M → zg_R} (hK25 : ∀ (x1 : Int32) (x2 : Int32) (M : zt_M), K25 m x1 x2 (zt σ m ma M) = zg_lift σ m ma (K25' x1 x2 M)) (x1 : Int32) (x2 : Int32) (t0 : Int32) (t1 : Int32) (M : zt_M) : zJ_X4_word_157 ρ K25 m x1 x2 t0 t1 (some m) (zt σ m ma M) = zg_lift σ m ma (gJ_X4_word_157 ρ.2 K25' x1 x2 t0 t1 M) := by
  unfold zJ_X4_word_157 gJ_X4_word_157
  refine gl_pf (by decide) ?_
  exact (gl_L_X4_word_167 hok hK25 _ _ _ _ _)
def gJ_X4_word_140 (fu : Nat) (K25' : Int32 → Int32 → zt_M → zg_R) (x1 : Int32) (x2 : Int32) (x3 : Int32) (t0 : Int32) (M : zt_M) : zg_R :=
  (zg_pfN M 18 t0).bind fun M1 =>
  if x3 = 0 then
    gJ_X4_word_157 fu K25' x1 x2 (0 : Int32) (M1.1 15) M1
  else
  gJ_X4_word_157 fu K25' x1 x2 (1 : Int32) (M1.1 15) M1
theorem gl_J_X4_word_140 {ρ : zz_C} {σ : zz_S} {m : Nat} {ma : Nat → Nat} (hok : zt_ok m ma) {K25 : Nat → Int32 → Int32 → zz_S → zz_R} {K25' : Int32 → Int32 → zt_M → zg_R} (hK25 : ∀ (x1 : Int32) (x2 : Int32) (M : zt_M), K25 m x1 x2 (zt σ m ma M) = zg_lift σ m ma (K25' x1 x2 M)) (x1 : Int32) (x2 : Int32) (x3 : Int32) (t0 : Int32) (M : zt_M) : zJ_X4_word_140 ρ K25 m x1 x2 x3 t0 (some m) (zt σ m ma M) = zg_lift σ m ma (gJ_X4_word_140 ρ.2 K25' x1 x2 x3 t0 M) := by
  unfold zJ_X4_word_140 gJ_X4_word_140
  refine gl_pfN (by decide) fun M1 => ?_
  refine gl_gI (by decide) ?_
  refine gl_ite ?_ ?_
  · skip
    exact (gl_J_X4_word_157 hok hK25 _ _ _ _ _)
  · skip
    exact (gl_J_X4_word_157 hok hK25 _ _ _ _ _)
def gJ_X4_word_122 (fu : Nat) (K25' : Int32 → Int32 → zt_M → zg_R) (K41' : Int32 → Int32 → Int32 → Int32 → zt_M → zg_R) (x1 : Int32) (x2 : Int32) (x4 : Int32) (t0 : Int32) (t1 : Int32) (M : zt_M) : zg_R :=
  K41' x1 x2 (t1 ||| t0) (x4 + (1 : Int32)) M
theorem gl_J_X4_word_122 {ρ : zz_C} {σ : zz_S} {m : Nat} {ma : Nat → Nat} (hok : zt_ok m ma) {K25 : Nat → Int32 → Int32 → zz_S → zz_R} {K25' : Int32 → Int32 → zt_M → zg_R} (hK25 : ∀ (x1 : Int32) (x2 : Int32) (M : zt_M), K25 m x1 x2 (zt σ m ma M) = zg_lift σ m ma (K25' x1 x2 M)) {K41 : Nat → Int32 → Int32 → Int32 → Int32 → zz_S → zz_R} {K41' : Int32 → Int32 → Int32 → Int32 → zt_M → zg_R} (hK41 : ∀ (x1 : Int32) (x2 : Int32) (x3 : Int32) (x4 : Int32) (M : zt_M), K41 m x1 x2 x3 x4 (zt σ m ma M) = zg_lift σ m ma (K41' x1 x2 x3 x4 M)) (x1 : Int32) (x2 : Int32) (x4 : Int32) (t0 : Int32) (t1 : Int32) (M : zt_M) : zJ_X4_word_122 ρ K25 K41 m x1 x2 x4 t0 t1 (zt σ m ma M) = zg_lift σ m ma (gJ_X4_word_122 ρ.2 K25' K41' x1 x2 x4 t0 t1 M) := by
  unfold zJ_X4_word_122 gJ_X4_word_122
  exact hK41 _ _ _ _ _
def gJ_X4_word_103 (fu : Nat) (K25' : Int32 → Int32 → zt_M → zg_R) (K41' : Int32 → Int32 → Int32 → Int32 → zt_M → zg_R) (x1 : Int32) (x2 : Int32) (x3 : Int32) (x4 : Int32) (t0 : Int32) (t1 : Int32) (t2 : Int32) (t3 : Nat) (M : zt_M) : zg_R :=
  (zg_sI M t3 t2 (t1 &&& t0)).bind fun M1 =>
  (zg_aI M1 11 x4).bind fun v3 =>
  if v3 = (1 : Int32) then
    gJ_X4_word_122 fu K25' K41' x1 x2 x4 (1 : Int32) x3 M1
  else
  gJ_X4_word_122 fu K25' K41' x1 x2 x4 (0 : Int32) x3 M1
theorem gl_J_X4_word_103 {ρ : zz_C} {σ : zz_S} {m : Nat} {ma : Nat → Nat} (hok : zt_ok m ma) {K25 : Nat → Int32 → Int32 → zz_S → zz_R} {K25' : Int32 → Int32 → zt_M → zg_R} (hK25 : ∀ (x1 : Int32) (x2 : Int32) (M : zt_M), K25 m x1 x2 (zt σ m ma M) = zg_lift σ m ma (K25' x1 x2 M)) {K41 : Nat → Int32 → Int32 → Int32 → Int32 → zz_S → zz_R} {K41' : Int32 → Int32 → Int32 → Int32 → zt_M → zg_R} (hK41 : ∀ (x1 : Int32) (x2 : Int32) (x3 : Int32) (x4 : Int32) (M : zt_M), K41 m x1 x2 x3 x4 (zt σ m ma M) = zg_lift σ m ma (K41' x1 x2 x3 x4 M)) {t3 : Nat} (hl_t3 : 5 ≤ t3) (hu_t3 : t3 ≤ 13) (x1 : Int32) (x2 : Int32) (x3 : Int32) (x4 : Int32) (t0 : Int32) (t1 : Int32) (t2 : Int32) (M : zt_M) : zJ_X4_word_103 ρ K25 K41 m x1 x2 x3 x4 t0 t1 t2 (some (ma t3)) (zt σ m ma M) = zg_lift σ m ma (gJ_X4_word_103 ρ.2 K25' K41' x1 x2 x3 x4 t0 t1 t2 t3 M) := by
  unfold zJ_X4_word_103 gJ_X4_word_103
  refine gl_sI hok hl_t3 hu_t3 fun M1 => ?_
  refine gl_gR (by decide) (by decide) ?_
  refine gl_aI hok (by decide) (by decide) fun v3 => ?_
  refine gl_ite ?_ ?_
  · skip
    exact (gl_J_X4_word_122 hok hK25 hK41 _ _ _ _ _ _)
  · skip
    exact (gl_J_X4_word_122 hok hK25 hK41 _ _ _ _ _ _)
def gJ_X4_word_102 (fu : Nat) (K25' : Int32 → Int32 → zt_M → zg_R) (K41' : Int32 → Int32 → Int32 → Int32 → zt_M → zg_R) (x1 : Int32) (x2 : Int32) (x3 : Int32) (x4 : Int32) (t0 : Int32) (t1 : Int32) (t2 : Nat) (M : zt_M) : zg_R :=
  gJ_X4_word_103 fu K25' K41' x1 x2 x3 x4 (0 : Int32) t0 t1 t2 M
theorem gl_J_X4_word_102 {ρ : zz_C} {σ : zz_S} {m : Nat} {ma : Nat → Nat} (hok : zt_ok m ma) {K25 : Nat → Int32 → Int32 → zz_S → zz_R} {K25' : Int32 → Int32 → zt_M → zg_R} (hK25 : ∀ (x1 : Int32) (x2 : Int32) (M : zt_M), K25 m x1 x2 (zt σ m ma M) = zg_lift σ m ma (K25' x1 x2 M)) {K41 : Nat → Int32 → Int32 → Int32 → Int32 → zz_S → zz_R} {K41' : Int32 → Int32 → Int32 → Int32 → zt_M → zg_R} (hK41 : ∀ (x1 : Int32) (x2 : Int32) (x3 : Int32) (x4 : Int32) (M : zt_M), K41 m x1 x2 x3 x4 (zt σ m ma M) = zg_lift σ m ma (K41' x1 x2 x3 x4 M)) {t2 : Nat} (hl_t2 : 5 ≤ t2) (hu_t2 : t2 ≤ 13) (x1 : Int32) (x2 : Int32) (x3 : Int32) (x4 : Int32) (t0 : Int32) (t1 : Int32) (M : zt_M) : zJ_X4_word_102 ρ K25 K41 m x1 x2 x3 x4 t0 t1 (some (ma t2)) (zt σ m ma M) = zg_lift σ m ma (gJ_X4_word_102 ρ.2 K25' K41' x1 x2 x3 x4 t0 t1 t2 M) := by
  unfold zJ_X4_word_102 gJ_X4_word_102
  exact (gl_J_X4_word_103 hok hK25 hK41 hl_t2 hu_t2 _ _ _ _ _ _ _ _)
def gL_X4_word_41 (fu : Nat) (K25' : Int32 → Int32 → zt_M → zg_R) : Nat → Int32 → Int32 → Int32 → Int32 → zt_M → zg_R
  | 0, _, _, _, _, _ => none
  | n + 1, x1, x2, x3, x4, M =>
    if (11 : Int32) ≤ x4 then
      if x3 = 0 then
        gJ_X4_word_140 fu K25' x1 x2 x3 (1 : Int32) M
      else
      gJ_X4_word_140 fu K25' x1 x2 x3 (0 : Int32) M
    else
    (zg_aI M 11 x4).bind fun v2 =>
    (zg_aI M 13 x4).bind fun v4 =>
    (zg_aI M 13 (x4 + (1 : Int32))).bind fun v6 =>
    if v6 ≤ (v4 + x1) then
      gJ_X4_word_102 fu K25' (gL_X4_word_41 fu K25' n) x1 x2 x3 x4 v2 x4 11 M
    else
    (zg_aI M 13 x4).bind fun v9 =>
    (zg_aI M 12 (v9 + x1)).bind fun v10 =>
    zg_cI (gF_X4_sign fu M) (fun v14 M15 =>
      if v10 = v14 then
        gJ_X4_word_103 fu K25' (gL_X4_word_41 fu K25' n) x1 x2 x3 x4 (1 : Int32) v2 x4 11 M15
      else
      gJ_X4_word_102 fu K25' (gL_X4_word_41 fu K25' n) x1 x2 x3 x4 v2 x4 11 M15)
theorem gl_L_X4_word_41 {ρ : zz_C} {σ : zz_S} {m : Nat} {ma : Nat → Nat} (hok : zt_ok m ma) {K25 : Nat → Int32 → Int32 → zz_S → zz_R} {K25' : Int32 → Int32 → zt_M → zg_R} (hK25 : ∀ (x1 : Int32) (x2 : Int32) (M : zt_M), K25 m x1 x2 (zt σ m ma M) = zg_lift σ m ma (K25' x1 x2 M)) : ∀ (n : Nat) (x1 : Int32) (x2 : Int32) (x3 : Int32) (x4 : Int32) (M : zt_M), zL_X4_word_41 ρ K25 n m x1 x2 x3 x4 (zt σ m ma M) = zg_lift σ m ma (gL_X4_word_41 ρ.2 K25' n x1 x2 x3 x4 M) := by
  intro n
  induction n with
  | zero => intros; rfl
  | succ n ih =>
    intro x1 x2 x3 x4 M
    rw [zL_X4_word_41, gL_X4_word_41]
    refine gl_ite ?_ ?_
    · skip
      refine gl_ite ?_ ?_
      · skip
        exact (gl_J_X4_word_140 hok hK25 _ _ _ _ _)
      · skip
        exact (gl_J_X4_word_140 hok hK25 _ _ _ _ _)
    · skip
      refine gl_gR (by decide) (by decide) ?_
      refine gl_aI hok (by decide) (by decide) fun v2 => ?_
      refine gl_gR (by decide) (by decide) ?_
      refine gl_aI hok (by decide) (by decide) fun v4 => ?_
      refine gl_gR (by decide) (by decide) ?_
      refine gl_aI hok (by decide) (by decide) fun v6 => ?_
      refine gl_ite ?_ ?_
      · skip
        exact (gl_J_X4_word_102 hok hK25 ih (by decide) (by decide) _ _ _ _ _ _ _)
      · skip
        refine gl_gR (by decide) (by decide) ?_
        refine gl_gR (by decide) (by decide) ?_
        refine gl_aI hok (by decide) (by decide) fun v9 => ?_
        refine gl_aI hok (by decide) (by decide) fun v10 => ?_
        refine gl_ck ?_
        refine gl_cI (gl_F_X4_sign hok _) fun v14 M15 => ?_
        refine gl_ite ?_ ?_
        · skip
          exact (gl_J_X4_word_103 hok hK25 ih (by decide) (by decide) _ _ _ _ _ _ _ _)
        · skip
          exact (gl_J_X4_word_102 hok hK25 ih (by decide) (by decide) _ _ _ _ _ _ _)
def gL_X4_word_25 (fu : Nat) : Nat → Int32 → Int32 → zt_M → zg_R
  | 0, _, _, _ => none
  | n + 1, x1, x2, M =>
    if 0 ≤ x2 then
      zg_rI x2 M
    else
    if (M.1 18) = 0 then
      gL_X4_word_41 fu (gL_X4_word_25 fu n) fu x1 x2 (0 : Int32) (0 : Int32) M
    else
    zg_rI x2 M
theorem gl_L_X4_word_25 {ρ : zz_C} {σ : zz_S} {m : Nat} {ma : Nat → Nat} (hok : zt_ok m ma) : ∀ (n : Nat) (x1 : Int32) (x2 : Int32) (M : zt_M), zL_X4_word_25 ρ n m x1 x2 (zt σ m ma M) = zg_lift σ m ma (gL_X4_word_25 ρ.2 n x1 x2 M) := by
  intro n
  induction n with
  | zero => intros; rfl
  | succ n ih =>
    intro x1 x2 M
    rw [zL_X4_word_25, gL_X4_word_25]
    refine gl_ite ?_ ?_
    · skip
      exact gl_rI
    · skip
      refine gl_gI (by decide) ?_
      refine gl_ite ?_ ?_
      · skip
        exact (gl_L_X4_word_41 hok ih _ _ _ _ _ _)
      · skip
        exact gl_rI
def gL_X4_word_2 (fu : Nat) : Nat → Int32 → zt_M → zg_R
  | 0, _, _ => none
  | n + 1, x1, M =>
    if (11 : Int32) ≤ x1 then
      gL_X4_word_25 fu fu (0 : Int32) (-1 : Int32) M
    else
    (zg_sI M 11 x1 (1 : Int32)).bind fun M2 =>
    gL_X4_word_2 fu n (x1 + (1 : Int32)) M2
theorem gl_L_X4_word_2 {ρ : zz_C} {σ : zz_S} {m : Nat} {ma : Nat → Nat} (hok : zt_ok m ma) : ∀ (n : Nat) (x1 : Int32) (M : zt_M), zL_X4_word_2 ρ n m x1 (zt σ m ma M) = zg_lift σ m ma (gL_X4_word_2 ρ.2 n x1 M) := by
  intro n
  induction n with
  | zero => intros; rfl
  | succ n ih =>
    intro x1 M
    rw [zL_X4_word_2, gL_X4_word_2]
    refine gl_ite ?_ ?_
    · skip
      exact (gl_L_X4_word_25 hok _ _ _ _)
    · skip
      refine gl_gR (by decide) (by decide) ?_
      refine gl_sI hok (by decide) (by decide) fun M2 => ?_
      exact ih _ _
def gF_X4_word (fu : Nat) (M : zt_M) : zg_R :=
  gL_X4_word_2 fu fu (0 : Int32) M
theorem gl_F_X4_word {ρ : zz_C} {σ : zz_S} {m : Nat} {ma : Nat → Nat} (hok : zt_ok m ma) (M : zt_M) : zF_X4_word ρ m (zt σ m ma M) = zg_lift σ m ma (gF_X4_word ρ.2 M) := by
  unfold zF_X4_word gF_X4_word
  exact (gl_L_X4_word_2 hok _ _ _)
def gJ_X4_digits_59 (fu : Nat) (x2 : Int32) (x3 : Int32) (M : zt_M) : zg_R :=
  if x3 = 0 then
    (zg_pfN M 18 ((M.1 18) ||| (1 : Int32))).bind fun M3 =>
    zg_rI x2 M3
  else
  (zg_pfN M 18 ((M.1 18) ||| (0 : Int32))).bind fun M2 =>
  zg_rI x2 M2
theorem gl_J_X4_digits_59 {ρ : zz_C} {σ : zz_S} {m : Nat} {ma : Nat → Nat} (hok : zt_ok m ma) (x2 : Int32) (x3 : Int32) (M : zt_M) : zJ_X4_digits_59 ρ m x2 x3 (zt σ m ma M) = zg_lift σ m ma (gJ_X4_digits_59 ρ.2 x2 x3 M) := by
  unfold zJ_X4_digits_59 gJ_X4_digits_59
  refine gl_gI (by decide) ?_
  refine gl_ite ?_ ?_
  · skip
    refine gl_pfN (by decide) fun M3 => ?_
    exact gl_rI
  · skip
    refine gl_pfN (by decide) fun M2 => ?_
    exact gl_rI
def gL_X4_digits_4 (fu : Nat) : Nat → Int32 → Int32 → Int32 → zt_M → zg_R
  | 0, _, _, _, _ => none
  | n + 1, x1, x2, x3, M =>
    if (M.1 18) = 0 then
      if x1 ≤ x3 then
        gJ_X4_digits_59 fu x2 x3 M
      else
      zg_cI (gF_X4_sign fu M) (fun v5 M6 =>
        zg_cI (gF_X4_isIn fu v5 (48 : Int32) (57 : Int32) M6) (fun v9 M10 =>
          if v9 = 0 then
            gJ_X4_digits_59 fu x2 x3 M10
          else
          zg_cI (gF_X4_sign fu M10) (fun v14 M15 =>
            gL_X4_digits_4 fu n x1 ((((10 : Int32) * x2) + v14) - (48 : Int32)) (x3 + (1 : Int32)) (zt_uI M15 15 ((M15.1 15) + (1 : Int32))))))
    else
    gJ_X4_digits_59 fu x2 x3 M
theorem gl_L_X4_digits_4 {ρ : zz_C} {σ : zz_S} {m : Nat} {ma : Nat → Nat} (hok : zt_ok m ma) : ∀ (n : Nat) (x1 : Int32) (x2 : Int32) (x3 : Int32) (M : zt_M), zL_X4_digits_4 ρ n m x1 x2 x3 (zt σ m ma M) = zg_lift σ m ma (gL_X4_digits_4 ρ.2 n x1 x2 x3 M) := by
  intro n
  induction n with
  | zero => intros; rfl
  | succ n ih =>
    intro x1 x2 x3 M
    rw [zL_X4_digits_4, gL_X4_digits_4]
    refine gl_gI (by decide) ?_
    refine gl_ite ?_ ?_
    · skip
      refine gl_ite ?_ ?_
      · skip
        exact (gl_J_X4_digits_59 hok _ _ _)
      · skip
        refine gl_ck ?_
        refine gl_cI (gl_F_X4_sign hok _) fun v5 M6 => ?_
        refine gl_cI (gl_F_X4_isIn hok _ _ _ _) fun v9 M10 => ?_
        refine gl_ite ?_ ?_
        · skip
          exact (gl_J_X4_digits_59 hok _ _ _)
        · skip
          refine gl_ck ?_
          refine gl_cI (gl_F_X4_sign hok _) fun v14 M15 => ?_
          refine gl_gI (by decide) ?_
          refine gl_pf (by decide) ?_
          exact ih _ _ _ _
    · skip
      exact (gl_J_X4_digits_59 hok _ _ _)
def gF_X4_digits (fu : Nat) (x1 : Int32) (M : zt_M) : zg_R :=
  gL_X4_digits_4 fu fu x1 (0 : Int32) (0 : Int32) M
theorem gl_F_X4_digits {ρ : zz_C} {σ : zz_S} {m : Nat} {ma : Nat → Nat} (hok : zt_ok m ma) (x1 : Int32) (M : zt_M) : zF_X4_digits ρ m x1 (zt σ m ma M) = zg_lift σ m ma (gF_X4_digits ρ.2 x1 M) := by
  unfold zF_X4_digits gF_X4_digits
  exact (gl_L_X4_digits_4 hok _ _ _ _ _)
def gJ_X4_mark_22 (fu : Nat) (t0 : Int32) (M : zt_M) : zg_R :=
  (zg_pfN M 18 t0).bind fun M1 =>
  if (M1.1 18) = 0 then
    zg_rV (zt_uI M1 15 ((M1.1 15) + (1 : Int32)))
  else
  zg_rV (zt_uI M1 15 ((M1.1 15) + (0 : Int32)))
theorem gl_J_X4_mark_22 {ρ : zz_C} {σ : zz_S} {m : Nat} {ma : Nat → Nat} (hok : zt_ok m ma) (t0 : Int32) (M : zt_M) : zJ_X4_mark_22 ρ m t0 (some m) (zt σ m ma M) = zg_lift σ m ma (gJ_X4_mark_22 ρ.2 t0 M) := by
  unfold zJ_X4_mark_22 gJ_X4_mark_22
  refine gl_pfN (by decide) fun M1 => ?_
  refine gl_gI (by decide) ?_
  refine gl_gI (by decide) ?_
  refine gl_ite ?_ ?_
  · skip
    refine gl_pf (by decide) ?_
    exact gl_rV
  · skip
    refine gl_pf (by decide) ?_
    exact gl_rV
def gF_X4_mark (fu : Nat) (x1 : Int32) (M : zt_M) : zg_R :=
  if (M.1 18) = 0 then
    zg_cI (gF_X4_sign fu M) (fun v5 M6 =>
      if v5 = x1 then
        gJ_X4_mark_22 fu (0 : Int32) M6
      else
      gJ_X4_mark_22 fu (1 : Int32) M6)
  else
  zg_rV M
theorem gl_F_X4_mark {ρ : zz_C} {σ : zz_S} {m : Nat} {ma : Nat → Nat} (hok : zt_ok m ma) (x1 : Int32) (M : zt_M) : zF_X4_mark ρ m x1 (zt σ m ma M) = zg_lift σ m ma (gF_X4_mark ρ.2 x1 M) := by
  unfold zF_X4_mark gF_X4_mark
  refine gl_gI (by decide) ?_
  refine gl_ite ?_ ?_
  · skip
    refine gl_ck ?_
    refine gl_cI (gl_F_X4_sign hok _) fun v5 M6 => ?_
    refine gl_ite ?_ ?_
    · skip
      exact (gl_J_X4_mark_22 hok _ _)
    · skip
      exact (gl_J_X4_mark_22 hok _ _)
  · skip
    exact gl_rV
def gF_X4_behind (fu : Nat) (x1 : Int32) (M : zt_M) : zg_R :=
  zg_cV (gF_X4_mark fu (32 : Int32) M) (fun M5 =>
    if (M5.1 18) = 0 then
      zg_cI (gF_X4_digits fu x1 M5) (fun v10 M11 =>
        zg_rI v10 M11)
    else
    zg_rI (0 : Int32) M5)
theorem gl_F_X4_behind {ρ : zz_C} {σ : zz_S} {m : Nat} {ma : Nat → Nat} (hok : zt_ok m ma) (x1 : Int32) (M : zt_M) : zF_X4_behind ρ m x1 (zt σ m ma M) = zg_lift σ m ma (gF_X4_behind ρ.2 x1 M) := by
  unfold zF_X4_behind gF_X4_behind
  refine gl_ck ?_
  refine gl_cV (gl_F_X4_mark hok _ _) fun M5 => ?_
  refine gl_gI (by decide) ?_
  refine gl_ite ?_ ?_
  · skip
    refine gl_ck ?_
    refine gl_cI (gl_F_X4_digits hok _ _) fun v10 M11 => ?_
    exact gl_rI
  · skip
    exact gl_rI
def gJ_X4_plus_52 (fu : Nat) (x1 : Int32) (t0 : Int32) (t1 : Int32) (M : zt_M) : zg_R :=
  if x1 = (43 : Int32) then
    zg_rI (1 : Int32) (zt_uI M 15 (t1 + t0))
  else
  zg_rI (0 : Int32) (zt_uI M 15 (t1 + t0))
theorem gl_J_X4_plus_52 {ρ : zz_C} {σ : zz_S} {m : Nat} {ma : Nat → Nat} (hok : zt_ok m ma) (x1 : Int32) (t0 : Int32) (t1 : Int32) (M : zt_M) : zJ_X4_plus_52 ρ x1 t0 t1 (some m) (zt σ m ma M) = zg_lift σ m ma (gJ_X4_plus_52 ρ.2 x1 t0 t1 M) := by
  unfold zJ_X4_plus_52 gJ_X4_plus_52
  refine gl_pf (by decide) ?_
  refine gl_ite ?_ ?_
  · skip
    exact gl_rI
  · skip
    exact gl_rI
def gJ_X4_plus_32 (fu : Nat) (x1 : Int32) (t0 : Int32) (M : zt_M) : zg_R :=
  (zg_pfN M 18 t0).bind fun M1 =>
  if (M1.1 18) = 0 then
    gJ_X4_plus_52 fu x1 (1 : Int32) (M1.1 15) M1
  else
  gJ_X4_plus_52 fu x1 (0 : Int32) (M1.1 15) M1
theorem gl_J_X4_plus_32 {ρ : zz_C} {σ : zz_S} {m : Nat} {ma : Nat → Nat} (hok : zt_ok m ma) (x1 : Int32) (t0 : Int32) (M : zt_M) : zJ_X4_plus_32 ρ m x1 t0 (some m) (zt σ m ma M) = zg_lift σ m ma (gJ_X4_plus_32 ρ.2 x1 t0 M) := by
  unfold zJ_X4_plus_32 gJ_X4_plus_32
  refine gl_pfN (by decide) fun M1 => ?_
  refine gl_gI (by decide) ?_
  refine gl_gI (by decide) ?_
  refine gl_ite ?_ ?_
  · skip
    exact (gl_J_X4_plus_52 hok _ _ _ _)
  · skip
    exact (gl_J_X4_plus_52 hok _ _ _ _)
def gJ_X4_plus_31 (fu : Nat) (x1 : Int32) (M : zt_M) : zg_R :=
  gJ_X4_plus_32 fu x1 (0 : Int32) M
theorem gl_J_X4_plus_31 {ρ : zz_C} {σ : zz_S} {m : Nat} {ma : Nat → Nat} (hok : zt_ok m ma) (x1 : Int32) (M : zt_M) : zJ_X4_plus_31 ρ m x1 (some m) (zt σ m ma M) = zg_lift σ m ma (gJ_X4_plus_31 ρ.2 x1 M) := by
  unfold zJ_X4_plus_31 gJ_X4_plus_31
  exact (gl_J_X4_plus_32 hok _ _ _)
def gF_X4_plus (fu : Nat) (M : zt_M) : zg_R :=
  if (M.1 18) = 0 then
    zg_cI (gF_X4_sign fu M) (fun v5 M6 =>
      if v5 = (43 : Int32) then
        gJ_X4_plus_31 fu v5 M6
      else
      if v5 = (45 : Int32) then
        gJ_X4_plus_31 fu v5 M6
      else
      gJ_X4_plus_32 fu v5 (1 : Int32) M6)
  else
  zg_rI (0 : Int32) M
theorem gl_F_X4_plus {ρ : zz_C} {σ : zz_S} {m : Nat} {ma : Nat → Nat} (hok : zt_ok m ma) (M : zt_M) : zF_X4_plus ρ m (zt σ m ma M) = zg_lift σ m ma (gF_X4_plus ρ.2 M) := by
  unfold zF_X4_plus gF_X4_plus
  refine gl_gI (by decide) ?_
  refine gl_ite ?_ ?_
  · skip
    refine gl_ck ?_
    refine gl_cI (gl_F_X4_sign hok _) fun v5 M6 => ?_
    refine gl_ite ?_ ?_
    · skip
      exact (gl_J_X4_plus_31 hok _ _)
    · skip
      refine gl_ite ?_ ?_
      · skip
        exact (gl_J_X4_plus_31 hok _ _)
      · skip
        exact (gl_J_X4_plus_32 hok _ _ _)
  · skip
    exact gl_rI
def gL_X4_hasCroaked_2 (fu : Nat) : Nat → Int32 → Int32 → Int32 → zt_M → zg_R
  | 0, _, _, _, _ => none
  | n + 1, x1, x2, x3, M =>
    zg_cI (gF_X4_of fu x1 (7 : Int32) M) (fun v4 M5 =>
      (zg_aI M5 5 v4).bind fun v6 =>
      if v6 ≤ x3 then
        zg_rN .boolean (0 : Int32) M5
      else
      zg_cI (gF_X4_croaked fu x1 x3 M5) (fun v10 M11 =>
        (zg_aI M11 5 v10).bind fun v12 =>
        if v12 = x2 then
          zg_rN .boolean (1 : Int32) M11
        else
        gL_X4_hasCroaked_2 fu n x1 x2 (x3 + (1 : Int32)) M11))
theorem gl_L_X4_hasCroaked_2 {ρ : zz_C} {σ : zz_S} {m : Nat} {ma : Nat → Nat} (hok : zt_ok m ma) : ∀ (n : Nat) (x1 : Int32) (x2 : Int32) (x3 : Int32) (M : zt_M), zL_X4_hasCroaked_2 ρ n m x1 x2 x3 (zt σ m ma M) = zg_lift σ m ma (gL_X4_hasCroaked_2 ρ.2 n x1 x2 x3 M) := by
  intro n
  induction n with
  | zero => intros; rfl
  | succ n ih =>
    intro x1 x2 x3 M
    rw [zL_X4_hasCroaked_2, gL_X4_hasCroaked_2]
    refine gl_gR (by decide) (by decide) ?_
    refine gl_cI (gl_F_X4_of hok _ _ _) fun v4 M5 => ?_
    refine gl_aI hok (by decide) (by decide) fun v6 => ?_
    refine gl_ite ?_ ?_
    · skip
      exact gl_rN
    · skip
      refine gl_gR (by decide) (by decide) ?_
      refine gl_cI (gl_F_X4_croaked hok _ _ _) fun v10 M11 => ?_
      refine gl_aI hok (by decide) (by decide) fun v12 => ?_
      refine gl_ite ?_ ?_
      · skip
        exact gl_rN
      · skip
        exact ih _ _ _ _
def gF_X4_hasCroaked (fu : Nat) (x1 : Int32) (x2 : Int32) (M : zt_M) : zg_R :=
  gL_X4_hasCroaked_2 fu fu x1 x2 (0 : Int32) M
theorem gl_F_X4_hasCroaked {ρ : zz_C} {σ : zz_S} {m : Nat} {ma : Nat → Nat} (hok : zt_ok m ma) (x1 : Int32) (x2 : Int32) (M : zt_M) : zF_X4_hasCroaked ρ m x1 x2 (zt σ m ma M) = zg_lift σ m ma (gF_X4_hasCroaked ρ.2 x1 x2 M) := by
  unfold zF_X4_hasCroaked gF_X4_hasCroaked
  exact (gl_L_X4_hasCroaked_2 hok _ _ _ _ _)
def gF_X4_croaks (fu : Nat) (x1 : Int32) (x2 : Int32) (x3 : Int32) (x4 : Int32) (M : zt_M) : zg_R :=
  zg_cI (gF_X4_areThere fu x1 x2 M) (fun v4 M5 =>
    if v4 = 0 then
      zg_cI (gF_X4_fail fu (1 : Int32) M5) (fun v86 M87 =>
        zg_rI v86 M87)
    else
    zg_cI (gF_X4_isIn fu x3 (1 : Int32) (9 : Int32) M5) (fun v8 M9 =>
      if v8 = 0 then
        zg_cI (gF_X4_fail fu (2 : Int32) M9) (fun v13 M14 =>
          zg_rI v13 M14)
      else
      zg_cI (gF_X4_isFor fu x1 x2 M9) (fun v18 M19 =>
        if v18 = 0 then
          zg_cI (gF_X4_fail fu (2 : Int32) M19) (fun v81 M82 =>
            zg_rI v81 M82)
        else
        zg_cI (gF_X4_isDue fu x1 M19) (fun v23 M24 =>
          if v23 = 0 then
            zg_cI (gF_X4_fail fu (3 : Int32) M24) (fun v76 M77 =>
              zg_rI v76 M77)
          else
          zg_cI (gF_X4_isOn fu x2 M24) (fun v28 M29 =>
            if v28 = 0 then
              zg_cI (gF_X4_fail fu (4 : Int32) M29) (fun v33 M34 =>
                zg_rI v33 M34)
            else
            zg_cI (gF_X4_hasCroaked fu x1 x2 M29) (fun v38 M39 =>
              if v38 = 0 then
                zg_cI (gF_X4_of fu x1 (7 : Int32) M39) (fun v43 M44 =>
                  (zg_aI M44 5 v43).bind fun v45 =>
                  zg_cI (gF_X4_croaked fu x1 v45 M44) (fun v48 M49 =>
                    (zg_sI M49 5 v48 x2).bind fun M51 =>
                    (zg_sI M51 5 (v48 + (1 : Int32)) x3).bind fun M53 =>
                    (zg_sI M53 5 (v48 + (2 : Int32)) x4).bind fun M55 =>
                    zg_cI (gF_X4_of fu x1 (7 : Int32) M55) (fun v59 M60 =>
                      (zg_aI M60 5 v59).bind fun v61 =>
                      (zg_sI M60 5 v59 (v61 + (1 : Int32))).bind fun M62 =>
                      zg_cI (gF_X4_sum fu x1 x4 M62) (fun v66 M67 =>
                        zg_rI v66 M67))))
              else
              zg_cI (gF_X4_fail fu (4 : Int32) M39) (fun v71 M72 =>
                zg_rI v71 M72)))))))
theorem gl_F_X4_croaks {ρ : zz_C} {σ : zz_S} {m : Nat} {ma : Nat → Nat} (hok : zt_ok m ma) (x1 : Int32) (x2 : Int32) (x3 : Int32) (x4 : Int32) (M : zt_M) : zF_X4_croaks ρ m x1 x2 x3 x4 (zt σ m ma M) = zg_lift σ m ma (gF_X4_croaks ρ.2 x1 x2 x3 x4 M) := by
  unfold zF_X4_croaks gF_X4_croaks
  refine gl_ck ?_
  refine gl_cI (gl_F_X4_areThere hok _ _ _) fun v4 M5 => ?_
  refine gl_ite ?_ ?_
  · skip
    refine gl_ck ?_
    refine gl_cI (gl_F_X4_fail hok _ _) fun v86 M87 => ?_
    exact gl_rI
  · skip
    refine gl_cI (gl_F_X4_isIn hok _ _ _ _) fun v8 M9 => ?_
    refine gl_ite ?_ ?_
    · skip
      refine gl_ck ?_
      refine gl_cI (gl_F_X4_fail hok _ _) fun v13 M14 => ?_
      exact gl_rI
    · skip
      refine gl_ck ?_
      refine gl_cI (gl_F_X4_isFor hok _ _ _) fun v18 M19 => ?_
      refine gl_ite ?_ ?_
      · skip
        refine gl_ck ?_
        refine gl_cI (gl_F_X4_fail hok _ _) fun v81 M82 => ?_
        exact gl_rI
      · skip
        refine gl_ck ?_
        refine gl_cI (gl_F_X4_isDue hok _ _) fun v23 M24 => ?_
        refine gl_ite ?_ ?_
        · skip
          refine gl_ck ?_
          refine gl_cI (gl_F_X4_fail hok _ _) fun v76 M77 => ?_
          exact gl_rI
        · skip
          refine gl_ck ?_
          refine gl_cI (gl_F_X4_isOn hok _ _) fun v28 M29 => ?_
          refine gl_ite ?_ ?_
          · skip
            refine gl_ck ?_
            refine gl_cI (gl_F_X4_fail hok _ _) fun v33 M34 => ?_
            exact gl_rI
          · skip
            refine gl_ck ?_
            refine gl_cI (gl_F_X4_hasCroaked hok _ _ _) fun v38 M39 => ?_
            refine gl_ite ?_ ?_
            · skip
              refine gl_gR (by decide) (by decide) ?_
              refine gl_cI (gl_F_X4_of hok _ _ _) fun v43 M44 => ?_
              refine gl_aI hok (by decide) (by decide) fun v45 => ?_
              refine gl_cI (gl_F_X4_croaked hok _ _ _) fun v48 M49 => ?_
              refine gl_gR (by decide) (by decide) ?_
              refine gl_sI hok (by decide) (by decide) fun M51 => ?_
              refine gl_gR (by decide) (by decide) ?_
              refine gl_sI hok (by decide) (by decide) fun M53 => ?_
              refine gl_gR (by decide) (by decide) ?_
              refine gl_sI hok (by decide) (by decide) fun M55 => ?_
              refine gl_gR (by decide) (by decide) ?_
              refine gl_cI (gl_F_X4_of hok _ _ _) fun v59 M60 => ?_
              refine gl_aI hok (by decide) (by decide) fun v61 => ?_
              refine gl_sI hok (by decide) (by decide) fun M62 => ?_
              refine gl_ck ?_
              refine gl_cI (gl_F_X4_sum hok _ _ _) fun v66 M67 => ?_
              exact gl_rI
            · skip
              refine gl_ck ?_
              refine gl_cI (gl_F_X4_fail hok _ _) fun v71 M72 => ?_
              exact gl_rI
def gF_X4_does (fu : Nat) (x1 : Int32) (x2 : Int32) (x3 : Int32) (x4 : Int32) (x5 : Int32) (M : zt_M) : zg_R :=
  if x1 < (0 : Int32) then
    zg_cI (gF_X4_decides fu x2 M) (fun v4 M5 =>
      zg_rI v4 M5)
  else
  if (9 : Int32) < x1 then
    zg_cI (gF_X4_decides fu x2 M) (fun v4 M5 =>
      zg_rI v4 M5)
  else
  if x1 = (0 : Int32) then
    zg_cI (gF_X4_adds fu x2 x3 M) (fun v9 M10 =>
      zg_rI v9 M10)
  else
  if x1 = (1 : Int32) then
    zg_cI (gF_X4_addsPad fu x2 M) (fun v14 M15 =>
      zg_rI v14 M15)
  else
  if x1 = (2 : Int32) then
    zg_cI (gF_X4_hops fu x2 x3 M) (fun v19 M20 =>
      zg_rI v19 M20)
  else
  if x1 = (3 : Int32) then
    zg_cI (gF_X4_dives fu x2 M) (fun v24 M25 =>
      zg_rI v24 M25)
  else
  if x1 = (4 : Int32) then
    zg_cI (gF_X4_moves fu x2 M) (fun v29 M30 =>
      zg_rI v29 M30)
  else
  if x1 = (5 : Int32) then
    zg_cI (gF_X4_signs fu x2 x3 M) (fun v34 M35 =>
      zg_rI v34 M35)
  else
  if x1 = (6 : Int32) then
    zg_cI (gF_X4_strikes fu x2 x3 M) (fun v39 M40 =>
      zg_rI v39 M40)
  else
  if x1 = (7 : Int32) then
    zg_cI (gF_X4_calls fu x2 M) (fun v44 M45 =>
      zg_rI v44 M45)
  else
  if x1 = (8 : Int32) then
    zg_cI (gF_X4_backs fu x2 x3 M) (fun v49 M50 =>
      zg_rI v49 M50)
  else
  if x1 = (9 : Int32) then
    zg_cI (gF_X4_croaks fu x2 x3 x4 x5 M) (fun v54 M55 =>
      zg_rI v54 M55)
  else
  none
theorem gl_F_X4_does {ρ : zz_C} {σ : zz_S} {m : Nat} {ma : Nat → Nat} (hok : zt_ok m ma) (x1 : Int32) (x2 : Int32) (x3 : Int32) (x4 : Int32) (x5 : Int32) (M : zt_M) : zF_X4_does ρ m x1 x2 x3 x4 x5 (zt σ m ma M) = zg_lift σ m ma (gF_X4_does ρ.2 x1 x2 x3 x4 x5 M) := by
  unfold zF_X4_does gF_X4_does
  refine gl_ite ?_ ?_
  · skip
    refine gl_ck ?_
    refine gl_cI (gl_F_X4_decides hok _ _) fun v4 M5 => ?_
    exact gl_rI
  · skip
    refine gl_ite ?_ ?_
    · skip
      refine gl_ck ?_
      refine gl_cI (gl_F_X4_decides hok _ _) fun v4 M5 => ?_
      exact gl_rI
    · skip
      refine gl_ite ?_ ?_
      · skip
        refine gl_ck ?_
        refine gl_cI (gl_F_X4_adds hok _ _ _) fun v9 M10 => ?_
        exact gl_rI
      · skip
        refine gl_ite ?_ ?_
        · skip
          refine gl_ck ?_
          refine gl_cI (gl_F_X4_addsPad hok _ _) fun v14 M15 => ?_
          exact gl_rI
        · skip
          refine gl_ite ?_ ?_
          · skip
            refine gl_ck ?_
            refine gl_cI (gl_F_X4_hops hok _ _ _) fun v19 M20 => ?_
            exact gl_rI
          · skip
            refine gl_ite ?_ ?_
            · skip
              refine gl_ck ?_
              refine gl_cI (gl_F_X4_dives hok _ _) fun v24 M25 => ?_
              exact gl_rI
            · skip
              refine gl_ite ?_ ?_
              · skip
                refine gl_ck ?_
                refine gl_cI (gl_F_X4_moves hok _ _) fun v29 M30 => ?_
                exact gl_rI
              · skip
                refine gl_ite ?_ ?_
                · skip
                  refine gl_ck ?_
                  refine gl_cI (gl_F_X4_signs hok _ _ _) fun v34 M35 => ?_
                  exact gl_rI
                · skip
                  refine gl_ite ?_ ?_
                  · skip
                    refine gl_ck ?_
                    refine gl_cI (gl_F_X4_strikes hok _ _ _) fun v39 M40 => ?_
                    exact gl_rI
                  · skip
                    refine gl_ite ?_ ?_
                    · skip
                      refine gl_ck ?_
                      refine gl_cI (gl_F_X4_calls hok _ _) fun v44 M45 => ?_
                      exact gl_rI
                    · skip
                      refine gl_ite ?_ ?_
                      · skip
                        refine gl_ck ?_
                        refine gl_cI (gl_F_X4_backs hok _ _ _) fun v49 M50 => ?_
                        exact gl_rI
                      · skip
                        refine gl_ite ?_ ?_
                        · skip
                          refine gl_ck ?_
                          refine gl_cI (gl_F_X4_croaks hok _ _ _ _ _) fun v54 M55 => ?_
                          exact gl_rI
                        · skip
                          exact gl_none
def gJ_X4_command_143 (fu : Nat) (x1 : Int32) (x2 : Int32) (x3 : Int32) (x4 : Int32) (x5 : Int32) (M : zt_M) : zg_R :=
  if (M.1 18) = 0 then
    if (M.1 19) = 0 then
      zg_rV M
    else
    zg_cI (gF_X4_does fu x1 x5 x2 x3 x4 M) (fun v6 M7 =>
      zg_rV M7)
  else
  zg_rV M
theorem gl_J_X4_command_143 {ρ : zz_C} {σ : zz_S} {m : Nat} {ma : Nat → Nat} (hok : zt_ok m ma) (x1 : Int32) (x2 : Int32) (x3 : Int32) (x4 : Int32) (x5 : Int32) (M : zt_M) : zJ_X4_command_143 ρ m x1 x2 x3 x4 x5 (zt σ m ma M) = zg_lift σ m ma (gJ_X4_command_143 ρ.2 x1 x2 x3 x4 x5 M) := by
  unfold zJ_X4_command_143 gJ_X4_command_143
  refine gl_gI (by decide) ?_
  refine gl_ite ?_ ?_
  · skip
    refine gl_gI (by decide) ?_
    refine gl_ite ?_ ?_
    · skip
      exact gl_rV
    · skip
      refine gl_ck ?_
      refine gl_cI (gl_F_X4_does hok _ _ _ _ _ _) fun v6 M7 => ?_
      exact gl_rV
  · skip
    exact gl_rV
def gJ_X4_command_124 (fu : Nat) (x1 : Int32) (x2 : Int32) (x3 : Int32) (x4 : Int32) (x5 : Int32) (M : zt_M) : zg_R :=
  if x1 = (9 : Int32) then
    if (M.1 18) = 0 then
      zg_cI (gF_X4_digits fu (1 : Int32) M) (fun v5 M6 =>
        gJ_X4_command_143 fu x1 x2 v5 x4 x5 M6)
    else
    gJ_X4_command_143 fu x1 x2 x3 x4 x5 M
  else
  gJ_X4_command_143 fu x1 x2 x3 x4 x5 M
theorem gl_J_X4_command_124 {ρ : zz_C} {σ : zz_S} {m : Nat} {ma : Nat → Nat} (hok : zt_ok m ma) (x1 : Int32) (x2 : Int32) (x3 : Int32) (x4 : Int32) (x5 : Int32) (M : zt_M) : zJ_X4_command_124 ρ m x1 x2 x3 x4 x5 (zt σ m ma M) = zg_lift σ m ma (gJ_X4_command_124 ρ.2 x1 x2 x3 x4 x5 M) := by
  unfold zJ_X4_command_124 gJ_X4_command_124
  refine gl_ite ?_ ?_
  · skip
    refine gl_gI (by decide) ?_
    refine gl_ite ?_ ?_
    · skip
      refine gl_ck ?_
      refine gl_cI (gl_F_X4_digits hok _ _) fun v5 M6 => ?_
      exact (gl_J_X4_command_143 hok _ _ _ _ _ _)
    · skip
      exact (gl_J_X4_command_143 hok _ _ _ _ _ _)
  · skip
    exact (gl_J_X4_command_143 hok _ _ _ _ _ _)
def gJ_X4_command_112 (fu : Nat) (x1 : Int32) (x2 : Int32) (x3 : Int32) (x4 : Int32) (x5 : Int32) (M : zt_M) : zg_R :=
  if x1 = (9 : Int32) then
    zg_cI (gF_X4_plus fu M) (fun v4 M5 =>
      gJ_X4_command_124 fu x1 x2 x3 v4 x5 M5)
  else
  gJ_X4_command_124 fu x1 x2 x3 x4 x5 M
theorem gl_J_X4_command_112 {ρ : zz_C} {σ : zz_S} {m : Nat} {ma : Nat → Nat} (hok : zt_ok m ma) (x1 : Int32) (x2 : Int32) (x3 : Int32) (x4 : Int32) (x5 : Int32) (M : zt_M) : zJ_X4_command_112 ρ m x1 x2 x3 x4 x5 (zt σ m ma M) = zg_lift σ m ma (gJ_X4_command_112 ρ.2 x1 x2 x3 x4 x5 M) := by
  unfold zJ_X4_command_112 gJ_X4_command_112
  refine gl_ite ?_ ?_
  · skip
    refine gl_ck ?_
    refine gl_cI (gl_F_X4_plus hok _) fun v4 M5 => ?_
    exact (gl_J_X4_command_124 hok _ _ _ _ _ _)
  · skip
    exact (gl_J_X4_command_124 hok _ _ _ _ _ _)
def gJ_X4_command_99 (fu : Nat) (x1 : Int32) (x2 : Int32) (x3 : Int32) (x4 : Int32) (x5 : Int32) (M : zt_M) : zg_R :=
  if (M.1 18) = 0 then
    zg_cI (gF_X4_behind fu (2 : Int32) M) (fun v5 M6 =>
      gJ_X4_command_112 fu x1 v5 x3 x4 x5 M6)
  else
  gJ_X4_command_112 fu x1 x2 x3 x4 x5 M
theorem gl_J_X4_command_99 {ρ : zz_C} {σ : zz_S} {m : Nat} {ma : Nat → Nat} (hok : zt_ok m ma) (x1 : Int32) (x2 : Int32) (x3 : Int32) (x4 : Int32) (x5 : Int32) (M : zt_M) : zJ_X4_command_99 ρ m x1 x2 x3 x4 x5 (zt σ m ma M) = zg_lift σ m ma (gJ_X4_command_99 ρ.2 x1 x2 x3 x4 x5 M) := by
  unfold zJ_X4_command_99 gJ_X4_command_99
  refine gl_gI (by decide) ?_
  refine gl_ite ?_ ?_
  · skip
    refine gl_ck ?_
    refine gl_cI (gl_F_X4_behind hok _ _) fun v5 M6 => ?_
    exact (gl_J_X4_command_112 hok _ _ _ _ _ _)
  · skip
    exact (gl_J_X4_command_112 hok _ _ _ _ _ _)
def gJ_X4_command_76 (fu : Nat) (x1 : Int32) (x2 : Int32) (x3 : Int32) (x4 : Int32) (x5 : Int32) (M : zt_M) : zg_R :=
  if x1 = (5 : Int32) then
    gJ_X4_command_99 fu x1 x2 x3 x4 x5 M
  else
  if x1 = (6 : Int32) then
    gJ_X4_command_99 fu x1 x2 x3 x4 x5 M
  else
  if x1 = (8 : Int32) then
    gJ_X4_command_99 fu x1 x2 x3 x4 x5 M
  else
  if x1 = (9 : Int32) then
    gJ_X4_command_99 fu x1 x2 x3 x4 x5 M
  else
  gJ_X4_command_112 fu x1 x2 x3 x4 x5 M
theorem gl_J_X4_command_76 {ρ : zz_C} {σ : zz_S} {m : Nat} {ma : Nat → Nat} (hok : zt_ok m ma) (x1 : Int32) (x2 : Int32) (x3 : Int32) (x4 : Int32) (x5 : Int32) (M : zt_M) : zJ_X4_command_76 ρ m x1 x2 x3 x4 x5 (zt σ m ma M) = zg_lift σ m ma (gJ_X4_command_76 ρ.2 x1 x2 x3 x4 x5 M) := by
  unfold zJ_X4_command_76 gJ_X4_command_76
  refine gl_ite ?_ ?_
  · skip
    exact (gl_J_X4_command_99 hok _ _ _ _ _ _)
  · skip
    refine gl_ite ?_ ?_
    · skip
      exact (gl_J_X4_command_99 hok _ _ _ _ _ _)
    · skip
      refine gl_ite ?_ ?_
      · skip
        exact (gl_J_X4_command_99 hok _ _ _ _ _ _)
      · skip
        refine gl_ite ?_ ?_
        · skip
          exact (gl_J_X4_command_99 hok _ _ _ _ _ _)
        · skip
          exact (gl_J_X4_command_112 hok _ _ _ _ _ _)
def gJ_X4_command_58 (fu : Nat) (x1 : Int32) (x2 : Int32) (x3 : Int32) (x4 : Int32) (x5 : Int32) (M : zt_M) : zg_R :=
  if x1 = (2 : Int32) then
    if (M.1 18) = 0 then
      zg_cI (gF_X4_behind fu (1 : Int32) M) (fun v5 M6 =>
        gJ_X4_command_76 fu x1 v5 x3 x4 x5 M6)
    else
    gJ_X4_command_76 fu x1 x2 x3 x4 x5 M
  else
  gJ_X4_command_76 fu x1 x2 x3 x4 x5 M
theorem gl_J_X4_command_58 {ρ : zz_C} {σ : zz_S} {m : Nat} {ma : Nat → Nat} (hok : zt_ok m ma) (x1 : Int32) (x2 : Int32) (x3 : Int32) (x4 : Int32) (x5 : Int32) (M : zt_M) : zJ_X4_command_58 ρ m x1 x2 x3 x4 x5 (zt σ m ma M) = zg_lift σ m ma (gJ_X4_command_58 ρ.2 x1 x2 x3 x4 x5 M) := by
  unfold zJ_X4_command_58 gJ_X4_command_58
  refine gl_ite ?_ ?_
  · skip
    refine gl_gI (by decide) ?_
    refine gl_ite ?_ ?_
    · skip
      refine gl_ck ?_
      refine gl_cI (gl_F_X4_behind hok _ _) fun v5 M6 => ?_
      exact (gl_J_X4_command_76 hok _ _ _ _ _ _)
    · skip
      exact (gl_J_X4_command_76 hok _ _ _ _ _ _)
  · skip
    exact (gl_J_X4_command_76 hok _ _ _ _ _ _)
def gJ_X4_command_36 (fu : Nat) (x1 : Int32) (x2 : Int32) (x3 : Int32) (x4 : Int32) (t0 : Int32) (M : zt_M) : zg_R :=
  zg_cI (gF_X4_digits fu t0 M) (fun v4 M5 =>
    if x1 = 0 then
      if (M5.1 18) = 0 then
        zg_cI (gF_X4_digits fu (1 : Int32) M5) (fun v10 M11 =>
          gJ_X4_command_58 fu x1 v10 x3 x4 v4 M11)
      else
      gJ_X4_command_58 fu x1 x2 x3 x4 v4 M5
    else
    gJ_X4_command_58 fu x1 x2 x3 x4 v4 M5)
theorem gl_J_X4_command_36 {ρ : zz_C} {σ : zz_S} {m : Nat} {ma : Nat → Nat} (hok : zt_ok m ma) (x1 : Int32) (x2 : Int32) (x3 : Int32) (x4 : Int32) (t0 : Int32) (M : zt_M) : zJ_X4_command_36 ρ m x1 x2 x3 x4 t0 (some m) (zt σ m ma M) = zg_lift σ m ma (gJ_X4_command_36 ρ.2 x1 x2 x3 x4 t0 M) := by
  unfold zJ_X4_command_36 gJ_X4_command_36
  refine gl_ck ?_
  refine gl_cI (gl_F_X4_digits hok _ _) fun v4 M5 => ?_
  refine gl_ite ?_ ?_
  · skip
    refine gl_gI (by decide) ?_
    refine gl_ite ?_ ?_
    · skip
      refine gl_ck ?_
      refine gl_cI (gl_F_X4_digits hok _ _) fun v10 M11 => ?_
      exact (gl_J_X4_command_58 hok _ _ _ _ _ _)
    · skip
      exact (gl_J_X4_command_58 hok _ _ _ _ _ _)
  · skip
    exact (gl_J_X4_command_58 hok _ _ _ _ _ _)
def gJ_X4_command_35 (fu : Nat) (x1 : Int32) (x2 : Int32) (x3 : Int32) (x4 : Int32) (M : zt_M) : zg_R :=
  gJ_X4_command_36 fu x1 x2 x3 x4 (1 : Int32) M
theorem gl_J_X4_command_35 {ρ : zz_C} {σ : zz_S} {m : Nat} {ma : Nat → Nat} (hok : zt_ok m ma) (x1 : Int32) (x2 : Int32) (x3 : Int32) (x4 : Int32) (M : zt_M) : zJ_X4_command_35 ρ m x1 x2 x3 x4 (some m) (zt σ m ma M) = zg_lift σ m ma (gJ_X4_command_35 ρ.2 x1 x2 x3 x4 M) := by
  unfold zJ_X4_command_35 gJ_X4_command_35
  exact (gl_J_X4_command_36 hok _ _ _ _ _ _)
def gF_X4_command (fu : Nat) (M : zt_M) : zg_R :=
  zg_cI (gF_X4_word fu M) (fun v4 M5 =>
    if (M5.1 18) = 0 then
      if v4 < (2 : Int32) then
        gJ_X4_command_35 fu v4 (0 : Int32) (0 : Int32) (0 : Int32) M5
      else
      if (4 : Int32) < v4 then
        gJ_X4_command_35 fu v4 (0 : Int32) (0 : Int32) (0 : Int32) M5
      else
      gJ_X4_command_36 fu v4 (0 : Int32) (0 : Int32) (0 : Int32) (2 : Int32) M5
    else
    zg_rV M5)
theorem gl_F_X4_command {ρ : zz_C} {σ : zz_S} {m : Nat} {ma : Nat → Nat} (hok : zt_ok m ma) (M : zt_M) : zF_X4_command ρ m (zt σ m ma M) = zg_lift σ m ma (gF_X4_command ρ.2 M) := by
  unfold zF_X4_command gF_X4_command
  refine gl_ck ?_
  refine gl_cI (gl_F_X4_word hok _) fun v4 M5 => ?_
  refine gl_gI (by decide) ?_
  refine gl_ite ?_ ?_
  · skip
    refine gl_ite ?_ ?_
    · skip
      exact (gl_J_X4_command_35 hok _ _ _ _ _)
    · skip
      refine gl_ite ?_ ?_
      · skip
        exact (gl_J_X4_command_35 hok _ _ _ _ _)
      · skip
        exact (gl_J_X4_command_36 hok _ _ _ _ _ _)
  · skip
    exact gl_rV
def gJ_X4_commands_58 (fu : Nat) (K16' : Int32 → zt_M → zg_R) (x1 : Int32) (M : zt_M) : zg_R :=
  K16' (x1 + (1 : Int32)) M
theorem gl_J_X4_commands_58 {ρ : zz_C} {σ : zz_S} {m : Nat} {ma : Nat → Nat} (hok : zt_ok m ma) {K16 : Nat → Int32 → zz_S → zz_R} {K16' : Int32 → zt_M → zg_R} (hK16 : ∀ (x1 : Int32) (M : zt_M), K16 m x1 (zt σ m ma M) = zg_lift σ m ma (K16' x1 M)) (x1 : Int32) (M : zt_M) : zJ_X4_commands_58 ρ K16 m x1 (zt σ m ma M) = zg_lift σ m ma (gJ_X4_commands_58 ρ.2 K16' x1 M) := by
  unfold zJ_X4_commands_58 gJ_X4_commands_58
  exact hK16 _ _
def gL_X4_commands_16 (fu : Nat) : Nat → Int32 → zt_M → zg_R
  | 0, _, _ => none
  | n + 1, x1, M =>
    if (M.1 18) = 0 then
      if (M.1 0) = 0 then
        if (M.1 16) ≤ (M.1 15) then
          zg_rI x1 M
        else
        zg_cV (gF_X4_mark fu (59 : Int32) M) (fun M9 =>
          if (M9.1 18) = 0 then
            zg_cV (gF_X4_command fu M9) (fun M15 =>
              gJ_X4_commands_58 fu (gL_X4_commands_16 fu n) x1 M15)
          else
          gJ_X4_commands_58 fu (gL_X4_commands_16 fu n) x1 M9)
      else
      zg_rI x1 M
    else
    zg_rI x1 M
theorem gl_L_X4_commands_16 {ρ : zz_C} {σ : zz_S} {m : Nat} {ma : Nat → Nat} (hok : zt_ok m ma) : ∀ (n : Nat) (x1 : Int32) (M : zt_M), zL_X4_commands_16 ρ n m x1 (zt σ m ma M) = zg_lift σ m ma (gL_X4_commands_16 ρ.2 n x1 M) := by
  intro n
  induction n with
  | zero => intros; rfl
  | succ n ih =>
    intro x1 M
    rw [zL_X4_commands_16, gL_X4_commands_16]
    refine gl_gI (by decide) ?_
    refine gl_ite ?_ ?_
    · skip
      refine gl_gI (by decide) ?_
      refine gl_ite ?_ ?_
      · skip
        refine gl_gI (by decide) ?_
        refine gl_gI (by decide) ?_
        refine gl_ite ?_ ?_
        · skip
          exact gl_rI
        · skip
          refine gl_ck ?_
          refine gl_cV (gl_F_X4_mark hok _ _) fun M9 => ?_
          refine gl_gI (by decide) ?_
          refine gl_ite ?_ ?_
          · skip
            refine gl_ck ?_
            refine gl_cV (gl_F_X4_command hok _) fun M15 => ?_
            exact (gl_J_X4_commands_58 hok ih _ _)
          · skip
            exact (gl_J_X4_commands_58 hok ih _ _)
      · skip
        exact gl_rI
    · skip
      exact gl_rI
def gF_X4_commands (fu : Nat) (M : zt_M) : zg_R :=
  (zg_pfN (zt_uI M 15 (0 : Int32)) 18 (0 : Int32)).bind fun M2 =>
  zg_cV (gF_X4_command fu M2) (fun M7 =>
    gL_X4_commands_16 fu fu (1 : Int32) M7)
theorem gl_F_X4_commands {ρ : zz_C} {σ : zz_S} {m : Nat} {ma : Nat → Nat} (hok : zt_ok m ma) (M : zt_M) : zF_X4_commands ρ m (zt σ m ma M) = zg_lift σ m ma (gF_X4_commands ρ.2 M) := by
  unfold zF_X4_commands gF_X4_commands
  refine gl_pf (by decide) ?_
  refine gl_pfN (by decide) fun M2 => ?_
  refine gl_ck ?_
  refine gl_cV (gl_F_X4_command hok _) fun M7 => ?_
  exact (gl_L_X4_commands_16 hok _ _ _)
def gF_X4_run (fu : Nat) (M : zt_M) : zg_R :=
  zg_cV (gF_X4_begins fu M) (fun M5 =>
    (zg_pfN (zt_uI (zt_uI M5 16 (M5.1 14)) 14 (0 : Int32)) 19 (0 : Int32)).bind fun M9 =>
    zg_cI (gF_X4_commands fu M9) (fun v13 M14 =>
      if (M14.1 18) = 0 then
        (zg_pfN M14 19 (1 : Int32)).bind fun M16 =>
        zg_cI (gF_X4_commands fu M16) (fun v20 M21 =>
          if (M21.1 0) = 0 then
            zg_cI (gF_X4_ends fu v20 M21) (fun v26 M27 =>
              zg_rI v26 M27)
          else
          zg_cI (gF_X4_ends fu v20 (zt_uI (zt_uI M21 3 (v20 - (1 : Int32))) 0 (2 : Int32))) (fun v33 M34 =>
            zg_rI v33 M34))
      else
      zg_cI (gF_X4_fail fu (1 : Int32) (zt_uI M14 2 (M14.1 15))) (fun v40 M41 =>
        zg_rI v40 M41)))
theorem gl_F_X4_run {ρ : zz_C} {σ : zz_S} {m : Nat} {ma : Nat → Nat} (hok : zt_ok m ma) (M : zt_M) : zF_X4_run ρ m (zt σ m ma M) = zg_lift σ m ma (gF_X4_run ρ.2 M) := by
  unfold zF_X4_run gF_X4_run
  refine gl_ck ?_
  refine gl_cV (gl_F_X4_begins hok _) fun M5 => ?_
  refine gl_gI (by decide) ?_
  refine gl_pf (by decide) ?_
  refine gl_pf (by decide) ?_
  refine gl_pfN (by decide) fun M9 => ?_
  refine gl_ck ?_
  refine gl_cI (gl_F_X4_commands hok _) fun v13 M14 => ?_
  refine gl_gI (by decide) ?_
  refine gl_ite ?_ ?_
  · skip
    refine gl_pfN (by decide) fun M16 => ?_
    refine gl_ck ?_
    refine gl_cI (gl_F_X4_commands hok _) fun v20 M21 => ?_
    refine gl_gI (by decide) ?_
    refine gl_ite ?_ ?_
    · skip
      refine gl_ck ?_
      refine gl_cI (gl_F_X4_ends hok _ _) fun v26 M27 => ?_
      exact gl_rI
    · skip
      refine gl_pf (by decide) ?_
      refine gl_pf (by decide) ?_
      refine gl_ck ?_
      refine gl_cI (gl_F_X4_ends hok _ _) fun v33 M34 => ?_
      exact gl_rI
  · skip
    refine gl_gI (by decide) ?_
    refine gl_pf (by decide) ?_
    refine gl_ck ?_
    refine gl_cI (gl_F_X4_fail hok _ _) fun v40 M41 => ?_
    exact gl_rI
def gJ_X4_errorPosition_13 (fu : Nat) (t0 : Int32) (M : zt_M) : zg_R :=
  if ((zt_uI M 0 t0).1 0) = 0 then
    zg_rI ((zt_uI M 0 t0).1 2) (zt_uI M 0 t0)
  else
  zg_rI (0 : Int32) (zt_uI M 0 t0)
theorem gl_J_X4_errorPosition_13 {ρ : zz_C} {σ : zz_S} {m : Nat} {ma : Nat → Nat} (hok : zt_ok m ma) (t0 : Int32) (M : zt_M) : zJ_X4_errorPosition_13 ρ m t0 (some m) (zt σ m ma M) = zg_lift σ m ma (gJ_X4_errorPosition_13 ρ.2 t0 M) := by
  unfold zJ_X4_errorPosition_13 gJ_X4_errorPosition_13
  refine gl_pf (by decide) ?_
  refine gl_gI (by decide) ?_
  refine gl_ite ?_ ?_
  · skip
    refine gl_gI (by decide) ?_
    exact gl_rI
  · skip
    exact gl_rI
def gF_X4_errorPosition (fu : Nat) (M : zt_M) : zg_R :=
  if 0 ≤ (M.1 2) then
    gJ_X4_errorPosition_13 fu (0 : Int32) M
  else
  gJ_X4_errorPosition_13 fu (1 : Int32) M
theorem gl_F_X4_errorPosition {ρ : zz_C} {σ : zz_S} {m : Nat} {ma : Nat → Nat} (hok : zt_ok m ma) (M : zt_M) : zF_X4_errorPosition ρ m (zt σ m ma M) = zg_lift σ m ma (gF_X4_errorPosition ρ.2 M) := by
  unfold zF_X4_errorPosition gF_X4_errorPosition
  refine gl_gI (by decide) ?_
  refine gl_ite ?_ ?_
  · skip
    exact (gl_J_X4_errorPosition_13 hok _ _)
  · skip
    exact (gl_J_X4_errorPosition_13 hok _ _)
def gJ_X4_failedCommand_13 (fu : Nat) (t0 : Int32) (M : zt_M) : zg_R :=
  if ((zt_uI M 0 t0).1 0) = 0 then
    zg_rI ((zt_uI M 0 t0).1 3) (zt_uI M 0 t0)
  else
  zg_rI (0 : Int32) (zt_uI M 0 t0)
theorem gl_J_X4_failedCommand_13 {ρ : zz_C} {σ : zz_S} {m : Nat} {ma : Nat → Nat} (hok : zt_ok m ma) (t0 : Int32) (M : zt_M) : zJ_X4_failedCommand_13 ρ m t0 (some m) (zt σ m ma M) = zg_lift σ m ma (gJ_X4_failedCommand_13 ρ.2 t0 M) := by
  unfold zJ_X4_failedCommand_13 gJ_X4_failedCommand_13
  refine gl_pf (by decide) ?_
  refine gl_gI (by decide) ?_
  refine gl_ite ?_ ?_
  · skip
    refine gl_gI (by decide) ?_
    exact gl_rI
  · skip
    exact gl_rI
def gF_X4_failedCommand (fu : Nat) (M : zt_M) : zg_R :=
  if 0 ≤ (M.1 3) then
    gJ_X4_failedCommand_13 fu (0 : Int32) M
  else
  gJ_X4_failedCommand_13 fu (1 : Int32) M
theorem gl_F_X4_failedCommand {ρ : zz_C} {σ : zz_S} {m : Nat} {ma : Nat → Nat} (hok : zt_ok m ma) (M : zt_M) : zF_X4_failedCommand ρ m (zt σ m ma M) = zg_lift σ m ma (gF_X4_failedCommand ρ.2 M) := by
  unfold zF_X4_failedCommand gF_X4_failedCommand
  refine gl_gI (by decide) ?_
  refine gl_ite ?_ ?_
  · skip
    exact (gl_J_X4_failedCommand_13 hok _ _)
  · skip
    exact (gl_J_X4_failedCommand_13 hok _ _)
def gF_X4_writes (fu : Nat) (x1 : Int32) (M : zt_M) : zg_R :=
  (zg_sI M 10 (M.1 17) x1).bind fun M3 =>
  zg_rV (zt_uI M3 17 ((M3.1 17) + (1 : Int32)))
theorem gl_F_X4_writes {ρ : zz_C} {σ : zz_S} {m : Nat} {ma : Nat → Nat} (hok : zt_ok m ma) (x1 : Int32) (M : zt_M) : zF_X4_writes ρ m x1 (zt σ m ma M) = zg_lift σ m ma (gF_X4_writes ρ.2 x1 M) := by
  unfold zF_X4_writes gF_X4_writes
  refine gl_gR (by decide) (by decide) ?_
  refine gl_gI (by decide) ?_
  refine gl_sI hok (by decide) (by decide) fun M3 => ?_
  refine gl_gI (by decide) ?_
  refine gl_pf (by decide) ?_
  exact gl_rV
def gF_X4_writesNumber (fu : Nat) (x1 : Int32) (M : zt_M) : zg_R :=
  if x1 < (10 : Int32) then
    if (10 : Int32) = 0 then none else
    zg_cV (gF_X4_writes fu ((48 : Int32) + (x1 - x1 / (10 : Int32) * (10 : Int32))) M) (fun M5 =>
      zg_rV M5)
  else
  if (10 : Int32) = 0 then none else
  zg_cV (gF_X4_writes fu ((48 : Int32) + (x1 / (10 : Int32))) M) (fun M10 =>
    if (10 : Int32) = 0 then none else
    zg_cV (gF_X4_writes fu ((48 : Int32) + (x1 - x1 / (10 : Int32) * (10 : Int32))) M10) (fun M15 =>
      zg_rV M15))
theorem gl_F_X4_writesNumber {ρ : zz_C} {σ : zz_S} {m : Nat} {ma : Nat → Nat} (hok : zt_ok m ma) (x1 : Int32) (M : zt_M) : zF_X4_writesNumber ρ m x1 (zt σ m ma M) = zg_lift σ m ma (gF_X4_writesNumber ρ.2 x1 M) := by
  unfold zF_X4_writesNumber gF_X4_writesNumber
  refine gl_ite ?_ ?_
  · skip
    refine gl_ite gl_none ?_
    refine gl_ck ?_
    refine gl_cV (gl_F_X4_writes hok _ _) fun M5 => ?_
    exact gl_rV
  · skip
    refine gl_ite gl_none ?_
    refine gl_ck ?_
    refine gl_cV (gl_F_X4_writes hok _ _) fun M10 => ?_
    refine gl_ite gl_none ?_
    refine gl_ck ?_
    refine gl_cV (gl_F_X4_writes hok _ _) fun M15 => ?_
    exact gl_rV
def gJ_X4_describeList_92 (fu : Nat) (K33' : Int32 → Int32 → zt_M → zg_R) (x1 : Int32) (x2 : Int32) (M : zt_M) : zg_R :=
  K33' x1 (x2 + (1 : Int32)) M
theorem gl_J_X4_describeList_92 {ρ : zz_C} {σ : zz_S} {m : Nat} {ma : Nat → Nat} (hok : zt_ok m ma) {K33 : Nat → Int32 → Int32 → zz_S → zz_R} {K33' : Int32 → Int32 → zt_M → zg_R} (hK33 : ∀ (x1 : Int32) (x2 : Int32) (M : zt_M), K33 m x1 x2 (zt σ m ma M) = zg_lift σ m ma (K33' x1 x2 M)) (x1 : Int32) (x2 : Int32) (M : zt_M) : zJ_X4_describeList_92 ρ K33 m x1 x2 (zt σ m ma M) = zg_lift σ m ma (gJ_X4_describeList_92 ρ.2 K33' x1 x2 M) := by
  unfold zJ_X4_describeList_92 gJ_X4_describeList_92
  exact hK33 _ _ _
def gJ_X4_describeList_73 (fu : Nat) (K33' : Int32 → Int32 → zt_M → zg_R) (x1 : Int32) (x2 : Int32) (x3 : Int32) (M : zt_M) : zg_R :=
  zg_cV (gF_X4_writesNumber fu x3 M) (fun M5 =>
    zg_cI (gF_X4_isOn fu x3 M5) (fun v9 M10 =>
      if v9 = 0 then
        zg_cV (gF_X4_writes fu (126 : Int32) M10) (fun M15 =>
          gJ_X4_describeList_92 fu K33' x1 x2 M15)
      else
      gJ_X4_describeList_92 fu K33' x1 x2 M10))
theorem gl_J_X4_describeList_73 {ρ : zz_C} {σ : zz_S} {m : Nat} {ma : Nat → Nat} (hok : zt_ok m ma) {K33 : Nat → Int32 → Int32 → zz_S → zz_R} {K33' : Int32 → Int32 → zt_M → zg_R} (hK33 : ∀ (x1 : Int32) (x2 : Int32) (M : zt_M), K33 m x1 x2 (zt σ m ma M) = zg_lift σ m ma (K33' x1 x2 M)) (x1 : Int32) (x2 : Int32) (x3 : Int32) (M : zt_M) : zJ_X4_describeList_73 ρ K33 m x1 x2 x3 (zt σ m ma M) = zg_lift σ m ma (gJ_X4_describeList_73 ρ.2 K33' x1 x2 x3 M) := by
  unfold zJ_X4_describeList_73 gJ_X4_describeList_73
  refine gl_ck ?_
  refine gl_cV (gl_F_X4_writesNumber hok _ _) fun M5 => ?_
  refine gl_ck ?_
  refine gl_cI (gl_F_X4_isOn hok _ _) fun v9 M10 => ?_
  refine gl_ite ?_ ?_
  · skip
    refine gl_ck ?_
    refine gl_cV (gl_F_X4_writes hok _ _) fun M15 => ?_
    exact (gl_J_X4_describeList_92 hok hK33 _ _ _)
  · skip
    exact (gl_J_X4_describeList_92 hok hK33 _ _ _)
def gL_X4_describeList_33 (fu : Nat) : Nat → Int32 → Int32 → zt_M → zg_R
  | 0, _, _, _ => none
  | n + 1, x1, x2, M =>
    zg_cI (gF_X4_of fu x1 (5 : Int32) M) (fun v4 M5 =>
      (zg_aI M5 5 v4).bind fun v6 =>
      if v6 ≤ x2 then
        zg_cI (gF_X4_of fu x1 (1 : Int32) M5) (fun v10 M11 =>
          (zg_aI M11 5 v10).bind fun v12 =>
          if v12 = (1 : Int32) then
            zg_cV (gF_X4_writes fu (124 : Int32) M11) (fun M18 =>
              zg_rI (M18.1 17) M18)
          else
          zg_rI (M11.1 17) M11)
      else
      zg_cI (gF_X4_ranked fu x1 x2 M5) (fun v24 M25 =>
        zg_cI (gF_X4_listed fu x1 v24 M25) (fun v28 M29 =>
          (zg_aI M29 5 v28).bind fun v30 =>
          if x2 ≤ 0 then
            gJ_X4_describeList_73 fu (gL_X4_describeList_33 fu n) x1 x2 v30 M29
          else
          zg_cV (gF_X4_writes fu (44 : Int32) M29) (fun M35 =>
            gJ_X4_describeList_73 fu (gL_X4_describeList_33 fu n) x1 x2 v30 M35))))
theorem gl_L_X4_describeList_33 {ρ : zz_C} {σ : zz_S} {m : Nat} {ma : Nat → Nat} (hok : zt_ok m ma) : ∀ (n : Nat) (x1 : Int32) (x2 : Int32) (M : zt_M), zL_X4_describeList_33 ρ n m x1 x2 (zt σ m ma M) = zg_lift σ m ma (gL_X4_describeList_33 ρ.2 n x1 x2 M) := by
  intro n
  induction n with
  | zero => intros; rfl
  | succ n ih =>
    intro x1 x2 M
    rw [zL_X4_describeList_33, gL_X4_describeList_33]
    refine gl_gR (by decide) (by decide) ?_
    refine gl_cI (gl_F_X4_of hok _ _ _) fun v4 M5 => ?_
    refine gl_aI hok (by decide) (by decide) fun v6 => ?_
    refine gl_ite ?_ ?_
    · skip
      refine gl_gR (by decide) (by decide) ?_
      refine gl_cI (gl_F_X4_of hok _ _ _) fun v10 M11 => ?_
      refine gl_aI hok (by decide) (by decide) fun v12 => ?_
      refine gl_ite ?_ ?_
      · skip
        refine gl_ck ?_
        refine gl_cV (gl_F_X4_writes hok _ _) fun M18 => ?_
        refine gl_gI (by decide) ?_
        exact gl_rI
      · skip
        refine gl_gI (by decide) ?_
        exact gl_rI
    · skip
      refine gl_gR (by decide) (by decide) ?_
      refine gl_ck ?_
      refine gl_cI (gl_F_X4_ranked hok _ _ _) fun v24 M25 => ?_
      refine gl_cI (gl_F_X4_listed hok _ _ _) fun v28 M29 => ?_
      refine gl_aI hok (by decide) (by decide) fun v30 => ?_
      refine gl_ite ?_ ?_
      · skip
        exact (gl_J_X4_describeList_73 hok ih _ _ _ _)
      · skip
        refine gl_ck ?_
        refine gl_cV (gl_F_X4_writes hok _ _) fun M35 => ?_
        exact (gl_J_X4_describeList_73 hok ih _ _ _ _)
def gJ_X4_describeList_14 (fu : Nat) (x1 : Int32) (t0 : Int32) (M : zt_M) : zg_R :=
  if ((zt_uI M 0 t0).1 0) = 0 then
    gL_X4_describeList_33 fu fu x1 (0 : Int32) (zt_uI (zt_uI M 0 t0) 17 (0 : Int32))
  else
  zg_rI (0 : Int32) (zt_uI M 0 t0)
theorem gl_J_X4_describeList_14 {ρ : zz_C} {σ : zz_S} {m : Nat} {ma : Nat → Nat} (hok : zt_ok m ma) (x1 : Int32) (t0 : Int32) (M : zt_M) : zJ_X4_describeList_14 ρ m x1 t0 (some m) (zt σ m ma M) = zg_lift σ m ma (gJ_X4_describeList_14 ρ.2 x1 t0 M) := by
  unfold zJ_X4_describeList_14 gJ_X4_describeList_14
  refine gl_pf (by decide) ?_
  refine gl_gI (by decide) ?_
  refine gl_ite ?_ ?_
  · skip
    refine gl_pf (by decide) ?_
    exact (gl_L_X4_describeList_33 hok _ _ _ _)
  · skip
    exact gl_rI
def gF_X4_describeList (fu : Nat) (x1 : Int32) (M : zt_M) : zg_R :=
  zg_cI (gF_X4_isMotion fu x1 M) (fun v4 M5 =>
    if v4 = 0 then
      gJ_X4_describeList_14 fu x1 (1 : Int32) M5
    else
    gJ_X4_describeList_14 fu x1 (0 : Int32) M5)
theorem gl_F_X4_describeList {ρ : zz_C} {σ : zz_S} {m : Nat} {ma : Nat → Nat} (hok : zt_ok m ma) (x1 : Int32) (M : zt_M) : zF_X4_describeList ρ m x1 (zt σ m ma M) = zg_lift σ m ma (gF_X4_describeList ρ.2 x1 M) := by
  unfold zF_X4_describeList gF_X4_describeList
  refine gl_ck ?_
  refine gl_cI (gl_F_X4_isMotion hok _ _) fun v4 M5 => ?_
  refine gl_ite ?_ ?_
  · skip
    exact (gl_J_X4_describeList_14 hok _ _ _)
  · skip
    exact (gl_J_X4_describeList_14 hok _ _ _)
def gJ_X4_lineAt_20 (fu : Nat) (x1 : Int32) (t0 : Int32) (M : zt_M) : zg_R :=
  if ((zt_uI M 0 t0).1 0) = 0 then
    (zg_aI (zt_uI M 0 t0) 10 x1).bind fun v4 =>
    zg_rN .char ((v4.toUInt32 % 65536).toInt32) (zt_uI M 0 t0)
  else
  zg_rN .char (97 : Int32) (zt_uI M 0 t0)
theorem gl_J_X4_lineAt_20 {ρ : zz_C} {σ : zz_S} {m : Nat} {ma : Nat → Nat} (hok : zt_ok m ma) (x1 : Int32) (t0 : Int32) (M : zt_M) : zJ_X4_lineAt_20 ρ m x1 t0 (some m) (zt σ m ma M) = zg_lift σ m ma (gJ_X4_lineAt_20 ρ.2 x1 t0 M) := by
  unfold zJ_X4_lineAt_20 gJ_X4_lineAt_20
  refine gl_pf (by decide) ?_
  refine gl_gI (by decide) ?_
  refine gl_ite ?_ ?_
  · skip
    refine gl_gR (by decide) (by decide) ?_
    refine gl_aI hok (by decide) (by decide) fun v4 => ?_
    exact gl_rN
  · skip
    exact gl_rN
def gF_X4_lineAt (fu : Nat) (x1 : Int32) (M : zt_M) : zg_R :=
  zg_cI (gF_X4_isIn fu x1 (0 : Int32) ((M.1 17) - (1 : Int32)) M) (fun v4 M5 =>
    if v4 = 0 then
      gJ_X4_lineAt_20 fu x1 (1 : Int32) M5
    else
    gJ_X4_lineAt_20 fu x1 (0 : Int32) M5)
theorem gl_F_X4_lineAt {ρ : zz_C} {σ : zz_S} {m : Nat} {ma : Nat → Nat} (hok : zt_ok m ma) (x1 : Int32) (M : zt_M) : zF_X4_lineAt ρ m x1 (zt σ m ma M) = zg_lift σ m ma (gF_X4_lineAt ρ.2 x1 M) := by
  unfold zF_X4_lineAt gF_X4_lineAt
  refine gl_gI (by decide) ?_
  refine gl_cI (gl_F_X4_isIn hok _ _ _ _) fun v4 M5 => ?_
  refine gl_ite ?_ ?_
  · skip
    exact (gl_J_X4_lineAt_20 hok _ _ _)
  · skip
    exact (gl_J_X4_lineAt_20 hok _ _ _)
def gJ_X4_meanSittingWeight_59 (fu : Nat) (x1 : Int32) (x2 : Int32) (t0 : Int32) (M : zt_M) : zg_R :=
  if ((zt_uI M 0 t0).1 0) = 0 then
    if ¬ (zz_n64 (FP.ddiv (FP.i2d x2) (FP.i2d x1)) = true) then none else
    zg_rD (FP.ddiv (FP.i2d x2) (FP.i2d x1)) (zt_uI M 0 t0)
  else
  zg_rD FP.dconst0 (zt_uI M 0 t0)
theorem gl_J_X4_meanSittingWeight_59 {ρ : zz_C} {σ : zz_S} {m : Nat} {ma : Nat → Nat} (hok : zt_ok m ma) (x1 : Int32) (x2 : Int32) (t0 : Int32) (M : zt_M) : zJ_X4_meanSittingWeight_59 ρ m x1 x2 t0 (some m) (zt σ m ma M) = zg_lift σ m ma (gJ_X4_meanSittingWeight_59 ρ.2 x1 x2 t0 M) := by
  unfold zJ_X4_meanSittingWeight_59 gJ_X4_meanSittingWeight_59
  refine gl_pf (by decide) ?_
  refine gl_gI (by decide) ?_
  refine gl_ite ?_ ?_
  · skip
    refine gl_ite gl_none ?_
    exact gl_rD
  · skip
    exact gl_rD
def gJ_X4_meanSittingWeight_41 (fu : Nat) (K9' : Int32 → Int32 → Int32 → zt_M → zg_R) (x1 : Int32) (x3 : Int32) (t0 : Int32) (t1 : Int32) (M : zt_M) : zg_R :=
  K9' x1 (t1 + t0) (x3 + (1 : Int32)) M
theorem gl_J_X4_meanSittingWeight_41 {ρ : zz_C} {σ : zz_S} {m : Nat} {ma : Nat → Nat} (hok : zt_ok m ma) {K9 : Nat → Int32 → Int32 → Int32 → zz_S → zz_R} {K9' : Int32 → Int32 → Int32 → zt_M → zg_R} (hK9 : ∀ (x1 : Int32) (x2 : Int32) (x3 : Int32) (M : zt_M), K9 m x1 x2 x3 (zt σ m ma M) = zg_lift σ m ma (K9' x1 x2 x3 M)) (x1 : Int32) (x3 : Int32) (t0 : Int32) (t1 : Int32) (M : zt_M) : zJ_X4_meanSittingWeight_41 ρ K9 m x1 x3 t0 t1 (zt σ m ma M) = zg_lift σ m ma (gJ_X4_meanSittingWeight_41 ρ.2 K9' x1 x3 t0 t1 M) := by
  unfold zJ_X4_meanSittingWeight_41 gJ_X4_meanSittingWeight_41
  exact hK9 _ _ _ _
def gL_X4_meanSittingWeight_9 (fu : Nat) : Nat → Int32 → Int32 → Int32 → zt_M → zg_R
  | 0, _, _, _, _ => none
  | n + 1, x1, x2, x3, M =>
    (zg_aI M 5 (0 : Int32)).bind fun v2 =>
    if v2 ≤ x3 then
      if x1 = 0 then
        gJ_X4_meanSittingWeight_59 fu x1 x2 (1 : Int32) M
      else
      gJ_X4_meanSittingWeight_59 fu x1 x2 (0 : Int32) M
    else
    zg_cI (gF_X4_isOn fu x3 M) (fun v6 M7 =>
      if v6 = 0 then
        gJ_X4_meanSittingWeight_41 fu (gL_X4_meanSittingWeight_9 fu n) x1 x3 (0 : Int32) x2 M7
      else
      (zg_aI M7 5 ((17 : Int32) + x3)).bind fun v9 =>
      gJ_X4_meanSittingWeight_41 fu (gL_X4_meanSittingWeight_9 fu n) x1 x3 v9 x2 M7)
theorem gl_L_X4_meanSittingWeight_9 {ρ : zz_C} {σ : zz_S} {m : Nat} {ma : Nat → Nat} (hok : zt_ok m ma) : ∀ (n : Nat) (x1 : Int32) (x2 : Int32) (x3 : Int32) (M : zt_M), zL_X4_meanSittingWeight_9 ρ n m x1 x2 x3 (zt σ m ma M) = zg_lift σ m ma (gL_X4_meanSittingWeight_9 ρ.2 n x1 x2 x3 M) := by
  intro n
  induction n with
  | zero => intros; rfl
  | succ n ih =>
    intro x1 x2 x3 M
    rw [zL_X4_meanSittingWeight_9, gL_X4_meanSittingWeight_9]
    refine gl_gR (by decide) (by decide) ?_
    refine gl_aI hok (by decide) (by decide) fun v2 => ?_
    refine gl_ite ?_ ?_
    · skip
      refine gl_ite ?_ ?_
      · skip
        exact (gl_J_X4_meanSittingWeight_59 hok _ _ _ _)
      · skip
        exact (gl_J_X4_meanSittingWeight_59 hok _ _ _ _)
    · skip
      refine gl_ck ?_
      refine gl_cI (gl_F_X4_isOn hok _ _) fun v6 M7 => ?_
      refine gl_ite ?_ ?_
      · skip
        exact (gl_J_X4_meanSittingWeight_41 hok ih _ _ _ _ _)
      · skip
        refine gl_gR (by decide) (by decide) ?_
        refine gl_aI hok (by decide) (by decide) fun v9 => ?_
        exact (gl_J_X4_meanSittingWeight_41 hok ih _ _ _ _ _)
def gF_X4_meanSittingWeight (fu : Nat) (M : zt_M) : zg_R :=
  zg_cI (gF_X4_sitting fu M) (fun v4 M5 =>
    gL_X4_meanSittingWeight_9 fu fu v4 (0 : Int32) (0 : Int32) M5)
theorem gl_F_X4_meanSittingWeight {ρ : zz_C} {σ : zz_S} {m : Nat} {ma : Nat → Nat} (hok : zt_ok m ma) (M : zt_M) : zF_X4_meanSittingWeight ρ m (zt σ m ma M) = zg_lift σ m ma (gF_X4_meanSittingWeight ρ.2 M) := by
  unfold zF_X4_meanSittingWeight gF_X4_meanSittingWeight
  refine gl_ck ?_
  refine gl_cI (gl_F_X4_sitting hok _) fun v4 M5 => ?_
  exact (gl_L_X4_meanSittingWeight_9 hok _ _ _ _ _)
def gL_X4_isConsistent_9 (fu : Nat) : Nat → Int32 → Int32 → zt_M → zg_R
  | 0, _, _, _ => none
  | n + 1, x1, x2, M =>
    (zg_aI M 5 (2 : Int32)).bind fun v2 =>
    if v2 ≤ x2 then
      (zg_aI M 5 (3 : Int32)).bind fun v4 =>
      if x1 = v4 then
        zg_rN .boolean (1 : Int32) M
      else
      zg_rN .boolean (0 : Int32) M
    else
    zg_cI (gF_X4_of fu x2 (6 : Int32) M) (fun v8 M9 =>
      (zg_aI M9 5 v8).bind fun v10 =>
      gL_X4_isConsistent_9 fu n (x1 + v10) (x2 + (1 : Int32)) M9)
theorem gl_L_X4_isConsistent_9 {ρ : zz_C} {σ : zz_S} {m : Nat} {ma : Nat → Nat} (hok : zt_ok m ma) : ∀ (n : Nat) (x1 : Int32) (x2 : Int32) (M : zt_M), zL_X4_isConsistent_9 ρ n m x1 x2 (zt σ m ma M) = zg_lift σ m ma (gL_X4_isConsistent_9 ρ.2 n x1 x2 M) := by
  intro n
  induction n with
  | zero => intros; rfl
  | succ n ih =>
    intro x1 x2 M
    rw [zL_X4_isConsistent_9, gL_X4_isConsistent_9]
    refine gl_gR (by decide) (by decide) ?_
    refine gl_aI hok (by decide) (by decide) fun v2 => ?_
    refine gl_ite ?_ ?_
    · skip
      refine gl_gR (by decide) (by decide) ?_
      refine gl_aI hok (by decide) (by decide) fun v4 => ?_
      refine gl_ite ?_ ?_
      · skip
        exact gl_rN
      · skip
        exact gl_rN
    · skip
      refine gl_gR (by decide) (by decide) ?_
      refine gl_cI (gl_F_X4_of hok _ _ _) fun v8 M9 => ?_
      refine gl_aI hok (by decide) (by decide) fun v10 => ?_
      exact ih _ _ _
def gF_X4_isConsistent (fu : Nat) (M : zt_M) : zg_R :=
  gL_X4_isConsistent_9 fu fu (0 : Int32) (0 : Int32) (zt_uI M 0 (0 : Int32))
theorem gl_F_X4_isConsistent {ρ : zz_C} {σ : zz_S} {m : Nat} {ma : Nat → Nat} (hok : zt_ok m ma) (M : zt_M) : zF_X4_isConsistent ρ m (zt σ m ma M) = zg_lift σ m ma (gF_X4_isConsistent ρ.2 M) := by
  unfold zF_X4_isConsistent gF_X4_isConsistent
  refine gl_pf (by decide) ?_
  exact (gl_L_X4_isConsistent_9 hok _ _ _ _)
def gL_X4_undo_37 (fu : Nat) : Nat → Int32 → zt_M → zg_R
  | 0, _, _ => none
  | n + 1, x1, M =>
    if (407 : Int32) ≤ x1 then
      zg_rI (M.1 1) M
    else
    (zg_aI M 8 (((M.1 1) * (407 : Int32)) + x1)).bind fun v5 =>
    (zg_sI M 5 x1 v5).bind fun M6 =>
    gL_X4_undo_37 fu n (x1 + (1 : Int32)) M6
theorem gl_L_X4_undo_37 {ρ : zz_C} {σ : zz_S} {m : Nat} {ma : Nat → Nat} (hok : zt_ok m ma) : ∀ (n : Nat) (x1 : Int32) (M : zt_M), zL_X4_undo_37 ρ n m x1 (zt σ m ma M) = zg_lift σ m ma (gL_X4_undo_37 ρ.2 n x1 M) := by
  intro n
  induction n with
  | zero => intros; rfl
  | succ n ih =>
    intro x1 M
    rw [zL_X4_undo_37, gL_X4_undo_37]
    refine gl_ite ?_ ?_
    · skip
      refine gl_gI (by decide) ?_
      exact gl_rI
    · skip
      refine gl_gR (by decide) (by decide) ?_
      refine gl_gR (by decide) (by decide) ?_
      refine gl_gI (by decide) ?_
      refine gl_aI hok (by decide) (by decide) fun v5 => ?_
      refine gl_sI hok (by decide) (by decide) fun M6 => ?_
      exact ih _ _
def gJ_X4_undo_13 (fu : Nat) (t0 : Int32) (M : zt_M) : zg_R :=
  if ((zt_uI M 0 t0).1 0) = 0 then
    gL_X4_undo_37 fu fu (0 : Int32) (zt_uI (zt_uI M 0 t0) 1 (((zt_uI M 0 t0).1 1) - (1 : Int32)))
  else
  zg_rI (0 : Int32) (zt_uI M 0 t0)
theorem gl_J_X4_undo_13 {ρ : zz_C} {σ : zz_S} {m : Nat} {ma : Nat → Nat} (hok : zt_ok m ma) (t0 : Int32) (M : zt_M) : zJ_X4_undo_13 ρ m t0 (some m) (zt σ m ma M) = zg_lift σ m ma (gJ_X4_undo_13 ρ.2 t0 M) := by
  unfold zJ_X4_undo_13 gJ_X4_undo_13
  refine gl_pf (by decide) ?_
  refine gl_gI (by decide) ?_
  refine gl_ite ?_ ?_
  · skip
    refine gl_gI (by decide) ?_
    refine gl_pf (by decide) ?_
    exact (gl_L_X4_undo_37 hok _ _ _)
  · skip
    exact gl_rI
def gF_X4_undo (fu : Nat) (M : zt_M) : zg_R :=
  if (M.1 1) = 0 then
    gJ_X4_undo_13 fu (1 : Int32) M
  else
  gJ_X4_undo_13 fu (0 : Int32) M
theorem gl_F_X4_undo {ρ : zz_C} {σ : zz_S} {m : Nat} {ma : Nat → Nat} (hok : zt_ok m ma) (M : zt_M) : zF_X4_undo ρ m (zt σ m ma M) = zg_lift σ m ma (gF_X4_undo ρ.2 M) := by
  unfold zF_X4_undo gF_X4_undo
  refine gl_gI (by decide) ?_
  refine gl_ite ?_ ?_
  · skip
    exact (gl_J_X4_undo_13 hok _ _)
  · skip
    exact (gl_J_X4_undo_13 hok _ _)
def gF_X4_save (fu : Nat) (M : zt_M) : zg_R :=
  zg_cV (gF_X4_lays fu 7 5 (zt_uI M 0 (0 : Int32))) (fun M7 =>
    (zg_pfN M7 4 (1 : Int32)).bind fun M8 =>
    (zg_aI M8 5 (2 : Int32)).bind fun v10 =>
    zg_rI v10 M8)
theorem gl_F_X4_save {ρ : zz_C} {σ : zz_S} {m : Nat} {ma : Nat → Nat} (hok : zt_ok m ma) (M : zt_M) : zF_X4_save ρ m (zt σ m ma M) = zg_lift σ m ma (gF_X4_save ρ.2 M) := by
  unfold zF_X4_save gF_X4_save
  refine gl_pf (by decide) ?_
  refine gl_gR (by decide) (by decide) ?_
  refine gl_gR (by decide) (by decide) ?_
  refine gl_cV (gl_F_X4_lays hok (by decide) (by decide) (by decide) (by decide) _) fun M7 => ?_
  refine gl_pfN (by decide) fun M8 => ?_
  refine gl_gR (by decide) (by decide) ?_
  refine gl_aI hok (by decide) (by decide) fun v10 => ?_
  exact gl_rI
def gJ_X4_restore_13 (fu : Nat) (t0 : Int32) (M : zt_M) : zg_R :=
  if ((zt_uI M 0 t0).1 0) = 0 then
    zg_cV (gF_X4_lays fu 5 7 (zt_uI M 0 t0)) (fun M8 =>
      (zg_aI (zt_uI M8 1 (0 : Int32)) 5 (2 : Int32)).bind fun v11 =>
      zg_rI v11 (zt_uI M8 1 (0 : Int32)))
  else
  zg_rI (0 : Int32) (zt_uI M 0 t0)
theorem gl_J_X4_restore_13 {ρ : zz_C} {σ : zz_S} {m : Nat} {ma : Nat → Nat} (hok : zt_ok m ma) (t0 : Int32) (M : zt_M) : zJ_X4_restore_13 ρ m t0 (some m) (zt σ m ma M) = zg_lift σ m ma (gJ_X4_restore_13 ρ.2 t0 M) := by
  unfold zJ_X4_restore_13 gJ_X4_restore_13
  refine gl_pf (by decide) ?_
  refine gl_gI (by decide) ?_
  refine gl_ite ?_ ?_
  · skip
    refine gl_gR (by decide) (by decide) ?_
    refine gl_gR (by decide) (by decide) ?_
    refine gl_cV (gl_F_X4_lays hok (by decide) (by decide) (by decide) (by decide) _) fun M8 => ?_
    refine gl_pf (by decide) ?_
    refine gl_gR (by decide) (by decide) ?_
    refine gl_aI hok (by decide) (by decide) fun v11 => ?_
    exact gl_rI
  · skip
    exact gl_rI
def gF_X4_restore (fu : Nat) (M : zt_M) : zg_R :=
  if (M.1 4) = 0 then
    gJ_X4_restore_13 fu (1 : Int32) M
  else
  gJ_X4_restore_13 fu (0 : Int32) M
theorem gl_F_X4_restore {ρ : zz_C} {σ : zz_S} {m : Nat} {ma : Nat → Nat} (hok : zt_ok m ma) (M : zt_M) : zF_X4_restore ρ m (zt σ m ma M) = zg_lift σ m ma (gF_X4_restore ρ.2 M) := by
  unfold zF_X4_restore gF_X4_restore
  refine gl_gI (by decide) ?_
  refine gl_ite ?_ ?_
  · skip
    exact (gl_J_X4_restore_13 hok _ _)
  · skip
    exact (gl_J_X4_restore_13 hok _ _)
def gF_X4_croak (fu : Nat) (x1 : Int32) (x2 : Int32) (x3 : Int32) (x4 : Int32) (M : zt_M) : zg_R :=
  zg_cV (gF_X4_begins fu M) (fun M5 =>
    if x4 = 0 then
      zg_cI (gF_X4_croaks fu x1 x2 x3 (0 : Int32) M5) (fun v9 M10 =>
        zg_cI (gF_X4_ends fu v9 M10) (fun v14 M15 =>
          zg_rI v14 M15))
    else
    zg_cI (gF_X4_croaks fu x1 x2 x3 (1 : Int32) M5) (fun v19 M20 =>
      zg_cI (gF_X4_ends fu v19 M20) (fun v24 M25 =>
        zg_rI v24 M25)))
theorem gl_F_X4_croak {ρ : zz_C} {σ : zz_S} {m : Nat} {ma : Nat → Nat} (hok : zt_ok m ma) (x1 : Int32) (x2 : Int32) (x3 : Int32) (x4 : Int32) (M : zt_M) : zF_X4_croak ρ m x1 x2 x3 x4 (zt σ m ma M) = zg_lift σ m ma (gF_X4_croak ρ.2 x1 x2 x3 x4 M) := by
  unfold zF_X4_croak gF_X4_croak
  refine gl_ck ?_
  refine gl_cV (gl_F_X4_begins hok _) fun M5 => ?_
  refine gl_ite ?_ ?_
  · skip
    refine gl_ck ?_
    refine gl_cI (gl_F_X4_croaks hok _ _ _ _ _) fun v9 M10 => ?_
    refine gl_ck ?_
    refine gl_cI (gl_F_X4_ends hok _ _) fun v14 M15 => ?_
    exact gl_rI
  · skip
    refine gl_ck ?_
    refine gl_cI (gl_F_X4_croaks hok _ _ _ _ _) fun v19 M20 => ?_
    refine gl_ck ?_
    refine gl_cI (gl_F_X4_ends hok _ _) fun v24 M25 => ?_
    exact gl_rI
