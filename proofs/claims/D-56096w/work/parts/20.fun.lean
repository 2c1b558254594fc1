/-! ===== THE PURE FUNCTIONS, printed by tools/gen.py ===== -/
set_option maxRecDepth 20000
def zz_cO : List Nat := [5, 117, 6, 7, 2, 8]
def zz_c6 : List Nat := [201, 202]
def zz_c7 : List Nat := [203, 204]
def zz_c8 : List Nat := [109]
def zz_hi (ρ : zz_C) : Int32 := Int32.ofNat ((ρ.1 1).getD 127)
def zF_J0_init_at_J2 (ρ : zz_C) (th : Nat) (σ : zz_S) : zz_R :=
  zz_rV σ
def zF_J1_init_at_J2 (ρ : zz_C) (th : Nat) (σ : zz_S) : zz_R :=
  zz_cV (zF_J0_init_at_J2 ρ th σ) (fun σ4 =>
    (zz_pf σ4 (some th) 102 3 0 (.int (0 : Int32))).bind fun σ5 =>
    zz_rV σ5) zz_P
def zF_J2_init (ρ : zz_C) (th : Nat) (x1 : Int32) (σ : zz_S) : zz_R :=
  zz_cV (zF_J1_init_at_J2 ρ th σ) (fun σ4 =>
    if x1 ≤ 0 then
      if x1 = 0 then
        (zz_pf σ4 (some th) 102 3 1 (va_rf (ρ.1 10))).bind fun σ5 =>
        zz_rV σ5
      else
      none
    else
    zz_na σ4 5 x1 fun a6 σ7 =>
    (zz_pf σ7 (some th) 102 3 1 (va_rf (some a6))).bind fun σ8 =>
    zz_rV σ8) zz_P
def zF_X2_init (ρ : zz_C) (th : Nat) (σ : zz_S) : zz_R :=
  zz_al σ (.inr (102, [.int 0, .null, .int 0])) 3 fun a1 σ2 =>
  zz_cV (zF_J2_init ρ a1 (12 : Int32) σ2) (fun σ6 =>
    (zz_pf σ6 (some th) 2 5 0 (va_rf (some a1))).bind fun σ7 =>
    zz_al σ7 (.inr (102, [.int 0, .null, .int 0])) 3 fun a8 σ9 =>
    zz_cV (zF_J2_init ρ a8 (6 : Int32) σ9) (fun σ13 =>
      (zz_pf σ13 (some th) 2 5 1 (va_rf (some a8))).bind fun σ14 =>
      zz_al σ14 (.inr (102, [.int 0, .null, .int 0])) 3 fun a15 σ16 =>
      zz_cV (zF_J2_init ρ a15 (6 : Int32) σ16) (fun σ20 =>
        (zz_pf σ20 (some th) 2 5 2 (va_rf (some a15))).bind fun σ21 =>
        zz_rV σ21) zz_P) zz_P) zz_P
def zF_J0_init_at_J18 (ρ : zz_C) (th : Nat) (σ : zz_S) : zz_R :=
  zz_rV σ
def zF_J18_init (ρ : zz_C) (th : Nat) (σ : zz_S) : zz_R :=
  zz_cV (zF_J0_init_at_J18 ρ th σ) (fun σ4 =>
    zz_na σ4 5 (17 : Int32) fun a5 σ6 =>
    (zz_pf σ6 (some th) 118 3 0 (va_rf (some a5))).bind fun σ7 =>
    zz_rV σ7) zz_P
def zF_J7_init (ρ : zz_C) (th : Nat) (x1 : Int32) (σ : zz_S) : zz_R :=
  zz_na σ 1 x1 fun a1 σ2 =>
  (zz_pf σ2 (some th) 108 4 0 (va_rf (some a1))).bind fun σ3 =>
  (zz_pfN σ3 (some th) 108 4 1 .byte (0 : Int32)).bind fun σ4 =>
  zz_rV σ4
def zF_J8_init (ρ : zz_C) (th : Nat) (σ : zz_S) : zz_R :=
  zz_cV (zF_J7_init ρ th (16 : Int32) σ) (fun σ4 =>
    zz_rV σ4) zz_P
def zF_X1_init_2 (ρ : zz_C) (th : Nat) (x1 : Option Nat) (σ : zz_S) : zz_R :=
  zz_na σ 6 (2 : Int32) fun a1 σ2 =>
  (zz_pf σ2 (some th) 1 9 0 (va_rf (some a1))).bind fun σ3 =>
  zz_na σ3 7 (2 : Int32) fun a4 σ5 =>
  (zz_pf σ5 (some th) 1 9 1 (va_rf (some a4))).bind fun σ6 =>
  zz_al σ6 (.inr (118, [.null, .int 0, .int 0])) 3 fun a7 σ8 =>
  zz_cV (zF_J18_init ρ a7 σ8) (fun σ12 =>
    (zz_pf σ12 (some th) 1 9 2 (va_rf (some a7))).bind fun σ13 =>
    zz_al σ13 (.inr (108, [.null, .int 0, .int 0, .int 0])) 4 fun a14 σ15 =>
    zz_cV (zF_J8_init ρ a14 σ15) (fun σ19 =>
      (zz_pf σ19 (some th) 1 9 3 (va_rf (some a14))).bind fun σ20 =>
      (zz_pf σ20 (some th) 1 9 6 (va_rf (ρ.1 1567))).bind fun σ21 =>
      (zz_pf σ21 (some th) 1 9 7 (.int (-1 : Int32))).bind fun σ22 =>
      (zz_pf σ22 (some th) 1 9 8 (.int (-1 : Int32))).bind fun σ23 =>
      (zz_gR σ23 (some th) 1 0).bind fun v24 =>
      if ¬ (zz_ok σ23 (ρ.1 201) zz_c6 = true) then none else
      (zz_sR σ23 v24 6 (0 : Int32) (ρ.1 201)).bind fun σ25 =>
      (zz_gR σ25 (some th) 1 0).bind fun v26 =>
      if ¬ (zz_ok σ25 (ρ.1 202) zz_c6 = true) then none else
      (zz_sR σ25 v26 6 (1 : Int32) (ρ.1 202)).bind fun σ27 =>
      (zz_gR σ27 (some th) 1 1).bind fun v28 =>
      if ¬ (zz_fit .boolean (1 : Int32) = true) then none else
      zz_al σ27 (.inr (203, [.int (1 : Int32)])) 1 fun a29 σ30 =>
      if ¬ (zz_ok σ30 (some a29) zz_c7 = true) then none else
      (zz_sR σ30 v28 7 (0 : Int32) (some a29)).bind fun σ32 =>
      (zz_gR σ32 (some th) 1 1).bind fun v33 =>
      if ¬ (zz_fit .boolean (1 : Int32) = true) then none else
      zz_al σ32 (.inr (204, [.int (1 : Int32)])) 1 fun a34 σ35 =>
      if ¬ (zz_ok σ35 (some a34) zz_c7 = true) then none else
      (zz_sR σ35 v33 7 (1 : Int32) (some a34)).bind fun σ37 =>
      (zz_pf σ37 (some th) 1 9 4 (va_rf x1)).bind fun σ38 =>
      zz_rV σ38) zz_P) zz_P
def zF_X1_init (ρ : zz_C) (th : Nat) (σ : zz_S) : zz_R :=
  zz_al σ (.inr (2, [.null, .null, .null, .int 0, .int 0])) 5 fun a1 σ2 =>
  zz_cV (zF_X2_init ρ a1 σ2) (fun σ6 =>
    zz_cV (zF_X1_init_2 ρ th (some a1) σ6) (fun σ10 =>
      zz_rV σ10) zz_P) zz_P
def zF_X4_init (ρ : zz_C) (th : Nat) (σ : zz_S) : zz_R :=
  (zz_pf σ (some th) 4 20 2 (.int (-1 : Int32))).bind fun σ1 =>
  (zz_pf σ1 (some th) 4 20 3 (.int (-1 : Int32))).bind fun σ2 =>
  zz_na σ2 0 (407 : Int32) fun a3 σ4 =>
  (zz_pf σ4 (some th) 4 20 5 (va_rf (some a3))).bind fun σ5 =>
  zz_na σ5 0 (407 : Int32) fun a6 σ7 =>
  (zz_pf σ7 (some th) 4 20 6 (va_rf (some a6))).bind fun σ8 =>
  zz_na σ8 0 (407 : Int32) fun a9 σ10 =>
  (zz_pf σ10 (some th) 4 20 7 (va_rf (some a9))).bind fun σ11 =>
  zz_na σ11 0 (3256 : Int32) fun a12 σ13 =>
  (zz_pf σ13 (some th) 4 20 8 (va_rf (some a12))).bind fun σ14 =>
  zz_na σ14 0 (60 : Int32) fun a15 σ16 =>
  (zz_pf σ16 (some th) 4 20 9 (va_rf (some a15))).bind fun σ17 =>
  zz_na σ17 0 (60 : Int32) fun a18 σ19 =>
  (zz_pf σ19 (some th) 4 20 10 (va_rf (some a18))).bind fun σ20 =>
  zz_na σ20 0 (11 : Int32) fun a21 σ22 =>
  (zz_pf σ22 (some th) 4 20 11 (va_rf (some a21))).bind fun σ23 =>
  zz_na σ23 0 (59 : Int32) fun a24 σ25 =>
  (zz_sI σ25 (some a24) 0 .int (0 : Int32) (102 : Int32)).bind fun σ26 =>
  (zz_sI σ26 (some a24) 0 .int (1 : Int32) (114 : Int32)).bind fun σ27 =>
  (zz_sI σ27 (some a24) 0 .int (2 : Int32) (111 : Int32)).bind fun σ28 =>
  (zz_sI σ28 (some a24) 0 .int (3 : Int32) (103 : Int32)).bind fun σ29 =>
  (zz_sI σ29 (some a24) 0 .int (4 : Int32) (32 : Int32)).bind fun σ30 =>
  (zz_sI σ30 (some a24) 0 .int (5 : Int32) (112 : Int32)).bind fun σ31 =>
  (zz_sI σ31 (some a24) 0 .int (6 : Int32) (97 : Int32)).bind fun σ32 =>
  (zz_sI σ32 (some a24) 0 .int (7 : Int32) (100 : Int32)).bind fun σ33 =>
  (zz_sI σ33 (some a24) 0 .int (8 : Int32) (32 : Int32)).bind fun σ34 =>
  (zz_sI σ34 (some a24) 0 .int (9 : Int32) (104 : Int32)).bind fun σ35 =>
  (zz_sI σ35 (some a24) 0 .int (10 : Int32) (111 : Int32)).bind fun σ36 =>
  (zz_sI σ36 (some a24) 0 .int (11 : Int32) (112 : Int32)).bind fun σ37 =>
  (zz_sI σ37 (some a24) 0 .int (12 : Int32) (32 : Int32)).bind fun σ38 =>
  (zz_sI σ38 (some a24) 0 .int (13 : Int32) (100 : Int32)).bind fun σ39 =>
  (zz_sI σ39 (some a24) 0 .int (14 : Int32) (105 : Int32)).bind fun σ40 =>
  (zz_sI σ40 (some a24) 0 .int (15 : Int32) (118 : Int32)).bind fun σ41 =>
  (zz_sI σ41 (some a24) 0 .int (16 : Int32) (101 : Int32)).bind fun σ42 =>
  (zz_sI σ42 (some a24) 0 .int (17 : Int32) (32 : Int32)).bind fun σ43 =>
  (zz_sI σ43 (some a24) 0 .int (18 : Int32) (109 : Int32)).bind fun σ44 =>
  (zz_sI σ44 (some a24) 0 .int (19 : Int32) (111 : Int32)).bind fun σ45 =>
  (zz_sI σ45 (some a24) 0 .int (20 : Int32) (116 : Int32)).bind fun σ46 =>
  (zz_sI σ46 (some a24) 0 .int (21 : Int32) (105 : Int32)).bind fun σ47 =>
  (zz_sI σ47 (some a24) 0 .int (22 : Int32) (111 : Int32)).bind fun σ48 =>
  (zz_sI σ48 (some a24) 0 .int (23 : Int32) (110 : Int32)).bind fun σ49 =>
  (zz_sI σ49 (some a24) 0 .int (24 : Int32) (32 : Int32)).bind fun σ50 =>
  (zz_sI σ50 (some a24) 0 .int (25 : Int32) (108 : Int32)).bind fun σ51 =>
  (zz_sI σ51 (some a24) 0 .int (26 : Int32) (105 : Int32)).bind fun σ52 =>
  (zz_sI σ52 (some a24) 0 .int (27 : Int32) (115 : Int32)).bind fun σ53 =>
  (zz_sI σ53 (some a24) 0 .int (28 : Int32) (116 : Int32)).bind fun σ54 =>
  (zz_sI σ54 (some a24) 0 .int (29 : Int32) (32 : Int32)).bind fun σ55 =>
  (zz_sI σ55 (some a24) 0 .int (30 : Int32) (115 : Int32)).bind fun σ56 =>
  (zz_sI σ56 (some a24) 0 .int (31 : Int32) (116 : Int32)).bind fun σ57 =>
  (zz_sI σ57 (some a24) 0 .int (32 : Int32) (114 : Int32)).bind fun σ58 =>
  (zz_sI σ58 (some a24) 0 .int (33 : Int32) (105 : Int32)).bind fun σ59 =>
  (zz_sI σ59 (some a24) 0 .int (34 : Int32) (107 : Int32)).bind fun σ60 =>
  (zz_sI σ60 (some a24) 0 .int (35 : Int32) (101 : Int32)).bind fun σ61 =>
  (zz_sI σ61 (some a24) 0 .int (36 : Int32) (32 : Int32)).bind fun σ62 =>
  (zz_sI σ62 (some a24) 0 .int (37 : Int32) (99 : Int32)).bind fun σ63 =>
  (zz_sI σ63 (some a24) 0 .int (38 : Int32) (97 : Int32)).bind fun σ64 =>
  (zz_sI σ64 (some a24) 0 .int (39 : Int32) (108 : Int32)).bind fun σ65 =>
  (zz_sI σ65 (some a24) 0 .int (40 : Int32) (108 : Int32)).bind fun σ66 =>
  (zz_sI σ66 (some a24) 0 .int (41 : Int32) (32 : Int32)).bind fun σ67 =>
  (zz_sI σ67 (some a24) 0 .int (42 : Int32) (101 : Int32)).bind fun σ68 =>
  (zz_sI σ68 (some a24) 0 .int (43 : Int32) (110 : Int32)).bind fun σ69 =>
  (zz_sI σ69 (some a24) 0 .int (44 : Int32) (100 : Int32)).bind fun σ70 =>
  (zz_sI σ70 (some a24) 0 .int (45 : Int32) (32 : Int32)).bind fun σ71 =>
  (zz_sI σ71 (some a24) 0 .int (46 : Int32) (99 : Int32)).bind fun σ72 =>
  (zz_sI σ72 (some a24) 0 .int (47 : Int32) (114 : Int32)).bind fun σ73 =>
  (zz_sI σ73 (some a24) 0 .int (48 : Int32) (111 : Int32)).bind fun σ74 =>
  (zz_sI σ74 (some a24) 0 .int (49 : Int32) (97 : Int32)).bind fun σ75 =>
  (zz_sI σ75 (some a24) 0 .int (50 : Int32) (107 : Int32)).bind fun σ76 =>
  (zz_sI σ76 (some a24) 0 .int (51 : Int32) (32 : Int32)).bind fun σ77 =>
  (zz_sI σ77 (some a24) 0 .int (52 : Int32) (100 : Int32)).bind fun σ78 =>
  (zz_sI σ78 (some a24) 0 .int (53 : Int32) (101 : Int32)).bind fun σ79 =>
  (zz_sI σ79 (some a24) 0 .int (54 : Int32) (99 : Int32)).bind fun σ80 =>
  (zz_sI σ80 (some a24) 0 .int (55 : Int32) (105 : Int32)).bind fun σ81 =>
  (zz_sI σ81 (some a24) 0 .int (56 : Int32) (100 : Int32)).bind fun σ82 =>
  (zz_sI σ82 (some a24) 0 .int (57 : Int32) (101 : Int32)).bind fun σ83 =>
  (zz_sI σ83 (some a24) 0 .int (58 : Int32) (32 : Int32)).bind fun σ84 =>
  (zz_pf σ84 (some th) 4 20 12 (va_rf (some a24))).bind fun σ85 =>
  zz_na σ85 0 (12 : Int32) fun a86 σ87 =>
  (zz_sI σ87 (some a86) 0 .int (0 : Int32) (0 : Int32)).bind fun σ88 =>
  (zz_sI σ88 (some a86) 0 .int (1 : Int32) (5 : Int32)).bind fun σ89 =>
  (zz_sI σ89 (some a86) 0 .int (2 : Int32) (9 : Int32)).bind fun σ90 =>
  (zz_sI σ90 (some a86) 0 .int (3 : Int32) (13 : Int32)).bind fun σ91 =>
  (zz_sI σ91 (some a86) 0 .int (4 : Int32) (18 : Int32)).bind fun σ92 =>
  (zz_sI σ92 (some a86) 0 .int (5 : Int32) (25 : Int32)).bind fun σ93 =>
  (zz_sI σ93 (some a86) 0 .int (6 : Int32) (30 : Int32)).bind fun σ94 =>
  (zz_sI σ94 (some a86) 0 .int (7 : Int32) (37 : Int32)).bind fun σ95 =>
  (zz_sI σ95 (some a86) 0 .int (8 : Int32) (42 : Int32)).bind fun σ96 =>
  (zz_sI σ96 (some a86) 0 .int (9 : Int32) (46 : Int32)).bind fun σ97 =>
  (zz_sI σ97 (some a86) 0 .int (10 : Int32) (52 : Int32)).bind fun σ98 =>
  (zz_sI σ98 (some a86) 0 .int (11 : Int32) (59 : Int32)).bind fun σ99 =>
  (zz_pf σ99 (some th) 4 20 13 (va_rf (some a86))).bind fun σ100 =>
  zz_rV σ100
def zF_J24_init (ρ : zz_C) (th : Nat) (x1 : Option Nat) (σ : zz_S) : zz_R :=
  (zz_pf σ (some th) 124 4 3 (va_rf x1)).bind fun σ1 =>
  (zz_pf σ1 (some th) 124 4 1 (.int (-1 : Int32))).bind fun σ2 =>
  (zz_gR σ2 (some th) 124 3).bind fun v3 =>
  (zz_gI σ2 v3 102 0).bind fun v4 =>
  (zz_pf σ2 (some th) 124 4 2 (.int v4)).bind fun σ5 =>
  zz_rV σ5
def zF_J2_iterator (ρ : zz_C) (th : Nat) (σ : zz_S) : zz_R :=
  zz_al σ (.inr (124, [.int 0, .int 0, .int 0, .null])) 4 fun a1 σ2 =>
  zz_cV (zF_J24_init ρ a1 (some th) σ2) (fun σ6 =>
    zz_rR (some a1) σ6) zz_P
def zF_J24_hasNext (ρ : zz_C) (th : Nat) (σ : zz_S) : zz_R :=
  (zz_gI σ (some th) 124 0).bind fun v1 =>
  (zz_gR σ (some th) 124 3).bind fun v2 =>
  (zz_gI σ v2 102 2).bind fun v3 =>
  if v1 = v3 then
    zz_rN .boolean (0 : Int32) σ
  else
  zz_rN .boolean (1 : Int32) σ
def zF_J24_checkForComodification (ρ : zz_C) (th : Nat) (σ : zz_S) : zz_R :=
  (zz_gR σ (some th) 124 3).bind fun v1 =>
  (zz_gI σ v1 102 0).bind fun v2 =>
  (zz_gI σ (some th) 124 2).bind fun v3 =>
  if v2 = v3 then
    zz_rV σ
  else
  none
def zF_J24_next (ρ : zz_C) (th : Nat) (σ : zz_S) : zz_R :=
  zz_ck σ (some th) 124 fun a1 =>
  zz_cV (zF_J24_checkForComodification ρ a1 σ) (fun σ5 =>
    (zz_gI σ5 (some th) 124 0).bind fun v6 =>
    (zz_gR σ5 (some th) 124 3).bind fun v7 =>
    (zz_gI σ5 v7 102 2).bind fun v8 =>
    if v6 < v8 then
      (zz_gR σ5 (some th) 124 3).bind fun v9 =>
      (zz_gR σ5 v9 102 1).bind fun v10 =>
      (zz_len σ5 v10).bind fun v11 =>
      if v6 < v11 then
        (zz_pf σ5 (some th) 124 4 0 (.int (v6 + (1 : Int32)))).bind fun σ12 =>
        (zz_pf σ12 (some th) 124 4 1 (.int v6)).bind fun σ13 =>
        (zz_aR σ13 v10 5 v6).bind fun v14 =>
        zz_rR v14 σ13
      else
      none
    else
    none) zz_P
def zF_X5_init_2 (ρ : zz_C) (th : Nat) (x1 : Int32) (x2 : Int32) (x3 : Int32) (σ : zz_S) : zz_R :=
  (zz_pf σ (some th) 5 5 3 (.int (-1 : Int32))).bind fun σ1 =>
  (zz_pf σ1 (some th) 5 5 0 (.int x1)).bind fun σ2 =>
  (zz_pf σ2 (some th) 5 5 1 (.int x2)).bind fun σ3 =>
  (zz_pf σ3 (some th) 5 5 2 (.int x3)).bind fun σ4 =>
  zz_rV σ4
def zF_X5_init (ρ : zz_C) (th : Nat) (x1 : Option Nat) (σ : zz_S) : zz_R :=
  (zz_gI σ x1 5 0).bind fun v1 =>
  (zz_gI σ x1 5 1).bind fun v2 =>
  (zz_gI σ x1 5 2).bind fun v3 =>
  zz_cV (zF_X5_init_2 ρ th v1 v2 v3 σ) (fun σ7 =>
    (zz_gI σ7 x1 5 3).bind fun v8 =>
    (zz_pf σ7 (some th) 5 5 3 (.int v8)).bind fun σ9 =>
    (zz_gI σ9 x1 5 4).bind fun v10 =>
    (zz_pf σ9 (some th) 5 5 4 (.int v10)).bind fun σ11 =>
    zz_rV σ11) zz_P
def zF_J2_add_2 (ρ : zz_C) (th : Nat) (x1 : Option Nat) (x2 : Option Nat) (x3 : Int32) (σ : zz_S) : zz_R :=
  (zz_len σ x2).bind fun v1 =>
  if x3 = v1 then
    none
  else
  if ¬ (zz_ok σ x1 zz_cO = true) then none else
  (zz_sR σ x2 5 x3 x1).bind fun σ2 =>
  (zz_pf σ2 (some th) 102 3 2 (.int (x3 + (1 : Int32)))).bind fun σ3 =>
  zz_rV σ3
def zF_J2_add (ρ : zz_C) (th : Nat) (x1 : Option Nat) (σ : zz_S) : zz_R :=
  (zz_gI σ (some th) 102 0).bind fun v1 =>
  (zz_pf σ (some th) 102 3 0 (.int (v1 + (1 : Int32)))).bind fun σ2 =>
  (zz_gR σ2 (some th) 102 1).bind fun v3 =>
  (zz_gI σ2 (some th) 102 2).bind fun v4 =>
  zz_ck σ2 (some th) 102 fun a5 =>
  zz_cV (zF_J2_add_2 ρ a5 x1 v3 v4 σ2) (fun σ9 =>
    zz_rN .boolean (1 : Int32) σ9) zz_P
def zF_J17_intValue (ρ : zz_C) (th : Nat) (σ : zz_S) : zz_R :=
  (zz_gI σ (some th) 117 0).bind fun v1 =>
  zz_rI v1 σ
def zF_J16_init (ρ : zz_C) (th : Nat) (σ : zz_S) : zz_R :=
  zz_rV σ
def zF_J17_init (ρ : zz_C) (th : Nat) (x1 : Int32) (σ : zz_S) : zz_R :=
  zz_cV (zF_J16_init ρ th σ) (fun σ4 =>
    (zz_pf σ4 (some th) 117 1 0 (.int x1)).bind fun σ5 =>
    zz_rV σ5) zz_P
def zF_J17_valueOf (ρ : zz_C) (x0 : Int32) (σ : zz_S) : zz_R :=
  if x0 < (-128 : Int32) then
    zz_al σ (.inr (117, [.int 0])) 1 fun a1 σ2 =>
    zz_cV (zF_J17_init ρ a1 x0 σ2) (fun σ6 =>
      zz_rR (some a1) σ6) zz_P
  else
  if (127 : Int32) < x0 then
    zz_al σ (.inr (117, [.int 0])) 1 fun a7 σ8 =>
    zz_cV (zF_J17_init ρ a7 x0 σ8) (fun σ12 =>
      zz_rR (some a7) σ12) zz_P
  else
  (zz_aR σ (ρ.1 11) 9 (x0 + (128 : Int32))).bind fun v13 =>
  zz_rR v13 σ
def zF_J0_init_at_J40 (ρ : zz_C) (th : Nat) (σ : zz_S) : zz_R :=
  zz_rV σ
def zF_J1_init_at_J40 (ρ : zz_C) (th : Nat) (σ : zz_S) : zz_R :=
  zz_cV (zF_J0_init_at_J40 ρ th σ) (fun σ4 =>
    (zz_pf σ4 (some th) 140 4 0 (.int (0 : Int32))).bind fun σ5 =>
    zz_rV σ5) zz_P
def zF_J39_init (ρ : zz_C) (th : Nat) (σ : zz_S) : zz_R :=
  zz_cV (zF_J1_init_at_J40 ρ th σ) (fun σ4 =>
    zz_rV σ4) zz_P
def zF_J40_init (ρ : zz_C) (th : Nat) (σ : zz_S) : zz_R :=
  zz_cV (zF_J39_init ρ th σ) (fun σ4 =>
    (zz_pf σ4 (some th) 140 4 1 (.int (0 : Int32))).bind fun σ5 =>
    zz_rV σ5) zz_P
def zF_J41_wordIndex (ρ : zz_C) (x0 : Int32) (σ : zz_S) : zz_R :=
  zz_rI (x0 >>> ((6 : Int32) &&& 31)) σ
def zF_J41_initWords (ρ : zz_C) (th : Nat) (x1 : Int32) (σ : zz_S) : zz_R :=
  zz_cI (zF_J41_wordIndex ρ (x1 - (1 : Int32)) σ) (fun v3 σ4 =>
    zz_na σ4 3 (v3 + (1 : Int32)) fun a5 σ6 =>
    (zz_pf σ6 (some th) 141 3 0 (va_rf (some a5))).bind fun σ7 =>
    zz_rV σ7) zz_P
def zF_J41_init (ρ : zz_C) (th : Nat) (σ : zz_S) : zz_R :=
  (zz_pf σ (some th) 141 3 1 (.int (0 : Int32))).bind fun σ1 =>
  (zz_pfN σ1 (some th) 141 3 2 .boolean (0 : Int32)).bind fun σ2 =>
  zz_ck σ2 (some th) 141 fun a3 =>
  zz_cV (zF_J41_initWords ρ a3 (64 : Int32) σ2) (fun σ7 =>
    (zz_pfN σ7 (some th) 141 3 2 .boolean (0 : Int32)).bind fun σ8 =>
    zz_rV σ8) zz_P
def zF_X6_init_2 (ρ : zz_C) (th : Nat) (x1 : Int32) (x2 : Int32) (σ : zz_S) : zz_R :=
  zz_al σ (.inr (140, [.int 0, .int 0, .null, .null])) 4 fun a1 σ2 =>
  zz_cV (zF_J40_init ρ a1 σ2) (fun σ6 =>
    (zz_pf σ6 (some th) 6 9 2 (va_rf (some a1))).bind fun σ7 =>
    zz_al σ7 (.inr (140, [.int 0, .int 0, .null, .null])) 4 fun a8 σ9 =>
    zz_cV (zF_J40_init ρ a8 σ9) (fun σ13 =>
      (zz_pf σ13 (some th) 6 9 3 (va_rf (some a8))).bind fun σ14 =>
      zz_al σ14 (.inr (141, [.null, .int 0, .int 0])) 3 fun a15 σ16 =>
      zz_cV (zF_J41_init ρ a15 σ16) (fun σ20 =>
        (zz_pf σ20 (some th) 6 9 4 (va_rf (some a15))).bind fun σ21 =>
        (zz_pf σ21 (some th) 6 9 7 (.int (0 : Int32))).bind fun σ22 =>
        (zz_pf σ22 (some th) 6 9 0 (.int x1)).bind fun σ23 =>
        (zz_pf σ23 (some th) 6 9 1 (.int x2)).bind fun σ24 =>
        zz_rV σ24) zz_P) zz_P) zz_P
def zF_J40_isPositionIndex (ρ : zz_C) (th : Nat) (x1 : Int32) (σ : zz_S) : zz_R :=
  if x1 < 0 then
    zz_rN .boolean (0 : Int32) σ
  else
  (zz_gI σ (some th) 140 1).bind fun v1 =>
  if v1 < x1 then
    zz_rN .boolean (0 : Int32) σ
  else
  zz_rN .boolean (1 : Int32) σ
def zF_J40_checkPositionIndex (ρ : zz_C) (th : Nat) (x1 : Int32) (σ : zz_S) : zz_R :=
  zz_ck σ (some th) 140 fun a1 =>
  zz_cI (zF_J40_isPositionIndex ρ a1 x1 σ) (fun v4 σ5 =>
    if v4 = 0 then
      none
    else
    zz_rV σ5) zz_P
def zL_J40_node_47 (ρ : zz_C) : Nat → Int32 → Option Nat → Int32 → zz_S → zz_R
  | 0, _, _, _, _ => none
  | n + 1, x1, x2, x3, σ =>
    if x3 ≤ x1 then
      zz_rR x2 σ
    else
    (zz_gR σ x2 142 2).bind fun v1 =>
    zL_J40_node_47 ρ n x1 v1 (x3 + (-1 : Int32)) σ
def zL_J40_node_17 (ρ : zz_C) : Nat → Int32 → Option Nat → Int32 → zz_S → zz_R
  | 0, _, _, _, _ => none
  | n + 1, x1, x2, x3, σ =>
    if x1 ≤ x3 then
      zz_rR x2 σ
    else
    (zz_gR σ x2 142 1).bind fun v1 =>
    zL_J40_node_17 ρ n x1 v1 (x3 + (1 : Int32)) σ
def zF_J40_node (ρ : zz_C) (th : Nat) (x1 : Int32) (σ : zz_S) : zz_R :=
  (zz_gI σ (some th) 140 1).bind fun v1 =>
  if (v1 >>> ((1 : Int32) &&& 31)) ≤ x1 then
    (zz_gR σ (some th) 140 3).bind fun v2 =>
    (zz_gI σ (some th) 140 1).bind fun v3 =>
    zL_J40_node_47 ρ ρ.2 x1 v2 (v3 - (1 : Int32)) σ
  else
  (zz_gR σ (some th) 140 2).bind fun v4 =>
  zL_J40_node_17 ρ ρ.2 x1 v4 (0 : Int32) σ
def zF_J26_init (ρ : zz_C) (th : Nat) (x1 : Option Nat) (x2 : Int32) (σ : zz_S) : zz_R :=
  (zz_pf σ (some th) 126 5 4 (va_rf x1)).bind fun σ1 =>
  (zz_gR σ1 (some th) 126 4).bind fun v2 =>
  (zz_gI σ1 v2 140 0).bind fun v3 =>
  (zz_pf σ1 (some th) 126 5 3 (.int v3)).bind fun σ4 =>
  (zz_gI σ4 x1 140 1).bind fun v5 =>
  if x2 = v5 then
    (zz_pf σ4 (some th) 126 5 1 (va_rf none)).bind fun σ13 =>
    (zz_pf σ13 (some th) 126 5 2 (.int x2)).bind fun σ14 =>
    zz_rV σ14
  else
  zz_ck σ4 x1 140 fun a6 =>
  zz_cR (zF_J40_node ρ a6 x2 σ4) (fun v9 σ10 =>
    (zz_pf σ10 (some th) 126 5 1 (va_rf v9)).bind fun σ11 =>
    (zz_pf σ11 (some th) 126 5 2 (.int x2)).bind fun σ12 =>
    zz_rV σ12) zz_P
def zF_J40_listIterator (ρ : zz_C) (th : Nat) (x1 : Int32) (σ : zz_S) : zz_R :=
  zz_ck σ (some th) 140 fun a1 =>
  zz_cV (zF_J40_checkPositionIndex ρ a1 x1 σ) (fun σ5 =>
    zz_al σ5 (.inr (126, [.null, .null, .int 0, .int 0, .null])) 5 fun a6 σ7 =>
    zz_cV (zF_J26_init ρ a6 (some th) x1 σ7) (fun σ11 =>
      zz_rR (some a6) σ11) zz_P) zz_P
def zF_J1_listIterator_at_J40 (ρ : zz_C) (th : Nat) (σ : zz_S) : zz_R :=
  zz_ck σ (some th) 140 fun a1 =>
  zz_cR (zF_J40_listIterator ρ a1 (0 : Int32) σ) (fun v4 σ5 =>
    zz_rR v4 σ5) zz_P
def zF_J39_iterator (ρ : zz_C) (th : Nat) (σ : zz_S) : zz_R :=
  zz_ck σ (some th) 140 fun a1 =>
  zz_cR (zF_J1_listIterator_at_J40 ρ a1 σ) (fun v4 σ5 =>
    zz_rR v4 σ5) zz_P
def zF_J26_hasNext (ρ : zz_C) (th : Nat) (σ : zz_S) : zz_R :=
  (zz_gI σ (some th) 126 2).bind fun v1 =>
  (zz_gR σ (some th) 126 4).bind fun v2 =>
  (zz_gI σ v2 140 1).bind fun v3 =>
  if v3 ≤ v1 then
    zz_rN .boolean (0 : Int32) σ
  else
  zz_rN .boolean (1 : Int32) σ
def zF_J26_checkForComodification (ρ : zz_C) (th : Nat) (σ : zz_S) : zz_R :=
  (zz_gR σ (some th) 126 4).bind fun v1 =>
  (zz_gI σ v1 140 0).bind fun v2 =>
  (zz_gI σ (some th) 126 3).bind fun v3 =>
  if v2 = v3 then
    zz_rV σ
  else
  none
def zF_J26_next (ρ : zz_C) (th : Nat) (σ : zz_S) : zz_R :=
  zz_ck σ (some th) 126 fun a1 =>
  zz_cV (zF_J26_checkForComodification ρ a1 σ) (fun σ5 =>
    zz_ck σ5 (some th) 126 fun a6 =>
    zz_cI (zF_J26_hasNext ρ a6 σ5) (fun v9 σ10 =>
      if v9 = 0 then
        none
      else
      (zz_gR σ10 (some th) 126 1).bind fun v11 =>
      (zz_pf σ10 (some th) 126 5 0 (va_rf v11)).bind fun σ12 =>
      (zz_gR σ12 (some th) 126 1).bind fun v13 =>
      (zz_gR σ12 v13 142 1).bind fun v14 =>
      (zz_pf σ12 (some th) 126 5 1 (va_rf v14)).bind fun σ15 =>
      (zz_gI σ15 (some th) 126 2).bind fun v16 =>
      (zz_pf σ15 (some th) 126 5 2 (.int (v16 + (1 : Int32)))).bind fun σ17 =>
      (zz_gR σ17 (some th) 126 0).bind fun v18 =>
      (zz_gR σ17 v18 142 0).bind fun v19 =>
      zz_rR v19 σ17) zz_P) zz_P
def zF_J42_init (ρ : zz_C) (th : Nat) (x1 : Option Nat) (x2 : Option Nat) (x3 : Option Nat) (σ : zz_S) : zz_R :=
  (zz_pf σ (some th) 142 3 0 (va_rf x2)).bind fun σ1 =>
  (zz_pf σ1 (some th) 142 3 1 (va_rf x3)).bind fun σ2 =>
  (zz_pf σ2 (some th) 142 3 2 (va_rf x1)).bind fun σ3 =>
  zz_rV σ3
def zJ_J40_linkLast_38 (ρ : zz_C) (th : Nat) (σ : zz_S) : zz_R :=
  (zz_gI σ (some th) 140 1).bind fun v1 =>
  (zz_pf σ (some th) 140 4 1 (.int (v1 + (1 : Int32)))).bind fun σ2 =>
  (zz_gI σ2 (some th) 140 0).bind fun v3 =>
  (zz_pf σ2 (some th) 140 4 0 (.int (v3 + (1 : Int32)))).bind fun σ4 =>
  zz_rV σ4
def zF_J40_linkLast (ρ : zz_C) (th : Nat) (x1 : Option Nat) (σ : zz_S) : zz_R :=
  (zz_gR σ (some th) 140 3).bind fun v1 =>
  zz_al σ (.inr (142, [.null, .null, .null])) 3 fun a2 σ3 =>
  zz_cV (zF_J42_init ρ a2 v1 x1 none σ3) (fun σ7 =>
    (zz_pf σ7 (some th) 140 4 3 (va_rf (some a2))).bind fun σ8 =>
    zz_nul v1 (
      (zz_pf σ8 (some th) 140 4 2 (va_rf (some a2))).bind fun σ11 =>
      zJ_J40_linkLast_38 ρ th σ11
    ) fun _ =>
    (zz_pf σ8 v1 142 3 1 (va_rf (some a2))).bind fun σ10 =>
    zJ_J40_linkLast_38 ρ th σ10) zz_P
def zF_J40_addLast (ρ : zz_C) (th : Nat) (x1 : Option Nat) (σ : zz_S) : zz_R :=
  zz_ck σ (some th) 140 fun a1 =>
  zz_cV (zF_J40_linkLast ρ a1 x1 σ) (fun σ5 =>
    zz_rV σ5) zz_P
def zJ_J41_checkInvariants_70 (ρ : zz_C) (th : Nat) (σ : zz_S) : zz_R :=
  zz_rV σ
def zJ_J41_checkInvariants_37 (ρ : zz_C) (th : Nat) (σ : zz_S) : zz_R :=
  zJ_J41_checkInvariants_70 ρ th σ
def zF_J41_checkInvariants (ρ : zz_C) (th : Nat) (σ : zz_S) : zz_R :=
  zJ_J41_checkInvariants_37 ρ th σ
def zJ_J17_numberOfTrailingZeros_62 (ρ : zz_C) (x0 : Int32) (x1 : Int32) (σ : zz_S) : zz_R :=
  if x0 ≤ (4 : Int32) then
    zz_rI (x1 + ((x0.toUInt32 >>> ((1 : Int32).toUInt32 &&& Int32.toUInt32 31)).toInt32)) σ
  else
  zz_rI ((x1 + (2 : Int32)) + ((((x0.toUInt32 >>> ((2 : Int32).toUInt32 &&& Int32.toUInt32 31)).toInt32).toUInt32 >>> ((1 : Int32).toUInt32 &&& Int32.toUInt32 31)).toInt32)) σ
def zJ_J17_numberOfTrailingZeros_49 (ρ : zz_C) (x0 : Int32) (x1 : Int32) (σ : zz_S) : zz_R :=
  if x0 ≤ (16 : Int32) then
    zJ_J17_numberOfTrailingZeros_62 ρ x0 x1 σ
  else
  zJ_J17_numberOfTrailingZeros_62 ρ ((x0.toUInt32 >>> ((4 : Int32).toUInt32 &&& Int32.toUInt32 31)).toInt32) (x1 + (4 : Int32)) σ
def zJ_J17_numberOfTrailingZeros_34 (ρ : zz_C) (x0 : Int32) (x1 : Int32) (σ : zz_S) : zz_R :=
  if x0 ≤ (256 : Int32) then
    zJ_J17_numberOfTrailingZeros_49 ρ x0 x1 σ
  else
  zJ_J17_numberOfTrailingZeros_49 ρ ((x0.toUInt32 >>> ((8 : Int32).toUInt32 &&& Int32.toUInt32 31)).toInt32) (x1 + (8 : Int32)) σ
def zF_J17_numberOfTrailingZeros (ρ : zz_C) (x0 : Int32) (σ : zz_S) : zz_R :=
  if 0 < ((x0 ^^^ (-1 : Int32)) &&& (x0 - (1 : Int32))) then
    if ((x0 ^^^ (-1 : Int32)) &&& (x0 - (1 : Int32))) ≤ (65536 : Int32) then
      zJ_J17_numberOfTrailingZeros_34 ρ ((x0 ^^^ (-1 : Int32)) &&& (x0 - (1 : Int32))) (1 : Int32) σ
    else
    zJ_J17_numberOfTrailingZeros_34 ρ ((((x0 ^^^ (-1 : Int32)) &&& (x0 - (1 : Int32))).toUInt32 >>> ((16 : Int32).toUInt32 &&& Int32.toUInt32 31)).toInt32) ((1 : Int32) + (16 : Int32)) σ
  else
  zz_rI (((x0 ^^^ (-1 : Int32)) &&& (x0 - (1 : Int32))) &&& (32 : Int32)) σ
def zF_J31_numberOfTrailingZeros (ρ : zz_C) (x0 : Int64) (σ : zz_S) : zz_R :=
  if (x0.toInt32) = 0 then
    zz_cI (zF_J17_numberOfTrailingZeros ρ (((x0.toUInt64 >>> ((32 : Int32).toInt64.toUInt64 &&& Int64.toUInt64 63)).toInt64).toInt32) σ) (fun v7 σ8 =>
      zz_rI ((32 : Int32) + v7) σ8) zz_P
  else
  zz_cI (zF_J17_numberOfTrailingZeros ρ (x0.toInt32) σ) (fun v3 σ4 =>
    zz_rI v3 σ4) zz_P
def zL_J41_nextSetBit_63 (ρ : zz_C) : Nat → Nat → Int32 → Int64 → zz_S → zz_R
  | 0, _, _, _, _ => none
  | n + 1, th, x2, x3, σ =>
    if (lg_cmp x3 (0 : Int64)) = 0 then
      (zz_gI σ (some th) 141 1).bind fun v1 =>
      if (x2 + (1 : Int32)) = v1 then
        zz_rI (-1 : Int32) σ
      else
      (zz_gR σ (some th) 141 0).bind fun v2 =>
      (zz_aJ σ v2 3 (x2 + (1 : Int32))).bind fun v3 =>
      zL_J41_nextSetBit_63 ρ n th (x2 + (1 : Int32)) v3 σ
    else
    zz_cI (zF_J31_numberOfTrailingZeros ρ x3 σ) (fun v6 σ7 =>
      zz_rI ((x2 * (64 : Int32)) + v6) σ7) zz_P
def zF_J41_nextSetBit (ρ : zz_C) (th : Nat) (x1 : Int32) (σ : zz_S) : zz_R :=
  if 0 ≤ x1 then
    zz_ck σ (some th) 141 fun a1 =>
    zz_cV (zF_J41_checkInvariants ρ a1 σ) (fun σ5 =>
      zz_cI (zF_J41_wordIndex ρ x1 σ5) (fun v8 σ9 =>
        (zz_gI σ9 (some th) 141 1).bind fun v10 =>
        if v8 < v10 then
          (zz_gR σ9 (some th) 141 0).bind fun v11 =>
          (zz_aJ σ9 v11 3 v8).bind fun v12 =>
          zL_J41_nextSetBit_63 ρ ρ.2 th v8 (v12 &&& ((-1 : Int64) <<< (x1.toInt64 &&& 63))) σ9
        else
        zz_rI (-1 : Int32) σ9) zz_P) zz_P
  else
  none
def zF_J12_max (ρ : zz_C) (x0 : Int32) (x1 : Int32) (σ : zz_S) : zz_R :=
  if x0 < x1 then
    zz_rI x1 σ
  else
  zz_rI x0 σ
def zF_J41_ensureCapacity (ρ : zz_C) (th : Nat) (x1 : Int32) (σ : zz_S) : zz_R :=
  (zz_gR σ (some th) 141 0).bind fun v1 =>
  (zz_len σ v1).bind fun v2 =>
  if x1 ≤ v2 then
    zz_rV σ
  else
  (zz_gR σ (some th) 141 0).bind fun v3 =>
  (zz_len σ v3).bind fun v4 =>
  zz_cI (zF_J12_max ρ ((2 : Int32) * v4) x1 σ) (fun v7 σ8 =>
    (zz_gR σ8 (some th) 141 0).bind fun v9 =>
    none) zz_P
def zF_J41_expandTo (ρ : zz_C) (th : Nat) (x1 : Int32) (σ : zz_S) : zz_R :=
  (zz_gI σ (some th) 141 1).bind fun v1 =>
  if (x1 + (1 : Int32)) ≤ v1 then
    zz_rV σ
  else
  zz_ck σ (some th) 141 fun a2 =>
  zz_cV (zF_J41_ensureCapacity ρ a2 (x1 + (1 : Int32)) σ) (fun σ6 =>
    (zz_pf σ6 (some th) 141 3 1 (.int (x1 + (1 : Int32)))).bind fun σ7 =>
    zz_rV σ7) zz_P
def zF_J41_set (ρ : zz_C) (th : Nat) (x1 : Int32) (σ : zz_S) : zz_R :=
  if 0 ≤ x1 then
    zz_cI (zF_J41_wordIndex ρ x1 σ) (fun v3 σ4 =>
      zz_ck σ4 (some th) 141 fun a5 =>
      zz_cV (zF_J41_expandTo ρ a5 v3 σ4) (fun σ9 =>
        (zz_gR σ9 (some th) 141 0).bind fun v10 =>
        (zz_aJ σ9 v10 3 v3).bind fun v11 =>
        (zz_sJ σ9 v10 3 v3 (v11 ||| ((1 : Int64) <<< (x1.toInt64 &&& 63)))).bind fun σ12 =>
        zz_ck σ12 (some th) 141 fun a13 =>
        zz_cV (zF_J41_checkInvariants ρ a13 σ12) (fun σ17 =>
          zz_rV σ17) zz_P) zz_P) zz_P
  else
  none
def zL_X6_init_97 (ρ : zz_C) : Nat → Nat → Option Nat → Int32 → zz_S → zz_R
  | 0, _, _, _, _ => none
  | n + 1, th, x1, x2, σ =>
    if x2 < 0 then
      (zz_gI σ x1 6 5).bind fun v1 =>
      (zz_pf σ (some th) 6 9 5 (.int v1)).bind fun σ2 =>
      (zz_gI σ2 x1 6 6).bind fun v3 =>
      (zz_pf σ2 (some th) 6 9 6 (.int v3)).bind fun σ4 =>
      (zz_gI σ4 x1 6 7).bind fun v5 =>
      (zz_pf σ4 (some th) 6 9 7 (.int v5)).bind fun σ6 =>
      (zz_gI σ6 x1 6 8).bind fun v7 =>
      (zz_pfN σ6 (some th) 6 9 8 .boolean v7).bind fun σ8 =>
      zz_rV σ8
    else
    (zz_gR σ (some th) 6 4).bind fun v9 =>
    zz_ck σ v9 141 fun a10 =>
    zz_cV (zF_J41_set ρ a10 x2 σ) (fun σ14 =>
      (zz_gR σ14 x1 6 4).bind fun v15 =>
      zz_ck σ14 v15 141 fun a16 =>
      zz_cI (zF_J41_nextSetBit ρ a16 (x2 + (1 : Int32)) σ14) (fun v19 σ20 =>
        zL_X6_init_97 ρ n th x1 v19 σ20) zz_P) zz_P
def zL_X6_init_58 (ρ : zz_C) : Nat → Nat → Option Nat → Option Nat → zz_S → zz_R
  | 0, _, _, _, _ => none
  | n + 1, th, x1, x2, σ =>
    zz_ck σ x2 126 fun a1 =>
    zz_cI (zF_J26_hasNext ρ a1 σ) (fun v4 σ5 =>
      if v4 = 0 then
        (zz_gR σ5 x1 6 4).bind fun v6 =>
        zz_ck σ5 v6 141 fun a7 =>
        zz_cI (zF_J41_nextSetBit ρ a7 (0 : Int32) σ5) (fun v10 σ11 =>
          zL_X6_init_97 ρ ρ.2 th x1 v10 σ11) zz_P
      else
      zz_ck σ5 x2 126 fun a12 =>
      zz_cR (zF_J26_next ρ a12 σ5) (fun v15 σ16 =>
        if ¬ (zz_ok σ16 v15 [8] = true) then none else
        (zz_gR σ16 (some th) 6 3).bind fun v17 =>
        zz_ck σ16 v17 140 fun a18 =>
        zz_cV (zF_J40_addLast ρ a18 v15 σ16) (fun σ22 =>
          zL_X6_init_58 ρ n th x1 x2 σ22) zz_P) zz_P) zz_P
def zL_X6_init_20 (ρ : zz_C) : Nat → Nat → Option Nat → Option Nat → zz_S → zz_R
  | 0, _, _, _, _ => none
  | n + 1, th, x1, x2, σ =>
    zz_ck σ x2 126 fun a1 =>
    zz_cI (zF_J26_hasNext ρ a1 σ) (fun v4 σ5 =>
      if v4 = 0 then
        (zz_gR σ5 x1 6 3).bind fun v6 =>
        zz_ck σ5 v6 140 fun a7 =>
        zz_cR (zF_J39_iterator ρ a7 σ5) (fun v10 σ11 =>
          zL_X6_init_58 ρ ρ.2 th x1 v10 σ11) zz_P
      else
      zz_ck σ5 x2 126 fun a12 =>
      zz_cR (zF_J26_next ρ a12 σ5) (fun v15 σ16 =>
        if ¬ (zz_ok σ16 v15 [7] = true) then none else
        (zz_gR σ16 (some th) 6 2).bind fun v17 =>
        zz_ck σ16 v17 140 fun a18 =>
        zz_cV (zF_J40_addLast ρ a18 v15 σ16) (fun σ22 =>
          zL_X6_init_20 ρ n th x1 x2 σ22) zz_P) zz_P) zz_P
def zF_X6_init (ρ : zz_C) (th : Nat) (x1 : Option Nat) (σ : zz_S) : zz_R :=
  (zz_gI σ x1 6 0).bind fun v1 =>
  (zz_gI σ x1 6 1).bind fun v2 =>
  zz_cV (zF_X6_init_2 ρ th v1 v2 σ) (fun σ6 =>
    (zz_gR σ6 x1 6 2).bind fun v7 =>
    zz_ck σ6 v7 140 fun a8 =>
    zz_cR (zF_J39_iterator ρ a8 σ6) (fun v11 σ12 =>
      zL_X6_init_20 ρ ρ.2 th x1 v11 σ12) zz_P) zz_P
def zL_X2_copy_107 (ρ : zz_C) : Nat → Nat → Option Nat → Option Nat → zz_S → zz_R
  | 0, _, _, _, _ => none
  | n + 1, th, x1, x2, σ =>
    zz_ck σ x2 124 fun a1 =>
    zz_cI (zF_J24_hasNext ρ a1 σ) (fun v4 σ5 =>
      if v4 = 0 then
        (zz_gI σ5 (some th) 2 3).bind fun v6 =>
        (zz_pf σ5 x1 2 5 3 (.int v6)).bind fun σ7 =>
        (zz_gI σ7 (some th) 2 4).bind fun v8 =>
        (zz_pf σ7 x1 2 5 4 (.int v8)).bind fun σ9 =>
        zz_rR x1 σ9
      else
      zz_ck σ5 x2 124 fun a10 =>
      zz_cR (zF_J24_next ρ a10 σ5) (fun v13 σ14 =>
        if ¬ (zz_ok σ14 v13 [6] = true) then none else
        (zz_gR σ14 x1 2 2).bind fun v15 =>
        zz_al σ14 (.inr (6, [.int 0, .int 0, .null, .null, .null, .int 0, .int 0, .int 0, .int 0])) 9 fun a16 σ17 =>
        zz_cV (zF_X6_init ρ a16 v13 σ17) (fun σ21 =>
          zz_ck σ21 v15 102 fun a22 =>
          zz_cI (zF_J2_add ρ a22 (some a16) σ21) (fun v25 σ26 =>
            zL_X2_copy_107 ρ n th x1 x2 σ26) zz_P) zz_P) zz_P) zz_P
def zL_X2_copy_62 (ρ : zz_C) : Nat → Nat → Option Nat → Option Nat → zz_S → zz_R
  | 0, _, _, _, _ => none
  | n + 1, th, x1, x2, σ =>
    zz_ck σ x2 124 fun a1 =>
    zz_cI (zF_J24_hasNext ρ a1 σ) (fun v4 σ5 =>
      if v4 = 0 then
        (zz_gR σ5 (some th) 2 2).bind fun v6 =>
        zz_ck σ5 v6 102 fun a7 =>
        zz_cR (zF_J2_iterator ρ a7 σ5) (fun v10 σ11 =>
          zL_X2_copy_107 ρ ρ.2 th x1 v10 σ11) zz_P
      else
      zz_ck σ5 x2 124 fun a12 =>
      zz_cR (zF_J24_next ρ a12 σ5) (fun v15 σ16 =>
        if ¬ (zz_ok σ16 v15 [117] = true) then none else
        zz_ck σ16 v15 117 fun a17 =>
        zz_cI (zF_J17_intValue ρ a17 σ16) (fun v20 σ21 =>
          (zz_gR σ21 x1 2 1).bind fun v22 =>
          zz_cR (zF_J17_valueOf ρ v20 σ21) (fun v25 σ26 =>
            zz_ck σ26 v22 102 fun a27 =>
            zz_cI (zF_J2_add ρ a27 v25 σ26) (fun v30 σ31 =>
              zL_X2_copy_62 ρ n th x1 x2 σ31) zz_P) zz_P) zz_P) zz_P) zz_P
def zL_X2_copy_16 (ρ : zz_C) : Nat → Nat → Option Nat → Option Nat → zz_S → zz_R
  | 0, _, _, _, _ => none
  | n + 1, th, x1, x2, σ =>
    zz_ck σ x2 124 fun a1 =>
    zz_cI (zF_J24_hasNext ρ a1 σ) (fun v4 σ5 =>
      if v4 = 0 then
        (zz_gR σ5 (some th) 2 1).bind fun v6 =>
        zz_ck σ5 v6 102 fun a7 =>
        zz_cR (zF_J2_iterator ρ a7 σ5) (fun v10 σ11 =>
          zL_X2_copy_62 ρ ρ.2 th x1 v10 σ11) zz_P
      else
      zz_ck σ5 x2 124 fun a12 =>
      zz_cR (zF_J24_next ρ a12 σ5) (fun v15 σ16 =>
        if ¬ (zz_ok σ16 v15 [5] = true) then none else
        (zz_gR σ16 x1 2 0).bind fun v17 =>
        zz_al σ16 (.inr (5, [.int 0, .int 0, .int 0, .int 0, .int 0])) 5 fun a18 σ19 =>
        zz_cV (zF_X5_init ρ a18 v15 σ19) (fun σ23 =>
          zz_ck σ23 v17 102 fun a24 =>
          zz_cI (zF_J2_add ρ a24 (some a18) σ23) (fun v27 σ28 =>
            zL_X2_copy_16 ρ n th x1 x2 σ28) zz_P) zz_P) zz_P) zz_P
def zF_X2_copy (ρ : zz_C) (th : Nat) (σ : zz_S) : zz_R :=
  zz_al σ (.inr (2, [.null, .null, .null, .int 0, .int 0])) 5 fun a1 σ2 =>
  zz_cV (zF_X2_init ρ a1 σ2) (fun σ6 =>
    (zz_gR σ6 (some th) 2 0).bind fun v7 =>
    zz_ck σ6 v7 102 fun a8 =>
    zz_cR (zF_J2_iterator ρ a8 σ6) (fun v11 σ12 =>
      zL_X2_copy_16 ρ ρ.2 th (some a1) v11 σ12) zz_P) zz_P
def zF_X1_isBetween (ρ : zz_C) (x0 : Int32) (x1 : Int32) (x2 : Int32) (σ : zz_S) : zz_R :=
  if x0 < x1 then
    zz_rN .boolean (0 : Int32) σ
  else
  if x2 < x0 then
    zz_rN .boolean (0 : Int32) σ
  else
  zz_rN .boolean (1 : Int32) σ
def zF_X1_checkIndex (ρ : zz_C) (x0 : Int32) (x1 : Int32) (σ : zz_S) : zz_R :=
  zz_cI (zF_X1_isBetween ρ x0 (0 : Int32) (x1 - (1 : Int32)) σ) (fun v3 σ4 =>
    if v3 = 0 then
      zz_al σ4 (.inr (122, [])) 6 fun a5 σ6 =>
      zz_th σ6 (some a5) zz_P
    else
    zz_rV σ4) zz_P
def zF_X1_checkArgument (ρ : zz_C) (x0 : Int32) (σ : zz_S) : zz_R :=
  if x0 = 0 then
    zz_al σ (.inr (106, [])) 6 fun a1 σ2 =>
    zz_th σ2 (some a1) zz_P
  else
  zz_rV σ
def zF_J2_size (ρ : zz_C) (th : Nat) (σ : zz_S) : zz_R :=
  (zz_gI σ (some th) 102 2).bind fun v1 =>
  zz_rI v1 σ
def zF_X1_checkState (ρ : zz_C) (x0 : Int32) (σ : zz_S) : zz_R :=
  if x0 = 0 then
    zz_al σ (.inr (138, [])) 6 fun a1 σ2 =>
    zz_th σ2 (some a1) zz_P
  else
  zz_rV σ
def zJ_X2_addFrog_32 (ρ : zz_C) (th : Nat) (x1 : Int32) (x2 : Int32) (t0 : Int32) (σ : zz_S) : zz_R :=
  zz_cV (zF_X1_checkState ρ t0 σ) (fun σ4 =>
    (zz_gR σ4 (some th) 2 0).bind fun v5 =>
    zz_al σ4 (.inr (5, [.int 0, .int 0, .int 0, .int 0, .int 0])) 5 fun a6 σ7 =>
    (zz_gR σ7 (some th) 2 0).bind fun v8 =>
    zz_ck σ7 v8 102 fun a9 =>
    zz_cI (zF_J2_size ρ a9 σ7) (fun v12 σ13 =>
      zz_cV (zF_X5_init_2 ρ a6 v12 x1 x2 σ13) (fun σ17 =>
        zz_ck σ17 v5 102 fun a18 =>
        zz_cI (zF_J2_add ρ a18 (some a6) σ17) (fun v21 σ22 =>
          (zz_gR σ22 (some th) 2 0).bind fun v23 =>
          zz_ck σ22 v23 102 fun a24 =>
          zz_cI (zF_J2_size ρ a24 σ22) (fun v27 σ28 =>
            zz_rI (v27 - (1 : Int32)) σ28) zz_P) zz_P) zz_P) zz_P) zz_P
def zF_X2_addFrog (ρ : zz_C) (th : Nat) (x1 : Int32) (x2 : Int32) (σ : zz_S) : zz_R :=
  zz_cV (zF_X1_checkIndex ρ x1 (4 : Int32) σ) (fun σ4 =>
    zz_cI (zF_X1_isBetween ρ x2 (1 : Int32) (9 : Int32) σ4) (fun v7 σ8 =>
      zz_cV (zF_X1_checkArgument ρ v7 σ8) (fun σ12 =>
        (zz_gR σ12 (some th) 2 0).bind fun v13 =>
        zz_ck σ12 v13 102 fun a14 =>
        zz_cI (zF_J2_size ρ a14 σ12) (fun v17 σ18 =>
          if (12 : Int32) ≤ v17 then
            zJ_X2_addFrog_32 ρ th x1 x2 (0 : Int32) σ18
          else
          zJ_X2_addFrog_32 ρ th x1 x2 (1 : Int32) σ18) zz_P) zz_P) zz_P) zz_P
def zF_X1_lambda_addFrog_4 (ρ : zz_C) (x0 : Int32) (x1 : Int32) (x2 : Option Nat) (σ : zz_S) : zz_R :=
  zz_ck σ x2 2 fun a1 =>
  zz_cI (zF_X2_addFrog ρ a1 x0 x1 σ) (fun v4 σ5 =>
    zz_rI v4 σ5) zz_P
def zF_lam6 (ρ : zz_C) (th : Nat) (x2 : Option Nat) (σ : zz_S) : zz_R :=
  (zz_gI σ (some th) 206 0).bind fun w0 =>
  (zz_gI σ (some th) 206 1).bind fun w1 =>
  zz_cI (zF_X1_lambda_addFrog_4 ρ w0 w1 x2 σ) zz_rI zz_P
def zF_J18_inc (ρ : zz_C) (x0 : Int32) (x1 : Int32) (σ : zz_S) : zz_R :=
  if (x0 + (1 : Int32)) < x1 then
    zz_rI (x0 + (1 : Int32)) σ
  else
  zz_rI (0 : Int32) σ
def zF_J18_addLast (ρ : zz_C) (th : Nat) (x1 : Option Nat) (σ : zz_S) : zz_R :=
  zz_nul x1 (
    none
  ) fun _ =>
  (zz_gR σ (some th) 118 0).bind fun v2 =>
  (zz_gI σ (some th) 118 2).bind fun v3 =>
  if ¬ (zz_ok σ x1 zz_cO = true) then none else
  (zz_sR σ v2 5 v3 x1).bind fun σ4 =>
  (zz_gI σ4 (some th) 118 1).bind fun v5 =>
  (zz_gI σ4 (some th) 118 2).bind fun v6 =>
  (zz_len σ4 v2).bind fun v7 =>
  zz_cI (zF_J18_inc ρ v6 v7 σ4) (fun v10 σ11 =>
    (zz_pf σ11 (some th) 118 3 2 (.int v10)).bind fun σ12 =>
    if v5 = v10 then
      none
    else
    zz_rV σ12) zz_P
def zF_J18_sub (ρ : zz_C) (x0 : Int32) (x1 : Int32) (x2 : Int32) (σ : zz_S) : zz_R :=
  if 0 ≤ (x0 - x1) then
    zz_rI (x0 - x1) σ
  else
  zz_rI ((x0 - x1) + x2) σ
def zF_J18_size (ρ : zz_C) (th : Nat) (σ : zz_S) : zz_R :=
  (zz_gI σ (some th) 118 2).bind fun v1 =>
  (zz_gI σ (some th) 118 1).bind fun v2 =>
  (zz_gR σ (some th) 118 0).bind fun v3 =>
  (zz_len σ v3).bind fun v4 =>
  zz_cI (zF_J18_sub ρ v1 v2 v4 σ) (fun v7 σ8 =>
    zz_rI v7 σ8) zz_P
def zF_J18_elementAt (ρ : zz_C) (x0 : Option Nat) (x1 : Int32) (σ : zz_S) : zz_R :=
  (zz_aR σ x0 5 x1).bind fun v1 =>
  zz_rR v1 σ
def zF_J18_pollFirst (ρ : zz_C) (th : Nat) (σ : zz_S) : zz_R :=
  (zz_gR σ (some th) 118 0).bind fun v1 =>
  (zz_gI σ (some th) 118 1).bind fun v2 =>
  zz_cR (zF_J18_elementAt ρ v1 v2 σ) (fun v5 σ6 =>
    zz_nul v5 (
      zz_rR v5 σ6
    ) fun _ =>
    if ¬ (zz_ok σ6 none zz_cO = true) then none else
    (zz_sR σ6 v1 5 v2 none).bind fun σ8 =>
    (zz_len σ8 v1).bind fun v9 =>
    zz_cI (zF_J18_inc ρ v2 v9 σ8) (fun v12 σ13 =>
      (zz_pf σ13 (some th) 118 3 1 (.int v12)).bind fun σ14 =>
      zz_rR v5 σ14) zz_P) zz_P
def zF_J18_removeFirst (ρ : zz_C) (th : Nat) (σ : zz_S) : zz_R :=
  zz_ck σ (some th) 118 fun a1 =>
  zz_cR (zF_J18_pollFirst ρ a1 σ) (fun v4 σ5 =>
    zz_nul v4 (
      none
    ) fun _ =>
    zz_rR v4 σ5) zz_P
def zF_X1_remember (ρ : zz_C) (th : Nat) (x1 : Option Nat) (σ : zz_S) : zz_R :=
  (zz_gR σ (some th) 1 2).bind fun v1 =>
  zz_ck σ v1 118 fun a2 =>
  zz_cV (zF_J18_addLast ρ a2 x1 σ) (fun σ6 =>
    (zz_gR σ6 (some th) 1 2).bind fun v7 =>
    zz_ck σ6 v7 118 fun a8 =>
    zz_cI (zF_J18_size ρ a8 σ6) (fun v11 σ12 =>
      if v11 ≤ (8 : Int32) then
        zz_rV σ12
      else
      (zz_gR σ12 (some th) 1 2).bind fun v13 =>
      zz_ck σ12 v13 118 fun a14 =>
      zz_cR (zF_J18_removeFirst ρ a14 σ12) (fun v17 σ18 =>
        if ¬ (zz_ok σ18 v17 [2] = true) then none else
        zz_rV σ18) zz_P) zz_P) zz_P
def zJ_X2_addPad_26 (ρ : zz_C) (th : Nat) (x1 : Int32) (t0 : Int32) (σ : zz_S) : zz_R :=
  zz_cV (zF_X1_checkState ρ t0 σ) (fun σ4 =>
    (zz_gR σ4 (some th) 2 1).bind fun v5 =>
    zz_cR (zF_J17_valueOf ρ x1 σ4) (fun v8 σ9 =>
      zz_ck σ9 v5 102 fun a10 =>
      zz_cI (zF_J2_add ρ a10 v8 σ9) (fun v13 σ14 =>
        (zz_gR σ14 (some th) 2 1).bind fun v15 =>
        zz_ck σ14 v15 102 fun a16 =>
        zz_cI (zF_J2_size ρ a16 σ14) (fun v19 σ20 =>
          zz_rI (v19 - (1 : Int32)) σ20) zz_P) zz_P) zz_P) zz_P
def zF_X2_addPad (ρ : zz_C) (th : Nat) (x1 : Int32) (σ : zz_S) : zz_R :=
  zz_cI (zF_X1_isBetween ρ x1 (1 : Int32) (4 : Int32) σ) (fun v3 σ4 =>
    zz_cV (zF_X1_checkArgument ρ v3 σ4) (fun σ8 =>
      (zz_gR σ8 (some th) 2 1).bind fun v9 =>
      zz_ck σ8 v9 102 fun a10 =>
      zz_cI (zF_J2_size ρ a10 σ8) (fun v13 σ14 =>
        if (6 : Int32) ≤ v13 then
          zJ_X2_addPad_26 ρ th x1 (0 : Int32) σ14
        else
        zJ_X2_addPad_26 ρ th x1 (1 : Int32) σ14) zz_P) zz_P) zz_P
def zF_X1_lambda_addPad_5 (ρ : zz_C) (x0 : Int32) (x1 : Option Nat) (σ : zz_S) : zz_R :=
  zz_ck σ x1 2 fun a1 =>
  zz_cI (zF_X2_addPad ρ a1 x0 σ) (fun v4 σ5 =>
    zz_rI v4 σ5) zz_P
def zF_lam7 (ρ : zz_C) (th : Nat) (x1 : Option Nat) (σ : zz_S) : zz_R :=
  (zz_gI σ (some th) 207 0).bind fun w0 =>
  zz_cI (zF_X1_lambda_addPad_5 ρ w0 x1 σ) zz_rI zz_P
def zF_J14_checkIndex (ρ : zz_C) (x0 : Int32) (x1 : Int32) (x2 : Option Nat) (σ : zz_S) : zz_R :=
  if x0 < 0 then
    none
  else
  if x0 < x1 then
    zz_rI x0 σ
  else
  none
def zF_J27_checkIndex (ρ : zz_C) (x0 : Int32) (x1 : Int32) (σ : zz_S) : zz_R :=
  zz_cI (zF_J14_checkIndex ρ x0 x1 none σ) (fun v3 σ4 =>
    zz_rI v3 σ4) zz_P
def zF_J2_elementData (ρ : zz_C) (th : Nat) (x1 : Int32) (σ : zz_S) : zz_R :=
  (zz_gR σ (some th) 102 1).bind fun v1 =>
  (zz_aR σ v1 5 x1).bind fun v2 =>
  zz_rR v2 σ
def zF_J2_get (ρ : zz_C) (th : Nat) (x1 : Int32) (σ : zz_S) : zz_R :=
  (zz_gI σ (some th) 102 2).bind fun v1 =>
  zz_cI (zF_J27_checkIndex ρ x1 v1 σ) (fun v4 σ5 =>
    zz_ck σ5 (some th) 102 fun a6 =>
    zz_cR (zF_J2_elementData ρ a6 x1 σ5) (fun v9 σ10 =>
      zz_rR v9 σ10) zz_P) zz_P
def zF_X2_frog (ρ : zz_C) (th : Nat) (x1 : Int32) (σ : zz_S) : zz_R :=
  (zz_gR σ (some th) 2 0).bind fun v1 =>
  zz_ck σ v1 102 fun a2 =>
  zz_cI (zF_J2_size ρ a2 σ) (fun v5 σ6 =>
    zz_cV (zF_X1_checkIndex ρ x1 v5 σ6) (fun σ10 =>
      (zz_gR σ10 (some th) 2 0).bind fun v11 =>
      zz_ck σ10 v11 102 fun a12 =>
      zz_cR (zF_J2_get ρ a12 x1 σ10) (fun v15 σ16 =>
        if ¬ (zz_ok σ16 v15 [5] = true) then none else
        zz_rR v15 σ16) zz_P) zz_P) zz_P
def zF_X2_checkedPad (ρ : zz_C) (th : Nat) (x1 : Int32) (σ : zz_S) : zz_R :=
  (zz_gR σ (some th) 2 1).bind fun v1 =>
  zz_ck σ v1 102 fun a2 =>
  zz_cI (zF_J2_size ρ a2 σ) (fun v5 σ6 =>
    zz_cV (zF_X1_checkIndex ρ x1 v5 σ6) (fun σ10 =>
      zz_rI x1 σ10) zz_P) zz_P
def zF_X2_lambda_frogsOn_0 (ρ : zz_C) (x0 : Int32) (x1 : Option Nat) (σ : zz_S) : zz_R :=
  (zz_gI σ x1 5 3).bind fun v1 =>
  if v1 = x0 then
    zz_rN .boolean (1 : Int32) σ
  else
  zz_rN .boolean (0 : Int32) σ
def zF_lam5 (ρ : zz_C) (th : Nat) (x1 : Option Nat) (σ : zz_S) : zz_R :=
  (zz_gI σ (some th) 205 0).bind fun w0 =>
  zz_cI (zF_X2_lambda_frogsOn_0 ρ w0 x1 σ) (zz_rN .boolean) zz_P
def zF_X1_lambda_padWeight_8 (ρ : zz_C) (x0 : Int32) (x1 : Option Nat) (σ : zz_S) : zz_R :=
  (zz_gI σ x1 5 3).bind fun v1 =>
  if v1 = x0 then
    zz_rN .boolean (1 : Int32) σ
  else
  zz_rN .boolean (0 : Int32) σ
def zF_lam10 (ρ : zz_C) (th : Nat) (x1 : Option Nat) (σ : zz_S) : zz_R :=
  (zz_gI σ (some th) 210 0).bind fun w0 =>
  zz_cI (zF_X1_lambda_padWeight_8 ρ w0 x1 σ) (zz_rN .boolean) zz_P
def zF_X2_isAhead (ρ : zz_C) (x0 : Option Nat) (x1 : Option Nat) (σ : zz_S) : zz_R :=
  (zz_gI σ x0 5 4).bind fun v1 =>
  (zz_gI σ x1 5 4).bind fun v2 =>
  if v1 = v2 then
    (zz_gI σ x0 5 2).bind fun v3 =>
    (zz_gI σ x1 5 2).bind fun v4 =>
    if v3 = v4 then
      (zz_gI σ x0 5 0).bind fun v5 =>
      (zz_gI σ x1 5 0).bind fun v6 =>
      if v6 ≤ v5 then
        zz_rN .boolean (0 : Int32) σ
      else
      zz_rN .boolean (1 : Int32) σ
    else
    (zz_gI σ x0 5 2).bind fun v7 =>
    (zz_gI σ x1 5 2).bind fun v8 =>
    if v7 ≤ v8 then
      zz_rN .boolean (0 : Int32) σ
    else
    zz_rN .boolean (1 : Int32) σ
  else
  (zz_gI σ x0 5 4).bind fun v9 =>
  (zz_gI σ x1 5 4).bind fun v10 =>
  if v9 ≤ v10 then
    zz_rN .boolean (0 : Int32) σ
  else
  zz_rN .boolean (1 : Int32) σ
def zF_X2_lambda_frogAtRank_2 (ρ : zz_C) (x0 : Option Nat) (x1 : Option Nat) (σ : zz_S) : zz_R :=
  zz_cI (zF_X2_isAhead ρ x1 x0 σ) (fun v3 σ4 =>
    zz_rN .boolean v3 σ4) zz_P
def zF_lam15 (ρ : zz_C) (th : Nat) (x1 : Option Nat) (σ : zz_S) : zz_R :=
  (zz_gR σ (some th) 215 0).bind fun w0 =>
  zz_cI (zF_X2_lambda_frogAtRank_2 ρ w0 x1 σ) (zz_rN .boolean) zz_P
def zF_J41_get (ρ : zz_C) (th : Nat) (x1 : Int32) (σ : zz_S) : zz_R :=
  if 0 ≤ x1 then
    zz_ck σ (some th) 141 fun a1 =>
    zz_cV (zF_J41_checkInvariants ρ a1 σ) (fun σ5 =>
      zz_cI (zF_J41_wordIndex ρ x1 σ5) (fun v8 σ9 =>
        (zz_gI σ9 (some th) 141 1).bind fun v10 =>
        if v10 ≤ v8 then
          zz_rN .boolean (0 : Int32) σ9
        else
        (zz_gR σ9 (some th) 141 0).bind fun v11 =>
        (zz_aJ σ9 v11 3 v8).bind fun v12 =>
        if (lg_cmp (v12 &&& ((1 : Int64) <<< (x1.toInt64 &&& 63))) (0 : Int64)) = 0 then
          zz_rN .boolean (0 : Int32) σ9
        else
        zz_rN .boolean (1 : Int32) σ9) zz_P) zz_P
  else
  none
def zF_X2_lambda_closureWeight_3 (ρ : zz_C) (x0 : Option Nat) (x1 : Option Nat) (σ : zz_S) : zz_R :=
  (zz_gR σ x0 6 4).bind fun v1 =>
  (zz_gI σ x1 5 0).bind fun v2 =>
  zz_ck σ v1 141 fun a3 =>
  zz_cI (zF_J41_get ρ a3 v2 σ) (fun v6 σ7 =>
    zz_rN .boolean v6 σ7) zz_P
def zF_lam17 (ρ : zz_C) (th : Nat) (x1 : Option Nat) (σ : zz_S) : zz_R :=
  (zz_gR σ (some th) 217 0).bind fun w0 =>
  zz_cI (zF_X2_lambda_closureWeight_3 ρ w0 x1 σ) (zz_rN .boolean) zz_P
def zF_X6_entitles (ρ : zz_C) (th : Nat) (x1 : Option Nat) (σ : zz_S) : zz_R :=
  (zz_gI σ (some th) 6 1).bind fun v1 =>
  (zz_gI σ x1 5 1).bind fun v2 =>
  if ((v1 >>> (v2 &&& 31)) &&& (1 : Int32)) = (1 : Int32) then
    zz_rN .boolean (1 : Int32) σ
  else
  zz_rN .boolean (0 : Int32) σ
def zF_X2_lambda_entitledWeight_4 (ρ : zz_C) (x0 : Option Nat) (x1 : Option Nat) (σ : zz_S) : zz_R :=
  zz_ck σ x0 6 fun a1 =>
  zz_cI (zF_X6_entitles ρ a1 x1 σ) (fun v4 σ5 =>
    zz_rN .boolean v4 σ5) zz_P
def zF_lam18 (ρ : zz_C) (th : Nat) (x1 : Option Nat) (σ : zz_S) : zz_R :=
  (zz_gR σ (some th) 218 0).bind fun w0 =>
  zz_cI (zF_X2_lambda_entitledWeight_4 ρ w0 x1 σ) (zz_rN .boolean) zz_P
def zF_X5_sits (ρ : zz_C) (th : Nat) (σ : zz_S) : zz_R :=
  (zz_gI σ (some th) 5 3).bind fun v1 =>
  if v1 = (-1 : Int32) then
    zz_rN .boolean (0 : Int32) σ
  else
  zz_rN .boolean (1 : Int32) σ
def zF_X2_lambda_meanSittingWeight_1 (ρ : zz_C) (x0 : Option Nat) (σ : zz_S) : zz_R :=
  zz_ck σ x0 5 fun a1 =>
  zz_cI (zF_X5_sits ρ a1 σ) (fun v4 σ5 =>
    zz_rN .boolean v4 σ5) zz_P
def zF_lam21 (ρ : zz_C) (th : Nat) (x0 : Option Nat) (σ : zz_S) : zz_R :=
  zz_cI (zF_X2_lambda_meanSittingWeight_1 ρ x0 σ) (zz_rN .boolean) zz_P
def zJ_X2_count_47 (ρ : zz_C) (K10 : Option Nat → Int32 → Option Nat → zz_S → zz_R) (x1 : Option Nat) (x3 : Option Nat) (t0 : Int32) (t1 : Int32) (σ : zz_S) : zz_R :=
  K10 x1 (t1 + t0) x3 σ
def zL_X2_count_10 (ρ : zz_C) : Nat → Option Nat → Int32 → Option Nat → zz_S → zz_R
  | 0, _, _, _, _ => none
  | n + 1, x1, x2, x3, σ =>
    zz_ck σ x3 124 fun a1 =>
    zz_cI (zF_J24_hasNext ρ a1 σ) (fun v4 σ5 =>
      if v4 = 0 then
        zz_rI x2 σ5
      else
      zz_ck σ5 x3 124 fun a6 =>
      zz_cR (zF_J24_next ρ a6 σ5) (fun v9 σ10 =>
        if ¬ (zz_ok σ10 v9 [5] = true) then none else
        zz_dp σ10 x1 fun a11 c12 =>
        if c12 = 205 then
          zz_cI (zF_lam5 ρ a11 v9 σ10) (fun v15 σ16 =>
            if v15 = 0 then
              zJ_X2_count_47 ρ (zL_X2_count_10 ρ n) x1 x3 (0 : Int32) x2 σ16
            else
            zJ_X2_count_47 ρ (zL_X2_count_10 ρ n) x1 x3 (1 : Int32) x2 σ16) zz_P
        else
        if c12 = 210 then
          zz_cI (zF_lam10 ρ a11 v9 σ10) (fun v17 σ18 =>
            if v17 = 0 then
              zJ_X2_count_47 ρ (zL_X2_count_10 ρ n) x1 x3 (0 : Int32) x2 σ18
            else
            zJ_X2_count_47 ρ (zL_X2_count_10 ρ n) x1 x3 (1 : Int32) x2 σ18) zz_P
        else
        if c12 = 215 then
          zz_cI (zF_lam15 ρ a11 v9 σ10) (fun v19 σ20 =>
            if v19 = 0 then
              zJ_X2_count_47 ρ (zL_X2_count_10 ρ n) x1 x3 (0 : Int32) x2 σ20
            else
            zJ_X2_count_47 ρ (zL_X2_count_10 ρ n) x1 x3 (1 : Int32) x2 σ20) zz_P
        else
        if c12 = 217 then
          zz_cI (zF_lam17 ρ a11 v9 σ10) (fun v21 σ22 =>
            if v21 = 0 then
              zJ_X2_count_47 ρ (zL_X2_count_10 ρ n) x1 x3 (0 : Int32) x2 σ22
            else
            zJ_X2_count_47 ρ (zL_X2_count_10 ρ n) x1 x3 (1 : Int32) x2 σ22) zz_P
        else
        if c12 = 218 then
          zz_cI (zF_lam18 ρ a11 v9 σ10) (fun v23 σ24 =>
            if v23 = 0 then
              zJ_X2_count_47 ρ (zL_X2_count_10 ρ n) x1 x3 (0 : Int32) x2 σ24
            else
            zJ_X2_count_47 ρ (zL_X2_count_10 ρ n) x1 x3 (1 : Int32) x2 σ24) zz_P
        else
        if c12 = 221 then
          zz_cI (zF_lam21 ρ a11 v9 σ10) (fun v25 σ26 =>
            if v25 = 0 then
              zJ_X2_count_47 ρ (zL_X2_count_10 ρ n) x1 x3 (0 : Int32) x2 σ26
            else
            zJ_X2_count_47 ρ (zL_X2_count_10 ρ n) x1 x3 (1 : Int32) x2 σ26) zz_P
        else
        none) zz_P) zz_P
def zF_X2_count (ρ : zz_C) (th : Nat) (x1 : Option Nat) (σ : zz_S) : zz_R :=
  (zz_gR σ (some th) 2 0).bind fun v1 =>
  zz_ck σ v1 102 fun a2 =>
  zz_cR (zF_J2_iterator ρ a2 σ) (fun v5 σ6 =>
    zL_X2_count_10 ρ ρ.2 x1 (0 : Int32) v5 σ6) zz_P
def zF_X2_frogsOn (ρ : zz_C) (th : Nat) (x1 : Int32) (σ : zz_S) : zz_R :=
  zz_al σ (.inr (205, [.int x1])) 1 fun a1 σ2 =>
  zz_ck σ2 (some th) 2 fun a3 =>
  zz_cI (zF_X2_count ρ a3 (some a1) σ2) (fun v6 σ7 =>
    zz_rI v6 σ7) zz_P
def zJ_X2_hop_50 (ρ : zz_C) (th : Nat) (x3 : Option Nat) (x4 : Int32) (σ : zz_S) : zz_R :=
  zz_cV (zF_X1_checkState ρ (0 : Int32) σ) (fun σ4 =>
    (zz_pf σ4 x3 5 5 3 (.int x4)).bind fun σ5 =>
    zz_ck σ5 (some th) 2 fun a6 =>
    zz_cI (zF_X2_frogsOn ρ a6 x4 σ5) (fun v9 σ10 =>
      zz_rI v9 σ10) zz_P) zz_P
def zF_X2_hop (ρ : zz_C) (th : Nat) (x1 : Int32) (x2 : Int32) (σ : zz_S) : zz_R :=
  zz_ck σ (some th) 2 fun a1 =>
  zz_cR (zF_X2_frog ρ a1 x1 σ) (fun v4 σ5 =>
    zz_ck σ5 (some th) 2 fun a6 =>
    zz_cI (zF_X2_checkedPad ρ a6 x2 σ5) (fun v9 σ10 =>
      (zz_gI σ10 v4 5 3).bind fun v11 =>
      if v11 = v9 then
        zJ_X2_hop_50 ρ th v4 v9 σ10
      else
      zz_ck σ10 (some th) 2 fun a12 =>
      zz_cI (zF_X2_frogsOn ρ a12 v9 σ10) (fun v15 σ16 =>
        (zz_gR σ16 (some th) 2 1).bind fun v17 =>
        zz_ck σ16 v17 102 fun a18 =>
        zz_cR (zF_J2_get ρ a18 v9 σ16) (fun v21 σ22 =>
          if ¬ (zz_ok σ22 v21 [117] = true) then none else
          zz_ck σ22 v21 117 fun a23 =>
          zz_cI (zF_J17_intValue ρ a23 σ22) (fun v26 σ27 =>
            if v26 ≤ v15 then
              zJ_X2_hop_50 ρ th v4 v9 σ27
            else
            zz_cV (zF_X1_checkState ρ (1 : Int32) σ27) (fun σ31 =>
              (zz_pf σ31 v4 5 5 3 (.int v9)).bind fun σ32 =>
              zz_ck σ32 (some th) 2 fun a33 =>
              zz_cI (zF_X2_frogsOn ρ a33 v9 σ32) (fun v36 σ37 =>
                zz_rI v36 σ37) zz_P) zz_P) zz_P) zz_P) zz_P) zz_P) zz_P
def zF_X1_lambda_hop_6 (ρ : zz_C) (x0 : Int32) (x1 : Int32) (x2 : Option Nat) (σ : zz_S) : zz_R :=
  zz_ck σ x2 2 fun a1 =>
  zz_cI (zF_X2_hop ρ a1 x0 x1 σ) (fun v4 σ5 =>
    zz_rI v4 σ5) zz_P
def zF_lam8 (ρ : zz_C) (th : Nat) (x2 : Option Nat) (σ : zz_S) : zz_R :=
  (zz_gI σ (some th) 208 0).bind fun w0 =>
  (zz_gI σ (some th) 208 1).bind fun w1 =>
  zz_cI (zF_X1_lambda_hop_6 ρ w0 w1 x2 σ) zz_rI zz_P
def zF_X2_dive (ρ : zz_C) (th : Nat) (x1 : Int32) (σ : zz_S) : zz_R :=
  zz_ck σ (some th) 2 fun a1 =>
  zz_cR (zF_X2_frog ρ a1 x1 σ) (fun v4 σ5 =>
    zz_ck σ5 v4 5 fun a6 =>
    zz_cI (zF_X5_sits ρ a6 σ5) (fun v9 σ10 =>
      zz_cV (zF_X1_checkState ρ v9 σ10) (fun σ14 =>
        (zz_gI σ14 v4 5 3).bind fun v15 =>
        (zz_pf σ14 v4 5 5 3 (.int (-1 : Int32))).bind fun σ16 =>
        zz_rI v15 σ16) zz_P) zz_P) zz_P
def zF_X1_lambda_dive_7 (ρ : zz_C) (x0 : Int32) (x1 : Option Nat) (σ : zz_S) : zz_R :=
  zz_ck σ x1 2 fun a1 =>
  zz_cI (zF_X2_dive ρ a1 x0 σ) (fun v4 σ5 =>
    zz_rI v4 σ5) zz_P
def zF_lam9 (ρ : zz_C) (th : Nat) (x1 : Option Nat) (σ : zz_S) : zz_R :=
  (zz_gI σ (some th) 209 0).bind fun w0 =>
  zz_cI (zF_X1_lambda_dive_7 ρ w0 x1 σ) zz_rI zz_P
def zJ_X2_addMotion_27 (ρ : zz_C) (th : Nat) (x1 : Int32) (t0 : Int32) (σ : zz_S) : zz_R :=
  zz_cV (zF_X1_checkState ρ t0 σ) (fun σ4 =>
    (zz_gR σ4 (some th) 2 2).bind fun v5 =>
    zz_al σ4 (.inr (6, [.int 0, .int 0, .null, .null, .null, .int 0, .int 0, .int 0, .int 0])) 9 fun a6 σ7 =>
    (zz_gR σ7 (some th) 2 2).bind fun v8 =>
    zz_ck σ7 v8 102 fun a9 =>
    zz_cI (zF_J2_size ρ a9 σ7) (fun v12 σ13 =>
      zz_cV (zF_X6_init_2 ρ a6 v12 x1 σ13) (fun σ17 =>
        zz_ck σ17 v5 102 fun a18 =>
        zz_cI (zF_J2_add ρ a18 (some a6) σ17) (fun v21 σ22 =>
          (zz_gR σ22 (some th) 2 2).bind fun v23 =>
          zz_ck σ22 v23 102 fun a24 =>
          zz_cI (zF_J2_size ρ a24 σ22) (fun v27 σ28 =>
            zz_rI (v27 - (1 : Int32)) σ28) zz_P) zz_P) zz_P) zz_P) zz_P
def zF_X2_addMotion (ρ : zz_C) (th : Nat) (x1 : Int32) (σ : zz_S) : zz_R :=
  zz_cI (zF_X1_isBetween ρ x1 (1 : Int32) (15 : Int32) σ) (fun v3 σ4 =>
    zz_cV (zF_X1_checkArgument ρ v3 σ4) (fun σ8 =>
      (zz_gR σ8 (some th) 2 2).bind fun v9 =>
      zz_ck σ8 v9 102 fun a10 =>
      zz_cI (zF_J2_size ρ a10 σ8) (fun v13 σ14 =>
        if (6 : Int32) ≤ v13 then
          zJ_X2_addMotion_27 ρ th x1 (0 : Int32) σ14
        else
        zJ_X2_addMotion_27 ρ th x1 (1 : Int32) σ14) zz_P) zz_P) zz_P
def zF_X1_lambda_addMotion_9 (ρ : zz_C) (x0 : Int32) (x1 : Option Nat) (σ : zz_S) : zz_R :=
  zz_ck σ x1 2 fun a1 =>
  zz_cI (zF_X2_addMotion ρ a1 x0 σ) (fun v4 σ5 =>
    zz_rI v4 σ5) zz_P
def zF_lam11 (ρ : zz_C) (th : Nat) (x1 : Option Nat) (σ : zz_S) : zz_R :=
  (zz_gI σ (some th) 211 0).bind fun w0 =>
  zz_cI (zF_X1_lambda_addMotion_9 ρ w0 x1 σ) zz_rI zz_P
def zF_X2_motion (ρ : zz_C) (th : Nat) (x1 : Int32) (σ : zz_S) : zz_R :=
  (zz_gR σ (some th) 2 2).bind fun v1 =>
  zz_ck σ v1 102 fun a2 =>
  zz_cI (zF_J2_size ρ a2 σ) (fun v5 σ6 =>
    zz_cV (zF_X1_checkIndex ρ x1 v5 σ6) (fun σ10 =>
      (zz_gR σ10 (some th) 2 2).bind fun v11 =>
      zz_ck σ10 v11 102 fun a12 =>
      zz_cR (zF_J2_get ρ a12 x1 σ10) (fun v15 σ16 =>
        if ¬ (zz_ok σ16 v15 [6] = true) then none else
        zz_rR v15 σ16) zz_P) zz_P) zz_P
def zF_X6_isOpen (ρ : zz_C) (th : Nat) (σ : zz_S) : zz_R :=
  (zz_gI σ (some th) 6 7).bind fun v1 =>
  if v1 = 0 then
    zz_rN .boolean (1 : Int32) σ
  else
  zz_rN .boolean (0 : Int32) σ
def zL_X6_requestOf_8 (ρ : zz_C) : Nat → Int32 → Option Nat → zz_S → zz_R
  | 0, _, _, _ => none
  | n + 1, x1, x2, σ =>
    zz_ck σ x2 126 fun a1 =>
    zz_cI (zF_J26_hasNext ρ a1 σ) (fun v4 σ5 =>
      if v4 = 0 then
        zz_rR none σ5
      else
      zz_ck σ5 x2 126 fun a6 =>
      zz_cR (zF_J26_next ρ a6 σ5) (fun v9 σ10 =>
        if ¬ (zz_ok σ10 v9 [7] = true) then none else
        (zz_gI σ10 v9 7 0).bind fun v11 =>
        if v11 = x1 then
          zz_rR v9 σ10
        else
        zL_X6_requestOf_8 ρ n x1 x2 σ10) zz_P) zz_P
def zF_X6_requestOf (ρ : zz_C) (th : Nat) (x1 : Int32) (σ : zz_S) : zz_R :=
  (zz_gR σ (some th) 6 2).bind fun v1 =>
  zz_ck σ v1 140 fun a2 =>
  zz_cR (zF_J39_iterator ρ a2 σ) (fun v5 σ6 =>
    zL_X6_requestOf_8 ρ ρ.2 x1 v5 σ6) zz_P
def zF_X1_checkSupported (ρ : zz_C) (x0 : Int32) (σ : zz_S) : zz_R :=
  if x0 = 0 then
    zz_al σ (.inr (143, [])) 6 fun a1 σ2 =>
    zz_th σ2 (some a1) zz_P
  else
  zz_rV σ
def zF_X7_init (ρ : zz_C) (th : Nat) (x1 : Int32) (x2 : Int32) (σ : zz_S) : zz_R :=
  (zz_pf σ (some th) 7 2 0 (.int x1)).bind fun σ1 =>
  (zz_pf σ1 (some th) 7 2 1 (.int x2)).bind fun σ2 =>
  zz_rV σ2
def zF_J40_size (ρ : zz_C) (th : Nat) (σ : zz_S) : zz_R :=
  (zz_gI σ (some th) 140 1).bind fun v1 =>
  zz_rI v1 σ
def zJ_X2_signUp_57 (ρ : zz_C) (x2 : Int32) (x3 : Option Nat) (t0 : Int32) (σ : zz_S) : zz_R :=
  zz_cV (zF_X1_checkSupported ρ t0 σ) (fun σ4 =>
    (zz_gR σ4 x3 6 2).bind fun v5 =>
    zz_al σ4 (.inr (7, [.int 0, .int 0])) 2 fun a6 σ7 =>
    (zz_gI σ7 x3 6 5).bind fun v8 =>
    zz_cV (zF_X7_init ρ a6 x2 v8 σ7) (fun σ12 =>
      zz_ck σ12 v5 140 fun a13 =>
      zz_cV (zF_J40_addLast ρ a13 (some a6) σ12) (fun σ17 =>
        (zz_gI σ17 x3 6 5).bind fun v18 =>
        (zz_pf σ17 x3 6 9 5 (.int (v18 + (1 : Int32)))).bind fun σ19 =>
        (zz_gR σ19 x3 6 2).bind fun v20 =>
        zz_ck σ19 v20 140 fun a21 =>
        zz_cI (zF_J40_size ρ a21 σ19) (fun v24 σ25 =>
          zz_rI v24 σ25) zz_P) zz_P) zz_P) zz_P
def zJ_X2_signUp_41 (ρ : zz_C) (x2 : Int32) (x3 : Option Nat) (t0 : Int32) (σ : zz_S) : zz_R :=
  zz_cV (zF_X1_checkState ρ t0 σ) (fun σ4 =>
    zz_ck σ4 x3 6 fun a5 =>
    zz_cR (zF_X6_requestOf ρ a5 x2 σ4) (fun v8 σ9 =>
      zz_nul v8 (
        zJ_X2_signUp_57 ρ x2 x3 (1 : Int32) σ9
      ) fun _ =>
      zJ_X2_signUp_57 ρ x2 x3 (0 : Int32) σ9) zz_P) zz_P
def zJ_X2_signUp_40 (ρ : zz_C) (x2 : Int32) (x3 : Option Nat) (σ : zz_S) : zz_R :=
  zJ_X2_signUp_41 ρ x2 x3 (0 : Int32) σ
def zF_X2_signUp (ρ : zz_C) (th : Nat) (x1 : Int32) (x2 : Int32) (σ : zz_S) : zz_R :=
  zz_ck σ (some th) 2 fun a1 =>
  zz_cR (zF_X2_motion ρ a1 x1 σ) (fun v4 σ5 =>
    zz_ck σ5 (some th) 2 fun a6 =>
    zz_cR (zF_X2_frog ρ a6 x2 σ5) (fun v9 σ10 =>
      zz_ck σ10 v4 6 fun a11 =>
      zz_cI (zF_X6_entitles ρ a11 v9 σ10) (fun v14 σ15 =>
        zz_cV (zF_X1_checkArgument ρ v14 σ15) (fun σ19 =>
          zz_ck σ19 v4 6 fun a20 =>
          zz_cI (zF_X6_isOpen ρ a20 σ19) (fun v23 σ24 =>
            if v23 = 0 then
              zJ_X2_signUp_40 ρ x2 v4 σ24
            else
            (zz_gI σ24 v4 6 8).bind fun v25 =>
            if v25 = 0 then
              zJ_X2_signUp_41 ρ x2 v4 (1 : Int32) σ24
            else
            zJ_X2_signUp_40 ρ x2 v4 σ24) zz_P) zz_P) zz_P) zz_P) zz_P
def zF_X1_lambda_signUp_10 (ρ : zz_C) (x0 : Int32) (x1 : Int32) (x2 : Option Nat) (σ : zz_S) : zz_R :=
  zz_ck σ x2 2 fun a1 =>
  zz_cI (zF_X2_signUp ρ a1 x0 x1 σ) (fun v4 σ5 =>
    zz_rI v4 σ5) zz_P
def zF_lam12 (ρ : zz_C) (th : Nat) (x2 : Option Nat) (σ : zz_S) : zz_R :=
  (zz_gI σ (some th) 212 0).bind fun w0 =>
  (zz_gI σ (some th) 212 1).bind fun w1 =>
  zz_cI (zF_X1_lambda_signUp_10 ρ w0 w1 x2 σ) zz_rI zz_P
def zF_X1_checkElement (ρ : zz_C) (x0 : Int32) (σ : zz_S) : zz_R :=
  if x0 = 0 then
    zz_al σ (.inr (119, [])) 6 fun a1 σ2 =>
    zz_th σ2 (some a1) zz_P
  else
  zz_rV σ
def zJ_J40_unlinkFirst_42 (ρ : zz_C) (th : Nat) (x2 : Option Nat) (σ : zz_S) : zz_R :=
  (zz_gI σ (some th) 140 1).bind fun v1 =>
  (zz_pf σ (some th) 140 4 1 (.int (v1 - (1 : Int32)))).bind fun σ2 =>
  (zz_gI σ2 (some th) 140 0).bind fun v3 =>
  (zz_pf σ2 (some th) 140 4 0 (.int (v3 + (1 : Int32)))).bind fun σ4 =>
  zz_rR x2 σ4
def zF_J40_unlinkFirst (ρ : zz_C) (th : Nat) (x1 : Option Nat) (σ : zz_S) : zz_R :=
  (zz_gR σ x1 142 0).bind fun v1 =>
  (zz_gR σ x1 142 1).bind fun v2 =>
  (zz_pf σ x1 142 3 0 (va_rf none)).bind fun σ3 =>
  (zz_pf σ3 x1 142 3 1 (va_rf none)).bind fun σ4 =>
  (zz_pf σ4 (some th) 140 4 2 (va_rf v2)).bind fun σ5 =>
  zz_nul v2 (
    (zz_pf σ5 (some th) 140 4 3 (va_rf none)).bind fun σ8 =>
    zJ_J40_unlinkFirst_42 ρ th v1 σ8
  ) fun _ =>
  (zz_pf σ5 v2 142 3 2 (va_rf none)).bind fun σ7 =>
  zJ_J40_unlinkFirst_42 ρ th v1 σ7
def zF_J40_removeFirst (ρ : zz_C) (th : Nat) (σ : zz_S) : zz_R :=
  (zz_gR σ (some th) 140 2).bind fun v1 =>
  zz_nul v1 (
    none
  ) fun _ =>
  zz_ck σ (some th) 140 fun a3 =>
  zz_cR (zF_J40_unlinkFirst ρ a3 v1 σ) (fun v6 σ7 =>
    zz_rR v6 σ7) zz_P
def zJ_X6_remove_36 (ρ : zz_C) (K8 : Nat → Option Nat → Int32 → zz_S → zz_R) (th : Nat) (x1 : Option Nat) (x2 : Int32) (σ : zz_S) : zz_R :=
  K8 th x1 (x2 + (-1 : Int32)) σ
def zL_X6_remove_8 (ρ : zz_C) : Nat → Nat → Option Nat → Int32 → zz_S → zz_R
  | 0, _, _, _, _ => none
  | n + 1, th, x1, x2, σ =>
    if x2 ≤ 0 then
      zz_rV σ
    else
    (zz_gR σ (some th) 6 2).bind fun v1 =>
    zz_ck σ v1 140 fun a2 =>
    zz_cR (zF_J40_removeFirst ρ a2 σ) (fun v5 σ6 =>
      if ¬ (zz_ok σ6 v5 [7] = true) then none else
      if v5 = x1 then
        zJ_X6_remove_36 ρ (zL_X6_remove_8 ρ n) th x1 x2 σ6
      else
      (zz_gR σ6 (some th) 6 2).bind fun v7 =>
      zz_ck σ6 v7 140 fun a8 =>
      zz_cV (zF_J40_addLast ρ a8 v5 σ6) (fun σ12 =>
        zJ_X6_remove_36 ρ (zL_X6_remove_8 ρ n) th x1 x2 σ12) zz_P) zz_P
def zF_X6_remove (ρ : zz_C) (th : Nat) (x1 : Option Nat) (σ : zz_S) : zz_R :=
  (zz_gR σ (some th) 6 2).bind fun v1 =>
  zz_ck σ v1 140 fun a2 =>
  zz_cI (zF_J40_size ρ a2 σ) (fun v5 σ6 =>
    zL_X6_remove_8 ρ ρ.2 th x1 v5 σ6) zz_P
def zF_X2_strike (ρ : zz_C) (th : Nat) (x1 : Int32) (x2 : Int32) (σ : zz_S) : zz_R :=
  zz_ck σ (some th) 2 fun a1 =>
  zz_cR (zF_X2_motion ρ a1 x1 σ) (fun v4 σ5 =>
    zz_ck σ5 (some th) 2 fun a6 =>
    zz_cR (zF_X2_frog ρ a6 x2 σ5) (fun v9 σ10 =>
      (zz_gI σ10 v9 5 0).bind fun v11 =>
      zz_ck σ10 v4 6 fun a12 =>
      zz_cR (zF_X6_requestOf ρ a12 v11 σ10) (fun v15 σ16 =>
        zz_nul v15 (
          zz_cV (zF_X1_checkElement ρ (0 : Int32) σ16) (fun σ21 =>
            zz_ck σ21 v4 6 fun a22 =>
            zz_cV (zF_X6_remove ρ a22 v15 σ21) (fun σ26 =>
              (zz_gR σ26 v4 6 2).bind fun v27 =>
              zz_ck σ26 v27 140 fun a28 =>
              zz_cI (zF_J40_size ρ a28 σ26) (fun v31 σ32 =>
                zz_rI v31 σ32) zz_P) zz_P) zz_P
        ) fun _ =>
        zz_cV (zF_X1_checkElement ρ (1 : Int32) σ16) (fun σ36 =>
          zz_ck σ36 v4 6 fun a37 =>
          zz_cV (zF_X6_remove ρ a37 v15 σ36) (fun σ41 =>
            (zz_gR σ41 v4 6 2).bind fun v42 =>
            zz_ck σ41 v42 140 fun a43 =>
            zz_cI (zF_J40_size ρ a43 σ41) (fun v46 σ47 =>
              zz_rI v46 σ47) zz_P) zz_P) zz_P) zz_P) zz_P) zz_P
def zF_X1_lambda_strike_11 (ρ : zz_C) (x0 : Int32) (x1 : Int32) (x2 : Option Nat) (σ : zz_S) : zz_R :=
  zz_ck σ x2 2 fun a1 =>
  zz_cI (zF_X2_strike ρ a1 x0 x1 σ) (fun v4 σ5 =>
    zz_rI v4 σ5) zz_P
def zF_lam13 (ρ : zz_C) (th : Nat) (x2 : Option Nat) (σ : zz_S) : zz_R :=
  (zz_gI σ (some th) 213 0).bind fun w0 =>
  (zz_gI σ (some th) 213 1).bind fun w1 =>
  zz_cI (zF_X1_lambda_strike_11 ρ w0 w1 x2 σ) zz_rI zz_P
def zF_J0_isEmpty_at_J40 (ρ : zz_C) (th : Nat) (σ : zz_S) : zz_R :=
  zz_ck σ (some th) 140 fun a1 =>
  zz_cI (zF_J40_size ρ a1 σ) (fun v4 σ5 =>
    if v4 = 0 then
      zz_rN .boolean (1 : Int32) σ5
    else
    zz_rN .boolean (0 : Int32) σ5) zz_P
def zF_X3_init (ρ : zz_C) (th : Nat) (x1 : Option Nat) (σ : zz_S) : zz_R :=
  (zz_pf σ (some th) 3 1 0 (va_rf x1)).bind fun σ1 =>
  zz_rV σ1
def zF_J0_init_at_J21 (ρ : zz_C) (th : Nat) (σ : zz_S) : zz_R :=
  zz_rV σ
def zF_J20_init (ρ : zz_C) (th : Nat) (σ : zz_S) : zz_R :=
  zz_cV (zF_J0_init_at_J21 ρ th σ) (fun σ4 =>
    zz_rV σ4) zz_P
def zF_J21_init_2 (ρ : zz_C) (th : Nat) (x1 : Int32) (x2 : Option Nat) (σ : zz_S) : zz_R :=
  zz_cV (zF_J20_init ρ th σ) (fun σ4 =>
    if (1 : Int32) ≤ x1 then
      zz_na σ4 5 x1 fun a5 σ6 =>
      (zz_pf σ6 (some th) 121 4 0 (va_rf (some a5))).bind fun σ7 =>
      (zz_pf σ7 (some th) 121 4 2 (va_rf x2)).bind fun σ8 =>
      zz_rV σ8
    else
    none) zz_P
def zF_J21_init (ρ : zz_C) (th : Nat) (x1 : Option Nat) (σ : zz_S) : zz_R :=
  zz_cV (zF_J21_init_2 ρ th (11 : Int32) x1 σ) (fun σ4 =>
    zz_rV σ4) zz_P
def zF_X3_compare_2 (ρ : zz_C) (th : Nat) (x1 : Option Nat) (x2 : Option Nat) (σ : zz_S) : zz_R :=
  (zz_gR σ (some th) 3 0).bind fun v1 =>
  (zz_gR σ v1 2 0).bind fun v2 =>
  (zz_gI σ x1 7 0).bind fun v3 =>
  zz_ck σ v2 102 fun a4 =>
  zz_cR (zF_J2_get ρ a4 v3 σ) (fun v7 σ8 =>
    if ¬ (zz_ok σ8 v7 [5] = true) then none else
    (zz_gI σ8 v7 5 4).bind fun v9 =>
    (zz_gR σ8 (some th) 3 0).bind fun v10 =>
    (zz_gR σ8 v10 2 0).bind fun v11 =>
    (zz_gI σ8 x2 7 0).bind fun v12 =>
    zz_ck σ8 v11 102 fun a13 =>
    zz_cR (zF_J2_get ρ a13 v12 σ8) (fun v16 σ17 =>
      if ¬ (zz_ok σ17 v16 [5] = true) then none else
      (zz_gI σ17 v16 5 4).bind fun v18 =>
      if (v9 - v18) = 0 then
        (zz_gI σ17 x1 7 1).bind fun v19 =>
        (zz_gI σ17 x2 7 1).bind fun v20 =>
        zz_rI (v19 - v20) σ17
      else
      zz_rI (v9 - v18) σ17) zz_P) zz_P
def zF_X3_compare (ρ : zz_C) (th : Nat) (x1 : Option Nat) (x2 : Option Nat) (σ : zz_S) : zz_R :=
  if ¬ (zz_ok σ x1 [7] = true) then none else
  if ¬ (zz_ok σ x2 [7] = true) then none else
  zz_ck σ (some th) 3 fun a1 =>
  zz_cI (zF_X3_compare_2 ρ a1 x1 x2 σ) (fun v4 σ5 =>
    zz_rI v4 σ5) zz_P
def zL_J21_siftUpUsingComparator_0 (ρ : zz_C) : Nat → Int32 → Option Nat → Option Nat → Option Nat → zz_S → zz_R
  | 0, _, _, _, _, _ => none
  | n + 1, x0, x1, x2, x3, σ =>
    if x0 ≤ 0 then
      if ¬ (zz_ok σ x1 zz_cO = true) then none else
      (zz_sR σ x2 5 x0 x1).bind fun σ1 =>
      zz_rV σ1
    else
    (zz_aR σ x2 5 (((x0 - (1 : Int32)).toUInt32 >>> ((1 : Int32).toUInt32 &&& Int32.toUInt32 31)).toInt32)).bind fun v2 =>
    zz_ck σ x3 3 fun a3 =>
    zz_cI (zF_X3_compare ρ a3 x1 v2 σ) (fun v6 σ7 =>
      if v6 < 0 then
        if ¬ (zz_ok σ7 v2 zz_cO = true) then none else
        (zz_sR σ7 x2 5 x0 v2).bind fun σ8 =>
        zL_J21_siftUpUsingComparator_0 ρ n (((x0 - (1 : Int32)).toUInt32 >>> ((1 : Int32).toUInt32 &&& Int32.toUInt32 31)).toInt32) x1 x2 x3 σ8
      else
      if ¬ (zz_ok σ7 x1 zz_cO = true) then none else
      (zz_sR σ7 x2 5 x0 x1).bind fun σ9 =>
      zz_rV σ9) zz_P
def zF_J21_siftUpUsingComparator (ρ : zz_C) (x0 : Int32) (x1 : Option Nat) (x2 : Option Nat) (x3 : Option Nat) (σ : zz_S) : zz_R :=
  if x0 ≤ 0 then
    if ¬ (zz_ok σ x1 zz_cO = true) then none else
    (zz_sR σ x2 5 x0 x1).bind fun σ1 =>
    zz_rV σ1
  else
  (zz_aR σ x2 5 (((x0 - (1 : Int32)).toUInt32 >>> ((1 : Int32).toUInt32 &&& Int32.toUInt32 31)).toInt32)).bind fun v2 =>
  zz_ck σ x3 3 fun a3 =>
  zz_cI (zF_X3_compare ρ a3 x1 v2 σ) (fun v6 σ7 =>
    if v6 < 0 then
      if ¬ (zz_ok σ7 v2 zz_cO = true) then none else
      (zz_sR σ7 x2 5 x0 v2).bind fun σ8 =>
      zL_J21_siftUpUsingComparator_0 ρ ρ.2 (((x0 - (1 : Int32)).toUInt32 >>> ((1 : Int32).toUInt32 &&& Int32.toUInt32 31)).toInt32) x1 x2 x3 σ8
    else
    if ¬ (zz_ok σ7 x1 zz_cO = true) then none else
    (zz_sR σ7 x2 5 x0 x1).bind fun σ9 =>
    zz_rV σ9) zz_P
def zF_J21_siftUp (ρ : zz_C) (th : Nat) (x1 : Int32) (x2 : Option Nat) (σ : zz_S) : zz_R :=
  (zz_gR σ (some th) 121 2).bind fun v1 =>
  zz_nul v1 (
    (zz_gR σ (some th) 121 0).bind fun v3 =>
    none
  ) fun _ =>
  (zz_gR σ (some th) 121 0).bind fun v4 =>
  (zz_gR σ (some th) 121 2).bind fun v5 =>
  zz_cV (zF_J21_siftUpUsingComparator ρ x1 x2 v4 v5 σ) (fun σ9 =>
    zz_rV σ9) zz_P
def zF_J21_offer (ρ : zz_C) (th : Nat) (x1 : Option Nat) (σ : zz_S) : zz_R :=
  zz_nul x1 (
    none
  ) fun _ =>
  (zz_gI σ (some th) 121 3).bind fun v2 =>
  (zz_pf σ (some th) 121 4 3 (.int (v2 + (1 : Int32)))).bind fun σ3 =>
  (zz_gI σ3 (some th) 121 1).bind fun v4 =>
  (zz_gR σ3 (some th) 121 0).bind fun v5 =>
  (zz_len σ3 v5).bind fun v6 =>
  if v4 < v6 then
    zz_ck σ3 (some th) 121 fun a7 =>
    zz_cV (zF_J21_siftUp ρ a7 v4 x1 σ3) (fun σ11 =>
      (zz_pf σ11 (some th) 121 4 1 (.int (v4 + (1 : Int32)))).bind fun σ12 =>
      zz_rN .boolean (1 : Int32) σ12) zz_P
  else
  none
def zF_J21_add (ρ : zz_C) (th : Nat) (x1 : Option Nat) (σ : zz_S) : zz_R :=
  zz_ck σ (some th) 121 fun a1 =>
  zz_cI (zF_J21_offer ρ a1 x1 σ) (fun v4 σ5 =>
    zz_rN .boolean v4 σ5) zz_P
def zL_X2_queue_24 (ρ : zz_C) : Nat → Option Nat → Option Nat → zz_S → zz_R
  | 0, _, _, _ => none
  | n + 1, x2, x3, σ =>
    zz_ck σ x3 126 fun a1 =>
    zz_cI (zF_J26_hasNext ρ a1 σ) (fun v4 σ5 =>
      if v4 = 0 then
        zz_rR x2 σ5
      else
      zz_ck σ5 x3 126 fun a6 =>
      zz_cR (zF_J26_next ρ a6 σ5) (fun v9 σ10 =>
        if ¬ (zz_ok σ10 v9 [7] = true) then none else
        zz_ck σ10 x2 121 fun a11 =>
        zz_cI (zF_J21_add ρ a11 v9 σ10) (fun v14 σ15 =>
          zL_X2_queue_24 ρ n x2 x3 σ15) zz_P) zz_P) zz_P
def zF_X2_queue (ρ : zz_C) (th : Nat) (x1 : Option Nat) (σ : zz_S) : zz_R :=
  zz_al σ (.inr (121, [.null, .int 0, .null, .int 0])) 4 fun a1 σ2 =>
  zz_al σ2 (.inr (3, [.null])) 1 fun a3 σ4 =>
  zz_cV (zF_X3_init ρ a3 (some th) σ4) (fun σ8 =>
    zz_cV (zF_J21_init ρ a1 (some a3) σ8) (fun σ12 =>
      (zz_gR σ12 x1 6 2).bind fun v13 =>
      zz_ck σ12 v13 140 fun a14 =>
      zz_cR (zF_J39_iterator ρ a14 σ12) (fun v17 σ18 =>
        zL_X2_queue_24 ρ ρ.2 (some a1) v17 σ18) zz_P) zz_P) zz_P
def zF_J21_peek (ρ : zz_C) (th : Nat) (σ : zz_S) : zz_R :=
  (zz_gR σ (some th) 121 0).bind fun v1 =>
  (zz_aR σ v1 5 (0 : Int32)).bind fun v2 =>
  zz_rR v2 σ
def zF_X2_nextByQueue (ρ : zz_C) (th : Nat) (x1 : Option Nat) (σ : zz_S) : zz_R :=
  (zz_gR σ x1 6 2).bind fun v1 =>
  zz_ck σ v1 140 fun a2 =>
  zz_cI (zF_J0_isEmpty_at_J40 ρ a2 σ) (fun v5 σ6 =>
    if v5 = 0 then
      zz_cV (zF_X1_checkElement ρ (1 : Int32) σ6) (fun σ24 =>
        zz_ck σ24 (some th) 2 fun a25 =>
        zz_cR (zF_X2_queue ρ a25 x1 σ24) (fun v28 σ29 =>
          zz_ck σ29 v28 121 fun a30 =>
          zz_cR (zF_J21_peek ρ a30 σ29) (fun v33 σ34 =>
            if ¬ (zz_ok σ34 v33 [7] = true) then none else
            zz_rR v33 σ34) zz_P) zz_P) zz_P
    else
    zz_cV (zF_X1_checkElement ρ (0 : Int32) σ6) (fun σ10 =>
      zz_ck σ10 (some th) 2 fun a11 =>
      zz_cR (zF_X2_queue ρ a11 x1 σ10) (fun v14 σ15 =>
        zz_ck σ15 v14 121 fun a16 =>
        zz_cR (zF_J21_peek ρ a16 σ15) (fun v19 σ20 =>
          if ¬ (zz_ok σ20 v19 [7] = true) then none else
          zz_rR v19 σ20) zz_P) zz_P) zz_P) zz_P
def zF_X2_callNext (ρ : zz_C) (th : Nat) (x1 : Int32) (σ : zz_S) : zz_R :=
  zz_ck σ (some th) 2 fun a1 =>
  zz_cR (zF_X2_motion ρ a1 x1 σ) (fun v4 σ5 =>
    zz_ck σ5 (some th) 2 fun a6 =>
    zz_cR (zF_X2_nextByQueue ρ a6 v4 σ5) (fun v9 σ10 =>
      zz_ck σ10 v4 6 fun a11 =>
      zz_cV (zF_X6_remove ρ a11 v9 σ10) (fun σ15 =>
        (zz_gR σ15 (some th) 2 0).bind fun v16 =>
        (zz_gI σ15 v9 7 0).bind fun v17 =>
        zz_ck σ15 v16 102 fun a18 =>
        zz_cR (zF_J2_get ρ a18 v17 σ15) (fun v21 σ22 =>
          if ¬ (zz_ok σ22 v21 [5] = true) then none else
          zz_ck σ22 v21 5 fun a23 =>
          zz_cI (zF_X5_sits ρ a23 σ22) (fun v26 σ27 =>
            if v26 = 0 then
              (zz_gI σ27 (some th) 2 4).bind fun v34 =>
              (zz_pf σ27 (some th) 2 5 4 (.int (v34 + (1 : Int32)))).bind fun σ35 =>
              zz_rI (0 : Int32) σ35
            else
            (zz_gI σ27 v21 5 4).bind fun v28 =>
            (zz_pf σ27 v21 5 5 4 (.int (v28 + (1 : Int32)))).bind fun σ29 =>
            (zz_gI σ29 v4 6 6).bind fun v30 =>
            (zz_pf σ29 v4 6 9 6 (.int (v30 + (1 : Int32)))).bind fun σ31 =>
            (zz_gI σ31 (some th) 2 3).bind fun v32 =>
            (zz_pf σ31 (some th) 2 5 3 (.int (v32 + (1 : Int32)))).bind fun σ33 =>
            zz_rI (1 : Int32) σ33) zz_P) zz_P) zz_P) zz_P) zz_P
def zF_X1_lambda_callNext_12 (ρ : zz_C) (x0 : Int32) (x1 : Option Nat) (σ : zz_S) : zz_R :=
  zz_ck σ x1 2 fun a1 =>
  zz_cI (zF_X2_callNext ρ a1 x0 σ) (fun v4 σ5 =>
    zz_rI v4 σ5) zz_P
def zF_lam14 (ρ : zz_C) (th : Nat) (x1 : Option Nat) (σ : zz_S) : zz_R :=
  (zz_gI σ (some th) 214 0).bind fun w0 =>
  zz_cI (zF_X1_lambda_callNext_12 ρ w0 x1 σ) zz_rI zz_P
def zJ_X2_weight_51 (ρ : zz_C) (K10 : Option Nat → Int32 → Option Nat → zz_S → zz_R) (x1 : Option Nat) (x3 : Option Nat) (t0 : Int32) (t1 : Int32) (σ : zz_S) : zz_R :=
  K10 x1 (t1 + t0) x3 σ
def zL_X2_weight_10 (ρ : zz_C) : Nat → Option Nat → Int32 → Option Nat → zz_S → zz_R
  | 0, _, _, _, _ => none
  | n + 1, x1, x2, x3, σ =>
    zz_ck σ x3 124 fun a1 =>
    zz_cI (zF_J24_hasNext ρ a1 σ) (fun v4 σ5 =>
      if v4 = 0 then
        zz_rI x2 σ5
      else
      zz_ck σ5 x3 124 fun a6 =>
      zz_cR (zF_J24_next ρ a6 σ5) (fun v9 σ10 =>
        if ¬ (zz_ok σ10 v9 [5] = true) then none else
        zz_dp σ10 x1 fun a11 c12 =>
        if c12 = 205 then
          zz_cI (zF_lam5 ρ a11 v9 σ10) (fun v15 σ16 =>
            if v15 = 0 then
              zJ_X2_weight_51 ρ (zL_X2_weight_10 ρ n) x1 x3 (0 : Int32) x2 σ16
            else
            (zz_gI σ16 v9 5 2).bind fun v17 =>
            zJ_X2_weight_51 ρ (zL_X2_weight_10 ρ n) x1 x3 v17 x2 σ16) zz_P
        else
        if c12 = 210 then
          zz_cI (zF_lam10 ρ a11 v9 σ10) (fun v18 σ19 =>
            if v18 = 0 then
              zJ_X2_weight_51 ρ (zL_X2_weight_10 ρ n) x1 x3 (0 : Int32) x2 σ19
            else
            (zz_gI σ19 v9 5 2).bind fun v20 =>
            zJ_X2_weight_51 ρ (zL_X2_weight_10 ρ n) x1 x3 v20 x2 σ19) zz_P
        else
        if c12 = 215 then
          zz_cI (zF_lam15 ρ a11 v9 σ10) (fun v21 σ22 =>
            if v21 = 0 then
              zJ_X2_weight_51 ρ (zL_X2_weight_10 ρ n) x1 x3 (0 : Int32) x2 σ22
            else
            (zz_gI σ22 v9 5 2).bind fun v23 =>
            zJ_X2_weight_51 ρ (zL_X2_weight_10 ρ n) x1 x3 v23 x2 σ22) zz_P
        else
        if c12 = 217 then
          zz_cI (zF_lam17 ρ a11 v9 σ10) (fun v24 σ25 =>
            if v24 = 0 then
              zJ_X2_weight_51 ρ (zL_X2_weight_10 ρ n) x1 x3 (0 : Int32) x2 σ25
            else
            (zz_gI σ25 v9 5 2).bind fun v26 =>
            zJ_X2_weight_51 ρ (zL_X2_weight_10 ρ n) x1 x3 v26 x2 σ25) zz_P
        else
        if c12 = 218 then
          zz_cI (zF_lam18 ρ a11 v9 σ10) (fun v27 σ28 =>
            if v27 = 0 then
              zJ_X2_weight_51 ρ (zL_X2_weight_10 ρ n) x1 x3 (0 : Int32) x2 σ28
            else
            (zz_gI σ28 v9 5 2).bind fun v29 =>
            zJ_X2_weight_51 ρ (zL_X2_weight_10 ρ n) x1 x3 v29 x2 σ28) zz_P
        else
        if c12 = 221 then
          zz_cI (zF_lam21 ρ a11 v9 σ10) (fun v30 σ31 =>
            if v30 = 0 then
              zJ_X2_weight_51 ρ (zL_X2_weight_10 ρ n) x1 x3 (0 : Int32) x2 σ31
            else
            (zz_gI σ31 v9 5 2).bind fun v32 =>
            zJ_X2_weight_51 ρ (zL_X2_weight_10 ρ n) x1 x3 v32 x2 σ31) zz_P
        else
        none) zz_P) zz_P
def zF_X2_weight (ρ : zz_C) (th : Nat) (x1 : Option Nat) (σ : zz_S) : zz_R :=
  (zz_gR σ (some th) 2 0).bind fun v1 =>
  zz_ck σ v1 102 fun a2 =>
  zz_cR (zF_J2_iterator ρ a2 σ) (fun v5 σ6 =>
    zL_X2_weight_10 ρ ρ.2 x1 (0 : Int32) v5 σ6) zz_P
def zF_X2_closureWeight (ρ : zz_C) (th : Nat) (x1 : Option Nat) (σ : zz_S) : zz_R :=
  zz_al σ (.inr (217, [va_rf x1])) 1 fun a1 σ2 =>
  zz_ck σ2 (some th) 2 fun a3 =>
  zz_cI (zF_X2_weight ρ a3 (some a1) σ2) (fun v6 σ7 =>
    zz_rI v6 σ7) zz_P
def zF_X2_entitledWeight (ρ : zz_C) (th : Nat) (x1 : Option Nat) (σ : zz_S) : zz_R :=
  zz_al σ (.inr (218, [va_rf x1])) 1 fun a1 σ2 =>
  zz_ck σ2 (some th) 2 fun a3 =>
  zz_cI (zF_X2_weight ρ a3 (some a1) σ2) (fun v6 σ7 =>
    zz_rI v6 σ7) zz_P
def zJ_X2_supportClosure_41 (ρ : zz_C) (th : Nat) (x2 : Int32) (x3 : Option Nat) (x4 : Option Nat) (t0 : Int32) (σ : zz_S) : zz_R :=
  zz_cV (zF_X1_checkState ρ t0 σ) (fun σ4 =>
    zz_ck σ4 x4 5 fun a5 =>
    zz_cI (zF_X5_sits ρ a5 σ4) (fun v8 σ9 =>
      zz_cV (zF_X1_checkSupported ρ v8 σ9) (fun σ13 =>
        (zz_gR σ13 x3 6 4).bind fun v14 =>
        zz_ck σ13 v14 141 fun a15 =>
        zz_cV (zF_J41_set ρ a15 x2 σ13) (fun σ19 =>
          zz_ck σ19 (some th) 2 fun a20 =>
          zz_cI (zF_X2_closureWeight ρ a20 x3 σ19) (fun v23 σ24 =>
            zz_ck σ24 (some th) 2 fun a25 =>
            zz_cI (zF_X2_entitledWeight ρ a25 x3 σ24) (fun v28 σ29 =>
              if ((2 : Int32) * v23) ≤ v28 then
                (zz_pfN σ29 x3 6 9 8 .boolean (0 : Int32)).bind fun σ30 =>
                (zz_gI σ30 x3 6 8).bind fun v31 =>
                if v31 = 0 then
                  zz_rI (0 : Int32) σ30
                else
                zz_rI (1 : Int32) σ30
              else
              (zz_pfN σ29 x3 6 9 8 .boolean (1 : Int32)).bind fun σ32 =>
              (zz_gI σ32 x3 6 8).bind fun v33 =>
              if v33 = 0 then
                zz_rI (0 : Int32) σ32
              else
              zz_rI (1 : Int32) σ32) zz_P) zz_P) zz_P) zz_P) zz_P) zz_P
def zJ_X2_supportClosure_40 (ρ : zz_C) (th : Nat) (x2 : Int32) (x3 : Option Nat) (x4 : Option Nat) (σ : zz_S) : zz_R :=
  zJ_X2_supportClosure_41 ρ th x2 x3 x4 (0 : Int32) σ
def zF_X2_supportClosure (ρ : zz_C) (th : Nat) (x1 : Int32) (x2 : Int32) (σ : zz_S) : zz_R :=
  zz_ck σ (some th) 2 fun a1 =>
  zz_cR (zF_X2_motion ρ a1 x1 σ) (fun v4 σ5 =>
    zz_ck σ5 (some th) 2 fun a6 =>
    zz_cR (zF_X2_frog ρ a6 x2 σ5) (fun v9 σ10 =>
      zz_ck σ10 v4 6 fun a11 =>
      zz_cI (zF_X6_entitles ρ a11 v9 σ10) (fun v14 σ15 =>
        zz_cV (zF_X1_checkArgument ρ v14 σ15) (fun σ19 =>
          zz_ck σ19 v4 6 fun a20 =>
          zz_cI (zF_X6_isOpen ρ a20 σ19) (fun v23 σ24 =>
            if v23 = 0 then
              zJ_X2_supportClosure_40 ρ th x2 v4 v9 σ24
            else
            (zz_gI σ24 v4 6 8).bind fun v25 =>
            if v25 = 0 then
              zJ_X2_supportClosure_41 ρ th x2 v4 v9 (1 : Int32) σ24
            else
            zJ_X2_supportClosure_40 ρ th x2 v4 v9 σ24) zz_P) zz_P) zz_P) zz_P) zz_P
def zF_X1_lambda_supportClosure_13 (ρ : zz_C) (x0 : Int32) (x1 : Int32) (x2 : Option Nat) (σ : zz_S) : zz_R :=
  zz_ck σ x2 2 fun a1 =>
  zz_cI (zF_X2_supportClosure ρ a1 x0 x1 σ) (fun v4 σ5 =>
    zz_rI v4 σ5) zz_P
def zF_lam16 (ρ : zz_C) (th : Nat) (x2 : Option Nat) (σ : zz_S) : zz_R :=
  (zz_gI σ (some th) 216 0).bind fun w0 =>
  (zz_gI σ (some th) 216 1).bind fun w1 =>
  zz_cI (zF_X1_lambda_supportClosure_13 ρ w0 w1 x2 σ) zz_rI zz_P
def zF_X6_isReady (ρ : zz_C) (th : Nat) (σ : zz_S) : zz_R :=
  zz_ck σ (some th) 6 fun a1 =>
  zz_cI (zF_X6_isOpen ρ a1 σ) (fun v4 σ5 =>
    if v4 = 0 then
      zz_rN .boolean (0 : Int32) σ5
    else
    (zz_gI σ5 (some th) 6 8).bind fun v6 =>
    if v6 = 0 then
      zz_rN .boolean (0 : Int32) σ5
    else
    (zz_gR σ5 (some th) 6 2).bind fun v7 =>
    zz_ck σ5 v7 140 fun a8 =>
    zz_cI (zF_J0_isEmpty_at_J40 ρ a8 σ5) (fun v11 σ12 =>
      if v11 = 0 then
        zz_rN .boolean (0 : Int32) σ12
      else
      zz_rN .boolean (1 : Int32) σ12) zz_P) zz_P
def zL_X6_hasCroaked_8 (ρ : zz_C) : Nat → Int32 → Option Nat → zz_S → zz_R
  | 0, _, _, _ => none
  | n + 1, x1, x2, σ =>
    zz_ck σ x2 126 fun a1 =>
    zz_cI (zF_J26_hasNext ρ a1 σ) (fun v4 σ5 =>
      if v4 = 0 then
        zz_rN .boolean (0 : Int32) σ5
      else
      zz_ck σ5 x2 126 fun a6 =>
      zz_cR (zF_J26_next ρ a6 σ5) (fun v9 σ10 =>
        if ¬ (zz_ok σ10 v9 [8] = true) then none else
        (zz_gI σ10 v9 8 0).bind fun v11 =>
        if v11 = x1 then
          zz_rN .boolean (1 : Int32) σ10
        else
        zL_X6_hasCroaked_8 ρ n x1 x2 σ10) zz_P) zz_P
def zF_X6_hasCroaked (ρ : zz_C) (th : Nat) (x1 : Int32) (σ : zz_S) : zz_R :=
  (zz_gR σ (some th) 6 3).bind fun v1 =>
  zz_ck σ v1 140 fun a2 =>
  zz_cR (zF_J39_iterator ρ a2 σ) (fun v5 σ6 =>
    zL_X6_hasCroaked_8 ρ ρ.2 x1 v5 σ6) zz_P
def zF_X8_init_2 (ρ : zz_C) (th : Nat) (x1 : Int32) (x2 : Int32) (x3 : Int32) (x4 : Int32) (σ : zz_S) : zz_R :=
  (zz_pf σ (some th) 8 4 0 (.int x1)).bind fun σ1 =>
  (zz_pf σ1 (some th) 8 4 1 (.int x2)).bind fun σ2 =>
  (zz_pf σ2 (some th) 8 4 2 (.int x3)).bind fun σ3 =>
  (zz_pfN σ3 (some th) 8 4 3 .boolean x4).bind fun σ4 =>
  zz_rV σ4
def zF_X8_init (ρ : zz_C) (th : Nat) (x1 : Option Nat) (x2 : Int32) (x3 : Int32) (σ : zz_S) : zz_R :=
  (zz_gI σ x1 5 0).bind fun v1 =>
  (zz_gI σ x1 5 1).bind fun v2 =>
  (zz_gI σ x1 5 2).bind fun v3 =>
  zz_cV (zF_X8_init_2 ρ th v1 v2 (x2 * v3) x3 σ) (fun σ7 =>
    zz_rV σ7) zz_P
def zJ_X6_strengths_49 (ρ : zz_C) (K10 : Int32 → Int32 → Option Nat → zz_S → zz_R) (x1 : Int32) (x3 : Option Nat) (t0 : Int32) (t1 : Int32) (σ : zz_S) : zz_R :=
  K10 x1 (t1 + t0) x3 σ
def zL_X6_strengths_10 (ρ : zz_C) : Nat → Int32 → Int32 → Option Nat → zz_S → zz_R
  | 0, _, _, _, _ => none
  | n + 1, x1, x2, x3, σ =>
    zz_ck σ x3 126 fun a1 =>
    zz_cI (zF_J26_hasNext ρ a1 σ) (fun v4 σ5 =>
      if v4 = 0 then
        zz_rI x2 σ5
      else
      zz_ck σ5 x3 126 fun a6 =>
      zz_cR (zF_J26_next ρ a6 σ5) (fun v9 σ10 =>
        if ¬ (zz_ok σ10 v9 [8] = true) then none else
        (zz_gI σ10 v9 8 3).bind fun v11 =>
        if v11 = x1 then
          (zz_gI σ10 v9 8 2).bind fun v12 =>
          zJ_X6_strengths_49 ρ (zL_X6_strengths_10 ρ n) x1 x3 v12 x2 σ10
        else
        zJ_X6_strengths_49 ρ (zL_X6_strengths_10 ρ n) x1 x3 (0 : Int32) x2 σ10) zz_P) zz_P
def zF_X6_strengths (ρ : zz_C) (th : Nat) (x1 : Int32) (σ : zz_S) : zz_R :=
  (zz_gR σ (some th) 6 3).bind fun v1 =>
  zz_ck σ v1 140 fun a2 =>
  zz_cR (zF_J39_iterator ρ a2 σ) (fun v5 σ6 =>
    zL_X6_strengths_10 ρ ρ.2 x1 (0 : Int32) v5 σ6) zz_P
def zJ_X2_croak_72 (ρ : zz_C) (x3 : Int32) (x4 : Int32) (x5 : Option Nat) (x6 : Option Nat) (t0 : Int32) (σ : zz_S) : zz_R :=
  zz_cV (zF_X1_checkSupported ρ t0 σ) (fun σ4 =>
    (zz_gR σ4 x5 6 3).bind fun v5 =>
    zz_al σ4 (.inr (8, [.int 0, .int 0, .int 0, .int 0])) 4 fun a6 σ7 =>
    zz_cV (zF_X8_init ρ a6 x6 x3 x4 σ7) (fun σ11 =>
      zz_ck σ11 v5 140 fun a12 =>
      zz_cV (zF_J40_addLast ρ a12 (some a6) σ11) (fun σ16 =>
        zz_ck σ16 x5 6 fun a17 =>
        zz_cI (zF_X6_strengths ρ a17 x4 σ16) (fun v20 σ21 =>
          zz_rI v20 σ21) zz_P) zz_P) zz_P) zz_P
def zJ_X2_croak_71 (ρ : zz_C) (x3 : Int32) (x4 : Int32) (x5 : Option Nat) (x6 : Option Nat) (σ : zz_S) : zz_R :=
  zJ_X2_croak_72 ρ x3 x4 x5 x6 (0 : Int32) σ
def zJ_X2_croak_39 (ρ : zz_C) (x2 : Int32) (x3 : Int32) (x4 : Int32) (x5 : Option Nat) (x6 : Option Nat) (t0 : Int32) (σ : zz_S) : zz_R :=
  zz_cV (zF_X1_checkArgument ρ t0 σ) (fun σ4 =>
    zz_ck σ4 x5 6 fun a5 =>
    zz_cI (zF_X6_isReady ρ a5 σ4) (fun v8 σ9 =>
      zz_cV (zF_X1_checkState ρ v8 σ9) (fun σ13 =>
        zz_ck σ13 x6 5 fun a14 =>
        zz_cI (zF_X5_sits ρ a14 σ13) (fun v17 σ18 =>
          if v17 = 0 then
            zJ_X2_croak_71 ρ x3 x4 x5 x6 σ18
          else
          zz_ck σ18 x5 6 fun a19 =>
          zz_cI (zF_X6_hasCroaked ρ a19 x2 σ18) (fun v22 σ23 =>
            if v22 = 0 then
              zJ_X2_croak_72 ρ x3 x4 x5 x6 (1 : Int32) σ23
            else
            zJ_X2_croak_71 ρ x3 x4 x5 x6 σ23) zz_P) zz_P) zz_P) zz_P) zz_P
def zJ_X2_croak_38 (ρ : zz_C) (x2 : Int32) (x3 : Int32) (x4 : Int32) (x5 : Option Nat) (x6 : Option Nat) (σ : zz_S) : zz_R :=
  zJ_X2_croak_39 ρ x2 x3 x4 x5 x6 (0 : Int32) σ
def zF_X2_croak (ρ : zz_C) (th : Nat) (x1 : Int32) (x2 : Int32) (x3 : Int32) (x4 : Int32) (σ : zz_S) : zz_R :=
  zz_ck σ (some th) 2 fun a1 =>
  zz_cR (zF_X2_motion ρ a1 x1 σ) (fun v4 σ5 =>
    zz_ck σ5 (some th) 2 fun a6 =>
    zz_cR (zF_X2_frog ρ a6 x2 σ5) (fun v9 σ10 =>
      zz_cI (zF_X1_isBetween ρ x3 (1 : Int32) (9 : Int32) σ10) (fun v13 σ14 =>
        if v13 = 0 then
          zJ_X2_croak_38 ρ x2 x3 x4 v4 v9 σ14
        else
        zz_ck σ14 v4 6 fun a15 =>
        zz_cI (zF_X6_entitles ρ a15 v9 σ14) (fun v18 σ19 =>
          if v18 = 0 then
            zJ_X2_croak_38 ρ x2 x3 x4 v4 v9 σ19
          else
          zJ_X2_croak_39 ρ x2 x3 x4 v4 v9 (1 : Int32) σ19) zz_P) zz_P) zz_P) zz_P
def zF_X1_lambda_croak_14 (ρ : zz_C) (x0 : Int32) (x1 : Int32) (x2 : Int32) (x3 : Int32) (x4 : Option Nat) (σ : zz_S) : zz_R :=
  zz_ck σ x4 2 fun a1 =>
  zz_cI (zF_X2_croak ρ a1 x0 x1 x2 x3 σ) (fun v4 σ5 =>
    zz_rI v4 σ5) zz_P
def zF_lam19 (ρ : zz_C) (th : Nat) (x4 : Option Nat) (σ : zz_S) : zz_R :=
  (zz_gI σ (some th) 219 0).bind fun w0 =>
  (zz_gI σ (some th) 219 1).bind fun w1 =>
  (zz_gI σ (some th) 219 2).bind fun w2 =>
  (zz_gI σ (some th) 219 3).bind fun w3 =>
  zz_cI (zF_X1_lambda_croak_14 ρ w0 w1 w2 w3 x4 σ) zz_rI zz_P
def zJ_X2_decide_31 (ρ : zz_C) (x2 : Option Nat) (t0 : Int32) (σ : zz_S) : zz_R :=
  if t0 = 0 then
    (zz_pf σ x2 6 9 7 (.int (2 : Int32))).bind fun σ1 =>
    if t0 = 0 then
      zz_rI (0 : Int32) σ1
    else
    zz_rI (1 : Int32) σ1
  else
  (zz_pf σ x2 6 9 7 (.int (1 : Int32))).bind fun σ2 =>
  if t0 = 0 then
    zz_rI (0 : Int32) σ2
  else
  zz_rI (1 : Int32) σ2
def zF_X2_decide (ρ : zz_C) (th : Nat) (x1 : Int32) (σ : zz_S) : zz_R :=
  zz_ck σ (some th) 2 fun a1 =>
  zz_cR (zF_X2_motion ρ a1 x1 σ) (fun v4 σ5 =>
    zz_ck σ5 v4 6 fun a6 =>
    zz_cI (zF_X6_isReady ρ a6 σ5) (fun v9 σ10 =>
      zz_cV (zF_X1_checkState ρ v9 σ10) (fun σ14 =>
        zz_ck σ14 v4 6 fun a15 =>
        zz_cI (zF_X6_strengths ρ a15 (1 : Int32) σ14) (fun v18 σ19 =>
          zz_ck σ19 v4 6 fun a20 =>
          zz_cI (zF_X6_strengths ρ a20 (0 : Int32) σ19) (fun v23 σ24 =>
            if v18 ≤ v23 then
              zJ_X2_decide_31 ρ v4 (0 : Int32) σ24
            else
            zJ_X2_decide_31 ρ v4 (1 : Int32) σ24) zz_P) zz_P) zz_P) zz_P) zz_P
def zF_X1_lambda_decide_15 (ρ : zz_C) (x0 : Int32) (x1 : Option Nat) (σ : zz_S) : zz_R :=
  zz_ck σ x1 2 fun a1 =>
  zz_cI (zF_X2_decide ρ a1 x0 σ) (fun v4 σ5 =>
    zz_rI v4 σ5) zz_P
def zF_lam20 (ρ : zz_C) (th : Nat) (x1 : Option Nat) (σ : zz_S) : zz_R :=
  (zz_gI σ (some th) 220 0).bind fun w0 =>
  zz_cI (zF_X1_lambda_decide_15 ρ w0 x1 σ) zz_rI zz_P
def zF_X1_change (ρ : zz_C) (th : Nat) (x1 : Option Nat) (σ : zz_S) : zz_R :=
  (zz_gR σ (some th) 1 4).bind fun v1 =>
  zz_ck σ v1 2 fun a2 =>
  zz_cR (zF_X2_copy ρ a2 σ) (fun v5 σ6 =>
    (zz_gR σ6 (some th) 1 4).bind fun v7 =>
    zz_dp σ6 x1 fun a8 c9 =>
    if c9 = 206 then
      zz_cI (zF_lam6 ρ a8 v7 σ6) (fun v12 σ13 =>
        zz_ck σ13 (some th) 1 fun a14 =>
        zz_cV (zF_X1_remember ρ a14 v5 σ13) (fun σ18 =>
          zz_rI v12 σ18) zz_P) zz_P
    else
    if c9 = 207 then
      zz_cI (zF_lam7 ρ a8 v7 σ6) (fun v19 σ20 =>
        zz_ck σ20 (some th) 1 fun a21 =>
        zz_cV (zF_X1_remember ρ a21 v5 σ20) (fun σ25 =>
          zz_rI v19 σ25) zz_P) zz_P
    else
    if c9 = 208 then
      zz_cI (zF_lam8 ρ a8 v7 σ6) (fun v26 σ27 =>
        zz_ck σ27 (some th) 1 fun a28 =>
        zz_cV (zF_X1_remember ρ a28 v5 σ27) (fun σ32 =>
          zz_rI v26 σ32) zz_P) zz_P
    else
    if c9 = 209 then
      zz_cI (zF_lam9 ρ a8 v7 σ6) (fun v33 σ34 =>
        zz_ck σ34 (some th) 1 fun a35 =>
        zz_cV (zF_X1_remember ρ a35 v5 σ34) (fun σ39 =>
          zz_rI v33 σ39) zz_P) zz_P
    else
    if c9 = 211 then
      zz_cI (zF_lam11 ρ a8 v7 σ6) (fun v40 σ41 =>
        zz_ck σ41 (some th) 1 fun a42 =>
        zz_cV (zF_X1_remember ρ a42 v5 σ41) (fun σ46 =>
          zz_rI v40 σ46) zz_P) zz_P
    else
    if c9 = 212 then
      zz_cI (zF_lam12 ρ a8 v7 σ6) (fun v47 σ48 =>
        zz_ck σ48 (some th) 1 fun a49 =>
        zz_cV (zF_X1_remember ρ a49 v5 σ48) (fun σ53 =>
          zz_rI v47 σ53) zz_P) zz_P
    else
    if c9 = 213 then
      zz_cI (zF_lam13 ρ a8 v7 σ6) (fun v54 σ55 =>
        zz_ck σ55 (some th) 1 fun a56 =>
        zz_cV (zF_X1_remember ρ a56 v5 σ55) (fun σ60 =>
          zz_rI v54 σ60) zz_P) zz_P
    else
    if c9 = 214 then
      zz_cI (zF_lam14 ρ a8 v7 σ6) (fun v61 σ62 =>
        zz_ck σ62 (some th) 1 fun a63 =>
        zz_cV (zF_X1_remember ρ a63 v5 σ62) (fun σ67 =>
          zz_rI v61 σ67) zz_P) zz_P
    else
    if c9 = 216 then
      zz_cI (zF_lam16 ρ a8 v7 σ6) (fun v68 σ69 =>
        zz_ck σ69 (some th) 1 fun a70 =>
        zz_cV (zF_X1_remember ρ a70 v5 σ69) (fun σ74 =>
          zz_rI v68 σ74) zz_P) zz_P
    else
    if c9 = 219 then
      zz_cI (zF_lam19 ρ a8 v7 σ6) (fun v75 σ76 =>
        zz_ck σ76 (some th) 1 fun a77 =>
        zz_cV (zF_X1_remember ρ a77 v5 σ76) (fun σ81 =>
          zz_rI v75 σ81) zz_P) zz_P
    else
    if c9 = 220 then
      zz_cI (zF_lam20 ρ a8 v7 σ6) (fun v82 σ83 =>
        zz_ck σ83 (some th) 1 fun a84 =>
        zz_cV (zF_X1_remember ρ a84 v5 σ83) (fun σ88 =>
          zz_rI v82 σ88) zz_P) zz_P
    else
    none) zz_P
def zF_X1_addFrog (ρ : zz_C) (th : Nat) (x1 : Int32) (x2 : Int32) (σ : zz_S) : zz_R :=
  zz_al σ (.inr (206, [.int x1, .int x2])) 2 fun a1 σ2 =>
  zz_ck σ2 (some th) 1 fun a3 =>
  zz_cI (zF_X1_change ρ a3 (some a1) σ2) (fun v6 σ7 =>
    zz_rI v6 σ7) zz_P
def zJ_X0_addFrog_17 (ρ : zz_C) (t0 : Option Nat) (σ : zz_S) : zz_R :=
  zz_rI (2 : Int32) σ
def zJ_X0_addFrog_21 (ρ : zz_C) (t0 : Option Nat) (σ : zz_S) : zz_R :=
  zz_rI (3 : Int32) σ
def zJ_X0_addFrog_13 (ρ : zz_C) (t0 : Option Nat) (σ : zz_S) : zz_R :=
  zz_rI (1 : Int32) σ
def zF_X0_addFrog (ρ : zz_C) (x0 : Option Nat) (x1 : Int32) (x2 : Int32) (x3 : Option Nat) (σ : zz_S) : zz_R :=
  zz_ck σ x0 1 fun a1 =>
  zz_cI (zF_X1_addFrog ρ a1 x1 x2 σ) (fun v4 σ5 =>
    (zz_sJ σ5 x3 3 (0 : Int32) (v4.toInt64)).bind fun σ6 =>
    zz_rI (0 : Int32) σ6)
    (fun q2 σ3 =>
      if q2.1 = 106 then
        zJ_X0_addFrog_17 ρ (some q2.2) σ3
      else
      if q2.1 = 138 then
        zJ_X0_addFrog_21 ρ (some q2.2) σ3
      else
      if q2.1 = 122 then
        zJ_X0_addFrog_13 ρ (some q2.2) σ3
      else
      if q2.1 = 143 then
        zz_P q2 σ3
      else
      if q2.1 = 119 then
        zz_P q2 σ3
      else
      none)
def zL_X4_lays_2 (ρ : zz_C) : Nat → Option Nat → Option Nat → Int32 → zz_S → zz_R
  | 0, _, _, _, _ => none
  | n + 1, x0, x1, x2, σ =>
    if (407 : Int32) ≤ x2 then
      zz_rV σ
    else
    (zz_aI σ x1 0 x2).bind fun v1 =>
    (zz_sI σ x0 0 .int x2 v1).bind fun σ2 =>
    zL_X4_lays_2 ρ n x0 x1 (x2 + (1 : Int32)) σ2
def zF_X4_lays (ρ : zz_C) (x0 : Option Nat) (x1 : Option Nat) (σ : zz_S) : zz_R :=
  zL_X4_lays_2 ρ ρ.2 x0 x1 (0 : Int32) σ
def zF_X4_begins (ρ : zz_C) (th : Nat) (σ : zz_S) : zz_R :=
  (zz_pf σ (some th) 4 20 0 (.int (0 : Int32))).bind fun σ1 =>
  (zz_gR σ1 (some th) 4 6).bind fun v2 =>
  (zz_gR σ1 (some th) 4 5).bind fun v3 =>
  zz_cV (zF_X4_lays ρ v2 v3 σ1) (fun σ7 =>
    zz_rV σ7) zz_P
def zF_X4_isIn (ρ : zz_C) (x0 : Int32) (x1 : Int32) (x2 : Int32) (σ : zz_S) : zz_R :=
  if x0 < x1 then
    zz_rN .boolean (0 : Int32) σ
  else
  if x2 < x0 then
    zz_rN .boolean (0 : Int32) σ
  else
  zz_rN .boolean (1 : Int32) σ
def zF_X4_fail (ρ : zz_C) (th : Nat) (x1 : Int32) (σ : zz_S) : zz_R :=
  (zz_pf σ (some th) 4 20 0 (.int x1)).bind fun σ1 =>
  zz_rI (0 : Int32) σ1
def zF_X4_adds (ρ : zz_C) (th : Nat) (x1 : Int32) (x2 : Int32) (σ : zz_S) : zz_R :=
  zz_cI (zF_X4_isIn ρ x1 (0 : Int32) (3 : Int32) σ) (fun v3 σ4 =>
    if v3 = 0 then
      zz_ck σ4 (some th) 4 fun a28 =>
      zz_cI (zF_X4_fail ρ a28 (1 : Int32) σ4) (fun v31 σ32 =>
        zz_rI v31 σ32) zz_P
    else
    zz_cI (zF_X4_isIn ρ x2 (1 : Int32) (9 : Int32) σ4) (fun v7 σ8 =>
      if v7 = 0 then
        zz_ck σ8 (some th) 4 fun a23 =>
        zz_cI (zF_X4_fail ρ a23 (2 : Int32) σ8) (fun v26 σ27 =>
          zz_rI v26 σ27) zz_P
      else
      (zz_gR σ8 (some th) 4 5).bind fun v9 =>
      (zz_aI σ8 v9 0 (0 : Int32)).bind fun v10 =>
      if v10 = (12 : Int32) then
        zz_ck σ8 (some th) 4 fun a18 =>
        zz_cI (zF_X4_fail ρ a18 (3 : Int32) σ8) (fun v21 σ22 =>
          zz_rI v21 σ22) zz_P
      else
      (zz_gR σ8 (some th) 4 5).bind fun v11 =>
      (zz_sI σ8 v11 0 .int ((5 : Int32) + v10) x1).bind fun σ12 =>
      (zz_gR σ12 (some th) 4 5).bind fun v13 =>
      (zz_sI σ12 v13 0 .int ((17 : Int32) + v10) x2).bind fun σ14 =>
      (zz_gR σ14 (some th) 4 5).bind fun v15 =>
      (zz_aI σ14 v15 0 (0 : Int32)).bind fun v16 =>
      (zz_sI σ14 v15 0 .int (0 : Int32) (v16 + (1 : Int32))).bind fun σ17 =>
      zz_rI v10 σ17) zz_P) zz_P
def zL_X4_ends_72 (ρ : zz_C) : Nat → Nat → Int32 → Int32 → zz_S → zz_R
  | 0, _, _, _, _ => none
  | n + 1, th, x1, x2, σ =>
    if (407 : Int32) ≤ x2 then
      (zz_gI σ (some th) 4 1).bind fun v1 =>
      (zz_pf σ (some th) 4 20 1 (.int (v1 + (1 : Int32)))).bind fun σ2 =>
      zz_rI x1 σ2
    else
    (zz_gR σ (some th) 4 8).bind fun v3 =>
    (zz_gI σ (some th) 4 1).bind fun v4 =>
    (zz_gR σ (some th) 4 6).bind fun v5 =>
    (zz_aI σ v5 0 x2).bind fun v6 =>
    (zz_sI σ v3 0 .int ((v4 * (407 : Int32)) + x2) v6).bind fun σ7 =>
    zL_X4_ends_72 ρ n th x1 (x2 + (1 : Int32)) σ7
def zJ_X4_ends_70 (ρ : zz_C) (th : Nat) (x1 : Int32) (σ : zz_S) : zz_R :=
  zL_X4_ends_72 ρ ρ.2 th x1 (0 : Int32) σ
def zL_X4_ends_31 (ρ : zz_C) : Nat → Nat → Int32 → Int32 → zz_S → zz_R
  | 0, _, _, _, _ => none
  | n + 1, th, x1, x2, σ =>
    if (2849 : Int32) ≤ x2 then
      (zz_gI σ (some th) 4 1).bind fun v1 =>
      (zz_pf σ (some th) 4 20 1 (.int (v1 - (1 : Int32)))).bind fun σ2 =>
      zJ_X4_ends_70 ρ th x1 σ2
    else
    (zz_gR σ (some th) 4 8).bind fun v3 =>
    (zz_gR σ (some th) 4 8).bind fun v4 =>
    (zz_aI σ v4 0 (x2 + (407 : Int32))).bind fun v5 =>
    (zz_sI σ v3 0 .int x2 v5).bind fun σ6 =>
    zL_X4_ends_31 ρ n th x1 (x2 + (1 : Int32)) σ6
def zF_X4_ends (ρ : zz_C) (th : Nat) (x1 : Int32) (σ : zz_S) : zz_R :=
  (zz_gI σ (some th) 4 0).bind fun v1 =>
  if v1 = 0 then
    (zz_gI σ (some th) 4 1).bind fun v2 =>
    if v2 = (8 : Int32) then
      zL_X4_ends_31 ρ ρ.2 th x1 (0 : Int32) σ
    else
    zJ_X4_ends_70 ρ th x1 σ
  else
  (zz_gR σ (some th) 4 5).bind fun v3 =>
  (zz_gR σ (some th) 4 6).bind fun v4 =>
  zz_cV (zF_X4_lays ρ v3 v4 σ) (fun σ8 =>
    zz_rI (0 : Int32) σ8) zz_P
def zF_X4_addFrog (ρ : zz_C) (th : Nat) (x1 : Int32) (x2 : Int32) (σ : zz_S) : zz_R :=
  zz_ck σ (some th) 4 fun a1 =>
  zz_cV (zF_X4_begins ρ a1 σ) (fun σ5 =>
    zz_ck σ5 (some th) 4 fun a6 =>
    zz_cI (zF_X4_adds ρ a6 x1 x2 σ5) (fun v9 σ10 =>
      zz_ck σ10 (some th) 4 fun a11 =>
      zz_cI (zF_X4_ends ρ a11 v9 σ10) (fun v14 σ15 =>
        zz_rI v14 σ15) zz_P) zz_P) zz_P
def zF_X4_thrown (ρ : zz_C) (th : Nat) (σ : zz_S) : zz_R :=
  (zz_gI σ (some th) 4 0).bind fun v1 =>
  zz_rI v1 σ
def zF_X1_addPad (ρ : zz_C) (th : Nat) (x1 : Int32) (σ : zz_S) : zz_R :=
  zz_al σ (.inr (207, [.int x1])) 1 fun a1 σ2 =>
  zz_ck σ2 (some th) 1 fun a3 =>
  zz_cI (zF_X1_change ρ a3 (some a1) σ2) (fun v6 σ7 =>
    zz_rI v6 σ7) zz_P
def zJ_X0_addPad_12 (ρ : zz_C) (t0 : Option Nat) (σ : zz_S) : zz_R :=
  zz_rI (1 : Int32) σ
def zJ_X0_addPad_15 (ρ : zz_C) (t0 : Option Nat) (σ : zz_S) : zz_R :=
  zz_rI (2 : Int32) σ
def zF_X0_addPad (ρ : zz_C) (x0 : Option Nat) (x1 : Int32) (x2 : Option Nat) (σ : zz_S) : zz_R :=
  zz_ck σ x0 1 fun a1 =>
  zz_cI (zF_X1_addPad ρ a1 x1 σ) (fun v4 σ5 =>
    (zz_sJ σ5 x2 3 (0 : Int32) (v4.toInt64)).bind fun σ6 =>
    zz_rI (0 : Int32) σ6)
    (fun q2 σ3 =>
      if q2.1 = 106 then
        zJ_X0_addPad_12 ρ (some q2.2) σ3
      else
      if q2.1 = 138 then
        zJ_X0_addPad_15 ρ (some q2.2) σ3
      else
      if q2.1 = 122 then
        zz_P q2 σ3
      else
      if q2.1 = 143 then
        zz_P q2 σ3
      else
      if q2.1 = 119 then
        zz_P q2 σ3
      else
      none)
def zF_X4_addsPad (ρ : zz_C) (th : Nat) (x1 : Int32) (σ : zz_S) : zz_R :=
  zz_cI (zF_X4_isIn ρ x1 (1 : Int32) (4 : Int32) σ) (fun v3 σ4 =>
    if v3 = 0 then
      zz_ck σ4 (some th) 4 fun a17 =>
      zz_cI (zF_X4_fail ρ a17 (1 : Int32) σ4) (fun v20 σ21 =>
        zz_rI v20 σ21) zz_P
    else
    (zz_gR σ4 (some th) 4 5).bind fun v5 =>
    (zz_aI σ4 v5 0 (1 : Int32)).bind fun v6 =>
    if v6 = (6 : Int32) then
      zz_ck σ4 (some th) 4 fun a12 =>
      zz_cI (zF_X4_fail ρ a12 (2 : Int32) σ4) (fun v15 σ16 =>
        zz_rI v15 σ16) zz_P
    else
    (zz_gR σ4 (some th) 4 5).bind fun v7 =>
    (zz_sI σ4 v7 0 .int ((53 : Int32) + v6) x1).bind fun σ8 =>
    (zz_gR σ8 (some th) 4 5).bind fun v9 =>
    (zz_aI σ8 v9 0 (1 : Int32)).bind fun v10 =>
    (zz_sI σ8 v9 0 .int (1 : Int32) (v10 + (1 : Int32))).bind fun σ11 =>
    zz_rI v6 σ11) zz_P
def zF_X4_addPad (ρ : zz_C) (th : Nat) (x1 : Int32) (σ : zz_S) : zz_R :=
  zz_ck σ (some th) 4 fun a1 =>
  zz_cV (zF_X4_begins ρ a1 σ) (fun σ5 =>
    zz_ck σ5 (some th) 4 fun a6 =>
    zz_cI (zF_X4_addsPad ρ a6 x1 σ5) (fun v9 σ10 =>
      zz_ck σ10 (some th) 4 fun a11 =>
      zz_cI (zF_X4_ends ρ a11 v9 σ10) (fun v14 σ15 =>
        zz_rI v14 σ15) zz_P) zz_P) zz_P
def zF_X1_hop (ρ : zz_C) (th : Nat) (x1 : Int32) (x2 : Int32) (σ : zz_S) : zz_R :=
  zz_al σ (.inr (208, [.int x1, .int x2])) 2 fun a1 σ2 =>
  zz_ck σ2 (some th) 1 fun a3 =>
  zz_cI (zF_X1_change ρ a3 (some a1) σ2) (fun v6 σ7 =>
    zz_rI v6 σ7) zz_P
def zJ_X0_hop_17 (ρ : zz_C) (t0 : Option Nat) (σ : zz_S) : zz_R :=
  zz_rI (2 : Int32) σ
def zJ_X0_hop_13 (ρ : zz_C) (t0 : Option Nat) (σ : zz_S) : zz_R :=
  zz_rI (1 : Int32) σ
def zF_X0_hop (ρ : zz_C) (x0 : Option Nat) (x1 : Int32) (x2 : Int32) (x3 : Option Nat) (σ : zz_S) : zz_R :=
  zz_ck σ x0 1 fun a1 =>
  zz_cI (zF_X1_hop ρ a1 x1 x2 σ) (fun v4 σ5 =>
    (zz_sJ σ5 x3 3 (0 : Int32) (v4.toInt64)).bind fun σ6 =>
    zz_rI (0 : Int32) σ6)
    (fun q2 σ3 =>
      if q2.1 = 106 then
        zz_P q2 σ3
      else
      if q2.1 = 138 then
        zJ_X0_hop_17 ρ (some q2.2) σ3
      else
      if q2.1 = 122 then
        zJ_X0_hop_13 ρ (some q2.2) σ3
      else
      if q2.1 = 143 then
        zz_P q2 σ3
      else
      if q2.1 = 119 then
        zz_P q2 σ3
      else
      none)
def zF_X4_isFrog (ρ : zz_C) (th : Nat) (x1 : Int32) (σ : zz_S) : zz_R :=
  (zz_gR σ (some th) 4 5).bind fun v1 =>
  (zz_aI σ v1 0 (0 : Int32)).bind fun v2 =>
  zz_cI (zF_X4_isIn ρ x1 (0 : Int32) (v2 - (1 : Int32)) σ) (fun v5 σ6 =>
    zz_rN .boolean v5 σ6) zz_P
def zF_X4_isPad (ρ : zz_C) (th : Nat) (x1 : Int32) (σ : zz_S) : zz_R :=
  (zz_gR σ (some th) 4 5).bind fun v1 =>
  (zz_aI σ v1 0 (1 : Int32)).bind fun v2 =>
  zz_cI (zF_X4_isIn ρ x1 (0 : Int32) (v2 - (1 : Int32)) σ) (fun v5 σ6 =>
    zz_rN .boolean v5 σ6) zz_P
def zJ_X4_on_35 (ρ : zz_C) (K4 : Nat → Int32 → Int32 → Int32 → zz_S → zz_R) (th : Nat) (x1 : Int32) (x3 : Int32) (t0 : Int32) (t1 : Int32) (σ : zz_S) : zz_R :=
  K4 th x1 (t1 + t0) (x3 + (1 : Int32)) σ
def zL_X4_on_4 (ρ : zz_C) : Nat → Nat → Int32 → Int32 → Int32 → zz_S → zz_R
  | 0, _, _, _, _, _ => none
  | n + 1, th, x1, x2, x3, σ =>
    (zz_gR σ (some th) 4 5).bind fun v1 =>
    (zz_aI σ v1 0 (0 : Int32)).bind fun v2 =>
    if v2 ≤ x3 then
      zz_rI x2 σ
    else
    (zz_gR σ (some th) 4 5).bind fun v3 =>
    (zz_aI σ v3 0 ((29 : Int32) + x3)).bind fun v4 =>
    if v4 = (x1 + (1 : Int32)) then
      zJ_X4_on_35 ρ (zL_X4_on_4 ρ n) th x1 x3 (1 : Int32) x2 σ
    else
    zJ_X4_on_35 ρ (zL_X4_on_4 ρ n) th x1 x3 (0 : Int32) x2 σ
def zF_X4_on (ρ : zz_C) (th : Nat) (x1 : Int32) (σ : zz_S) : zz_R :=
  zL_X4_on_4 ρ ρ.2 th x1 (0 : Int32) (0 : Int32) σ
def zF_X4_hops (ρ : zz_C) (th : Nat) (x1 : Int32) (x2 : Int32) (σ : zz_S) : zz_R :=
  zz_ck σ (some th) 4 fun a1 =>
  zz_cI (zF_X4_isFrog ρ a1 x1 σ) (fun v4 σ5 =>
    if v4 = 0 then
      zz_ck σ5 (some th) 4 fun a6 =>
      zz_cI (zF_X4_fail ρ a6 (1 : Int32) σ5) (fun v9 σ10 =>
        zz_rI v9 σ10) zz_P
    else
    zz_ck σ5 (some th) 4 fun a11 =>
    zz_cI (zF_X4_isPad ρ a11 x2 σ5) (fun v14 σ15 =>
      if v14 = 0 then
        zz_ck σ15 (some th) 4 fun a42 =>
        zz_cI (zF_X4_fail ρ a42 (1 : Int32) σ15) (fun v45 σ46 =>
          zz_rI v45 σ46) zz_P
      else
      (zz_gR σ15 (some th) 4 5).bind fun v16 =>
      (zz_aI σ15 v16 0 ((29 : Int32) + x1)).bind fun v17 =>
      if v17 = (x2 + (1 : Int32)) then
        zz_ck σ15 (some th) 4 fun a18 =>
        zz_cI (zF_X4_fail ρ a18 (2 : Int32) σ15) (fun v21 σ22 =>
          zz_rI v21 σ22) zz_P
      else
      zz_ck σ15 (some th) 4 fun a23 =>
      zz_cI (zF_X4_on ρ a23 x2 σ15) (fun v26 σ27 =>
        (zz_gR σ27 (some th) 4 5).bind fun v28 =>
        (zz_aI σ27 v28 0 ((53 : Int32) + x2)).bind fun v29 =>
        if v26 = v29 then
          zz_ck σ27 (some th) 4 fun a37 =>
          zz_cI (zF_X4_fail ρ a37 (2 : Int32) σ27) (fun v40 σ41 =>
            zz_rI v40 σ41) zz_P
        else
        (zz_gR σ27 (some th) 4 5).bind fun v30 =>
        (zz_sI σ27 v30 0 .int ((29 : Int32) + x1) (x2 + (1 : Int32))).bind fun σ31 =>
        zz_ck σ31 (some th) 4 fun a32 =>
        zz_cI (zF_X4_on ρ a32 x2 σ31) (fun v35 σ36 =>
          zz_rI v35 σ36) zz_P) zz_P) zz_P) zz_P
def zF_X4_hop (ρ : zz_C) (th : Nat) (x1 : Int32) (x2 : Int32) (σ : zz_S) : zz_R :=
  zz_ck σ (some th) 4 fun a1 =>
  zz_cV (zF_X4_begins ρ a1 σ) (fun σ5 =>
    zz_ck σ5 (some th) 4 fun a6 =>
    zz_cI (zF_X4_hops ρ a6 x1 x2 σ5) (fun v9 σ10 =>
      zz_ck σ10 (some th) 4 fun a11 =>
      zz_cI (zF_X4_ends ρ a11 v9 σ10) (fun v14 σ15 =>
        zz_rI v14 σ15) zz_P) zz_P) zz_P
def zF_X1_dive (ρ : zz_C) (th : Nat) (x1 : Int32) (σ : zz_S) : zz_R :=
  zz_al σ (.inr (209, [.int x1])) 1 fun a1 σ2 =>
  zz_ck σ2 (some th) 1 fun a3 =>
  zz_cI (zF_X1_change ρ a3 (some a1) σ2) (fun v6 σ7 =>
    zz_rI v6 σ7) zz_P
def zJ_X0_dive_15 (ρ : zz_C) (t0 : Option Nat) (σ : zz_S) : zz_R :=
  zz_rI (2 : Int32) σ
def zJ_X0_dive_12 (ρ : zz_C) (t0 : Option Nat) (σ : zz_S) : zz_R :=
  zz_rI (1 : Int32) σ
def zF_X0_dive (ρ : zz_C) (x0 : Option Nat) (x1 : Int32) (x2 : Option Nat) (σ : zz_S) : zz_R :=
  zz_ck σ x0 1 fun a1 =>
  zz_cI (zF_X1_dive ρ a1 x1 σ) (fun v4 σ5 =>
    (zz_sJ σ5 x2 3 (0 : Int32) (v4.toInt64)).bind fun σ6 =>
    zz_rI (0 : Int32) σ6)
    (fun q2 σ3 =>
      if q2.1 = 106 then
        zz_P q2 σ3
      else
      if q2.1 = 138 then
        zJ_X0_dive_15 ρ (some q2.2) σ3
      else
      if q2.1 = 122 then
        zJ_X0_dive_12 ρ (some q2.2) σ3
      else
      if q2.1 = 143 then
        zz_P q2 σ3
      else
      if q2.1 = 119 then
        zz_P q2 σ3
      else
      none)
def zF_X4_isOn (ρ : zz_C) (th : Nat) (x1 : Int32) (σ : zz_S) : zz_R :=
  (zz_gR σ (some th) 4 5).bind fun v1 =>
  (zz_aI σ v1 0 ((29 : Int32) + x1)).bind fun v2 =>
  if v2 ≤ 0 then
    zz_rN .boolean (0 : Int32) σ
  else
  zz_rN .boolean (1 : Int32) σ
def zF_X4_dives (ρ : zz_C) (th : Nat) (x1 : Int32) (σ : zz_S) : zz_R :=
  zz_ck σ (some th) 4 fun a1 =>
  zz_cI (zF_X4_isFrog ρ a1 x1 σ) (fun v4 σ5 =>
    if v4 = 0 then
      zz_ck σ5 (some th) 4 fun a20 =>
      zz_cI (zF_X4_fail ρ a20 (1 : Int32) σ5) (fun v23 σ24 =>
        zz_rI v23 σ24) zz_P
    else
    zz_ck σ5 (some th) 4 fun a6 =>
    zz_cI (zF_X4_isOn ρ a6 x1 σ5) (fun v9 σ10 =>
      if v9 = 0 then
        zz_ck σ10 (some th) 4 fun a15 =>
        zz_cI (zF_X4_fail ρ a15 (2 : Int32) σ10) (fun v18 σ19 =>
          zz_rI v18 σ19) zz_P
      else
      (zz_gR σ10 (some th) 4 5).bind fun v11 =>
      (zz_aI σ10 v11 0 ((29 : Int32) + x1)).bind fun v12 =>
      (zz_gR σ10 (some th) 4 5).bind fun v13 =>
      (zz_sI σ10 v13 0 .int ((29 : Int32) + x1) (0 : Int32)).bind fun σ14 =>
      zz_rI (v12 - (1 : Int32)) σ14) zz_P) zz_P
def zF_X4_dive (ρ : zz_C) (th : Nat) (x1 : Int32) (σ : zz_S) : zz_R :=
  zz_ck σ (some th) 4 fun a1 =>
  zz_cV (zF_X4_begins ρ a1 σ) (fun σ5 =>
    zz_ck σ5 (some th) 4 fun a6 =>
    zz_cI (zF_X4_dives ρ a6 x1 σ5) (fun v9 σ10 =>
      zz_ck σ10 (some th) 4 fun a11 =>
      zz_cI (zF_X4_ends ρ a11 v9 σ10) (fun v14 σ15 =>
        zz_rI v14 σ15) zz_P) zz_P) zz_P
def zF_X1_frogCount (ρ : zz_C) (th : Nat) (σ : zz_S) : zz_R :=
  (zz_gR σ (some th) 1 4).bind fun v1 =>
  (zz_gR σ v1 2 0).bind fun v2 =>
  zz_ck σ v2 102 fun a3 =>
  zz_cI (zF_J2_size ρ a3 σ) (fun v6 σ7 =>
    zz_rI v6 σ7) zz_P
def zF_X4_tells (ρ : zz_C) (th : Nat) (x1 : Int32) (σ : zz_S) : zz_R :=
  (zz_pf σ (some th) 4 20 0 (.int (0 : Int32))).bind fun σ1 =>
  (zz_gR σ1 (some th) 4 5).bind fun v2 =>
  (zz_aI σ1 v2 0 x1).bind fun v3 =>
  zz_rI v3 σ1
def zF_X4_frogCount (ρ : zz_C) (th : Nat) (σ : zz_S) : zz_R :=
  zz_ck σ (some th) 4 fun a1 =>
  zz_cI (zF_X4_tells ρ a1 (0 : Int32) σ) (fun v4 σ5 =>
    zz_rI v4 σ5) zz_P
def zF_X1_pondOf (ρ : zz_C) (th : Nat) (x1 : Int32) (σ : zz_S) : zz_R :=
  (zz_gR σ (some th) 1 4).bind fun v1 =>
  zz_ck σ v1 2 fun a2 =>
  zz_cR (zF_X2_frog ρ a2 x1 σ) (fun v5 σ6 =>
    (zz_gI σ6 v5 5 1).bind fun v7 =>
    zz_rI v7 σ6) zz_P
def zJ_X0_pondOf_12 (ρ : zz_C) (t0 : Option Nat) (σ : zz_S) : zz_R :=
  zz_rI (1 : Int32) σ
def zF_X0_pondOf (ρ : zz_C) (x0 : Option Nat) (x1 : Int32) (x2 : Option Nat) (σ : zz_S) : zz_R :=
  zz_ck σ x0 1 fun a1 =>
  zz_cI (zF_X1_pondOf ρ a1 x1 σ) (fun v4 σ5 =>
    (zz_sJ σ5 x2 3 (0 : Int32) (v4.toInt64)).bind fun σ6 =>
    zz_rI (0 : Int32) σ6)
    (fun q2 σ3 =>
      if q2.1 = 122 then
        zJ_X0_pondOf_12 ρ (some q2.2) σ3
      else
      none)
def zJ_X4_tellsFrog_14 (ρ : zz_C) (th : Nat) (x1 : Int32) (x2 : Int32) (t0 : Int32) (t1 : Option Nat) (σ : zz_S) : zz_R :=
  (zz_pf σ t1 4 20 0 (.int t0)).bind fun σ1 =>
  (zz_gI σ1 (some th) 4 0).bind fun v2 =>
  if v2 = 0 then
    (zz_gR σ1 (some th) 4 5).bind fun v3 =>
    (zz_aI σ1 v3 0 (x2 + x1)).bind fun v4 =>
    zz_rI v4 σ1
  else
  zz_rI (0 : Int32) σ1
def zF_X4_tellsFrog (ρ : zz_C) (th : Nat) (x1 : Int32) (x2 : Int32) (σ : zz_S) : zz_R :=
  zz_ck σ (some th) 4 fun a1 =>
  zz_cI (zF_X4_isFrog ρ a1 x1 σ) (fun v4 σ5 =>
    if v4 = 0 then
      zJ_X4_tellsFrog_14 ρ th x1 x2 (1 : Int32) (some th) σ5
    else
    zJ_X4_tellsFrog_14 ρ th x1 x2 (0 : Int32) (some th) σ5) zz_P
def zF_X4_pondOf (ρ : zz_C) (th : Nat) (x1 : Int32) (σ : zz_S) : zz_R :=
  zz_ck σ (some th) 4 fun a1 =>
  zz_cI (zF_X4_tellsFrog ρ a1 x1 (5 : Int32) σ) (fun v4 σ5 =>
    zz_rI v4 σ5) zz_P
def zF_X1_weightOf (ρ : zz_C) (th : Nat) (x1 : Int32) (σ : zz_S) : zz_R :=
  (zz_gR σ (some th) 1 4).bind fun v1 =>
  zz_ck σ v1 2 fun a2 =>
  zz_cR (zF_X2_frog ρ a2 x1 σ) (fun v5 σ6 =>
    (zz_gI σ6 v5 5 2).bind fun v7 =>
    zz_rI v7 σ6) zz_P
def zJ_X0_weightOf_12 (ρ : zz_C) (t0 : Option Nat) (σ : zz_S) : zz_R :=
  zz_rI (1 : Int32) σ
def zF_X0_weightOf (ρ : zz_C) (x0 : Option Nat) (x1 : Int32) (x2 : Option Nat) (σ : zz_S) : zz_R :=
  zz_ck σ x0 1 fun a1 =>
  zz_cI (zF_X1_weightOf ρ a1 x1 σ) (fun v4 σ5 =>
    (zz_sJ σ5 x2 3 (0 : Int32) (v4.toInt64)).bind fun σ6 =>
    zz_rI (0 : Int32) σ6)
    (fun q2 σ3 =>
      if q2.1 = 122 then
        zJ_X0_weightOf_12 ρ (some q2.2) σ3
      else
      none)
def zF_X4_weightOf (ρ : zz_C) (th : Nat) (x1 : Int32) (σ : zz_S) : zz_R :=
  zz_ck σ (some th) 4 fun a1 =>
  zz_cI (zF_X4_tellsFrog ρ a1 x1 (17 : Int32) σ) (fun v4 σ5 =>
    zz_rI v4 σ5) zz_P
def zF_X1_padOf (ρ : zz_C) (th : Nat) (x1 : Int32) (σ : zz_S) : zz_R :=
  (zz_gR σ (some th) 1 4).bind fun v1 =>
  zz_ck σ v1 2 fun a2 =>
  zz_cR (zF_X2_frog ρ a2 x1 σ) (fun v5 σ6 =>
    zz_ck σ6 v5 5 fun a7 =>
    zz_cI (zF_X5_sits ρ a7 σ6) (fun v10 σ11 =>
      zz_cV (zF_X1_checkElement ρ v10 σ11) (fun σ15 =>
        (zz_gI σ15 v5 5 3).bind fun v16 =>
        zz_rI v16 σ15) zz_P) zz_P) zz_P
def zJ_X0_padOf_12 (ρ : zz_C) (t0 : Option Nat) (σ : zz_S) : zz_R :=
  zz_rI (1 : Int32) σ
def zJ_X0_padOf_15 (ρ : zz_C) (t0 : Option Nat) (σ : zz_S) : zz_R :=
  zz_rI (2 : Int32) σ
def zF_X0_padOf (ρ : zz_C) (x0 : Option Nat) (x1 : Int32) (x2 : Option Nat) (σ : zz_S) : zz_R :=
  zz_ck σ x0 1 fun a1 =>
  zz_cI (zF_X1_padOf ρ a1 x1 σ) (fun v4 σ5 =>
    (zz_sJ σ5 x2 3 (0 : Int32) (v4.toInt64)).bind fun σ6 =>
    zz_rI (0 : Int32) σ6)
    (fun q2 σ3 =>
      if q2.1 = 122 then
        zJ_X0_padOf_12 ρ (some q2.2) σ3
      else
      if q2.1 = 119 then
        zJ_X0_padOf_15 ρ (some q2.2) σ3
      else
      none)
def zJ_X4_padOf_26 (ρ : zz_C) (th : Nat) (x1 : Int32) (t0 : Int32) (t1 : Option Nat) (σ : zz_S) : zz_R :=
  (zz_pf σ t1 4 20 0 (.int t0)).bind fun σ1 =>
  (zz_gI σ1 (some th) 4 0).bind fun v2 =>
  if v2 = 0 then
    (zz_gR σ1 (some th) 4 5).bind fun v3 =>
    (zz_aI σ1 v3 0 ((29 : Int32) + x1)).bind fun v4 =>
    zz_rI (v4 - (1 : Int32)) σ1
  else
  zz_rI (0 : Int32) σ1
def zF_X4_padOf (ρ : zz_C) (th : Nat) (x1 : Int32) (σ : zz_S) : zz_R :=
  zz_ck σ (some th) 4 fun a1 =>
  zz_cI (zF_X4_isFrog ρ a1 x1 σ) (fun v4 σ5 =>
    if v4 = 0 then
      zJ_X4_padOf_26 ρ th x1 (1 : Int32) (some th) σ5
    else
    zz_ck σ5 (some th) 4 fun a6 =>
    zz_cI (zF_X4_isOn ρ a6 x1 σ5) (fun v9 σ10 =>
      if v9 = 0 then
        zJ_X4_padOf_26 ρ th x1 (2 : Int32) (some th) σ10
      else
      zJ_X4_padOf_26 ρ th x1 (0 : Int32) (some th) σ10) zz_P) zz_P
def zF_X1_padCount (ρ : zz_C) (th : Nat) (σ : zz_S) : zz_R :=
  (zz_gR σ (some th) 1 4).bind fun v1 =>
  (zz_gR σ v1 2 1).bind fun v2 =>
  zz_ck σ v2 102 fun a3 =>
  zz_cI (zF_J2_size ρ a3 σ) (fun v6 σ7 =>
    zz_rI v6 σ7) zz_P
def zF_X4_padCount (ρ : zz_C) (th : Nat) (σ : zz_S) : zz_R :=
  zz_ck σ (some th) 4 fun a1 =>
  zz_cI (zF_X4_tells ρ a1 (1 : Int32) σ) (fun v4 σ5 =>
    zz_rI v4 σ5) zz_P
def zF_X1_frogsOn (ρ : zz_C) (th : Nat) (x1 : Int32) (σ : zz_S) : zz_R :=
  (zz_gR σ (some th) 1 4).bind fun v1 =>
  (zz_gR σ (some th) 1 4).bind fun v2 =>
  zz_ck σ v2 2 fun a3 =>
  zz_cI (zF_X2_checkedPad ρ a3 x1 σ) (fun v6 σ7 =>
    zz_ck σ7 v1 2 fun a8 =>
    zz_cI (zF_X2_frogsOn ρ a8 v6 σ7) (fun v11 σ12 =>
      zz_rI v11 σ12) zz_P) zz_P
def zJ_X0_frogsOn_12 (ρ : zz_C) (t0 : Option Nat) (σ : zz_S) : zz_R :=
  zz_rI (1 : Int32) σ
def zF_X0_frogsOn (ρ : zz_C) (x0 : Option Nat) (x1 : Int32) (x2 : Option Nat) (σ : zz_S) : zz_R :=
  zz_ck σ x0 1 fun a1 =>
  zz_cI (zF_X1_frogsOn ρ a1 x1 σ) (fun v4 σ5 =>
    (zz_sJ σ5 x2 3 (0 : Int32) (v4.toInt64)).bind fun σ6 =>
    zz_rI (0 : Int32) σ6)
    (fun q2 σ3 =>
      if q2.1 = 122 then
        zJ_X0_frogsOn_12 ρ (some q2.2) σ3
      else
      none)
def zJ_X4_frogsOn_14 (ρ : zz_C) (th : Nat) (x1 : Int32) (t0 : Int32) (t1 : Option Nat) (σ : zz_S) : zz_R :=
  (zz_pf σ t1 4 20 0 (.int t0)).bind fun σ1 =>
  (zz_gI σ1 (some th) 4 0).bind fun v2 =>
  if v2 = 0 then
    zz_ck σ1 (some th) 4 fun a3 =>
    zz_cI (zF_X4_on ρ a3 x1 σ1) (fun v6 σ7 =>
      zz_rI v6 σ7) zz_P
  else
  zz_rI (0 : Int32) σ1
def zF_X4_frogsOn (ρ : zz_C) (th : Nat) (x1 : Int32) (σ : zz_S) : zz_R :=
  zz_ck σ (some th) 4 fun a1 =>
  zz_cI (zF_X4_isPad ρ a1 x1 σ) (fun v4 σ5 =>
    if v4 = 0 then
      zJ_X4_frogsOn_14 ρ th x1 (1 : Int32) (some th) σ5
    else
    zJ_X4_frogsOn_14 ρ th x1 (0 : Int32) (some th) σ5) zz_P
def zF_X1_padWeight (ρ : zz_C) (th : Nat) (x1 : Int32) (σ : zz_S) : zz_R :=
  (zz_gR σ (some th) 1 4).bind fun v1 =>
  zz_ck σ v1 2 fun a2 =>
  zz_cI (zF_X2_checkedPad ρ a2 x1 σ) (fun v5 σ6 =>
    (zz_gR σ6 (some th) 1 4).bind fun v7 =>
    zz_al σ6 (.inr (210, [.int v5])) 1 fun a8 σ9 =>
    zz_ck σ9 v7 2 fun a10 =>
    zz_cI (zF_X2_weight ρ a10 (some a8) σ9) (fun v13 σ14 =>
      zz_rI v13 σ14) zz_P) zz_P
def zJ_X0_padWeight_12 (ρ : zz_C) (t0 : Option Nat) (σ : zz_S) : zz_R :=
  zz_rI (1 : Int32) σ
def zF_X0_padWeight (ρ : zz_C) (x0 : Option Nat) (x1 : Int32) (x2 : Option Nat) (σ : zz_S) : zz_R :=
  zz_ck σ x0 1 fun a1 =>
  zz_cI (zF_X1_padWeight ρ a1 x1 σ) (fun v4 σ5 =>
    (zz_sJ σ5 x2 3 (0 : Int32) (v4.toInt64)).bind fun σ6 =>
    zz_rI (0 : Int32) σ6)
    (fun q2 σ3 =>
      if q2.1 = 122 then
        zJ_X0_padWeight_12 ρ (some q2.2) σ3
      else
      none)
def zJ_X4_padWeight_60 (ρ : zz_C) (K21 : Nat → Int32 → Int32 → Int32 → zz_S → zz_R) (th : Nat) (x1 : Int32) (x3 : Int32) (t0 : Int32) (t1 : Int32) (σ : zz_S) : zz_R :=
  K21 th x1 (t1 + t0) (x3 + (1 : Int32)) σ
def zL_X4_padWeight_21 (ρ : zz_C) : Nat → Nat → Int32 → Int32 → Int32 → zz_S → zz_R
  | 0, _, _, _, _, _ => none
  | n + 1, th, x1, x2, x3, σ =>
    (zz_gR σ (some th) 4 5).bind fun v1 =>
    (zz_aI σ v1 0 (0 : Int32)).bind fun v2 =>
    if v2 ≤ x3 then
      (zz_gI σ (some th) 4 0).bind fun v3 =>
      if v3 = 0 then
        zz_rI x2 σ
      else
      zz_rI (0 : Int32) σ
    else
    (zz_gR σ (some th) 4 5).bind fun v4 =>
    (zz_aI σ v4 0 ((29 : Int32) + x3)).bind fun v5 =>
    if v5 = (x1 + (1 : Int32)) then
      (zz_gR σ (some th) 4 5).bind fun v6 =>
      (zz_aI σ v6 0 ((17 : Int32) + x3)).bind fun v7 =>
      zJ_X4_padWeight_60 ρ (zL_X4_padWeight_21 ρ n) th x1 x3 v7 x2 σ
    else
    zJ_X4_padWeight_60 ρ (zL_X4_padWeight_21 ρ n) th x1 x3 (0 : Int32) x2 σ
def zJ_X4_padWeight_14 (ρ : zz_C) (th : Nat) (x1 : Int32) (t0 : Int32) (t1 : Option Nat) (σ : zz_S) : zz_R :=
  (zz_pf σ t1 4 20 0 (.int t0)).bind fun σ1 =>
  zL_X4_padWeight_21 ρ ρ.2 th x1 (0 : Int32) (0 : Int32) σ1
def zF_X4_padWeight (ρ : zz_C) (th : Nat) (x1 : Int32) (σ : zz_S) : zz_R :=
  zz_ck σ (some th) 4 fun a1 =>
  zz_cI (zF_X4_isPad ρ a1 x1 σ) (fun v4 σ5 =>
    if v4 = 0 then
      zJ_X4_padWeight_14 ρ th x1 (1 : Int32) (some th) σ5
    else
    zJ_X4_padWeight_14 ρ th x1 (0 : Int32) (some th) σ5) zz_P
def zL_X2_sittingByPads_4 (ρ : zz_C) : Nat → Nat → Int32 → Int32 → zz_S → zz_R
  | 0, _, _, _, _ => none
  | n + 1, th, x1, x2, σ =>
    (zz_gR σ (some th) 2 1).bind fun v1 =>
    zz_ck σ v1 102 fun a2 =>
    zz_cI (zF_J2_size ρ a2 σ) (fun v5 σ6 =>
      if v5 ≤ x2 then
        zz_rI x1 σ6
      else
      zz_ck σ6 (some th) 2 fun a7 =>
      zz_cI (zF_X2_frogsOn ρ a7 x2 σ6) (fun v10 σ11 =>
        zL_X2_sittingByPads_4 ρ n th (x1 + v10) (x2 + (1 : Int32)) σ11) zz_P) zz_P
def zF_X2_sittingByPads (ρ : zz_C) (th : Nat) (σ : zz_S) : zz_R :=
  zL_X2_sittingByPads_4 ρ ρ.2 th (0 : Int32) (0 : Int32) σ
def zF_X1_sittingCount (ρ : zz_C) (th : Nat) (σ : zz_S) : zz_R :=
  (zz_gR σ (some th) 1 4).bind fun v1 =>
  zz_ck σ v1 2 fun a2 =>
  zz_cI (zF_X2_sittingByPads ρ a2 σ) (fun v5 σ6 =>
    zz_rI v5 σ6) zz_P
def zJ_X4_sitting_28 (ρ : zz_C) (K4 : Nat → Int32 → Int32 → zz_S → zz_R) (th : Nat) (x2 : Int32) (t0 : Int32) (t1 : Int32) (σ : zz_S) : zz_R :=
  K4 th (t1 + t0) (x2 + (1 : Int32)) σ
def zL_X4_sitting_4 (ρ : zz_C) : Nat → Nat → Int32 → Int32 → zz_S → zz_R
  | 0, _, _, _, _ => none
  | n + 1, th, x1, x2, σ =>
    (zz_gR σ (some th) 4 5).bind fun v1 =>
    (zz_aI σ v1 0 (0 : Int32)).bind fun v2 =>
    if v2 ≤ x2 then
      zz_rI x1 σ
    else
    zz_ck σ (some th) 4 fun a3 =>
    zz_cI (zF_X4_isOn ρ a3 x2 σ) (fun v6 σ7 =>
      if v6 = 0 then
        zJ_X4_sitting_28 ρ (zL_X4_sitting_4 ρ n) th x2 (0 : Int32) x1 σ7
      else
      zJ_X4_sitting_28 ρ (zL_X4_sitting_4 ρ n) th x2 (1 : Int32) x1 σ7) zz_P
def zF_X4_sitting (ρ : zz_C) (th : Nat) (σ : zz_S) : zz_R :=
  zL_X4_sitting_4 ρ ρ.2 th (0 : Int32) (0 : Int32) σ
def zF_X4_sittingCount (ρ : zz_C) (th : Nat) (σ : zz_S) : zz_R :=
  (zz_pf σ (some th) 4 20 0 (.int (0 : Int32))).bind fun σ1 =>
  zz_ck σ1 (some th) 4 fun a2 =>
  zz_cI (zF_X4_sitting ρ a2 σ1) (fun v5 σ6 =>
    zz_rI v5 σ6) zz_P
def zF_J31_bitCount (ρ : zz_C) (x0 : Int64) (σ : zz_S) : zz_R :=
  zz_rI ((((((((((x0 - (((x0.toUInt64 >>> ((1 : Int32).toInt64.toUInt64 &&& Int64.toUInt64 63)).toInt64) &&& (6148914691236517205 : Int64))) &&& (3689348814741910323 : Int64)) + ((((x0 - (((x0.toUInt64 >>> ((1 : Int32).toInt64.toUInt64 &&& Int64.toUInt64 63)).toInt64) &&& (6148914691236517205 : Int64))).toUInt64 >>> ((2 : Int32).toInt64.toUInt64 &&& Int64.toUInt64 63)).toInt64) &&& (3689348814741910323 : Int64))) + (((((x0 - (((x0.toUInt64 >>> ((1 : Int32).toInt64.toUInt64 &&& Int64.toUInt64 63)).toInt64) &&& (6148914691236517205 : Int64))) &&& (3689348814741910323 : Int64)) + ((((x0 - (((x0.toUInt64 >>> ((1 : Int32).toInt64.toUInt64 &&& Int64.toUInt64 63)).toInt64) &&& (6148914691236517205 : Int64))).toUInt64 >>> ((2 : Int32).toInt64.toUInt64 &&& Int64.toUInt64 63)).toInt64) &&& (3689348814741910323 : Int64))).toUInt64 >>> ((4 : Int32).toInt64.toUInt64 &&& Int64.toUInt64 63)).toInt64)) &&& (1085102592571150095 : Int64)) + (((((((x0 - (((x0.toUInt64 >>> ((1 : Int32).toInt64.toUInt64 &&& Int64.toUInt64 63)).toInt64) &&& (6148914691236517205 : Int64))) &&& (3689348814741910323 : Int64)) + ((((x0 - (((x0.toUInt64 >>> ((1 : Int32).toInt64.toUInt64 &&& Int64.toUInt64 63)).toInt64) &&& (6148914691236517205 : Int64))).toUInt64 >>> ((2 : Int32).toInt64.toUInt64 &&& Int64.toUInt64 63)).toInt64) &&& (3689348814741910323 : Int64))) + (((((x0 - (((x0.toUInt64 >>> ((1 : Int32).toInt64.toUInt64 &&& Int64.toUInt64 63)).toInt64) &&& (6148914691236517205 : Int64))) &&& (3689348814741910323 : Int64)) + ((((x0 - (((x0.toUInt64 >>> ((1 : Int32).toInt64.toUInt64 &&& Int64.toUInt64 63)).toInt64) &&& (6148914691236517205 : Int64))).toUInt64 >>> ((2 : Int32).toInt64.toUInt64 &&& Int64.toUInt64 63)).toInt64) &&& (3689348814741910323 : Int64))).toUInt64 >>> ((4 : Int32).toInt64.toUInt64 &&& Int64.toUInt64 63)).toInt64)) &&& (1085102592571150095 : Int64)).toUInt64 >>> ((8 : Int32).toInt64.toUInt64 &&& Int64.toUInt64 63)).toInt64)) + ((((((((x0 - (((x0.toUInt64 >>> ((1 : Int32).toInt64.toUInt64 &&& Int64.toUInt64 63)).toInt64) &&& (6148914691236517205 : Int64))) &&& (3689348814741910323 : Int64)) + ((((x0 - (((x0.toUInt64 >>> ((1 : Int32).toInt64.toUInt64 &&& Int64.toUInt64 63)).toInt64) &&& (6148914691236517205 : Int64))).toUInt64 >>> ((2 : Int32).toInt64.toUInt64 &&& Int64.toUInt64 63)).toInt64) &&& (3689348814741910323 : Int64))) + (((((x0 - (((x0.toUInt64 >>> ((1 : Int32).toInt64.toUInt64 &&& Int64.toUInt64 63)).toInt64) &&& (6148914691236517205 : Int64))) &&& (3689348814741910323 : Int64)) + ((((x0 - (((x0.toUInt64 >>> ((1 : Int32).toInt64.toUInt64 &&& Int64.toUInt64 63)).toInt64) &&& (6148914691236517205 : Int64))).toUInt64 >>> ((2 : Int32).toInt64.toUInt64 &&& Int64.toUInt64 63)).toInt64) &&& (3689348814741910323 : Int64))).toUInt64 >>> ((4 : Int32).toInt64.toUInt64 &&& Int64.toUInt64 63)).toInt64)) &&& (1085102592571150095 : Int64)) + (((((((x0 - (((x0.toUInt64 >>> ((1 : Int32).toInt64.toUInt64 &&& Int64.toUInt64 63)).toInt64) &&& (6148914691236517205 : Int64))) &&& (3689348814741910323 : Int64)) + ((((x0 - (((x0.toUInt64 >>> ((1 : Int32).toInt64.toUInt64 &&& Int64.toUInt64 63)).toInt64) &&& (6148914691236517205 : Int64))).toUInt64 >>> ((2 : Int32).toInt64.toUInt64 &&& Int64.toUInt64 63)).toInt64) &&& (3689348814741910323 : Int64))) + (((((x0 - (((x0.toUInt64 >>> ((1 : Int32).toInt64.toUInt64 &&& Int64.toUInt64 63)).toInt64) &&& (6148914691236517205 : Int64))) &&& (3689348814741910323 : Int64)) + ((((x0 - (((x0.toUInt64 >>> ((1 : Int32).toInt64.toUInt64 &&& Int64.toUInt64 63)).toInt64) &&& (6148914691236517205 : Int64))).toUInt64 >>> ((2 : Int32).toInt64.toUInt64 &&& Int64.toUInt64 63)).toInt64) &&& (3689348814741910323 : Int64))).toUInt64 >>> ((4 : Int32).toInt64.toUInt64 &&& Int64.toUInt64 63)).toInt64)) &&& (1085102592571150095 : Int64)).toUInt64 >>> ((8 : Int32).toInt64.toUInt64 &&& Int64.toUInt64 63)).toInt64)).toUInt64 >>> ((16 : Int32).toInt64.toUInt64 &&& Int64.toUInt64 63)).toInt64)) + (((((((((x0 - (((x0.toUInt64 >>> ((1 : Int32).toInt64.toUInt64 &&& Int64.toUInt64 63)).toInt64) &&& (6148914691236517205 : Int64))) &&& (3689348814741910323 : Int64)) + ((((x0 - (((x0.toUInt64 >>> ((1 : Int32).toInt64.toUInt64 &&& Int64.toUInt64 63)).toInt64) &&& (6148914691236517205 : Int64))).toUInt64 >>> ((2 : Int32).toInt64.toUInt64 &&& Int64.toUInt64 63)).toInt64) &&& (3689348814741910323 : Int64))) + (((((x0 - (((x0.toUInt64 >>> ((1 : Int32).toInt64.toUInt64 &&& Int64.toUInt64 63)).toInt64) &&& (6148914691236517205 : Int64))) &&& (3689348814741910323 : Int64)) + ((((x0 - (((x0.toUInt64 >>> ((1 : Int32).toInt64.toUInt64 &&& Int64.toUInt64 63)).toInt64) &&& (6148914691236517205 : Int64))).toUInt64 >>> ((2 : Int32).toInt64.toUInt64 &&& Int64.toUInt64 63)).toInt64) &&& (3689348814741910323 : Int64))).toUInt64 >>> ((4 : Int32).toInt64.toUInt64 &&& Int64.toUInt64 63)).toInt64)) &&& (1085102592571150095 : Int64)) + (((((((x0 - (((x0.toUInt64 >>> ((1 : Int32).toInt64.toUInt64 &&& Int64.toUInt64 63)).toInt64) &&& (6148914691236517205 : Int64))) &&& (3689348814741910323 : Int64)) + ((((x0 - (((x0.toUInt64 >>> ((1 : Int32).toInt64.toUInt64 &&& Int64.toUInt64 63)).toInt64) &&& (6148914691236517205 : Int64))).toUInt64 >>> ((2 : Int32).toInt64.toUInt64 &&& Int64.toUInt64 63)).toInt64) &&& (3689348814741910323 : Int64))) + (((((x0 - (((x0.toUInt64 >>> ((1 : Int32).toInt64.toUInt64 &&& Int64.toUInt64 63)).toInt64) &&& (6148914691236517205 : Int64))) &&& (3689348814741910323 : Int64)) + ((((x0 - (((x0.toUInt64 >>> ((1 : Int32).toInt64.toUInt64 &&& Int64.toUInt64 63)).toInt64) &&& (6148914691236517205 : Int64))).toUInt64 >>> ((2 : Int32).toInt64.toUInt64 &&& Int64.toUInt64 63)).toInt64) &&& (3689348814741910323 : Int64))).toUInt64 >>> ((4 : Int32).toInt64.toUInt64 &&& Int64.toUInt64 63)).toInt64)) &&& (1085102592571150095 : Int64)).toUInt64 >>> ((8 : Int32).toInt64.toUInt64 &&& Int64.toUInt64 63)).toInt64)) + ((((((((x0 - (((x0.toUInt64 >>> ((1 : Int32).toInt64.toUInt64 &&& Int64.toUInt64 63)).toInt64) &&& (6148914691236517205 : Int64))) &&& (3689348814741910323 : Int64)) + ((((x0 - (((x0.toUInt64 >>> ((1 : Int32).toInt64.toUInt64 &&& Int64.toUInt64 63)).toInt64) &&& (6148914691236517205 : Int64))).toUInt64 >>> ((2 : Int32).toInt64.toUInt64 &&& Int64.toUInt64 63)).toInt64) &&& (3689348814741910323 : Int64))) + (((((x0 - (((x0.toUInt64 >>> ((1 : Int32).toInt64.toUInt64 &&& Int64.toUInt64 63)).toInt64) &&& (6148914691236517205 : Int64))) &&& (3689348814741910323 : Int64)) + ((((x0 - (((x0.toUInt64 >>> ((1 : Int32).toInt64.toUInt64 &&& Int64.toUInt64 63)).toInt64) &&& (6148914691236517205 : Int64))).toUInt64 >>> ((2 : Int32).toInt64.toUInt64 &&& Int64.toUInt64 63)).toInt64) &&& (3689348814741910323 : Int64))).toUInt64 >>> ((4 : Int32).toInt64.toUInt64 &&& Int64.toUInt64 63)).toInt64)) &&& (1085102592571150095 : Int64)) + (((((((x0 - (((x0.toUInt64 >>> ((1 : Int32).toInt64.toUInt64 &&& Int64.toUInt64 63)).toInt64) &&& (6148914691236517205 : Int64))) &&& (3689348814741910323 : Int64)) + ((((x0 - (((x0.toUInt64 >>> ((1 : Int32).toInt64.toUInt64 &&& Int64.toUInt64 63)).toInt64) &&& (6148914691236517205 : Int64))).toUInt64 >>> ((2 : Int32).toInt64.toUInt64 &&& Int64.toUInt64 63)).toInt64) &&& (3689348814741910323 : Int64))) + (((((x0 - (((x0.toUInt64 >>> ((1 : Int32).toInt64.toUInt64 &&& Int64.toUInt64 63)).toInt64) &&& (6148914691236517205 : Int64))) &&& (3689348814741910323 : Int64)) + ((((x0 - (((x0.toUInt64 >>> ((1 : Int32).toInt64.toUInt64 &&& Int64.toUInt64 63)).toInt64) &&& (6148914691236517205 : Int64))).toUInt64 >>> ((2 : Int32).toInt64.toUInt64 &&& Int64.toUInt64 63)).toInt64) &&& (3689348814741910323 : Int64))).toUInt64 >>> ((4 : Int32).toInt64.toUInt64 &&& Int64.toUInt64 63)).toInt64)) &&& (1085102592571150095 : Int64)).toUInt64 >>> ((8 : Int32).toInt64.toUInt64 &&& Int64.toUInt64 63)).toInt64)).toUInt64 >>> ((16 : Int32).toInt64.toUInt64 &&& Int64.toUInt64 63)).toInt64)).toUInt64 >>> ((32 : Int32).toInt64.toUInt64 &&& Int64.toUInt64 63)).toInt64)).toInt32) &&& (127 : Int32)) σ
def zL_J41_cardinality_4 (ρ : zz_C) : Nat → Nat → Int32 → Int32 → zz_S → zz_R
  | 0, _, _, _, _ => none
  | n + 1, th, x1, x2, σ =>
    (zz_gI σ (some th) 141 1).bind fun v1 =>
    if v1 ≤ x2 then
      zz_rI x1 σ
    else
    (zz_gR σ (some th) 141 0).bind fun v2 =>
    (zz_aJ σ v2 3 x2).bind fun v3 =>
    zz_cI (zF_J31_bitCount ρ v3 σ) (fun v6 σ7 =>
      zL_J41_cardinality_4 ρ n th (x1 + v6) (x2 + (1 : Int32)) σ7) zz_P
def zF_J41_cardinality (ρ : zz_C) (th : Nat) (σ : zz_S) : zz_R :=
  zL_J41_cardinality_4 ρ ρ.2 th (0 : Int32) (0 : Int32) σ
def zL_X2_sittingBySet_16 (ρ : zz_C) : Nat → Option Nat → Option Nat → zz_S → zz_R
  | 0, _, _, _ => none
  | n + 1, x1, x2, σ =>
    zz_ck σ x2 124 fun a1 =>
    zz_cI (zF_J24_hasNext ρ a1 σ) (fun v4 σ5 =>
      if v4 = 0 then
        zz_ck σ5 x1 141 fun a6 =>
        zz_cI (zF_J41_cardinality ρ a6 σ5) (fun v9 σ10 =>
          zz_rI v9 σ10) zz_P
      else
      zz_ck σ5 x2 124 fun a11 =>
      zz_cR (zF_J24_next ρ a11 σ5) (fun v14 σ15 =>
        if ¬ (zz_ok σ15 v14 [5] = true) then none else
        zz_ck σ15 v14 5 fun a16 =>
        zz_cI (zF_X5_sits ρ a16 σ15) (fun v19 σ20 =>
          if v19 = 0 then
            zL_X2_sittingBySet_16 ρ n x1 x2 σ20
          else
          (zz_gI σ20 v14 5 0).bind fun v21 =>
          zz_ck σ20 x1 141 fun a22 =>
          zz_cV (zF_J41_set ρ a22 v21 σ20) (fun σ26 =>
            zL_X2_sittingBySet_16 ρ n x1 x2 σ26) zz_P) zz_P) zz_P) zz_P
def zF_X2_sittingBySet (ρ : zz_C) (th : Nat) (σ : zz_S) : zz_R :=
  zz_al σ (.inr (141, [.null, .int 0, .int 0])) 3 fun a1 σ2 =>
  zz_cV (zF_J41_init ρ a1 σ2) (fun σ6 =>
    (zz_gR σ6 (some th) 2 0).bind fun v7 =>
    zz_ck σ6 v7 102 fun a8 =>
    zz_cR (zF_J2_iterator ρ a8 σ6) (fun v11 σ12 =>
      zL_X2_sittingBySet_16 ρ ρ.2 (some a1) v11 σ12) zz_P) zz_P
def zF_X1_sittingCountBySet (ρ : zz_C) (th : Nat) (σ : zz_S) : zz_R :=
  (zz_gR σ (some th) 1 4).bind fun v1 =>
  zz_ck σ v1 2 fun a2 =>
  zz_cI (zF_X2_sittingBySet ρ a2 σ) (fun v5 σ6 =>
    zz_rI v5 σ6) zz_P
def zF_X4_sittingCountBySet (ρ : zz_C) (th : Nat) (σ : zz_S) : zz_R :=
  (zz_pf σ (some th) 4 20 0 (.int (0 : Int32))).bind fun σ1 =>
  zz_ck σ1 (some th) 4 fun a2 =>
  zz_cI (zF_X4_sitting ρ a2 σ1) (fun v5 σ6 =>
    zz_rI v5 σ6) zz_P
def zF_X1_addMotion (ρ : zz_C) (th : Nat) (x1 : Int32) (σ : zz_S) : zz_R :=
  zz_al σ (.inr (211, [.int x1])) 1 fun a1 σ2 =>
  zz_ck σ2 (some th) 1 fun a3 =>
  zz_cI (zF_X1_change ρ a3 (some a1) σ2) (fun v6 σ7 =>
    zz_rI v6 σ7) zz_P
def zJ_X0_addMotion_12 (ρ : zz_C) (t0 : Option Nat) (σ : zz_S) : zz_R :=
  zz_rI (1 : Int32) σ
def zJ_X0_addMotion_15 (ρ : zz_C) (t0 : Option Nat) (σ : zz_S) : zz_R :=
  zz_rI (2 : Int32) σ
def zF_X0_addMotion (ρ : zz_C) (x0 : Option Nat) (x1 : Int32) (x2 : Option Nat) (σ : zz_S) : zz_R :=
  zz_ck σ x0 1 fun a1 =>
  zz_cI (zF_X1_addMotion ρ a1 x1 σ) (fun v4 σ5 =>
    (zz_sJ σ5 x2 3 (0 : Int32) (v4.toInt64)).bind fun σ6 =>
    zz_rI (0 : Int32) σ6)
    (fun q2 σ3 =>
      if q2.1 = 106 then
        zJ_X0_addMotion_12 ρ (some q2.2) σ3
      else
      if q2.1 = 138 then
        zJ_X0_addMotion_15 ρ (some q2.2) σ3
      else
      if q2.1 = 122 then
        zz_P q2 σ3
      else
      if q2.1 = 143 then
        zz_P q2 σ3
      else
      if q2.1 = 119 then
        zz_P q2 σ3
      else
      none)
def zF_X4_of (ρ : zz_C) (x0 : Int32) (x1 : Int32) (σ : zz_S) : zz_R :=
  zz_rI (((59 : Int32) + ((10 : Int32) * x0)) + x1) σ
def zF_X4_moves (ρ : zz_C) (th : Nat) (x1 : Int32) (σ : zz_S) : zz_R :=
  zz_cI (zF_X4_isIn ρ x1 (1 : Int32) (15 : Int32) σ) (fun v3 σ4 =>
    if v3 = 0 then
      zz_ck σ4 (some th) 4 fun a21 =>
      zz_cI (zF_X4_fail ρ a21 (1 : Int32) σ4) (fun v24 σ25 =>
        zz_rI v24 σ25) zz_P
    else
    (zz_gR σ4 (some th) 4 5).bind fun v5 =>
    (zz_aI σ4 v5 0 (2 : Int32)).bind fun v6 =>
    if v6 = (6 : Int32) then
      zz_ck σ4 (some th) 4 fun a16 =>
      zz_cI (zF_X4_fail ρ a16 (2 : Int32) σ4) (fun v19 σ20 =>
        zz_rI v19 σ20) zz_P
    else
    (zz_gR σ4 (some th) 4 5).bind fun v7 =>
    zz_cI (zF_X4_of ρ v6 (0 : Int32) σ4) (fun v10 σ11 =>
      (zz_sI σ11 v7 0 .int v10 x1).bind fun σ12 =>
      (zz_gR σ12 (some th) 4 5).bind fun v13 =>
      (zz_aI σ12 v13 0 (2 : Int32)).bind fun v14 =>
      (zz_sI σ12 v13 0 .int (2 : Int32) (v14 + (1 : Int32))).bind fun σ15 =>
      zz_rI v6 σ15) zz_P) zz_P
def zF_X4_addMotion (ρ : zz_C) (th : Nat) (x1 : Int32) (σ : zz_S) : zz_R :=
  zz_ck σ (some th) 4 fun a1 =>
  zz_cV (zF_X4_begins ρ a1 σ) (fun σ5 =>
    zz_ck σ5 (some th) 4 fun a6 =>
    zz_cI (zF_X4_moves ρ a6 x1 σ5) (fun v9 σ10 =>
      zz_ck σ10 (some th) 4 fun a11 =>
      zz_cI (zF_X4_ends ρ a11 v9 σ10) (fun v14 σ15 =>
        zz_rI v14 σ15) zz_P) zz_P) zz_P
def zF_X1_motionCount (ρ : zz_C) (th : Nat) (σ : zz_S) : zz_R :=
  (zz_gR σ (some th) 1 4).bind fun v1 =>
  (zz_gR σ v1 2 2).bind fun v2 =>
  zz_ck σ v2 102 fun a3 =>
  zz_cI (zF_J2_size ρ a3 σ) (fun v6 σ7 =>
    zz_rI v6 σ7) zz_P
def zF_X4_motionCount (ρ : zz_C) (th : Nat) (σ : zz_S) : zz_R :=
  zz_ck σ (some th) 4 fun a1 =>
  zz_cI (zF_X4_tells ρ a1 (2 : Int32) σ) (fun v4 σ5 =>
    zz_rI v4 σ5) zz_P
def zF_X1_isEntitled (ρ : zz_C) (th : Nat) (x1 : Int32) (x2 : Int32) (σ : zz_S) : zz_R :=
  (zz_gR σ (some th) 1 4).bind fun v1 =>
  zz_ck σ v1 2 fun a2 =>
  zz_cR (zF_X2_motion ρ a2 x1 σ) (fun v5 σ6 =>
    (zz_gR σ6 (some th) 1 4).bind fun v7 =>
    zz_ck σ6 v7 2 fun a8 =>
    zz_cR (zF_X2_frog ρ a8 x2 σ6) (fun v11 σ12 =>
      zz_ck σ12 v5 6 fun a13 =>
      zz_cI (zF_X6_entitles ρ a13 v11 σ12) (fun v16 σ17 =>
        zz_rN .boolean v16 σ17) zz_P) zz_P) zz_P
def zJ_X0_isEntitled_20 (ρ : zz_C) (t0 : Option Nat) (σ : zz_S) : zz_R :=
  zz_rI (1 : Int32) σ
def zF_X0_isEntitled (ρ : zz_C) (x0 : Option Nat) (x1 : Int32) (x2 : Int32) (x3 : Option Nat) (σ : zz_S) : zz_R :=
  zz_ck σ x0 1 fun a1 =>
  zz_cI (zF_X1_isEntitled ρ a1 x1 x2 σ) (fun v4 σ5 =>
    if v4 = 0 then
      (zz_sJ σ5 x3 3 (0 : Int32) (0 : Int64)).bind fun σ6 =>
      zz_rI (0 : Int32) σ6
    else
    (zz_sJ σ5 x3 3 (0 : Int32) (1 : Int64)).bind fun σ7 =>
    zz_rI (0 : Int32) σ7)
    (fun q2 σ3 =>
      if q2.1 = 122 then
        zJ_X0_isEntitled_20 ρ (some q2.2) σ3
      else
      none)
def zF_X4_isMotion (ρ : zz_C) (th : Nat) (x1 : Int32) (σ : zz_S) : zz_R :=
  (zz_gR σ (some th) 4 5).bind fun v1 =>
  (zz_aI σ v1 0 (2 : Int32)).bind fun v2 =>
  zz_cI (zF_X4_isIn ρ x1 (0 : Int32) (v2 - (1 : Int32)) σ) (fun v5 σ6 =>
    zz_rN .boolean v5 σ6) zz_P
def zF_X4_areThere (ρ : zz_C) (th : Nat) (x1 : Int32) (x2 : Int32) (σ : zz_S) : zz_R :=
  zz_ck σ (some th) 4 fun a1 =>
  zz_cI (zF_X4_isMotion ρ a1 x1 σ) (fun v4 σ5 =>
    if v4 = 0 then
      zz_rN .boolean (0 : Int32) σ5
    else
    zz_ck σ5 (some th) 4 fun a6 =>
    zz_cI (zF_X4_isFrog ρ a6 x2 σ5) (fun v9 σ10 =>
      if v9 = 0 then
        zz_rN .boolean (0 : Int32) σ10
      else
      zz_rN .boolean (1 : Int32) σ10) zz_P) zz_P
def zF_X4_isFor (ρ : zz_C) (th : Nat) (x1 : Int32) (x2 : Int32) (σ : zz_S) : zz_R :=
  (zz_gR σ (some th) 4 5).bind fun v1 =>
  zz_cI (zF_X4_of ρ x1 (0 : Int32) σ) (fun v4 σ5 =>
    (zz_aI σ5 v1 0 v4).bind fun v6 =>
    (zz_gR σ5 (some th) 4 5).bind fun v7 =>
    (zz_aI σ5 v7 0 ((5 : Int32) + x2)).bind fun v8 =>
    if ((v6 >>> (v8 &&& 31)) &&& (1 : Int32)) = (1 : Int32) then
      zz_rN .boolean (1 : Int32) σ5
    else
    zz_rN .boolean (0 : Int32) σ5) zz_P
def zJ_X4_isEntitled_15 (ρ : zz_C) (th : Nat) (x1 : Int32) (x2 : Int32) (t0 : Int32) (t1 : Option Nat) (σ : zz_S) : zz_R :=
  (zz_pf σ t1 4 20 0 (.int t0)).bind fun σ1 =>
  (zz_gI σ1 (some th) 4 0).bind fun v2 =>
  if v2 = 0 then
    zz_ck σ1 (some th) 4 fun a3 =>
    zz_cI (zF_X4_isFor ρ a3 x1 x2 σ1) (fun v6 σ7 =>
      if v6 = 0 then
        zz_rN .boolean (0 : Int32) σ7
      else
      zz_rN .boolean (1 : Int32) σ7) zz_P
  else
  zz_rN .boolean (0 : Int32) σ1
def zF_X4_isEntitled (ρ : zz_C) (th : Nat) (x1 : Int32) (x2 : Int32) (σ : zz_S) : zz_R :=
  zz_ck σ (some th) 4 fun a1 =>
  zz_cI (zF_X4_areThere ρ a1 x1 x2 σ) (fun v4 σ5 =>
    if v4 = 0 then
      zJ_X4_isEntitled_15 ρ th x1 x2 (1 : Int32) (some th) σ5
    else
    zJ_X4_isEntitled_15 ρ th x1 x2 (0 : Int32) (some th) σ5) zz_P
def zF_X1_signUp (ρ : zz_C) (th : Nat) (x1 : Int32) (x2 : Int32) (σ : zz_S) : zz_R :=
  zz_al σ (.inr (212, [.int x1, .int x2])) 2 fun a1 σ2 =>
  zz_ck σ2 (some th) 1 fun a3 =>
  zz_cI (zF_X1_change ρ a3 (some a1) σ2) (fun v6 σ7 =>
    zz_rI v6 σ7) zz_P
def zJ_X0_signUp_17 (ρ : zz_C) (t0 : Option Nat) (σ : zz_S) : zz_R :=
  zz_rI (2 : Int32) σ
def zJ_X0_signUp_21 (ρ : zz_C) (t0 : Option Nat) (σ : zz_S) : zz_R :=
  zz_rI (3 : Int32) σ
def zJ_X0_signUp_13 (ρ : zz_C) (t0 : Option Nat) (σ : zz_S) : zz_R :=
  zz_rI (1 : Int32) σ
def zJ_X0_signUp_25 (ρ : zz_C) (t0 : Option Nat) (σ : zz_S) : zz_R :=
  zz_rI (4 : Int32) σ
def zF_X0_signUp (ρ : zz_C) (x0 : Option Nat) (x1 : Int32) (x2 : Int32) (x3 : Option Nat) (σ : zz_S) : zz_R :=
  zz_ck σ x0 1 fun a1 =>
  zz_cI (zF_X1_signUp ρ a1 x1 x2 σ) (fun v4 σ5 =>
    (zz_sJ σ5 x3 3 (0 : Int32) (v4.toInt64)).bind fun σ6 =>
    zz_rI (0 : Int32) σ6)
    (fun q2 σ3 =>
      if q2.1 = 106 then
        zJ_X0_signUp_17 ρ (some q2.2) σ3
      else
      if q2.1 = 138 then
        zJ_X0_signUp_21 ρ (some q2.2) σ3
      else
      if q2.1 = 122 then
        zJ_X0_signUp_13 ρ (some q2.2) σ3
      else
      if q2.1 = 143 then
        zJ_X0_signUp_25 ρ (some q2.2) σ3
      else
      if q2.1 = 119 then
        zz_P q2 σ3
      else
      none)
def zF_X4_isShut (ρ : zz_C) (th : Nat) (x1 : Int32) (σ : zz_S) : zz_R :=
  (zz_gR σ (some th) 4 5).bind fun v1 =>
  zz_cI (zF_X4_of ρ x1 (2 : Int32) σ) (fun v4 σ5 =>
    (zz_aI σ5 v1 0 v4).bind fun v6 =>
    if v6 = (1 : Int32) then
      zz_rN .boolean (1 : Int32) σ5
    else
    (zz_gR σ5 (some th) 4 5).bind fun v7 =>
    zz_cI (zF_X4_of ρ x1 (1 : Int32) σ5) (fun v10 σ11 =>
      (zz_aI σ11 v7 0 v10).bind fun v12 =>
      if v12 = (1 : Int32) then
        zz_rN .boolean (1 : Int32) σ11
      else
      zz_rN .boolean (0 : Int32) σ11) zz_P) zz_P
def zF_X4_listed (ρ : zz_C) (x0 : Int32) (x1 : Int32) (σ : zz_S) : zz_R :=
  zz_rI (((119 : Int32) + ((12 : Int32) * x0)) + x1) σ
def zL_X4_place_2 (ρ : zz_C) : Nat → Nat → Int32 → Int32 → Int32 → zz_S → zz_R
  | 0, _, _, _, _, _ => none
  | n + 1, th, x1, x2, x3, σ =>
    (zz_gR σ (some th) 4 5).bind fun v1 =>
    zz_cI (zF_X4_of ρ x1 (5 : Int32) σ) (fun v4 σ5 =>
      (zz_aI σ5 v1 0 v4).bind fun v6 =>
      if v6 ≤ x3 then
        zz_rI (-1 : Int32) σ5
      else
      (zz_gR σ5 (some th) 4 5).bind fun v7 =>
      zz_cI (zF_X4_listed ρ x1 x3 σ5) (fun v10 σ11 =>
        (zz_aI σ11 v7 0 v10).bind fun v12 =>
        if v12 = x2 then
          zz_rI x3 σ11
        else
        zL_X4_place_2 ρ n th x1 x2 (x3 + (1 : Int32)) σ11) zz_P) zz_P
def zF_X4_place (ρ : zz_C) (th : Nat) (x1 : Int32) (x2 : Int32) (σ : zz_S) : zz_R :=
  zL_X4_place_2 ρ ρ.2 th x1 x2 (0 : Int32) σ
def zF_X4_signs (ρ : zz_C) (th : Nat) (x1 : Int32) (x2 : Int32) (σ : zz_S) : zz_R :=
  zz_ck σ (some th) 4 fun a1 =>
  zz_cI (zF_X4_areThere ρ a1 x1 x2 σ) (fun v4 σ5 =>
    if v4 = 0 then
      zz_ck σ5 (some th) 4 fun a61 =>
      zz_cI (zF_X4_fail ρ a61 (1 : Int32) σ5) (fun v64 σ65 =>
        zz_rI v64 σ65) zz_P
    else
    zz_ck σ5 (some th) 4 fun a6 =>
    zz_cI (zF_X4_isFor ρ a6 x1 x2 σ5) (fun v9 σ10 =>
      if v9 = 0 then
        zz_ck σ10 (some th) 4 fun a56 =>
        zz_cI (zF_X4_fail ρ a56 (2 : Int32) σ10) (fun v59 σ60 =>
          zz_rI v59 σ60) zz_P
      else
      zz_ck σ10 (some th) 4 fun a11 =>
      zz_cI (zF_X4_isShut ρ a11 x1 σ10) (fun v14 σ15 =>
        if v14 = 0 then
          zz_ck σ15 (some th) 4 fun a16 =>
          zz_cI (zF_X4_place ρ a16 x1 x2 σ15) (fun v19 σ20 =>
            if v19 < 0 then
              (zz_gR σ20 (some th) 4 5).bind fun v21 =>
              (zz_gR σ20 (some th) 4 5).bind fun v22 =>
              zz_cI (zF_X4_of ρ x1 (5 : Int32) σ20) (fun v25 σ26 =>
                (zz_aI σ26 v22 0 v25).bind fun v27 =>
                zz_cI (zF_X4_listed ρ x1 v27 σ26) (fun v30 σ31 =>
                  (zz_sI σ31 v21 0 .int v30 x2).bind fun σ32 =>
                  (zz_gR σ32 (some th) 4 5).bind fun v33 =>
                  zz_cI (zF_X4_of ρ x1 (5 : Int32) σ32) (fun v36 σ37 =>
                    (zz_aI σ37 v33 0 v36).bind fun v38 =>
                    (zz_sI σ37 v33 0 .int v36 (v38 + (1 : Int32))).bind fun σ39 =>
                    (zz_gR σ39 (some th) 4 5).bind fun v40 =>
                    zz_cI (zF_X4_of ρ x1 (5 : Int32) σ39) (fun v43 σ44 =>
                      (zz_aI σ44 v40 0 v43).bind fun v45 =>
                      zz_rI v45 σ44) zz_P) zz_P) zz_P) zz_P
            else
            zz_ck σ20 (some th) 4 fun a46 =>
            zz_cI (zF_X4_fail ρ a46 (4 : Int32) σ20) (fun v49 σ50 =>
              zz_rI v49 σ50) zz_P) zz_P
        else
        zz_ck σ15 (some th) 4 fun a51 =>
        zz_cI (zF_X4_fail ρ a51 (3 : Int32) σ15) (fun v54 σ55 =>
          zz_rI v54 σ55) zz_P) zz_P) zz_P) zz_P
def zF_X4_signUp (ρ : zz_C) (th : Nat) (x1 : Int32) (x2 : Int32) (σ : zz_S) : zz_R :=
  zz_ck σ (some th) 4 fun a1 =>
  zz_cV (zF_X4_begins ρ a1 σ) (fun σ5 =>
    zz_ck σ5 (some th) 4 fun a6 =>
    zz_cI (zF_X4_signs ρ a6 x1 x2 σ5) (fun v9 σ10 =>
      zz_ck σ10 (some th) 4 fun a11 =>
      zz_cI (zF_X4_ends ρ a11 v9 σ10) (fun v14 σ15 =>
        zz_rI v14 σ15) zz_P) zz_P) zz_P
def zF_X1_strike (ρ : zz_C) (th : Nat) (x1 : Int32) (x2 : Int32) (σ : zz_S) : zz_R :=
  zz_al σ (.inr (213, [.int x1, .int x2])) 2 fun a1 σ2 =>
  zz_ck σ2 (some th) 1 fun a3 =>
  zz_cI (zF_X1_change ρ a3 (some a1) σ2) (fun v6 σ7 =>
    zz_rI v6 σ7) zz_P
def zJ_X0_strike_13 (ρ : zz_C) (t0 : Option Nat) (σ : zz_S) : zz_R :=
  zz_rI (1 : Int32) σ
def zJ_X0_strike_17 (ρ : zz_C) (t0 : Option Nat) (σ : zz_S) : zz_R :=
  zz_rI (2 : Int32) σ
def zF_X0_strike (ρ : zz_C) (x0 : Option Nat) (x1 : Int32) (x2 : Int32) (x3 : Option Nat) (σ : zz_S) : zz_R :=
  zz_ck σ x0 1 fun a1 =>
  zz_cI (zF_X1_strike ρ a1 x1 x2 σ) (fun v4 σ5 =>
    (zz_sJ σ5 x3 3 (0 : Int32) (v4.toInt64)).bind fun σ6 =>
    zz_rI (0 : Int32) σ6)
    (fun q2 σ3 =>
      if q2.1 = 106 then
        zz_P q2 σ3
      else
      if q2.1 = 138 then
        zz_P q2 σ3
      else
      if q2.1 = 122 then
        zJ_X0_strike_13 ρ (some q2.2) σ3
      else
      if q2.1 = 143 then
        zz_P q2 σ3
      else
      if q2.1 = 119 then
        zJ_X0_strike_17 ρ (some q2.2) σ3
      else
      none)
def zL_X4_takes_16 (ρ : zz_C) : Nat → Nat → Int32 → Int32 → zz_S → zz_R
  | 0, _, _, _, _ => none
  | n + 1, th, x1, x3, σ =>
    (zz_gR σ (some th) 4 5).bind fun v1 =>
    zz_cI (zF_X4_of ρ x1 (5 : Int32) σ) (fun v4 σ5 =>
      (zz_aI σ5 v1 0 v4).bind fun v6 =>
      if v6 ≤ x3 then
        (zz_gR σ5 (some th) 4 5).bind fun v7 =>
        (zz_gR σ5 (some th) 4 5).bind fun v8 =>
        zz_cI (zF_X4_of ρ x1 (5 : Int32) σ5) (fun v11 σ12 =>
          (zz_aI σ12 v8 0 v11).bind fun v13 =>
          zz_cI (zF_X4_listed ρ x1 v13 σ12) (fun v16 σ17 =>
            (zz_sI σ17 v7 0 .int v16 (0 : Int32)).bind fun σ18 =>
            zz_rV σ18) zz_P) zz_P
      else
      (zz_gR σ5 (some th) 4 5).bind fun v19 =>
      zz_cI (zF_X4_listed ρ x1 x3 σ5) (fun v22 σ23 =>
        (zz_gR σ23 (some th) 4 5).bind fun v24 =>
        zz_cI (zF_X4_listed ρ x1 (x3 + (1 : Int32)) σ23) (fun v27 σ28 =>
          (zz_aI σ28 v24 0 v27).bind fun v29 =>
          (zz_sI σ28 v19 0 .int v22 v29).bind fun σ30 =>
          zL_X4_takes_16 ρ n th x1 (x3 + (1 : Int32)) σ30) zz_P) zz_P) zz_P
def zF_X4_takes (ρ : zz_C) (th : Nat) (x1 : Int32) (x2 : Int32) (σ : zz_S) : zz_R :=
  (zz_gR σ (some th) 4 5).bind fun v1 =>
  zz_cI (zF_X4_of ρ x1 (5 : Int32) σ) (fun v4 σ5 =>
    (zz_aI σ5 v1 0 v4).bind fun v6 =>
    (zz_sI σ5 v1 0 .int v4 (v6 - (1 : Int32))).bind fun σ7 =>
    zL_X4_takes_16 ρ ρ.2 th x1 x2 σ7) zz_P
def zF_X4_strikes (ρ : zz_C) (th : Nat) (x1 : Int32) (x2 : Int32) (σ : zz_S) : zz_R :=
  zz_ck σ (some th) 4 fun a1 =>
  zz_cI (zF_X4_areThere ρ a1 x1 x2 σ) (fun v4 σ5 =>
    if v4 = 0 then
      zz_ck σ5 (some th) 4 fun a27 =>
      zz_cI (zF_X4_fail ρ a27 (1 : Int32) σ5) (fun v30 σ31 =>
        zz_rI v30 σ31) zz_P
    else
    zz_ck σ5 (some th) 4 fun a6 =>
    zz_cI (zF_X4_place ρ a6 x1 x2 σ5) (fun v9 σ10 =>
      if 0 ≤ v9 then
        zz_ck σ10 (some th) 4 fun a11 =>
        zz_cV (zF_X4_takes ρ a11 x1 v9 σ10) (fun σ15 =>
          (zz_gR σ15 (some th) 4 5).bind fun v16 =>
          zz_cI (zF_X4_of ρ x1 (5 : Int32) σ15) (fun v19 σ20 =>
            (zz_aI σ20 v16 0 v19).bind fun v21 =>
            zz_rI v21 σ20) zz_P) zz_P
      else
      zz_ck σ10 (some th) 4 fun a22 =>
      zz_cI (zF_X4_fail ρ a22 (2 : Int32) σ10) (fun v25 σ26 =>
        zz_rI v25 σ26) zz_P) zz_P) zz_P
def zF_X4_strike (ρ : zz_C) (th : Nat) (x1 : Int32) (x2 : Int32) (σ : zz_S) : zz_R :=
  zz_ck σ (some th) 4 fun a1 =>
  zz_cV (zF_X4_begins ρ a1 σ) (fun σ5 =>
    zz_ck σ5 (some th) 4 fun a6 =>
    zz_cI (zF_X4_strikes ρ a6 x1 x2 σ5) (fun v9 σ10 =>
      zz_ck σ10 (some th) 4 fun a11 =>
      zz_cI (zF_X4_ends ρ a11 v9 σ10) (fun v14 σ15 =>
        zz_rI v14 σ15) zz_P) zz_P) zz_P
def zF_X1_callNext (ρ : zz_C) (th : Nat) (x1 : Int32) (σ : zz_S) : zz_R :=
  zz_al σ (.inr (214, [.int x1])) 1 fun a1 σ2 =>
  zz_ck σ2 (some th) 1 fun a3 =>
  zz_cI (zF_X1_change ρ a3 (some a1) σ2) (fun v6 σ7 =>
    if v6 = (1 : Int32) then
      zz_rN .boolean (1 : Int32) σ7
    else
    zz_rN .boolean (0 : Int32) σ7) zz_P
def zJ_X0_callNext_19 (ρ : zz_C) (t0 : Option Nat) (σ : zz_S) : zz_R :=
  zz_rI (1 : Int32) σ
def zJ_X0_callNext_22 (ρ : zz_C) (t0 : Option Nat) (σ : zz_S) : zz_R :=
  zz_rI (2 : Int32) σ
def zF_X0_callNext (ρ : zz_C) (x0 : Option Nat) (x1 : Int32) (x2 : Option Nat) (σ : zz_S) : zz_R :=
  zz_ck σ x0 1 fun a1 =>
  zz_cI (zF_X1_callNext ρ a1 x1 σ) (fun v4 σ5 =>
    if v4 = 0 then
      (zz_sJ σ5 x2 3 (0 : Int32) (0 : Int64)).bind fun σ6 =>
      zz_rI (0 : Int32) σ6
    else
    (zz_sJ σ5 x2 3 (0 : Int32) (1 : Int64)).bind fun σ7 =>
    zz_rI (0 : Int32) σ7)
    (fun q2 σ3 =>
      if q2.1 = 106 then
        zz_P q2 σ3
      else
      if q2.1 = 138 then
        zz_P q2 σ3
      else
      if q2.1 = 122 then
        zJ_X0_callNext_19 ρ (some q2.2) σ3
      else
      if q2.1 = 143 then
        zz_P q2 σ3
      else
      if q2.1 = 119 then
        zJ_X0_callNext_22 ρ (some q2.2) σ3
      else
      none)
def zJ_X4_ahead_86 (ρ : zz_C) (K25 : Nat → Int32 → Int32 → Int32 → Int32 → Int32 → zz_S → zz_R) (th : Nat) (x1 : Int32) (x2 : Int32) (x3 : Int32) (x5 : Int32) (t0 : Int32) (t1 : Int32) (σ : zz_S) : zz_R :=
  K25 th x1 x2 x3 (t1 + t0) (x5 + (1 : Int32)) σ
def zJ_X4_ahead_81 (ρ : zz_C) (K25 : Nat → Int32 → Int32 → Int32 → Int32 → Int32 → zz_S → zz_R) (th : Nat) (x1 : Int32) (x2 : Int32) (x3 : Int32) (x5 : Int32) (t0 : Int32) (σ : zz_S) : zz_R :=
  zJ_X4_ahead_86 ρ K25 th x1 x2 x3 x5 (1 : Int32) t0 σ
def zJ_X4_ahead_85 (ρ : zz_C) (K25 : Nat → Int32 → Int32 → Int32 → Int32 → Int32 → zz_S → zz_R) (th : Nat) (x1 : Int32) (x2 : Int32) (x3 : Int32) (x5 : Int32) (t0 : Int32) (σ : zz_S) : zz_R :=
  zJ_X4_ahead_86 ρ K25 th x1 x2 x3 x5 (0 : Int32) t0 σ
def zL_X4_ahead_25 (ρ : zz_C) : Nat → Nat → Int32 → Int32 → Int32 → Int32 → Int32 → zz_S → zz_R
  | 0, _, _, _, _, _, _, _ => none
  | n + 1, th, x1, x2, x3, x4, x5, σ =>
    (zz_gR σ (some th) 4 5).bind fun v1 =>
    zz_cI (zF_X4_of ρ x1 (5 : Int32) σ) (fun v4 σ5 =>
      (zz_aI σ5 v1 0 v4).bind fun v6 =>
      if v6 ≤ x5 then
        zz_rI x4 σ5
      else
      (zz_gR σ5 (some th) 4 5).bind fun v7 =>
      (zz_gR σ5 (some th) 4 5).bind fun v8 =>
      zz_cI (zF_X4_listed ρ x1 x5 σ5) (fun v11 σ12 =>
        (zz_aI σ12 v8 0 v11).bind fun v13 =>
        (zz_aI σ12 v7 0 ((41 : Int32) + v13)).bind fun v14 =>
        if v14 < x3 then
          zJ_X4_ahead_81 ρ (zL_X4_ahead_25 ρ n) th x1 x2 x3 x5 x4 σ12
        else
        if v14 = x3 then
          if x2 ≤ x5 then
            zJ_X4_ahead_85 ρ (zL_X4_ahead_25 ρ n) th x1 x2 x3 x5 x4 σ12
          else
          zJ_X4_ahead_81 ρ (zL_X4_ahead_25 ρ n) th x1 x2 x3 x5 x4 σ12
        else
        zJ_X4_ahead_85 ρ (zL_X4_ahead_25 ρ n) th x1 x2 x3 x5 x4 σ12) zz_P) zz_P
def zF_X4_ahead (ρ : zz_C) (th : Nat) (x1 : Int32) (x2 : Int32) (σ : zz_S) : zz_R :=
  (zz_gR σ (some th) 4 5).bind fun v1 =>
  (zz_gR σ (some th) 4 5).bind fun v2 =>
  zz_cI (zF_X4_listed ρ x1 x2 σ) (fun v5 σ6 =>
    (zz_aI σ6 v2 0 v5).bind fun v7 =>
    (zz_aI σ6 v1 0 ((41 : Int32) + v7)).bind fun v8 =>
    zL_X4_ahead_25 ρ ρ.2 th x1 x2 v8 (0 : Int32) (0 : Int32) σ6) zz_P
def zL_X4_ranked_2 (ρ : zz_C) : Nat → Nat → Int32 → Int32 → Int32 → zz_S → zz_R
  | 0, _, _, _, _, _ => none
  | n + 1, th, x1, x2, x3, σ =>
    (zz_gR σ (some th) 4 5).bind fun v1 =>
    zz_cI (zF_X4_of ρ x1 (5 : Int32) σ) (fun v4 σ5 =>
      (zz_aI σ5 v1 0 v4).bind fun v6 =>
      if v6 ≤ x3 then
        zz_rI (-1 : Int32) σ5
      else
      zz_ck σ5 (some th) 4 fun a7 =>
      zz_cI (zF_X4_ahead ρ a7 x1 x3 σ5) (fun v10 σ11 =>
        if v10 = x2 then
          zz_rI x3 σ11
        else
        zL_X4_ranked_2 ρ n th x1 x2 (x3 + (1 : Int32)) σ11) zz_P) zz_P
def zF_X4_ranked (ρ : zz_C) (th : Nat) (x1 : Int32) (x2 : Int32) (σ : zz_S) : zz_R :=
  zL_X4_ranked_2 ρ ρ.2 th x1 x2 (0 : Int32) σ
def zJ_X4_calls_55 (ρ : zz_C) (th : Nat) (x1 : Int32) (x2 : Int32) (x3 : Int32) (t0 : Int32) (σ : zz_S) : zz_R :=
  zz_ck σ (some th) 4 fun a1 =>
  zz_cV (zF_X4_takes ρ a1 x1 x2 σ) (fun σ5 =>
    (zz_gR σ5 (some th) 4 5).bind fun v6 =>
    (zz_aI σ5 v6 0 ((41 : Int32) + x3)).bind fun v7 =>
    (zz_sI σ5 v6 0 .int ((41 : Int32) + x3) (v7 + t0)).bind fun σ8 =>
    (zz_gR σ8 (some th) 4 5).bind fun v9 =>
    zz_cI (zF_X4_of ρ x1 (6 : Int32) σ8) (fun v12 σ13 =>
      (zz_aI σ13 v9 0 v12).bind fun v14 =>
      (zz_sI σ13 v9 0 .int v12 (v14 + t0)).bind fun σ15 =>
      (zz_gR σ15 (some th) 4 5).bind fun v16 =>
      (zz_aI σ15 v16 0 (3 : Int32)).bind fun v17 =>
      (zz_sI σ15 v16 0 .int (3 : Int32) (v17 + t0)).bind fun σ18 =>
      (zz_gR σ18 (some th) 4 5).bind fun v19 =>
      (zz_aI σ18 v19 0 (4 : Int32)).bind fun v20 =>
      (zz_sI σ18 v19 0 .int (4 : Int32) (v20 + ((1 : Int32) - t0))).bind fun σ21 =>
      zz_rI t0 σ21) zz_P) zz_P
def zF_X4_calls (ρ : zz_C) (th : Nat) (x1 : Int32) (σ : zz_S) : zz_R :=
  zz_ck σ (some th) 4 fun a1 =>
  zz_cI (zF_X4_isMotion ρ a1 x1 σ) (fun v4 σ5 =>
    if v4 = 0 then
      zz_ck σ5 (some th) 4 fun a27 =>
      zz_cI (zF_X4_fail ρ a27 (1 : Int32) σ5) (fun v30 σ31 =>
        zz_rI v30 σ31) zz_P
    else
    zz_ck σ5 (some th) 4 fun a6 =>
    zz_cI (zF_X4_ranked ρ a6 x1 (0 : Int32) σ5) (fun v9 σ10 =>
      if 0 ≤ v9 then
        (zz_gR σ10 (some th) 4 5).bind fun v11 =>
        zz_cI (zF_X4_listed ρ x1 v9 σ10) (fun v14 σ15 =>
          (zz_aI σ15 v11 0 v14).bind fun v16 =>
          zz_ck σ15 (some th) 4 fun a17 =>
          zz_cI (zF_X4_isOn ρ a17 v16 σ15) (fun v20 σ21 =>
            if v20 = 0 then
              zJ_X4_calls_55 ρ th x1 v9 v16 (0 : Int32) σ21
            else
            zJ_X4_calls_55 ρ th x1 v9 v16 (1 : Int32) σ21) zz_P) zz_P
      else
      zz_ck σ10 (some th) 4 fun a22 =>
      zz_cI (zF_X4_fail ρ a22 (2 : Int32) σ10) (fun v25 σ26 =>
        zz_rI v25 σ26) zz_P) zz_P) zz_P
def zF_X4_callNext (ρ : zz_C) (th : Nat) (x1 : Int32) (σ : zz_S) : zz_R :=
  zz_ck σ (some th) 4 fun a1 =>
  zz_cV (zF_X4_begins ρ a1 σ) (fun σ5 =>
    zz_ck σ5 (some th) 4 fun a6 =>
    zz_cI (zF_X4_calls ρ a6 x1 σ5) (fun v9 σ10 =>
      zz_ck σ10 (some th) 4 fun a11 =>
      zz_cI (zF_X4_ends ρ a11 v9 σ10) (fun v14 σ15 =>
        if v14 = (1 : Int32) then
          zz_rN .boolean (1 : Int32) σ15
        else
        zz_rN .boolean (0 : Int32) σ15) zz_P) zz_P) zz_P
def zF_X1_listLength (ρ : zz_C) (th : Nat) (x1 : Int32) (σ : zz_S) : zz_R :=
  (zz_gR σ (some th) 1 4).bind fun v1 =>
  zz_ck σ v1 2 fun a2 =>
  zz_cR (zF_X2_motion ρ a2 x1 σ) (fun v5 σ6 =>
    (zz_gR σ6 v5 6 2).bind fun v7 =>
    zz_ck σ6 v7 140 fun a8 =>
    zz_cI (zF_J40_size ρ a8 σ6) (fun v11 σ12 =>
      zz_rI v11 σ12) zz_P) zz_P
def zJ_X0_listLength_12 (ρ : zz_C) (t0 : Option Nat) (σ : zz_S) : zz_R :=
  zz_rI (1 : Int32) σ
def zF_X0_listLength (ρ : zz_C) (x0 : Option Nat) (x1 : Int32) (x2 : Option Nat) (σ : zz_S) : zz_R :=
  zz_ck σ x0 1 fun a1 =>
  zz_cI (zF_X1_listLength ρ a1 x1 σ) (fun v4 σ5 =>
    (zz_sJ σ5 x2 3 (0 : Int32) (v4.toInt64)).bind fun σ6 =>
    zz_rI (0 : Int32) σ6)
    (fun q2 σ3 =>
      if q2.1 = 122 then
        zJ_X0_listLength_12 ρ (some q2.2) σ3
      else
      none)
def zJ_X4_tellsMotion_14 (ρ : zz_C) (th : Nat) (x1 : Int32) (x2 : Int32) (t0 : Int32) (t1 : Option Nat) (σ : zz_S) : zz_R :=
  (zz_pf σ t1 4 20 0 (.int t0)).bind fun σ1 =>
  (zz_gI σ1 (some th) 4 0).bind fun v2 =>
  if v2 = 0 then
    (zz_gR σ1 (some th) 4 5).bind fun v3 =>
    zz_cI (zF_X4_of ρ x1 x2 σ1) (fun v6 σ7 =>
      (zz_aI σ7 v3 0 v6).bind fun v8 =>
      zz_rI v8 σ7) zz_P
  else
  zz_rI (0 : Int32) σ1
def zF_X4_tellsMotion (ρ : zz_C) (th : Nat) (x1 : Int32) (x2 : Int32) (σ : zz_S) : zz_R :=
  zz_ck σ (some th) 4 fun a1 =>
  zz_cI (zF_X4_isMotion ρ a1 x1 σ) (fun v4 σ5 =>
    if v4 = 0 then
      zJ_X4_tellsMotion_14 ρ th x1 x2 (1 : Int32) (some th) σ5
    else
    zJ_X4_tellsMotion_14 ρ th x1 x2 (0 : Int32) (some th) σ5) zz_P
def zF_X4_listLength (ρ : zz_C) (th : Nat) (x1 : Int32) (σ : zz_S) : zz_R :=
  zz_ck σ (some th) 4 fun a1 =>
  zz_cI (zF_X4_tellsMotion ρ a1 x1 (5 : Int32) σ) (fun v4 σ5 =>
    zz_rI v4 σ5) zz_P
def zF_X1_lambda_new_0 (ρ : zz_C) (x0 : Option Nat) (x1 : Option Nat) (σ : zz_S) : zz_R :=
  zz_ck σ x0 2 fun a1 =>
  zz_cR (zF_X2_nextByQueue ρ a1 x1 σ) (fun v4 σ5 =>
    zz_rR v4 σ5) zz_P
def zF_lam1 (ρ : zz_C) (th : Nat) (x0 : Option Nat) (x1 : Option Nat) (σ : zz_S) : zz_R :=
  zz_cR (zF_X1_lambda_new_0 ρ x0 x1 σ) zz_rR zz_P
def zF_J40_getFirst (ρ : zz_C) (th : Nat) (σ : zz_S) : zz_R :=
  (zz_gR σ (some th) 140 2).bind fun v1 =>
  zz_nul v1 (
    none
  ) fun _ =>
  (zz_gR σ v1 142 0).bind fun v3 =>
  zz_rR v3 σ
def zJ_X2_nextByScan_85 (ρ : zz_C) (K47 : Option Nat → Option Nat → Option Nat → zz_S → zz_R) (x2 : Option Nat) (x4 : Option Nat) (t0 : Option Nat) (σ : zz_S) : zz_R :=
  K47 x2 t0 x4 σ
def zL_X2_nextByScan_47 (ρ : zz_C) : Nat → Option Nat → Option Nat → Option Nat → zz_S → zz_R
  | 0, _, _, _, _ => none
  | n + 1, x2, x3, x4, σ =>
    zz_ck σ x4 126 fun a1 =>
    zz_cI (zF_J26_hasNext ρ a1 σ) (fun v4 σ5 =>
      if v4 = 0 then
        zz_rR x3 σ5
      else
      zz_ck σ5 x4 126 fun a6 =>
      zz_cR (zF_J26_next ρ a6 σ5) (fun v9 σ10 =>
        if ¬ (zz_ok σ10 v9 [7] = true) then none else
        zz_ck σ10 x2 3 fun a11 =>
        zz_cI (zF_X3_compare_2 ρ a11 v9 x3 σ10) (fun v14 σ15 =>
          if 0 ≤ v14 then
            zJ_X2_nextByScan_85 ρ (zL_X2_nextByScan_47 ρ n) x2 x4 x3 σ15
          else
          zJ_X2_nextByScan_85 ρ (zL_X2_nextByScan_47 ρ n) x2 x4 v9 σ15) zz_P) zz_P) zz_P
def zJ_X2_nextByScan_15 (ρ : zz_C) (th : Nat) (x1 : Option Nat) (t0 : Int32) (σ : zz_S) : zz_R :=
  zz_cV (zF_X1_checkElement ρ t0 σ) (fun σ4 =>
    zz_al σ4 (.inr (3, [.null])) 1 fun a5 σ6 =>
    zz_cV (zF_X3_init ρ a5 (some th) σ6) (fun σ10 =>
      (zz_gR σ10 x1 6 2).bind fun v11 =>
      zz_ck σ10 v11 140 fun a12 =>
      zz_cR (zF_J40_getFirst ρ a12 σ10) (fun v15 σ16 =>
        if ¬ (zz_ok σ16 v15 [7] = true) then none else
        (zz_gR σ16 x1 6 2).bind fun v17 =>
        zz_ck σ16 v17 140 fun a18 =>
        zz_cR (zF_J39_iterator ρ a18 σ16) (fun v21 σ22 =>
          zL_X2_nextByScan_47 ρ ρ.2 (some a5) v15 v21 σ22) zz_P) zz_P) zz_P) zz_P
def zF_X2_nextByScan (ρ : zz_C) (th : Nat) (x1 : Option Nat) (σ : zz_S) : zz_R :=
  (zz_gR σ x1 6 2).bind fun v1 =>
  zz_ck σ v1 140 fun a2 =>
  zz_cI (zF_J0_isEmpty_at_J40 ρ a2 σ) (fun v5 σ6 =>
    if v5 = 0 then
      zJ_X2_nextByScan_15 ρ th x1 (1 : Int32) σ6
    else
    zJ_X2_nextByScan_15 ρ th x1 (0 : Int32) σ6) zz_P
def zF_X1_lambda_new_1 (ρ : zz_C) (x0 : Option Nat) (x1 : Option Nat) (σ : zz_S) : zz_R :=
  zz_ck σ x0 2 fun a1 =>
  zz_cR (zF_X2_nextByScan ρ a1 x1 σ) (fun v4 σ5 =>
    zz_rR v4 σ5) zz_P
def zF_lam2 (ρ : zz_C) (th : Nat) (x0 : Option Nat) (x1 : Option Nat) (σ : zz_S) : zz_R :=
  zz_cR (zF_X1_lambda_new_1 ρ x0 x1 σ) zz_rR zz_P
def zF_X1_nextFrog (ρ : zz_C) (th : Nat) (x1 : Int32) (σ : zz_S) : zz_R :=
  (zz_gR σ (some th) 1 0).bind fun v1 =>
  (zz_aR σ v1 6 (0 : Int32)).bind fun v2 =>
  (zz_gR σ (some th) 1 4).bind fun v3 =>
  (zz_gR σ (some th) 1 4).bind fun v4 =>
  zz_ck σ v4 2 fun a5 =>
  zz_cR (zF_X2_motion ρ a5 x1 σ) (fun v8 σ9 =>
    zz_dp σ9 v2 fun a10 c11 =>
    if c11 = 201 then
      zz_cR (zF_lam1 ρ a10 v3 v8 σ9) (fun v14 σ15 =>
        (zz_gI σ15 v14 7 0).bind fun v16 =>
        zz_rI v16 σ15) zz_P
    else
    if c11 = 202 then
      zz_cR (zF_lam2 ρ a10 v3 v8 σ9) (fun v17 σ18 =>
        (zz_gI σ18 v17 7 0).bind fun v19 =>
        zz_rI v19 σ18) zz_P
    else
    none) zz_P
def zJ_X0_nextFrog_12 (ρ : zz_C) (t0 : Option Nat) (σ : zz_S) : zz_R :=
  zz_rI (1 : Int32) σ
def zJ_X0_nextFrog_15 (ρ : zz_C) (t0 : Option Nat) (σ : zz_S) : zz_R :=
  zz_rI (2 : Int32) σ
def zF_X0_nextFrog (ρ : zz_C) (x0 : Option Nat) (x1 : Int32) (x2 : Option Nat) (σ : zz_S) : zz_R :=
  zz_ck σ x0 1 fun a1 =>
  zz_cI (zF_X1_nextFrog ρ a1 x1 σ) (fun v4 σ5 =>
    (zz_sJ σ5 x2 3 (0 : Int32) (v4.toInt64)).bind fun σ6 =>
    zz_rI (0 : Int32) σ6)
    (fun q2 σ3 =>
      if q2.1 = 122 then
        zJ_X0_nextFrog_12 ρ (some q2.2) σ3
      else
      if q2.1 = 119 then
        zJ_X0_nextFrog_15 ρ (some q2.2) σ3
      else
      none)
def zJ_X4_nextFrog_31 (ρ : zz_C) (th : Nat) (x1 : Int32) (t0 : Int32) (t1 : Option Nat) (σ : zz_S) : zz_R :=
  (zz_pf σ t1 4 20 0 (.int t0)).bind fun σ1 =>
  (zz_gI σ1 (some th) 4 0).bind fun v2 =>
  if v2 = 0 then
    (zz_gR σ1 (some th) 4 5).bind fun v3 =>
    zz_ck σ1 (some th) 4 fun a4 =>
    zz_cI (zF_X4_ranked ρ a4 x1 (0 : Int32) σ1) (fun v7 σ8 =>
      zz_cI (zF_X4_listed ρ x1 v7 σ8) (fun v11 σ12 =>
        (zz_aI σ12 v3 0 v11).bind fun v13 =>
        zz_rI v13 σ12) zz_P) zz_P
  else
  zz_rI (0 : Int32) σ1
def zF_X4_nextFrog (ρ : zz_C) (th : Nat) (x1 : Int32) (σ : zz_S) : zz_R :=
  zz_ck σ (some th) 4 fun a1 =>
  zz_cI (zF_X4_isMotion ρ a1 x1 σ) (fun v4 σ5 =>
    if v4 = 0 then
      zJ_X4_nextFrog_31 ρ th x1 (1 : Int32) (some th) σ5
    else
    (zz_gR σ5 (some th) 4 5).bind fun v6 =>
    zz_cI (zF_X4_of ρ x1 (5 : Int32) σ5) (fun v9 σ10 =>
      (zz_aI σ10 v6 0 v9).bind fun v11 =>
      if v11 = 0 then
        zJ_X4_nextFrog_31 ρ th x1 (2 : Int32) (some th) σ10
      else
      zJ_X4_nextFrog_31 ρ th x1 (0 : Int32) (some th) σ10) zz_P) zz_P
def zF_X1_nextFrogByScan (ρ : zz_C) (th : Nat) (x1 : Int32) (σ : zz_S) : zz_R :=
  (zz_gR σ (some th) 1 0).bind fun v1 =>
  (zz_aR σ v1 6 (1 : Int32)).bind fun v2 =>
  (zz_gR σ (some th) 1 4).bind fun v3 =>
  (zz_gR σ (some th) 1 4).bind fun v4 =>
  zz_ck σ v4 2 fun a5 =>
  zz_cR (zF_X2_motion ρ a5 x1 σ) (fun v8 σ9 =>
    zz_dp σ9 v2 fun a10 c11 =>
    if c11 = 201 then
      zz_cR (zF_lam1 ρ a10 v3 v8 σ9) (fun v14 σ15 =>
        (zz_gI σ15 v14 7 0).bind fun v16 =>
        zz_rI v16 σ15) zz_P
    else
    if c11 = 202 then
      zz_cR (zF_lam2 ρ a10 v3 v8 σ9) (fun v17 σ18 =>
        (zz_gI σ18 v17 7 0).bind fun v19 =>
        zz_rI v19 σ18) zz_P
    else
    none) zz_P
def zJ_X0_nextFrogByScan_12 (ρ : zz_C) (t0 : Option Nat) (σ : zz_S) : zz_R :=
  zz_rI (1 : Int32) σ
def zJ_X0_nextFrogByScan_15 (ρ : zz_C) (t0 : Option Nat) (σ : zz_S) : zz_R :=
  zz_rI (2 : Int32) σ
def zF_X0_nextFrogByScan (ρ : zz_C) (x0 : Option Nat) (x1 : Int32) (x2 : Option Nat) (σ : zz_S) : zz_R :=
  zz_ck σ x0 1 fun a1 =>
  zz_cI (zF_X1_nextFrogByScan ρ a1 x1 σ) (fun v4 σ5 =>
    (zz_sJ σ5 x2 3 (0 : Int32) (v4.toInt64)).bind fun σ6 =>
    zz_rI (0 : Int32) σ6)
    (fun q2 σ3 =>
      if q2.1 = 122 then
        zJ_X0_nextFrogByScan_12 ρ (some q2.2) σ3
      else
      if q2.1 = 119 then
        zJ_X0_nextFrogByScan_15 ρ (some q2.2) σ3
      else
      none)
def zF_X4_nextFrogByScan (ρ : zz_C) (th : Nat) (x1 : Int32) (σ : zz_S) : zz_R :=
  zz_ck σ (some th) 4 fun a1 =>
  zz_cI (zF_X4_nextFrog ρ a1 x1 σ) (fun v4 σ5 =>
    zz_rI v4 σ5) zz_P
def zJ_X2_frogsBefore_80 (ρ : zz_C) (K40 : Option Nat → Option Nat → Int32 → Option Nat → zz_S → zz_R) (x3 : Option Nat) (x4 : Option Nat) (x6 : Option Nat) (t0 : Int32) (t1 : Int32) (σ : zz_S) : zz_R :=
  K40 x3 x4 (t1 + t0) x6 σ
def zL_X2_frogsBefore_40 (ρ : zz_C) : Nat → Option Nat → Option Nat → Int32 → Option Nat → zz_S → zz_R
  | 0, _, _, _, _, _ => none
  | n + 1, x3, x4, x5, x6, σ =>
    zz_ck σ x6 126 fun a1 =>
    zz_cI (zF_J26_hasNext ρ a1 σ) (fun v4 σ5 =>
      if v4 = 0 then
        zz_rI x5 σ5
      else
      zz_ck σ5 x6 126 fun a6 =>
      zz_cR (zF_J26_next ρ a6 σ5) (fun v9 σ10 =>
        if ¬ (zz_ok σ10 v9 [7] = true) then none else
        zz_ck σ10 x4 3 fun a11 =>
        zz_cI (zF_X3_compare_2 ρ a11 v9 x3 σ10) (fun v14 σ15 =>
          if 0 ≤ v14 then
            zJ_X2_frogsBefore_80 ρ (zL_X2_frogsBefore_40 ρ n) x3 x4 x6 (0 : Int32) x5 σ15
          else
          zJ_X2_frogsBefore_80 ρ (zL_X2_frogsBefore_40 ρ n) x3 x4 x6 (1 : Int32) x5 σ15) zz_P) zz_P) zz_P
def zJ_X2_frogsBefore_15 (ρ : zz_C) (th : Nat) (x1 : Option Nat) (x3 : Option Nat) (t0 : Int32) (σ : zz_S) : zz_R :=
  zz_cV (zF_X1_checkElement ρ t0 σ) (fun σ4 =>
    zz_al σ4 (.inr (3, [.null])) 1 fun a5 σ6 =>
    zz_cV (zF_X3_init ρ a5 (some th) σ6) (fun σ10 =>
      (zz_gR σ10 x1 6 2).bind fun v11 =>
      zz_ck σ10 v11 140 fun a12 =>
      zz_cR (zF_J39_iterator ρ a12 σ10) (fun v15 σ16 =>
        zL_X2_frogsBefore_40 ρ ρ.2 x3 (some a5) (0 : Int32) v15 σ16) zz_P) zz_P) zz_P
def zF_X2_frogsBefore (ρ : zz_C) (th : Nat) (x1 : Option Nat) (x2 : Int32) (σ : zz_S) : zz_R :=
  zz_ck σ x1 6 fun a1 =>
  zz_cR (zF_X6_requestOf ρ a1 x2 σ) (fun v4 σ5 =>
    zz_nul v4 (
      zJ_X2_frogsBefore_15 ρ th x1 v4 (0 : Int32) σ5
    ) fun _ =>
    zJ_X2_frogsBefore_15 ρ th x1 v4 (1 : Int32) σ5) zz_P
def zF_X1_frogsBefore (ρ : zz_C) (th : Nat) (x1 : Int32) (x2 : Int32) (σ : zz_S) : zz_R :=
  (zz_gR σ (some th) 1 4).bind fun v1 =>
  (zz_gR σ (some th) 1 4).bind fun v2 =>
  zz_ck σ v2 2 fun a3 =>
  zz_cR (zF_X2_motion ρ a3 x1 σ) (fun v6 σ7 =>
    (zz_gR σ7 (some th) 1 4).bind fun v8 =>
    zz_ck σ7 v8 2 fun a9 =>
    zz_cR (zF_X2_frog ρ a9 x2 σ7) (fun v12 σ13 =>
      (zz_gI σ13 v12 5 0).bind fun v14 =>
      zz_ck σ13 v1 2 fun a15 =>
      zz_cI (zF_X2_frogsBefore ρ a15 v6 v14 σ13) (fun v18 σ19 =>
        zz_rI v18 σ19) zz_P) zz_P) zz_P
def zJ_X0_frogsBefore_13 (ρ : zz_C) (t0 : Option Nat) (σ : zz_S) : zz_R :=
  zz_rI (1 : Int32) σ
def zJ_X0_frogsBefore_17 (ρ : zz_C) (t0 : Option Nat) (σ : zz_S) : zz_R :=
  zz_rI (2 : Int32) σ
def zF_X0_frogsBefore (ρ : zz_C) (x0 : Option Nat) (x1 : Int32) (x2 : Int32) (x3 : Option Nat) (σ : zz_S) : zz_R :=
  zz_ck σ x0 1 fun a1 =>
  zz_cI (zF_X1_frogsBefore ρ a1 x1 x2 σ) (fun v4 σ5 =>
    (zz_sJ σ5 x3 3 (0 : Int32) (v4.toInt64)).bind fun σ6 =>
    zz_rI (0 : Int32) σ6)
    (fun q2 σ3 =>
      if q2.1 = 122 then
        zJ_X0_frogsBefore_13 ρ (some q2.2) σ3
      else
      if q2.1 = 119 then
        zJ_X0_frogsBefore_17 ρ (some q2.2) σ3
      else
      none)
def zJ_X4_frogsBefore_32 (ρ : zz_C) (th : Nat) (x1 : Int32) (x3 : Int32) (t0 : Int32) (t1 : Option Nat) (σ : zz_S) : zz_R :=
  (zz_pf σ t1 4 20 0 (.int t0)).bind fun σ1 =>
  (zz_gI σ1 (some th) 4 0).bind fun v2 =>
  if v2 = 0 then
    zz_ck σ1 (some th) 4 fun a3 =>
    zz_cI (zF_X4_ahead ρ a3 x1 x3 σ1) (fun v6 σ7 =>
      zz_rI v6 σ7) zz_P
  else
  zz_rI (0 : Int32) σ1
def zF_X4_frogsBefore (ρ : zz_C) (th : Nat) (x1 : Int32) (x2 : Int32) (σ : zz_S) : zz_R :=
  zz_ck σ (some th) 4 fun a1 =>
  zz_cI (zF_X4_areThere ρ a1 x1 x2 σ) (fun v4 σ5 =>
    if v4 = 0 then
      zz_ck σ5 (some th) 4 fun a11 =>
      zz_cI (zF_X4_fail ρ a11 (1 : Int32) σ5) (fun v14 σ15 =>
        zz_rI v14 σ15) zz_P
    else
    zz_ck σ5 (some th) 4 fun a6 =>
    zz_cI (zF_X4_place ρ a6 x1 x2 σ5) (fun v9 σ10 =>
      if 0 ≤ v9 then
        zJ_X4_frogsBefore_32 ρ th x1 v9 (0 : Int32) (some th) σ10
      else
      zJ_X4_frogsBefore_32 ρ th x1 v9 (2 : Int32) (some th) σ10) zz_P) zz_P
def zF_X1_speeches (ρ : zz_C) (th : Nat) (x1 : Int32) (σ : zz_S) : zz_R :=
  (zz_gR σ (some th) 1 4).bind fun v1 =>
  zz_ck σ v1 2 fun a2 =>
  zz_cR (zF_X2_frog ρ a2 x1 σ) (fun v5 σ6 =>
    (zz_gI σ6 v5 5 4).bind fun v7 =>
    zz_rI v7 σ6) zz_P
def zJ_X0_speeches_12 (ρ : zz_C) (t0 : Option Nat) (σ : zz_S) : zz_R :=
  zz_rI (1 : Int32) σ
def zF_X0_speeches (ρ : zz_C) (x0 : Option Nat) (x1 : Int32) (x2 : Option Nat) (σ : zz_S) : zz_R :=
  zz_ck σ x0 1 fun a1 =>
  zz_cI (zF_X1_speeches ρ a1 x1 σ) (fun v4 σ5 =>
    (zz_sJ σ5 x2 3 (0 : Int32) (v4.toInt64)).bind fun σ6 =>
    zz_rI (0 : Int32) σ6)
    (fun q2 σ3 =>
      if q2.1 = 122 then
        zJ_X0_speeches_12 ρ (some q2.2) σ3
      else
      none)
def zF_X4_speeches (ρ : zz_C) (th : Nat) (x1 : Int32) (σ : zz_S) : zz_R :=
  zz_ck σ (some th) 4 fun a1 =>
  zz_cI (zF_X4_tellsFrog ρ a1 x1 (41 : Int32) σ) (fun v4 σ5 =>
    zz_rI v4 σ5) zz_P
def zF_X1_speechesOn (ρ : zz_C) (th : Nat) (x1 : Int32) (σ : zz_S) : zz_R :=
  (zz_gR σ (some th) 1 4).bind fun v1 =>
  zz_ck σ v1 2 fun a2 =>
  zz_cR (zF_X2_motion ρ a2 x1 σ) (fun v5 σ6 =>
    (zz_gI σ6 v5 6 6).bind fun v7 =>
    zz_rI v7 σ6) zz_P
def zJ_X0_speechesOn_12 (ρ : zz_C) (t0 : Option Nat) (σ : zz_S) : zz_R :=
  zz_rI (1 : Int32) σ
def zF_X0_speechesOn (ρ : zz_C) (x0 : Option Nat) (x1 : Int32) (x2 : Option Nat) (σ : zz_S) : zz_R :=
  zz_ck σ x0 1 fun a1 =>
  zz_cI (zF_X1_speechesOn ρ a1 x1 σ) (fun v4 σ5 =>
    (zz_sJ σ5 x2 3 (0 : Int32) (v4.toInt64)).bind fun σ6 =>
    zz_rI (0 : Int32) σ6)
    (fun q2 σ3 =>
      if q2.1 = 122 then
        zJ_X0_speechesOn_12 ρ (some q2.2) σ3
      else
      none)
def zF_X4_speechesOn (ρ : zz_C) (th : Nat) (x1 : Int32) (σ : zz_S) : zz_R :=
  zz_ck σ (some th) 4 fun a1 =>
  zz_cI (zF_X4_tellsMotion ρ a1 x1 (6 : Int32) σ) (fun v4 σ5 =>
    zz_rI v4 σ5) zz_P
def zL_X2_frogAtRank_8 (ρ : zz_C) : Nat → Nat → Int32 → Option Nat → zz_S → zz_R
  | 0, _, _, _, _ => none
  | n + 1, th, x1, x2, σ =>
    zz_ck σ x2 124 fun a1 =>
    zz_cI (zF_J24_hasNext ρ a1 σ) (fun v4 σ5 =>
      if v4 = 0 then
        zz_al σ5 (.inr (119, [])) 6 fun a6 σ7 =>
        zz_th σ7 (some a6) zz_P
      else
      zz_ck σ5 x2 124 fun a10 =>
      zz_cR (zF_J24_next ρ a10 σ5) (fun v13 σ14 =>
        if ¬ (zz_ok σ14 v13 [5] = true) then none else
        zz_al σ14 (.inr (215, [va_rf v13])) 1 fun a15 σ16 =>
        zz_ck σ16 (some th) 2 fun a17 =>
        zz_cI (zF_X2_count ρ a17 (some a15) σ16) (fun v20 σ21 =>
          if v20 = x1 then
            (zz_gI σ21 v13 5 0).bind fun v22 =>
            zz_rI v22 σ21
          else
          zL_X2_frogAtRank_8 ρ n th x1 x2 σ21) zz_P) zz_P) zz_P
def zF_X2_frogAtRank (ρ : zz_C) (th : Nat) (x1 : Int32) (σ : zz_S) : zz_R :=
  (zz_gR σ (some th) 2 0).bind fun v1 =>
  zz_ck σ v1 102 fun a2 =>
  zz_cR (zF_J2_iterator ρ a2 σ) (fun v5 σ6 =>
    zL_X2_frogAtRank_8 ρ ρ.2 th x1 v5 σ6) zz_P
def zF_X1_frogAtRank (ρ : zz_C) (th : Nat) (x1 : Int32) (σ : zz_S) : zz_R :=
  (zz_gR σ (some th) 1 4).bind fun v1 =>
  zz_ck σ v1 2 fun a2 =>
  zz_cI (zF_X2_frogAtRank ρ a2 x1 σ) (fun v5 σ6 =>
    zz_rI v5 σ6) zz_P
def zJ_X0_frogAtRank_12 (ρ : zz_C) (t0 : Option Nat) (σ : zz_S) : zz_R :=
  zz_rI (1 : Int32) σ
def zF_X0_frogAtRank (ρ : zz_C) (x0 : Option Nat) (x1 : Int32) (x2 : Option Nat) (σ : zz_S) : zz_R :=
  zz_ck σ x0 1 fun a1 =>
  zz_cI (zF_X1_frogAtRank ρ a1 x1 σ) (fun v4 σ5 =>
    (zz_sJ σ5 x2 3 (0 : Int32) (v4.toInt64)).bind fun σ6 =>
    zz_rI (0 : Int32) σ6)
    (fun q2 σ3 =>
      if q2.1 = 119 then
        zJ_X0_frogAtRank_12 ρ (some q2.2) σ3
      else
      none)
def zJ_X4_frogAtRank_109 (ρ : zz_C) (K7 : Nat → Int32 → Int32 → zz_S → zz_R) (K22 : Nat → Int32 → Int32 → Int32 → Int32 → zz_S → zz_R) (th : Nat) (x1 : Int32) (x2 : Int32) (x4 : Int32) (t0 : Int32) (t1 : Int32) (σ : zz_S) : zz_R :=
  K22 th x1 x2 (t1 + t0) (x4 + (1 : Int32)) σ
def zJ_X4_frogAtRank_104 (ρ : zz_C) (K7 : Nat → Int32 → Int32 → zz_S → zz_R) (K22 : Nat → Int32 → Int32 → Int32 → Int32 → zz_S → zz_R) (th : Nat) (x1 : Int32) (x2 : Int32) (x4 : Int32) (t0 : Int32) (σ : zz_S) : zz_R :=
  zJ_X4_frogAtRank_109 ρ K7 K22 th x1 x2 x4 (1 : Int32) t0 σ
def zJ_X4_frogAtRank_108 (ρ : zz_C) (K7 : Nat → Int32 → Int32 → zz_S → zz_R) (K22 : Nat → Int32 → Int32 → Int32 → Int32 → zz_S → zz_R) (th : Nat) (x1 : Int32) (x2 : Int32) (x4 : Int32) (t0 : Int32) (σ : zz_S) : zz_R :=
  zJ_X4_frogAtRank_109 ρ K7 K22 th x1 x2 x4 (0 : Int32) t0 σ
def zJ_X4_frogAtRank_85 (ρ : zz_C) (K7 : Nat → Int32 → Int32 → zz_S → zz_R) (K22 : Nat → Int32 → Int32 → Int32 → Int32 → zz_S → zz_R) (th : Nat) (x1 : Int32) (x2 : Int32) (x3 : Int32) (x4 : Int32) (t0 : Int32) (σ : zz_S) : zz_R :=
  if 0 < t0 then
    zJ_X4_frogAtRank_104 ρ K7 K22 th x1 x2 x4 x3 σ
  else
  if t0 = 0 then
    if x2 ≤ x4 then
      zJ_X4_frogAtRank_108 ρ K7 K22 th x1 x2 x4 x3 σ
    else
    zJ_X4_frogAtRank_104 ρ K7 K22 th x1 x2 x4 x3 σ
  else
  zJ_X4_frogAtRank_108 ρ K7 K22 th x1 x2 x4 x3 σ
def zL_X4_frogAtRank_22 (ρ : zz_C) (K7 : Nat → Int32 → Int32 → zz_S → zz_R) : Nat → Nat → Int32 → Int32 → Int32 → Int32 → zz_S → zz_R
  | 0, _, _, _, _, _, _ => none
  | n + 1, th, x1, x2, x3, x4, σ =>
    (zz_gR σ (some th) 4 5).bind fun v1 =>
    (zz_aI σ v1 0 (0 : Int32)).bind fun v2 =>
    if v2 ≤ x4 then
      if x3 = x1 then
        zz_rI x2 σ
      else
      K7 th x1 (x2 + (1 : Int32)) σ
    else
    (zz_gR σ (some th) 4 5).bind fun v3 =>
    (zz_aI σ v3 0 ((41 : Int32) + x4)).bind fun v4 =>
    (zz_gR σ (some th) 4 5).bind fun v5 =>
    (zz_aI σ v5 0 ((41 : Int32) + x2)).bind fun v6 =>
    if (v4 - v6) = 0 then
      (zz_gR σ (some th) 4 5).bind fun v7 =>
      (zz_aI σ v7 0 ((17 : Int32) + x4)).bind fun v8 =>
      (zz_gR σ (some th) 4 5).bind fun v9 =>
      (zz_aI σ v9 0 ((17 : Int32) + x2)).bind fun v10 =>
      zJ_X4_frogAtRank_85 ρ K7 (zL_X4_frogAtRank_22 ρ K7 n) th x1 x2 x3 x4 (v8 - v10) σ
    else
    zJ_X4_frogAtRank_85 ρ K7 (zL_X4_frogAtRank_22 ρ K7 n) th x1 x2 x3 x4 (v4 - v6) σ
def zL_X4_frogAtRank_7 (ρ : zz_C) : Nat → Nat → Int32 → Int32 → zz_S → zz_R
  | 0, _, _, _, _ => none
  | n + 1, th, x1, x2, σ =>
    (zz_gR σ (some th) 4 5).bind fun v1 =>
    (zz_aI σ v1 0 (0 : Int32)).bind fun v2 =>
    if v2 ≤ x2 then
      zz_ck σ (some th) 4 fun a3 =>
      zz_cI (zF_X4_fail ρ a3 (1 : Int32) σ) (fun v6 σ7 =>
        zz_rI v6 σ7) zz_P
    else
    zL_X4_frogAtRank_22 ρ (zL_X4_frogAtRank_7 ρ n) ρ.2 th x1 x2 (0 : Int32) (0 : Int32) σ
def zF_X4_frogAtRank (ρ : zz_C) (th : Nat) (x1 : Int32) (σ : zz_S) : zz_R :=
  (zz_pf σ (some th) 4 20 0 (.int (0 : Int32))).bind fun σ1 =>
  zL_X4_frogAtRank_7 ρ ρ.2 th x1 (0 : Int32) σ1
def zF_X1_supportClosure (ρ : zz_C) (th : Nat) (x1 : Int32) (x2 : Int32) (σ : zz_S) : zz_R :=
  zz_al σ (.inr (216, [.int x1, .int x2])) 2 fun a1 σ2 =>
  zz_ck σ2 (some th) 1 fun a3 =>
  zz_cI (zF_X1_change ρ a3 (some a1) σ2) (fun v6 σ7 =>
    if v6 = (1 : Int32) then
      zz_rN .boolean (1 : Int32) σ7
    else
    zz_rN .boolean (0 : Int32) σ7) zz_P
def zJ_X0_supportClosure_24 (ρ : zz_C) (t0 : Option Nat) (σ : zz_S) : zz_R :=
  zz_rI (2 : Int32) σ
def zJ_X0_supportClosure_28 (ρ : zz_C) (t0 : Option Nat) (σ : zz_S) : zz_R :=
  zz_rI (3 : Int32) σ
def zJ_X0_supportClosure_20 (ρ : zz_C) (t0 : Option Nat) (σ : zz_S) : zz_R :=
  zz_rI (1 : Int32) σ
def zJ_X0_supportClosure_32 (ρ : zz_C) (t0 : Option Nat) (σ : zz_S) : zz_R :=
  zz_rI (4 : Int32) σ
def zF_X0_supportClosure (ρ : zz_C) (x0 : Option Nat) (x1 : Int32) (x2 : Int32) (x3 : Option Nat) (σ : zz_S) : zz_R :=
  zz_ck σ x0 1 fun a1 =>
  zz_cI (zF_X1_supportClosure ρ a1 x1 x2 σ) (fun v4 σ5 =>
    if v4 = 0 then
      (zz_sJ σ5 x3 3 (0 : Int32) (0 : Int64)).bind fun σ6 =>
      zz_rI (0 : Int32) σ6
    else
    (zz_sJ σ5 x3 3 (0 : Int32) (1 : Int64)).bind fun σ7 =>
    zz_rI (0 : Int32) σ7)
    (fun q2 σ3 =>
      if q2.1 = 106 then
        zJ_X0_supportClosure_24 ρ (some q2.2) σ3
      else
      if q2.1 = 138 then
        zJ_X0_supportClosure_28 ρ (some q2.2) σ3
      else
      if q2.1 = 122 then
        zJ_X0_supportClosure_20 ρ (some q2.2) σ3
      else
      if q2.1 = 143 then
        zJ_X0_supportClosure_32 ρ (some q2.2) σ3
      else
      if q2.1 = 119 then
        zz_P q2 σ3
      else
      none)
def zJ_X4_backing_46 (ρ : zz_C) (K4 : Nat → Int32 → Int32 → Int32 → zz_S → zz_R) (th : Nat) (x1 : Int32) (x3 : Int32) (t0 : Int32) (t1 : Int32) (σ : zz_S) : zz_R :=
  K4 th x1 (t1 + t0) (x3 + (1 : Int32)) σ
def zL_X4_backing_4 (ρ : zz_C) : Nat → Nat → Int32 → Int32 → Int32 → zz_S → zz_R
  | 0, _, _, _, _, _ => none
  | n + 1, th, x1, x2, x3, σ =>
    (zz_gR σ (some th) 4 5).bind fun v1 =>
    (zz_aI σ v1 0 (0 : Int32)).bind fun v2 =>
    if v2 ≤ x3 then
      zz_rI x2 σ
    else
    (zz_gR σ (some th) 4 5).bind fun v3 =>
    zz_cI (zF_X4_of ρ x1 (4 : Int32) σ) (fun v6 σ7 =>
      (zz_aI σ7 v3 0 v6).bind fun v8 =>
      if ((v8 >>> (x3 &&& 31)) &&& (1 : Int32)) = (1 : Int32) then
        (zz_gR σ7 (some th) 4 5).bind fun v9 =>
        (zz_aI σ7 v9 0 ((17 : Int32) + x3)).bind fun v10 =>
        zJ_X4_backing_46 ρ (zL_X4_backing_4 ρ n) th x1 x3 v10 x2 σ7
      else
      zJ_X4_backing_46 ρ (zL_X4_backing_4 ρ n) th x1 x3 (0 : Int32) x2 σ7) zz_P
def zF_X4_backing (ρ : zz_C) (th : Nat) (x1 : Int32) (σ : zz_S) : zz_R :=
  zL_X4_backing_4 ρ ρ.2 th x1 (0 : Int32) (0 : Int32) σ
def zJ_X4_entitled_37 (ρ : zz_C) (K4 : Nat → Int32 → Int32 → Int32 → zz_S → zz_R) (th : Nat) (x1 : Int32) (x3 : Int32) (t0 : Int32) (t1 : Int32) (σ : zz_S) : zz_R :=
  K4 th x1 (t1 + t0) (x3 + (1 : Int32)) σ
def zL_X4_entitled_4 (ρ : zz_C) : Nat → Nat → Int32 → Int32 → Int32 → zz_S → zz_R
  | 0, _, _, _, _, _ => none
  | n + 1, th, x1, x2, x3, σ =>
    (zz_gR σ (some th) 4 5).bind fun v1 =>
    (zz_aI σ v1 0 (0 : Int32)).bind fun v2 =>
    if v2 ≤ x3 then
      zz_rI x2 σ
    else
    zz_ck σ (some th) 4 fun a3 =>
    zz_cI (zF_X4_isFor ρ a3 x1 x3 σ) (fun v6 σ7 =>
      if v6 = 0 then
        zJ_X4_entitled_37 ρ (zL_X4_entitled_4 ρ n) th x1 x3 (0 : Int32) x2 σ7
      else
      (zz_gR σ7 (some th) 4 5).bind fun v8 =>
      (zz_aI σ7 v8 0 ((17 : Int32) + x3)).bind fun v9 =>
      zJ_X4_entitled_37 ρ (zL_X4_entitled_4 ρ n) th x1 x3 v9 x2 σ7) zz_P
def zF_X4_entitled (ρ : zz_C) (th : Nat) (x1 : Int32) (σ : zz_S) : zz_R :=
  zL_X4_entitled_4 ρ ρ.2 th x1 (0 : Int32) (0 : Int32) σ
def zF_X4_backs (ρ : zz_C) (th : Nat) (x1 : Int32) (x2 : Int32) (σ : zz_S) : zz_R :=
  zz_ck σ (some th) 4 fun a1 =>
  zz_cI (zF_X4_areThere ρ a1 x1 x2 σ) (fun v4 σ5 =>
    if v4 = 0 then
      zz_ck σ5 (some th) 4 fun a72 =>
      zz_cI (zF_X4_fail ρ a72 (1 : Int32) σ5) (fun v75 σ76 =>
        zz_rI v75 σ76) zz_P
    else
    zz_ck σ5 (some th) 4 fun a6 =>
    zz_cI (zF_X4_isFor ρ a6 x1 x2 σ5) (fun v9 σ10 =>
      if v9 = 0 then
        zz_ck σ10 (some th) 4 fun a67 =>
        zz_cI (zF_X4_fail ρ a67 (2 : Int32) σ10) (fun v70 σ71 =>
          zz_rI v70 σ71) zz_P
      else
      zz_ck σ10 (some th) 4 fun a11 =>
      zz_cI (zF_X4_isShut ρ a11 x1 σ10) (fun v14 σ15 =>
        if v14 = 0 then
          zz_ck σ15 (some th) 4 fun a16 =>
          zz_cI (zF_X4_isOn ρ a16 x2 σ15) (fun v19 σ20 =>
            if v19 = 0 then
              zz_ck σ20 (some th) 4 fun a57 =>
              zz_cI (zF_X4_fail ρ a57 (4 : Int32) σ20) (fun v60 σ61 =>
                zz_rI v60 σ61) zz_P
            else
            (zz_gR σ20 (some th) 4 5).bind fun v21 =>
            zz_cI (zF_X4_of ρ x1 (4 : Int32) σ20) (fun v24 σ25 =>
              (zz_aI σ25 v21 0 v24).bind fun v26 =>
              (zz_sI σ25 v21 0 .int v24 (v26 ||| ((1 : Int32) <<< (x2 &&& 31)))).bind fun σ27 =>
              (zz_gR σ27 (some th) 4 5).bind fun v28 =>
              zz_cI (zF_X4_of ρ x1 (1 : Int32) σ27) (fun v31 σ32 =>
                zz_ck σ32 (some th) 4 fun a33 =>
                zz_cI (zF_X4_backing ρ a33 x1 σ32) (fun v36 σ37 =>
                  zz_ck σ37 (some th) 4 fun a38 =>
                  zz_cI (zF_X4_entitled ρ a38 x1 σ37) (fun v41 σ42 =>
                    if ((2 : Int32) * v36) ≤ v41 then
                      (zz_sI σ42 v28 0 .int v31 (0 : Int32)).bind fun σ43 =>
                      (zz_gR σ43 (some th) 4 5).bind fun v44 =>
                      zz_cI (zF_X4_of ρ x1 (1 : Int32) σ43) (fun v47 σ48 =>
                        (zz_aI σ48 v44 0 v47).bind fun v49 =>
                        zz_rI v49 σ48) zz_P
                    else
                    (zz_sI σ42 v28 0 .int v31 (1 : Int32)).bind fun σ50 =>
                    (zz_gR σ50 (some th) 4 5).bind fun v51 =>
                    zz_cI (zF_X4_of ρ x1 (1 : Int32) σ50) (fun v54 σ55 =>
                      (zz_aI σ55 v51 0 v54).bind fun v56 =>
                      zz_rI v56 σ55) zz_P) zz_P) zz_P) zz_P) zz_P) zz_P
        else
        zz_ck σ15 (some th) 4 fun a62 =>
        zz_cI (zF_X4_fail ρ a62 (3 : Int32) σ15) (fun v65 σ66 =>
          zz_rI v65 σ66) zz_P) zz_P) zz_P) zz_P
def zF_X4_supportClosure (ρ : zz_C) (th : Nat) (x1 : Int32) (x2 : Int32) (σ : zz_S) : zz_R :=
  zz_ck σ (some th) 4 fun a1 =>
  zz_cV (zF_X4_begins ρ a1 σ) (fun σ5 =>
    zz_ck σ5 (some th) 4 fun a6 =>
    zz_cI (zF_X4_backs ρ a6 x1 x2 σ5) (fun v9 σ10 =>
      zz_ck σ10 (some th) 4 fun a11 =>
      zz_cI (zF_X4_ends ρ a11 v9 σ10) (fun v14 σ15 =>
        if v14 = (1 : Int32) then
          zz_rN .boolean (1 : Int32) σ15
        else
        zz_rN .boolean (0 : Int32) σ15) zz_P) zz_P) zz_P
def zF_X1_isListClosed (ρ : zz_C) (th : Nat) (x1 : Int32) (σ : zz_S) : zz_R :=
  (zz_gR σ (some th) 1 4).bind fun v1 =>
  zz_ck σ v1 2 fun a2 =>
  zz_cR (zF_X2_motion ρ a2 x1 σ) (fun v5 σ6 =>
    (zz_gI σ6 v5 6 8).bind fun v7 =>
    zz_rN .boolean v7 σ6) zz_P
def zJ_X0_isListClosed_19 (ρ : zz_C) (t0 : Option Nat) (σ : zz_S) : zz_R :=
  zz_rI (1 : Int32) σ
def zF_X0_isListClosed (ρ : zz_C) (x0 : Option Nat) (x1 : Int32) (x2 : Option Nat) (σ : zz_S) : zz_R :=
  zz_ck σ x0 1 fun a1 =>
  zz_cI (zF_X1_isListClosed ρ a1 x1 σ) (fun v4 σ5 =>
    if v4 = 0 then
      (zz_sJ σ5 x2 3 (0 : Int32) (0 : Int64)).bind fun σ6 =>
      zz_rI (0 : Int32) σ6
    else
    (zz_sJ σ5 x2 3 (0 : Int32) (1 : Int64)).bind fun σ7 =>
    zz_rI (0 : Int32) σ7)
    (fun q2 σ3 =>
      if q2.1 = 122 then
        zJ_X0_isListClosed_19 ρ (some q2.2) σ3
      else
      none)
def zF_X4_isListClosed (ρ : zz_C) (th : Nat) (x1 : Int32) (σ : zz_S) : zz_R :=
  zz_ck σ (some th) 4 fun a1 =>
  zz_cI (zF_X4_tellsMotion ρ a1 x1 (1 : Int32) σ) (fun v4 σ5 =>
    if v4 = (1 : Int32) then
      zz_rN .boolean (1 : Int32) σ5
    else
    zz_rN .boolean (0 : Int32) σ5) zz_P
def zF_X1_closureWeight (ρ : zz_C) (th : Nat) (x1 : Int32) (σ : zz_S) : zz_R :=
  (zz_gR σ (some th) 1 4).bind fun v1 =>
  (zz_gR σ (some th) 1 4).bind fun v2 =>
  zz_ck σ v2 2 fun a3 =>
  zz_cR (zF_X2_motion ρ a3 x1 σ) (fun v6 σ7 =>
    zz_ck σ7 v1 2 fun a8 =>
    zz_cI (zF_X2_closureWeight ρ a8 v6 σ7) (fun v11 σ12 =>
      zz_rI v11 σ12) zz_P) zz_P
def zJ_X0_closureWeight_12 (ρ : zz_C) (t0 : Option Nat) (σ : zz_S) : zz_R :=
  zz_rI (1 : Int32) σ
def zF_X0_closureWeight (ρ : zz_C) (x0 : Option Nat) (x1 : Int32) (x2 : Option Nat) (σ : zz_S) : zz_R :=
  zz_ck σ x0 1 fun a1 =>
  zz_cI (zF_X1_closureWeight ρ a1 x1 σ) (fun v4 σ5 =>
    (zz_sJ σ5 x2 3 (0 : Int32) (v4.toInt64)).bind fun σ6 =>
    zz_rI (0 : Int32) σ6)
    (fun q2 σ3 =>
      if q2.1 = 122 then
        zJ_X0_closureWeight_12 ρ (some q2.2) σ3
      else
      none)
def zJ_X4_closureWeight_14 (ρ : zz_C) (th : Nat) (x1 : Int32) (t0 : Int32) (t1 : Option Nat) (σ : zz_S) : zz_R :=
  (zz_pf σ t1 4 20 0 (.int t0)).bind fun σ1 =>
  (zz_gI σ1 (some th) 4 0).bind fun v2 =>
  if v2 = 0 then
    zz_ck σ1 (some th) 4 fun a3 =>
    zz_cI (zF_X4_backing ρ a3 x1 σ1) (fun v6 σ7 =>
      zz_rI v6 σ7) zz_P
  else
  zz_rI (0 : Int32) σ1
def zF_X4_closureWeight (ρ : zz_C) (th : Nat) (x1 : Int32) (σ : zz_S) : zz_R :=
  zz_ck σ (some th) 4 fun a1 =>
  zz_cI (zF_X4_isMotion ρ a1 x1 σ) (fun v4 σ5 =>
    if v4 = 0 then
      zJ_X4_closureWeight_14 ρ th x1 (1 : Int32) (some th) σ5
    else
    zJ_X4_closureWeight_14 ρ th x1 (0 : Int32) (some th) σ5) zz_P
def zF_X1_entitledWeight (ρ : zz_C) (th : Nat) (x1 : Int32) (σ : zz_S) : zz_R :=
  (zz_gR σ (some th) 1 4).bind fun v1 =>
  (zz_gR σ (some th) 1 4).bind fun v2 =>
  zz_ck σ v2 2 fun a3 =>
  zz_cR (zF_X2_motion ρ a3 x1 σ) (fun v6 σ7 =>
    zz_ck σ7 v1 2 fun a8 =>
    zz_cI (zF_X2_entitledWeight ρ a8 v6 σ7) (fun v11 σ12 =>
      zz_rI v11 σ12) zz_P) zz_P
def zJ_X0_entitledWeight_12 (ρ : zz_C) (t0 : Option Nat) (σ : zz_S) : zz_R :=
  zz_rI (1 : Int32) σ
def zF_X0_entitledWeight (ρ : zz_C) (x0 : Option Nat) (x1 : Int32) (x2 : Option Nat) (σ : zz_S) : zz_R :=
  zz_ck σ x0 1 fun a1 =>
  zz_cI (zF_X1_entitledWeight ρ a1 x1 σ) (fun v4 σ5 =>
    (zz_sJ σ5 x2 3 (0 : Int32) (v4.toInt64)).bind fun σ6 =>
    zz_rI (0 : Int32) σ6)
    (fun q2 σ3 =>
      if q2.1 = 122 then
        zJ_X0_entitledWeight_12 ρ (some q2.2) σ3
      else
      none)
def zJ_X4_entitledWeight_14 (ρ : zz_C) (th : Nat) (x1 : Int32) (t0 : Int32) (t1 : Option Nat) (σ : zz_S) : zz_R :=
  (zz_pf σ t1 4 20 0 (.int t0)).bind fun σ1 =>
  (zz_gI σ1 (some th) 4 0).bind fun v2 =>
  if v2 = 0 then
    zz_ck σ1 (some th) 4 fun a3 =>
    zz_cI (zF_X4_entitled ρ a3 x1 σ1) (fun v6 σ7 =>
      zz_rI v6 σ7) zz_P
  else
  zz_rI (0 : Int32) σ1
def zF_X4_entitledWeight (ρ : zz_C) (th : Nat) (x1 : Int32) (σ : zz_S) : zz_R :=
  zz_ck σ (some th) 4 fun a1 =>
  zz_cI (zF_X4_isMotion ρ a1 x1 σ) (fun v4 σ5 =>
    if v4 = 0 then
      zJ_X4_entitledWeight_14 ρ th x1 (1 : Int32) (some th) σ5
    else
    zJ_X4_entitledWeight_14 ρ th x1 (0 : Int32) (some th) σ5) zz_P
def zF_X1_decide (ρ : zz_C) (th : Nat) (x1 : Int32) (σ : zz_S) : zz_R :=
  zz_al σ (.inr (220, [.int x1])) 1 fun a1 σ2 =>
  zz_ck σ2 (some th) 1 fun a3 =>
  zz_cI (zF_X1_change ρ a3 (some a1) σ2) (fun v6 σ7 =>
    if v6 = (1 : Int32) then
      zz_rN .boolean (1 : Int32) σ7
    else
    zz_rN .boolean (0 : Int32) σ7) zz_P
def zJ_X0_decide_22 (ρ : zz_C) (t0 : Option Nat) (σ : zz_S) : zz_R :=
  zz_rI (2 : Int32) σ
def zJ_X0_decide_19 (ρ : zz_C) (t0 : Option Nat) (σ : zz_S) : zz_R :=
  zz_rI (1 : Int32) σ
def zF_X0_decide (ρ : zz_C) (x0 : Option Nat) (x1 : Int32) (x2 : Option Nat) (σ : zz_S) : zz_R :=
  zz_ck σ x0 1 fun a1 =>
  zz_cI (zF_X1_decide ρ a1 x1 σ) (fun v4 σ5 =>
    if v4 = 0 then
      (zz_sJ σ5 x2 3 (0 : Int32) (0 : Int64)).bind fun σ6 =>
      zz_rI (0 : Int32) σ6
    else
    (zz_sJ σ5 x2 3 (0 : Int32) (1 : Int64)).bind fun σ7 =>
    zz_rI (0 : Int32) σ7)
    (fun q2 σ3 =>
      if q2.1 = 106 then
        zz_P q2 σ3
      else
      if q2.1 = 138 then
        zJ_X0_decide_22 ρ (some q2.2) σ3
      else
      if q2.1 = 122 then
        zJ_X0_decide_19 ρ (some q2.2) σ3
      else
      if q2.1 = 143 then
        zz_P q2 σ3
      else
      if q2.1 = 119 then
        zz_P q2 σ3
      else
      none)
def zF_X4_isDue (ρ : zz_C) (th : Nat) (x1 : Int32) (σ : zz_S) : zz_R :=
  (zz_gR σ (some th) 4 5).bind fun v1 =>
  zz_cI (zF_X4_of ρ x1 (2 : Int32) σ) (fun v4 σ5 =>
    (zz_aI σ5 v1 0 v4).bind fun v6 =>
    if v6 = 0 then
      (zz_gR σ5 (some th) 4 5).bind fun v7 =>
      zz_cI (zF_X4_of ρ x1 (1 : Int32) σ5) (fun v10 σ11 =>
        (zz_aI σ11 v7 0 v10).bind fun v12 =>
        if v12 = (1 : Int32) then
          (zz_gR σ11 (some th) 4 5).bind fun v13 =>
          zz_cI (zF_X4_of ρ x1 (5 : Int32) σ11) (fun v16 σ17 =>
            (zz_aI σ17 v13 0 v16).bind fun v18 =>
            if v18 = 0 then
              zz_rN .boolean (1 : Int32) σ17
            else
            zz_rN .boolean (0 : Int32) σ17) zz_P
        else
        zz_rN .boolean (0 : Int32) σ11) zz_P
    else
    zz_rN .boolean (0 : Int32) σ5) zz_P
def zF_X4_croaked (ρ : zz_C) (x0 : Int32) (x1 : Int32) (σ : zz_S) : zz_R :=
  zz_rI (((191 : Int32) + ((36 : Int32) * x0)) + ((3 : Int32) * x1)) σ
def zF_X4_strength (ρ : zz_C) (th : Nat) (x1 : Int32) (x2 : Int32) (σ : zz_S) : zz_R :=
  (zz_gR σ (some th) 4 5).bind fun v1 =>
  zz_cI (zF_X4_croaked ρ x1 x2 σ) (fun v4 σ5 =>
    (zz_aI σ5 v1 0 (v4 + (1 : Int32))).bind fun v6 =>
    (zz_gR σ5 (some th) 4 5).bind fun v7 =>
    (zz_gR σ5 (some th) 4 5).bind fun v8 =>
    zz_cI (zF_X4_croaked ρ x1 x2 σ5) (fun v11 σ12 =>
      (zz_aI σ12 v8 0 v11).bind fun v13 =>
      (zz_aI σ12 v7 0 ((17 : Int32) + v13)).bind fun v14 =>
      zz_rI (v6 * v14) σ12) zz_P) zz_P
def zJ_X4_sum_50 (ρ : zz_C) (K5 : Nat → Int32 → Int32 → Int32 → Int32 → zz_S → zz_R) (th : Nat) (x1 : Int32) (x2 : Int32) (x4 : Int32) (t0 : Int32) (t1 : Int32) (σ : zz_S) : zz_R :=
  K5 th x1 x2 (t1 + t0) (x4 + (1 : Int32)) σ
def zL_X4_sum_5 (ρ : zz_C) : Nat → Nat → Int32 → Int32 → Int32 → Int32 → zz_S → zz_R
  | 0, _, _, _, _, _, _ => none
  | n + 1, th, x1, x2, x3, x4, σ =>
    (zz_gR σ (some th) 4 5).bind fun v1 =>
    zz_cI (zF_X4_of ρ x1 (7 : Int32) σ) (fun v4 σ5 =>
      (zz_aI σ5 v1 0 v4).bind fun v6 =>
      if v6 ≤ x4 then
        zz_rI x3 σ5
      else
      (zz_gR σ5 (some th) 4 5).bind fun v7 =>
      zz_cI (zF_X4_croaked ρ x1 x4 σ5) (fun v10 σ11 =>
        (zz_aI σ11 v7 0 (v10 + (2 : Int32))).bind fun v12 =>
        if v12 = x2 then
          zz_ck σ11 (some th) 4 fun a13 =>
          zz_cI (zF_X4_strength ρ a13 x1 x4 σ11) (fun v16 σ17 =>
            zJ_X4_sum_50 ρ (zL_X4_sum_5 ρ n) th x1 x2 x4 v16 x3 σ17) zz_P
        else
        zJ_X4_sum_50 ρ (zL_X4_sum_5 ρ n) th x1 x2 x4 (0 : Int32) x3 σ11) zz_P) zz_P
def zF_X4_sum (ρ : zz_C) (th : Nat) (x1 : Int32) (x2 : Int32) (σ : zz_S) : zz_R :=
  zL_X4_sum_5 ρ ρ.2 th x1 x2 (0 : Int32) (0 : Int32) σ
def zF_X4_decides (ρ : zz_C) (th : Nat) (x1 : Int32) (σ : zz_S) : zz_R :=
  zz_ck σ (some th) 4 fun a1 =>
  zz_cI (zF_X4_isMotion ρ a1 x1 σ) (fun v4 σ5 =>
    if v4 = 0 then
      zz_ck σ5 (some th) 4 fun a51 =>
      zz_cI (zF_X4_fail ρ a51 (1 : Int32) σ5) (fun v54 σ55 =>
        zz_rI v54 σ55) zz_P
    else
    zz_ck σ5 (some th) 4 fun a6 =>
    zz_cI (zF_X4_isDue ρ a6 x1 σ5) (fun v9 σ10 =>
      if v9 = 0 then
        zz_ck σ10 (some th) 4 fun a46 =>
        zz_cI (zF_X4_fail ρ a46 (2 : Int32) σ10) (fun v49 σ50 =>
          zz_rI v49 σ50) zz_P
      else
      (zz_gR σ10 (some th) 4 5).bind fun v11 =>
      zz_cI (zF_X4_of ρ x1 (2 : Int32) σ10) (fun v14 σ15 =>
        (zz_sI σ15 v11 0 .int v14 (1 : Int32)).bind fun σ16 =>
        (zz_gR σ16 (some th) 4 5).bind fun v17 =>
        zz_cI (zF_X4_of ρ x1 (3 : Int32) σ16) (fun v20 σ21 =>
          zz_ck σ21 (some th) 4 fun a22 =>
          zz_cI (zF_X4_sum ρ a22 x1 (1 : Int32) σ21) (fun v25 σ26 =>
            zz_ck σ26 (some th) 4 fun a27 =>
            zz_cI (zF_X4_sum ρ a27 x1 (0 : Int32) σ26) (fun v30 σ31 =>
              if v25 ≤ v30 then
                (zz_sI σ31 v17 0 .int v20 (0 : Int32)).bind fun σ32 =>
                (zz_gR σ32 (some th) 4 5).bind fun v33 =>
                zz_cI (zF_X4_of ρ x1 (3 : Int32) σ32) (fun v36 σ37 =>
                  (zz_aI σ37 v33 0 v36).bind fun v38 =>
                  zz_rI v38 σ37) zz_P
              else
              (zz_sI σ31 v17 0 .int v20 (1 : Int32)).bind fun σ39 =>
              (zz_gR σ39 (some th) 4 5).bind fun v40 =>
              zz_cI (zF_X4_of ρ x1 (3 : Int32) σ39) (fun v43 σ44 =>
                (zz_aI σ44 v40 0 v43).bind fun v45 =>
                zz_rI v45 σ44) zz_P) zz_P) zz_P) zz_P) zz_P) zz_P) zz_P
def zF_X4_decide (ρ : zz_C) (th : Nat) (x1 : Int32) (σ : zz_S) : zz_R :=
  zz_ck σ (some th) 4 fun a1 =>
  zz_cV (zF_X4_begins ρ a1 σ) (fun σ5 =>
    zz_ck σ5 (some th) 4 fun a6 =>
    zz_cI (zF_X4_decides ρ a6 x1 σ5) (fun v9 σ10 =>
      zz_ck σ10 (some th) 4 fun a11 =>
      zz_cI (zF_X4_ends ρ a11 v9 σ10) (fun v14 σ15 =>
        if v14 = (1 : Int32) then
          zz_rN .boolean (1 : Int32) σ15
        else
        zz_rN .boolean (0 : Int32) σ15) zz_P) zz_P) zz_P
def zF_X1_isDecided (ρ : zz_C) (th : Nat) (x1 : Int32) (σ : zz_S) : zz_R :=
  (zz_gR σ (some th) 1 4).bind fun v1 =>
  zz_ck σ v1 2 fun a2 =>
  zz_cR (zF_X2_motion ρ a2 x1 σ) (fun v5 σ6 =>
    zz_ck σ6 v5 6 fun a7 =>
    zz_cI (zF_X6_isOpen ρ a7 σ6) (fun v10 σ11 =>
      if v10 = 0 then
        zz_rN .boolean (1 : Int32) σ11
      else
      zz_rN .boolean (0 : Int32) σ11) zz_P) zz_P
def zJ_X0_isDecided_19 (ρ : zz_C) (t0 : Option Nat) (σ : zz_S) : zz_R :=
  zz_rI (1 : Int32) σ
def zF_X0_isDecided (ρ : zz_C) (x0 : Option Nat) (x1 : Int32) (x2 : Option Nat) (σ : zz_S) : zz_R :=
  zz_ck σ x0 1 fun a1 =>
  zz_cI (zF_X1_isDecided ρ a1 x1 σ) (fun v4 σ5 =>
    if v4 = 0 then
      (zz_sJ σ5 x2 3 (0 : Int32) (0 : Int64)).bind fun σ6 =>
      zz_rI (0 : Int32) σ6
    else
    (zz_sJ σ5 x2 3 (0 : Int32) (1 : Int64)).bind fun σ7 =>
    zz_rI (0 : Int32) σ7)
    (fun q2 σ3 =>
      if q2.1 = 122 then
        zJ_X0_isDecided_19 ρ (some q2.2) σ3
      else
      none)
def zF_X4_isDecided (ρ : zz_C) (th : Nat) (x1 : Int32) (σ : zz_S) : zz_R :=
  zz_ck σ (some th) 4 fun a1 =>
  zz_cI (zF_X4_tellsMotion ρ a1 x1 (2 : Int32) σ) (fun v4 σ5 =>
    if v4 = (1 : Int32) then
      zz_rN .boolean (1 : Int32) σ5
    else
    zz_rN .boolean (0 : Int32) σ5) zz_P
def zF_X1_isAdopted (ρ : zz_C) (th : Nat) (x1 : Int32) (σ : zz_S) : zz_R :=
  (zz_gR σ (some th) 1 4).bind fun v1 =>
  zz_ck σ v1 2 fun a2 =>
  zz_cR (zF_X2_motion ρ a2 x1 σ) (fun v5 σ6 =>
    (zz_gI σ6 v5 6 7).bind fun v7 =>
    if v7 = (1 : Int32) then
      zz_rN .boolean (1 : Int32) σ6
    else
    zz_rN .boolean (0 : Int32) σ6) zz_P
def zJ_X0_isAdopted_19 (ρ : zz_C) (t0 : Option Nat) (σ : zz_S) : zz_R :=
  zz_rI (1 : Int32) σ
def zF_X0_isAdopted (ρ : zz_C) (x0 : Option Nat) (x1 : Int32) (x2 : Option Nat) (σ : zz_S) : zz_R :=
  zz_ck σ x0 1 fun a1 =>
  zz_cI (zF_X1_isAdopted ρ a1 x1 σ) (fun v4 σ5 =>
    if v4 = 0 then
      (zz_sJ σ5 x2 3 (0 : Int32) (0 : Int64)).bind fun σ6 =>
      zz_rI (0 : Int32) σ6
    else
    (zz_sJ σ5 x2 3 (0 : Int32) (1 : Int64)).bind fun σ7 =>
    zz_rI (0 : Int32) σ7)
    (fun q2 σ3 =>
      if q2.1 = 122 then
        zJ_X0_isAdopted_19 ρ (some q2.2) σ3
      else
      none)
def zF_X4_isAdopted (ρ : zz_C) (th : Nat) (x1 : Int32) (σ : zz_S) : zz_R :=
  zz_ck σ (some th) 4 fun a1 =>
  zz_cI (zF_X4_tellsMotion ρ a1 x1 (3 : Int32) σ) (fun v4 σ5 =>
    if v4 = (1 : Int32) then
      zz_rN .boolean (1 : Int32) σ5
    else
    zz_rN .boolean (0 : Int32) σ5) zz_P
def zF_X1_lambda_new_2 (ρ : zz_C) (x0 : Int32) (x1 : Option Nat) (x2 : Option Nat) (σ : zz_S) : zz_R :=
  zz_ck σ x2 6 fun a1 =>
  zz_cI (zF_X6_strengths ρ a1 x0 σ) (fun v4 σ5 =>
    zz_rI v4 σ5) zz_P
def zF_lam3 (ρ : zz_C) (th : Nat) (x1 : Option Nat) (x2 : Option Nat) (σ : zz_S) : zz_R :=
  (zz_gI σ (some th) 203 0).bind fun w0 =>
  zz_cI (zF_X1_lambda_new_2 ρ w0 x1 x2 σ) zz_rI zz_P
def zF_J28_init (ρ : zz_C) (th : Nat) (σ : zz_S) : zz_R :=
  zz_rV σ
def zF_J29_init (ρ : zz_C) (th : Nat) (σ : zz_S) : zz_R :=
  zz_cV (zF_J28_init ρ th σ) (fun σ4 =>
    (zz_pf σ4 (some th) 129 9 4 (.int (0 : Int32))).bind fun σ5 =>
    (zz_pf σ5 (some th) 129 9 5 (.int (0 : Int32))).bind fun σ6 =>
    (zz_pf σ6 (some th) 129 9 2 (va_rf none)).bind fun σ7 =>
    zz_rV σ7) zz_P
def zF_J0_init_at_J34 (ρ : zz_C) (th : Nat) (σ : zz_S) : zz_R :=
  zz_rV σ
def zF_J33_init (ρ : zz_C) (th : Nat) (σ : zz_S) : zz_R :=
  zz_cV (zF_J0_init_at_J34 ρ th σ) (fun σ4 =>
    zz_rV σ4) zz_P
def zF_J34_init (ρ : zz_C) (th : Nat) (x1 : Option Nat) (σ : zz_S) : zz_R :=
  zz_cV (zF_J33_init ρ th σ) (fun σ4 =>
    (zz_pf σ4 (some th) 134 1 0 (va_rf x1)).bind fun σ5 =>
    zz_rV σ5) zz_P
def zF_J29_navigableKeySet (ρ : zz_C) (th : Nat) (σ : zz_S) : zz_R :=
  (zz_gR σ (some th) 129 7).bind fun v1 =>
  zz_nul v1 (
    zz_al σ (.inr (134, [.null])) 1 fun a3 σ4 =>
    zz_cV (zF_J34_init ρ a3 (some th) σ4) (fun σ8 =>
      (zz_pf σ8 (some th) 129 9 7 (va_rf (some a3))).bind fun σ9 =>
      zz_rR (some a3) σ9) zz_P
  ) fun _ =>
  zz_rR v1 σ
def zF_J29_keySet (ρ : zz_C) (th : Nat) (σ : zz_S) : zz_R :=
  zz_ck σ (some th) 129 fun a1 =>
  zz_cR (zF_J29_navigableKeySet ρ a1 σ) (fun v4 σ5 =>
    zz_rR v4 σ5) zz_P
def zL_J29_getFirstEntry_9 (ρ : zz_C) : Nat → Option Nat → zz_S → zz_R
  | 0, _, _ => none
  | n + 1, x1, σ =>
    (zz_gR σ x1 132 2).bind fun v1 =>
    zz_nul v1 (
      zz_rR x1 σ
    ) fun _ =>
    (zz_gR σ x1 132 2).bind fun v3 =>
    zL_J29_getFirstEntry_9 ρ n v3 σ
def zF_J29_getFirstEntry (ρ : zz_C) (th : Nat) (σ : zz_S) : zz_R :=
  (zz_gR σ (some th) 129 3).bind fun v1 =>
  zz_nul v1 (
    zz_rR v1 σ
  ) fun _ =>
  zL_J29_getFirstEntry_9 ρ ρ.2 v1 σ
def zF_J35_init (ρ : zz_C) (th : Nat) (x1 : Option Nat) (x2 : Option Nat) (σ : zz_S) : zz_R :=
  (zz_pf σ (some th) 136 4 3 (va_rf x1)).bind fun σ1 =>
  (zz_gI σ1 x1 129 5).bind fun v2 =>
  (zz_pf σ1 (some th) 136 4 2 (.int v2)).bind fun σ3 =>
  (zz_pf σ3 (some th) 136 4 1 (va_rf none)).bind fun σ4 =>
  (zz_pf σ4 (some th) 136 4 0 (va_rf x2)).bind fun σ5 =>
  zz_rV σ5
def zF_J36_init (ρ : zz_C) (th : Nat) (x1 : Option Nat) (x2 : Option Nat) (σ : zz_S) : zz_R :=
  zz_cV (zF_J35_init ρ th x1 x2 σ) (fun σ4 =>
    zz_rV σ4) zz_P
def zF_J29_keyIterator (ρ : zz_C) (th : Nat) (σ : zz_S) : zz_R :=
  zz_al σ (.inr (136, [.null, .null, .int 0, .null])) 4 fun a1 σ2 =>
  zz_ck σ2 (some th) 129 fun a3 =>
  zz_cR (zF_J29_getFirstEntry ρ a3 σ2) (fun v6 σ7 =>
    zz_cV (zF_J36_init ρ a1 (some th) v6 σ7) (fun σ11 =>
      zz_rR (some a1) σ11) zz_P) zz_P
def zF_J34_iterator (ρ : zz_C) (th : Nat) (σ : zz_S) : zz_R :=
  (zz_gR σ (some th) 134 0).bind fun v1 =>
  (zz_is σ v1 [129] []).bind fun v2 =>
  if v2 = 0 then
    (zz_gR σ (some th) 134 0).bind fun v3 =>
    none
  else
  (zz_gR σ (some th) 134 0).bind fun v4 =>
  if ¬ (zz_ok σ v4 [129] = true) then none else
  zz_ck σ v4 129 fun a5 =>
  zz_cR (zF_J29_keyIterator ρ a5 σ) (fun v8 σ9 =>
    zz_rR v8 σ9) zz_P
def zF_J27_requireNonNull (ρ : zz_C) (x0 : Option Nat) (σ : zz_S) : zz_R :=
  zz_nul x0 (
    none
  ) fun _ =>
  zz_rR x0 σ
def zF_J17_compare (ρ : zz_C) (x0 : Int32) (x1 : Int32) (σ : zz_S) : zz_R :=
  if x1 ≤ x0 then
    if x0 = x1 then
      zz_rI (0 : Int32) σ
    else
    zz_rI (1 : Int32) σ
  else
  zz_rI (-1 : Int32) σ
def zF_J17_compareTo_2 (ρ : zz_C) (th : Nat) (x1 : Option Nat) (σ : zz_S) : zz_R :=
  (zz_gI σ (some th) 117 0).bind fun v1 =>
  (zz_gI σ x1 117 0).bind fun v2 =>
  zz_cI (zF_J17_compare ρ v1 v2 σ) (fun v5 σ6 =>
    zz_rI v5 σ6) zz_P
def zF_J17_compareTo (ρ : zz_C) (th : Nat) (x1 : Option Nat) (σ : zz_S) : zz_R :=
  if ¬ (zz_ok σ x1 [117] = true) then none else
  zz_ck σ (some th) 117 fun a1 =>
  zz_cI (zF_J17_compareTo_2 ρ a1 x1 σ) (fun v4 σ5 =>
    zz_rI v4 σ5) zz_P
def zL_J29_getEntry_28 (ρ : zz_C) : Nat → Option Nat → Option Nat → zz_S → zz_R
  | 0, _, _, _ => none
  | n + 1, x2, x3, σ =>
    zz_nul x3 (
      zz_rR none σ
    ) fun _ =>
    (zz_gR σ x3 132 0).bind fun v2 =>
    zz_ck σ x2 117 fun a3 =>
    zz_cI (zF_J17_compareTo ρ a3 v2 σ) (fun v6 σ7 =>
      if 0 ≤ v6 then
        if v6 ≤ 0 then
          zz_rR x3 σ7
        else
        (zz_gR σ7 x3 132 3).bind fun v8 =>
        zL_J29_getEntry_28 ρ n x2 v8 σ7
      else
      (zz_gR σ7 x3 132 2).bind fun v9 =>
      zL_J29_getEntry_28 ρ n x2 v9 σ7) zz_P
def zF_J29_getEntry (ρ : zz_C) (th : Nat) (x1 : Option Nat) (σ : zz_S) : zz_R :=
  (zz_gR σ (some th) 129 2).bind fun v1 =>
  zz_nul v1 (
    zz_cR (zF_J27_requireNonNull ρ x1 σ) (fun v5 σ6 =>
      if ¬ (zz_ok σ6 x1 [117] = true) then none else
      (zz_gR σ6 (some th) 129 3).bind fun v7 =>
      zL_J29_getEntry_28 ρ ρ.2 x1 v7 σ6) zz_P
  ) fun _ =>
  none
def zF_J29_containsKey (ρ : zz_C) (th : Nat) (x1 : Option Nat) (σ : zz_S) : zz_R :=
  zz_ck σ (some th) 129 fun a1 =>
  zz_cR (zF_J29_getEntry ρ a1 x1 σ) (fun v4 σ5 =>
    zz_nul v4 (
      zz_rN .boolean (0 : Int32) σ5
    ) fun _ =>
    zz_rN .boolean (1 : Int32) σ5) zz_P
def zF_J29_get (ρ : zz_C) (th : Nat) (x1 : Option Nat) (σ : zz_S) : zz_R :=
  zz_ck σ (some th) 129 fun a1 =>
  zz_cR (zF_J29_getEntry ρ a1 x1 σ) (fun v4 σ5 =>
    zz_nul v4 (
      zz_rR none σ5
    ) fun _ =>
    (zz_gR σ5 v4 132 1).bind fun v7 =>
    zz_rR v7 σ5) zz_P
def zF_J35_hasNext (ρ : zz_C) (th : Nat) (σ : zz_S) : zz_R :=
  (zz_gR σ (some th) 136 0).bind fun v1 =>
  zz_nul v1 (
    zz_rN .boolean (0 : Int32) σ
  ) fun _ =>
  zz_rN .boolean (1 : Int32) σ
def zL_J29_successor_42 (ρ : zz_C) : Nat → Option Nat → Option Nat → zz_S → zz_R
  | 0, _, _, _ => none
  | n + 1, x1, x2, σ =>
    zz_nul x1 (
      zz_rR x1 σ
    ) fun _ =>
    (zz_gR σ x1 132 3).bind fun v2 =>
    if x2 = v2 then
      (zz_gR σ x1 132 4).bind fun v3 =>
      zL_J29_successor_42 ρ n v3 x1 σ
    else
    zz_rR x1 σ
def zL_J29_successor_18 (ρ : zz_C) : Nat → Option Nat → zz_S → zz_R
  | 0, _, _ => none
  | n + 1, x1, σ =>
    (zz_gR σ x1 132 2).bind fun v1 =>
    zz_nul v1 (
      zz_rR x1 σ
    ) fun _ =>
    (zz_gR σ x1 132 2).bind fun v3 =>
    zL_J29_successor_18 ρ n v3 σ
def zF_J29_successor (ρ : zz_C) (x0 : Option Nat) (σ : zz_S) : zz_R :=
  zz_nul x0 (
    zz_rR none σ
  ) fun _ =>
  (zz_gR σ x0 132 3).bind fun v2 =>
  zz_nul v2 (
    (zz_gR σ x0 132 4).bind fun v4 =>
    zL_J29_successor_42 ρ ρ.2 v4 x0 σ
  ) fun _ =>
  (zz_gR σ x0 132 3).bind fun v5 =>
  zL_J29_successor_18 ρ ρ.2 v5 σ
def zF_J35_nextEntry (ρ : zz_C) (th : Nat) (σ : zz_S) : zz_R :=
  (zz_gR σ (some th) 136 0).bind fun v1 =>
  zz_nul v1 (
    none
  ) fun _ =>
  (zz_gR σ (some th) 136 3).bind fun v3 =>
  (zz_gI σ v3 129 5).bind fun v4 =>
  (zz_gI σ (some th) 136 2).bind fun v5 =>
  if v4 = v5 then
    zz_cR (zF_J29_successor ρ v1 σ) (fun v8 σ9 =>
      (zz_pf σ9 (some th) 136 4 0 (va_rf v8)).bind fun σ10 =>
      (zz_pf σ10 (some th) 136 4 1 (va_rf v1)).bind fun σ11 =>
      zz_rR v1 σ11) zz_P
  else
  none
def zF_J36_next (ρ : zz_C) (th : Nat) (σ : zz_S) : zz_R :=
  zz_ck σ (some th) 136 fun a1 =>
  zz_cR (zF_J35_nextEntry ρ a1 σ) (fun v4 σ5 =>
    (zz_gR σ5 v4 132 0).bind fun v6 =>
    zz_rR v6 σ5) zz_P
def zF_J29_compare (ρ : zz_C) (th : Nat) (x1 : Option Nat) (x2 : Option Nat) (σ : zz_S) : zz_R :=
  (zz_gR σ (some th) 129 2).bind fun v1 =>
  zz_nul v1 (
    if ¬ (zz_ok σ x1 [117] = true) then none else
    zz_ck σ x1 117 fun a9 =>
    zz_cI (zF_J17_compareTo ρ a9 x2 σ) (fun v12 σ13 =>
      zz_rI v12 σ13) zz_P
  ) fun _ =>
  (zz_gR σ (some th) 129 2).bind fun v3 =>
  zz_ck σ v3 3 fun a4 =>
  zz_cI (zF_X3_compare ρ a4 x1 x2 σ) (fun v7 σ8 =>
    zz_rI v7 σ8) zz_P
def zF_J32_init (ρ : zz_C) (th : Nat) (x1 : Option Nat) (x2 : Option Nat) (x3 : Option Nat) (σ : zz_S) : zz_R :=
  (zz_pfN σ (some th) 132 6 5 .boolean (1 : Int32)).bind fun σ1 =>
  (zz_pf σ1 (some th) 132 6 0 (va_rf x1)).bind fun σ2 =>
  (zz_pf σ2 (some th) 132 6 1 (va_rf x2)).bind fun σ3 =>
  (zz_pf σ3 (some th) 132 6 4 (va_rf x3)).bind fun σ4 =>
  zz_rV σ4
def zF_J29_addEntryToEmptyMap (ρ : zz_C) (th : Nat) (x1 : Option Nat) (x2 : Option Nat) (σ : zz_S) : zz_R :=
  zz_ck σ (some th) 129 fun a1 =>
  zz_cI (zF_J29_compare ρ a1 x1 x1 σ) (fun v4 σ5 =>
    zz_al σ5 (.inr (132, [.null, .null, .null, .null, .null, .int 0])) 6 fun a6 σ7 =>
    zz_cV (zF_J32_init ρ a6 x1 x2 none σ7) (fun σ11 =>
      (zz_pf σ11 (some th) 129 9 3 (va_rf (some a6))).bind fun σ12 =>
      (zz_pf σ12 (some th) 129 9 4 (.int (1 : Int32))).bind fun σ13 =>
      (zz_gI σ13 (some th) 129 5).bind fun v14 =>
      (zz_pf σ13 (some th) 129 9 5 (.int (v14 + (1 : Int32)))).bind fun σ15 =>
      zz_rV σ15) zz_P) zz_P
def zF_J29_parentOf (ρ : zz_C) (x0 : Option Nat) (σ : zz_S) : zz_R :=
  zz_nul x0 (
    zz_rR none σ
  ) fun _ =>
  (zz_gR σ x0 132 4).bind fun v2 =>
  zz_rR v2 σ
def zF_J29_leftOf (ρ : zz_C) (x0 : Option Nat) (σ : zz_S) : zz_R :=
  zz_nul x0 (
    zz_rR none σ
  ) fun _ =>
  (zz_gR σ x0 132 2).bind fun v2 =>
  zz_rR v2 σ
def zF_J29_colorOf (ρ : zz_C) (x0 : Option Nat) (σ : zz_S) : zz_R :=
  zz_nul x0 (
    zz_rN .boolean (1 : Int32) σ
  ) fun _ =>
  (zz_gI σ x0 132 5).bind fun v2 =>
  zz_rN .boolean v2 σ
def zJ_J29_rotateRight_32 (ρ : zz_C) (th : Nat) (x1 : Option Nat) (x2 : Option Nat) (σ : zz_S) : zz_R :=
  (zz_gR σ x1 132 4).bind fun v1 =>
  (zz_pf σ x2 132 6 4 (va_rf v1)).bind fun σ2 =>
  (zz_gR σ2 x1 132 4).bind fun v3 =>
  zz_nul v3 (
    (zz_pf σ2 (some th) 129 9 3 (va_rf x2)).bind fun σ15 =>
    (zz_pf σ15 x2 132 6 3 (va_rf x1)).bind fun σ16 =>
    (zz_pf σ16 x1 132 6 4 (va_rf x2)).bind fun σ17 =>
    zz_rV σ17
  ) fun _ =>
  (zz_gR σ2 x1 132 4).bind fun v5 =>
  (zz_gR σ2 v5 132 3).bind fun v6 =>
  if v6 = x1 then
    (zz_gR σ2 x1 132 4).bind fun v11 =>
    (zz_pf σ2 v11 132 6 3 (va_rf x2)).bind fun σ12 =>
    (zz_pf σ12 x2 132 6 3 (va_rf x1)).bind fun σ13 =>
    (zz_pf σ13 x1 132 6 4 (va_rf x2)).bind fun σ14 =>
    zz_rV σ14
  else
  (zz_gR σ2 x1 132 4).bind fun v7 =>
  (zz_pf σ2 v7 132 6 2 (va_rf x2)).bind fun σ8 =>
  (zz_pf σ8 x2 132 6 3 (va_rf x1)).bind fun σ9 =>
  (zz_pf σ9 x1 132 6 4 (va_rf x2)).bind fun σ10 =>
  zz_rV σ10
def zF_J29_rotateRight (ρ : zz_C) (th : Nat) (x1 : Option Nat) (σ : zz_S) : zz_R :=
  zz_nul x1 (
    zz_rV σ
  ) fun _ =>
  (zz_gR σ x1 132 2).bind fun v2 =>
  (zz_gR σ v2 132 3).bind fun v3 =>
  (zz_pf σ x1 132 6 2 (va_rf v3)).bind fun σ4 =>
  (zz_gR σ4 v2 132 3).bind fun v5 =>
  zz_nul v5 (
    zJ_J29_rotateRight_32 ρ th x1 v2 σ4
  ) fun _ =>
  (zz_gR σ4 v2 132 3).bind fun v7 =>
  (zz_pf σ4 v7 132 6 4 (va_rf x1)).bind fun σ8 =>
  zJ_J29_rotateRight_32 ρ th x1 v2 σ8
def zF_J29_setColor (ρ : zz_C) (x0 : Option Nat) (x1 : Int32) (σ : zz_S) : zz_R :=
  zz_nul x0 (
    zz_rV σ
  ) fun _ =>
  (zz_pfN σ x0 132 6 5 .boolean x1).bind fun σ2 =>
  zz_rV σ2
def zF_J29_rightOf (ρ : zz_C) (x0 : Option Nat) (σ : zz_S) : zz_R :=
  zz_nul x0 (
    zz_rR none σ
  ) fun _ =>
  (zz_gR σ x0 132 3).bind fun v2 =>
  zz_rR v2 σ
def zJ_J29_rotateLeft_32 (ρ : zz_C) (th : Nat) (x1 : Option Nat) (x2 : Option Nat) (σ : zz_S) : zz_R :=
  (zz_gR σ x1 132 4).bind fun v1 =>
  (zz_pf σ x2 132 6 4 (va_rf v1)).bind fun σ2 =>
  (zz_gR σ2 x1 132 4).bind fun v3 =>
  zz_nul v3 (
    (zz_pf σ2 (some th) 129 9 3 (va_rf x2)).bind fun σ15 =>
    (zz_pf σ15 x2 132 6 2 (va_rf x1)).bind fun σ16 =>
    (zz_pf σ16 x1 132 6 4 (va_rf x2)).bind fun σ17 =>
    zz_rV σ17
  ) fun _ =>
  (zz_gR σ2 x1 132 4).bind fun v5 =>
  (zz_gR σ2 v5 132 2).bind fun v6 =>
  if v6 = x1 then
    (zz_gR σ2 x1 132 4).bind fun v11 =>
    (zz_pf σ2 v11 132 6 2 (va_rf x2)).bind fun σ12 =>
    (zz_pf σ12 x2 132 6 2 (va_rf x1)).bind fun σ13 =>
    (zz_pf σ13 x1 132 6 4 (va_rf x2)).bind fun σ14 =>
    zz_rV σ14
  else
  (zz_gR σ2 x1 132 4).bind fun v7 =>
  (zz_pf σ2 v7 132 6 3 (va_rf x2)).bind fun σ8 =>
  (zz_pf σ8 x2 132 6 2 (va_rf x1)).bind fun σ9 =>
  (zz_pf σ9 x1 132 6 4 (va_rf x2)).bind fun σ10 =>
  zz_rV σ10
def zF_J29_rotateLeft (ρ : zz_C) (th : Nat) (x1 : Option Nat) (σ : zz_S) : zz_R :=
  zz_nul x1 (
    zz_rV σ
  ) fun _ =>
  (zz_gR σ x1 132 3).bind fun v2 =>
  (zz_gR σ v2 132 2).bind fun v3 =>
  (zz_pf σ x1 132 6 3 (va_rf v3)).bind fun σ4 =>
  (zz_gR σ4 v2 132 2).bind fun v5 =>
  zz_nul v5 (
    zJ_J29_rotateLeft_32 ρ th x1 v2 σ4
  ) fun _ =>
  (zz_gR σ4 v2 132 2).bind fun v7 =>
  (zz_pf σ4 v7 132 6 4 (va_rf x1)).bind fun σ8 =>
  zJ_J29_rotateLeft_32 ρ th x1 v2 σ8
def zJ_J29_fixAfterInsertion_225 (ρ : zz_C) (K5 : Nat → Option Nat → zz_S → zz_R) (th : Nat) (x1 : Option Nat) (σ : zz_S) : zz_R :=
  zz_cR (zF_J29_parentOf ρ x1 σ) (fun v3 σ4 =>
    zz_cV (zF_J29_setColor ρ v3 (1 : Int32) σ4) (fun σ8 =>
      zz_cR (zF_J29_parentOf ρ x1 σ8) (fun v11 σ12 =>
        zz_cR (zF_J29_parentOf ρ v11 σ12) (fun v15 σ16 =>
          zz_cV (zF_J29_setColor ρ v15 (0 : Int32) σ16) (fun σ20 =>
            zz_cR (zF_J29_parentOf ρ x1 σ20) (fun v23 σ24 =>
              zz_cR (zF_J29_parentOf ρ v23 σ24) (fun v27 σ28 =>
                zz_ck σ28 (some th) 129 fun a29 =>
                zz_cV (zF_J29_rotateLeft ρ a29 v27 σ28) (fun σ33 =>
                  K5 th x1 σ33) zz_P) zz_P) zz_P) zz_P) zz_P) zz_P) zz_P) zz_P
def zJ_J29_fixAfterInsertion_118 (ρ : zz_C) (K5 : Nat → Option Nat → zz_S → zz_R) (th : Nat) (x1 : Option Nat) (σ : zz_S) : zz_R :=
  zz_cR (zF_J29_parentOf ρ x1 σ) (fun v3 σ4 =>
    zz_cV (zF_J29_setColor ρ v3 (1 : Int32) σ4) (fun σ8 =>
      zz_cR (zF_J29_parentOf ρ x1 σ8) (fun v11 σ12 =>
        zz_cR (zF_J29_parentOf ρ v11 σ12) (fun v15 σ16 =>
          zz_cV (zF_J29_setColor ρ v15 (0 : Int32) σ16) (fun σ20 =>
            zz_cR (zF_J29_parentOf ρ x1 σ20) (fun v23 σ24 =>
              zz_cR (zF_J29_parentOf ρ v23 σ24) (fun v27 σ28 =>
                zz_ck σ28 (some th) 129 fun a29 =>
                zz_cV (zF_J29_rotateRight ρ a29 v27 σ28) (fun σ33 =>
                  K5 th x1 σ33) zz_P) zz_P) zz_P) zz_P) zz_P) zz_P) zz_P) zz_P
def zL_J29_fixAfterInsertion_5 (ρ : zz_C) : Nat → Nat → Option Nat → zz_S → zz_R
  | 0, _, _, _ => none
  | n + 1, th, x1, σ =>
    zz_nul x1 (
      (zz_gR σ (some th) 129 3).bind fun v2 =>
      (zz_pfN σ v2 132 6 5 .boolean (1 : Int32)).bind fun σ3 =>
      zz_rV σ3
    ) fun _ =>
    (zz_gR σ (some th) 129 3).bind fun v4 =>
    if x1 = v4 then
      (zz_gR σ (some th) 129 3).bind fun v5 =>
      (zz_pfN σ v5 132 6 5 .boolean (1 : Int32)).bind fun σ6 =>
      zz_rV σ6
    else
    (zz_gR σ x1 132 4).bind fun v7 =>
    (zz_gI σ v7 132 5).bind fun v8 =>
    if v8 = 0 then
      zz_cR (zF_J29_parentOf ρ x1 σ) (fun v13 σ14 =>
        zz_cR (zF_J29_parentOf ρ x1 σ14) (fun v17 σ18 =>
          zz_cR (zF_J29_parentOf ρ v17 σ18) (fun v21 σ22 =>
            zz_cR (zF_J29_leftOf ρ v21 σ22) (fun v25 σ26 =>
              if v13 = v25 then
                zz_cR (zF_J29_parentOf ρ x1 σ26) (fun v94 σ95 =>
                  zz_cR (zF_J29_parentOf ρ v94 σ95) (fun v98 σ99 =>
                    zz_cR (zF_J29_rightOf ρ v98 σ99) (fun v102 σ103 =>
                      zz_cI (zF_J29_colorOf ρ v102 σ103) (fun v106 σ107 =>
                        if v106 = 0 then
                          zz_cR (zF_J29_parentOf ρ x1 σ107) (fun v127 σ128 =>
                            zz_cV (zF_J29_setColor ρ v127 (1 : Int32) σ128) (fun σ132 =>
                              zz_cV (zF_J29_setColor ρ v102 (1 : Int32) σ132) (fun σ136 =>
                                zz_cR (zF_J29_parentOf ρ x1 σ136) (fun v139 σ140 =>
                                  zz_cR (zF_J29_parentOf ρ v139 σ140) (fun v143 σ144 =>
                                    zz_cV (zF_J29_setColor ρ v143 (0 : Int32) σ144) (fun σ148 =>
                                      zz_cR (zF_J29_parentOf ρ x1 σ148) (fun v151 σ152 =>
                                        zz_cR (zF_J29_parentOf ρ v151 σ152) (fun v155 σ156 =>
                                          zL_J29_fixAfterInsertion_5 ρ n th v155 σ156) zz_P) zz_P) zz_P) zz_P) zz_P) zz_P) zz_P) zz_P
                        else
                        zz_cR (zF_J29_parentOf ρ x1 σ107) (fun v110 σ111 =>
                          zz_cR (zF_J29_rightOf ρ v110 σ111) (fun v114 σ115 =>
                            if x1 = v114 then
                              zz_cR (zF_J29_parentOf ρ x1 σ115) (fun v118 σ119 =>
                                zz_ck σ119 (some th) 129 fun a120 =>
                                zz_cV (zF_J29_rotateLeft ρ a120 v118 σ119) (fun σ124 =>
                                  zJ_J29_fixAfterInsertion_118 ρ (zL_J29_fixAfterInsertion_5 ρ n) th v118 σ124) zz_P) zz_P
                            else
                            zJ_J29_fixAfterInsertion_118 ρ (zL_J29_fixAfterInsertion_5 ρ n) th x1 σ115) zz_P) zz_P) zz_P) zz_P) zz_P) zz_P
              else
              zz_cR (zF_J29_parentOf ρ x1 σ26) (fun v29 σ30 =>
                zz_cR (zF_J29_parentOf ρ v29 σ30) (fun v33 σ34 =>
                  zz_cR (zF_J29_leftOf ρ v33 σ34) (fun v37 σ38 =>
                    zz_cI (zF_J29_colorOf ρ v37 σ38) (fun v41 σ42 =>
                      if v41 = 0 then
                        zz_cR (zF_J29_parentOf ρ x1 σ42) (fun v62 σ63 =>
                          zz_cV (zF_J29_setColor ρ v62 (1 : Int32) σ63) (fun σ67 =>
                            zz_cV (zF_J29_setColor ρ v37 (1 : Int32) σ67) (fun σ71 =>
                              zz_cR (zF_J29_parentOf ρ x1 σ71) (fun v74 σ75 =>
                                zz_cR (zF_J29_parentOf ρ v74 σ75) (fun v78 σ79 =>
                                  zz_cV (zF_J29_setColor ρ v78 (0 : Int32) σ79) (fun σ83 =>
                                    zz_cR (zF_J29_parentOf ρ x1 σ83) (fun v86 σ87 =>
                                      zz_cR (zF_J29_parentOf ρ v86 σ87) (fun v90 σ91 =>
                                        zL_J29_fixAfterInsertion_5 ρ n th v90 σ91) zz_P) zz_P) zz_P) zz_P) zz_P) zz_P) zz_P) zz_P
                      else
                      zz_cR (zF_J29_parentOf ρ x1 σ42) (fun v45 σ46 =>
                        zz_cR (zF_J29_leftOf ρ v45 σ46) (fun v49 σ50 =>
                          if x1 = v49 then
                            zz_cR (zF_J29_parentOf ρ x1 σ50) (fun v53 σ54 =>
                              zz_ck σ54 (some th) 129 fun a55 =>
                              zz_cV (zF_J29_rotateRight ρ a55 v53 σ54) (fun σ59 =>
                                zJ_J29_fixAfterInsertion_225 ρ (zL_J29_fixAfterInsertion_5 ρ n) th v53 σ59) zz_P) zz_P
                          else
                          zJ_J29_fixAfterInsertion_225 ρ (zL_J29_fixAfterInsertion_5 ρ n) th x1 σ50) zz_P) zz_P) zz_P) zz_P) zz_P) zz_P) zz_P) zz_P) zz_P) zz_P
    else
    (zz_gR σ (some th) 129 3).bind fun v9 =>
    (zz_pfN σ v9 132 6 5 .boolean (1 : Int32)).bind fun σ10 =>
    zz_rV σ10
def zF_J29_fixAfterInsertion (ρ : zz_C) (th : Nat) (x1 : Option Nat) (σ : zz_S) : zz_R :=
  (zz_pfN σ x1 132 6 5 .boolean (0 : Int32)).bind fun σ1 =>
  zL_J29_fixAfterInsertion_5 ρ ρ.2 th x1 σ1
def zJ_J29_addEntry_32 (ρ : zz_C) (th : Nat) (x5 : Option Nat) (σ : zz_S) : zz_R :=
  zz_ck σ (some th) 129 fun a1 =>
  zz_cV (zF_J29_fixAfterInsertion ρ a1 x5 σ) (fun σ5 =>
    (zz_gI σ5 (some th) 129 4).bind fun v6 =>
    (zz_pf σ5 (some th) 129 9 4 (.int (v6 + (1 : Int32)))).bind fun σ7 =>
    (zz_gI σ7 (some th) 129 5).bind fun v8 =>
    (zz_pf σ7 (some th) 129 9 5 (.int (v8 + (1 : Int32)))).bind fun σ9 =>
    zz_rV σ9) zz_P
def zF_J29_addEntry (ρ : zz_C) (th : Nat) (x1 : Option Nat) (x2 : Option Nat) (x3 : Option Nat) (x4 : Int32) (σ : zz_S) : zz_R :=
  zz_al σ (.inr (132, [.null, .null, .null, .null, .null, .int 0])) 6 fun a1 σ2 =>
  zz_cV (zF_J32_init ρ a1 x1 x2 x3 σ2) (fun σ6 =>
    if x4 = 0 then
      (zz_pf σ6 x3 132 6 3 (va_rf (some a1))).bind fun σ7 =>
      zJ_J29_addEntry_32 ρ th (some a1) σ7
    else
    (zz_pf σ6 x3 132 6 2 (va_rf (some a1))).bind fun σ8 =>
    zJ_J29_addEntry_32 ρ th (some a1) σ8) zz_P
def zJ_J29_put_2_196 (ρ : zz_C) (K123 : Nat → Option Nat → Option Nat → Int32 → Option Nat → Option Nat → zz_S → zz_R) (th : Nat) (x1 : Option Nat) (x2 : Option Nat) (x3 : Int32) (x4 : Option Nat) (x5 : Int32) (x6 : Option Nat) (x8 : Option Nat) (σ : zz_S) : zz_R :=
  zz_nul x4 (
    if 0 ≤ x5 then
      zz_ck σ (some th) 129 fun a2 =>
      zz_cV (zF_J29_addEntry ρ a2 x1 x2 x6 (0 : Int32) σ) (fun σ6 =>
        zz_rR none σ6) zz_P
    else
    zz_ck σ (some th) 129 fun a7 =>
    zz_cV (zF_J29_addEntry ρ a7 x1 x2 x6 (1 : Int32) σ) (fun σ11 =>
      zz_rR none σ11) zz_P
  ) fun _ =>
  K123 th x1 x2 x3 x4 x8 σ
def zL_J29_put_2_123 (ρ : zz_C) : Nat → Nat → Option Nat → Option Nat → Int32 → Option Nat → Option Nat → zz_S → zz_R
  | 0, _, _, _, _, _, _, _ => none
  | n + 1, th, x1, x2, x3, x4, x8, σ =>
    (zz_gR σ x4 132 0).bind fun v1 =>
    zz_ck σ x8 117 fun a2 =>
    zz_cI (zF_J17_compareTo ρ a2 v1 σ) (fun v5 σ6 =>
      if 0 ≤ v5 then
        if v5 ≤ 0 then
          (zz_gR σ6 x4 132 1).bind fun v7 =>
          if x3 = 0 then
            zz_nul v7 (
              (zz_pf σ6 x4 132 6 1 (va_rf x2)).bind fun σ10 =>
              zz_rR v7 σ10
            ) fun _ =>
            zz_rR v7 σ6
          else
          (zz_pf σ6 x4 132 6 1 (va_rf x2)).bind fun σ8 =>
          zz_rR v7 σ8
        else
        (zz_gR σ6 x4 132 3).bind fun v11 =>
        zJ_J29_put_2_196 ρ (zL_J29_put_2_123 ρ n) th x1 x2 x3 v11 v5 x4 x8 σ6
      else
      (zz_gR σ6 x4 132 2).bind fun v12 =>
      zJ_J29_put_2_196 ρ (zL_J29_put_2_123 ρ n) th x1 x2 x3 v12 v5 x4 x8 σ6) zz_P
def zF_J29_put_2 (ρ : zz_C) (th : Nat) (x1 : Option Nat) (x2 : Option Nat) (x3 : Int32) (σ : zz_S) : zz_R :=
  (zz_gR σ (some th) 129 3).bind fun v1 =>
  zz_nul v1 (
    zz_ck σ (some th) 129 fun a9 =>
    zz_cV (zF_J29_addEntryToEmptyMap ρ a9 x1 x2 σ) (fun σ13 =>
      zz_rR none σ13) zz_P
  ) fun _ =>
  (zz_gR σ (some th) 129 2).bind fun v3 =>
  zz_nul v3 (
    zz_cR (zF_J27_requireNonNull ρ x1 σ) (fun v7 σ8 =>
      if ¬ (zz_ok σ8 x1 [117] = true) then none else
      zL_J29_put_2_123 ρ ρ.2 th x1 x2 x3 v1 x1 σ8) zz_P
  ) fun _ =>
  none
def zF_J29_put (ρ : zz_C) (th : Nat) (x1 : Option Nat) (x2 : Option Nat) (σ : zz_S) : zz_R :=
  zz_ck σ (some th) 129 fun a1 =>
  zz_cR (zF_J29_put_2 ρ a1 x1 x2 (1 : Int32) σ) (fun v4 σ5 =>
    zz_rR v4 σ5) zz_P
def zL_X2_strengthsByPonds_132 (ρ : zz_C) : Nat → Option Nat → Int32 → Option Nat → zz_S → zz_R
  | 0, _, _, _, _ => none
  | n + 1, x3, x4, x5, σ =>
    zz_ck σ x5 136 fun a1 =>
    zz_cI (zF_J35_hasNext ρ a1 σ) (fun v4 σ5 =>
      if v4 = 0 then
        zz_rI x4 σ5
      else
      zz_ck σ5 x5 136 fun a6 =>
      zz_cR (zF_J36_next ρ a6 σ5) (fun v9 σ10 =>
        if ¬ (zz_ok σ10 v9 [117] = true) then none else
        zz_ck σ10 v9 117 fun a11 =>
        zz_cI (zF_J17_intValue ρ a11 σ10) (fun v14 σ15 =>
          zz_cR (zF_J17_valueOf ρ v14 σ15) (fun v18 σ19 =>
            zz_ck σ19 x3 129 fun a20 =>
            zz_cR (zF_J29_get ρ a20 v18 σ19) (fun v23 σ24 =>
              if ¬ (zz_ok σ24 v23 [117] = true) then none else
              zz_ck σ24 v23 117 fun a25 =>
              zz_cI (zF_J17_intValue ρ a25 σ24) (fun v28 σ29 =>
                zL_X2_strengthsByPonds_132 ρ n x3 (x4 + v28) x5 σ29) zz_P) zz_P) zz_P) zz_P) zz_P) zz_P
def zJ_X2_strengthsByPonds_85 (ρ : zz_C) (K17 : Int32 → Option Nat → Option Nat → zz_S → zz_R) (x2 : Int32) (x3 : Option Nat) (x4 : Option Nat) (x5 : Option Nat) (t0 : Int32) (σ : zz_S) : zz_R :=
  (zz_gI σ x5 8 1).bind fun v1 =>
  zz_cR (zF_J17_valueOf ρ v1 σ) (fun v4 σ5 =>
    (zz_gI σ5 x5 8 2).bind fun v6 =>
    zz_cR (zF_J17_valueOf ρ (t0 + v6) σ5) (fun v9 σ10 =>
      zz_ck σ10 x3 129 fun a11 =>
      zz_cR (zF_J29_put ρ a11 v4 v9 σ10) (fun v14 σ15 =>
        if ¬ (zz_ok σ15 v14 [117] = true) then none else
        K17 x2 x3 x4 σ15) zz_P) zz_P) zz_P
def zL_X2_strengthsByPonds_17 (ρ : zz_C) : Nat → Int32 → Option Nat → Option Nat → zz_S → zz_R
  | 0, _, _, _, _ => none
  | n + 1, x2, x3, x4, σ =>
    zz_ck σ x4 126 fun a1 =>
    zz_cI (zF_J26_hasNext ρ a1 σ) (fun v4 σ5 =>
      if v4 = 0 then
        zz_ck σ5 x3 129 fun a6 =>
        zz_cR (zF_J29_keySet ρ a6 σ5) (fun v9 σ10 =>
          zz_ck σ10 v9 134 fun a11 =>
          zz_cR (zF_J34_iterator ρ a11 σ10) (fun v14 σ15 =>
            zL_X2_strengthsByPonds_132 ρ ρ.2 x3 (0 : Int32) v14 σ15) zz_P) zz_P
      else
      zz_ck σ5 x4 126 fun a16 =>
      zz_cR (zF_J26_next ρ a16 σ5) (fun v19 σ20 =>
        if ¬ (zz_ok σ20 v19 [8] = true) then none else
        (zz_gI σ20 v19 8 3).bind fun v21 =>
        if v21 = x2 then
          (zz_gI σ20 v19 8 1).bind fun v22 =>
          zz_cR (zF_J17_valueOf ρ v22 σ20) (fun v25 σ26 =>
            zz_ck σ26 x3 129 fun a27 =>
            zz_cI (zF_J29_containsKey ρ a27 v25 σ26) (fun v30 σ31 =>
              if v30 = 0 then
                zJ_X2_strengthsByPonds_85 ρ (zL_X2_strengthsByPonds_17 ρ n) x2 x3 x4 v19 (0 : Int32) σ31
              else
              (zz_gI σ31 v19 8 1).bind fun v32 =>
              zz_cR (zF_J17_valueOf ρ v32 σ31) (fun v35 σ36 =>
                zz_ck σ36 x3 129 fun a37 =>
                zz_cR (zF_J29_get ρ a37 v35 σ36) (fun v40 σ41 =>
                  if ¬ (zz_ok σ41 v40 [117] = true) then none else
                  zz_ck σ41 v40 117 fun a42 =>
                  zz_cI (zF_J17_intValue ρ a42 σ41) (fun v45 σ46 =>
                    zJ_X2_strengthsByPonds_85 ρ (zL_X2_strengthsByPonds_17 ρ n) x2 x3 x4 v19 v45 σ46) zz_P) zz_P) zz_P) zz_P) zz_P
        else
        zL_X2_strengthsByPonds_17 ρ n x2 x3 x4 σ20) zz_P) zz_P
def zF_X2_strengthsByPonds (ρ : zz_C) (th : Nat) (x1 : Option Nat) (x2 : Int32) (σ : zz_S) : zz_R :=
  zz_al σ (.inr (129, [.null, .null, .null, .null, .int 0, .int 0, .null, .null, .null])) 9 fun a1 σ2 =>
  zz_cV (zF_J29_init ρ a1 σ2) (fun σ6 =>
    (zz_gR σ6 x1 6 3).bind fun v7 =>
    zz_ck σ6 v7 140 fun a8 =>
    zz_cR (zF_J39_iterator ρ a8 σ6) (fun v11 σ12 =>
      zL_X2_strengthsByPonds_17 ρ ρ.2 x2 (some a1) v11 σ12) zz_P) zz_P
def zF_X1_lambda_new_3 (ρ : zz_C) (x0 : Int32) (x1 : Option Nat) (x2 : Option Nat) (σ : zz_S) : zz_R :=
  zz_ck σ x1 2 fun a1 =>
  zz_cI (zF_X2_strengthsByPonds ρ a1 x2 x0 σ) (fun v4 σ5 =>
    zz_rI v4 σ5) zz_P
def zF_lam4 (ρ : zz_C) (th : Nat) (x1 : Option Nat) (x2 : Option Nat) (σ : zz_S) : zz_R :=
  (zz_gI σ (some th) 204 0).bind fun w0 =>
  zz_cI (zF_X1_lambda_new_3 ρ w0 x1 x2 σ) zz_rI zz_P
def zF_X1_croaksFor (ρ : zz_C) (th : Nat) (x1 : Int32) (σ : zz_S) : zz_R :=
  (zz_gR σ (some th) 1 1).bind fun v1 =>
  (zz_aR σ v1 7 (0 : Int32)).bind fun v2 =>
  (zz_gR σ (some th) 1 4).bind fun v3 =>
  (zz_gR σ (some th) 1 4).bind fun v4 =>
  zz_ck σ v4 2 fun a5 =>
  zz_cR (zF_X2_motion ρ a5 x1 σ) (fun v8 σ9 =>
    zz_dp σ9 v2 fun a10 c11 =>
    if c11 = 203 then
      zz_cI (zF_lam3 ρ a10 v3 v8 σ9) (fun v14 σ15 =>
        zz_rI v14 σ15) zz_P
    else
    if c11 = 204 then
      zz_cI (zF_lam4 ρ a10 v3 v8 σ9) (fun v16 σ17 =>
        zz_rI v16 σ17) zz_P
    else
    none) zz_P
def zJ_X0_croaksFor_12 (ρ : zz_C) (t0 : Option Nat) (σ : zz_S) : zz_R :=
  zz_rI (1 : Int32) σ
def zF_X0_croaksFor (ρ : zz_C) (x0 : Option Nat) (x1 : Int32) (x2 : Option Nat) (σ : zz_S) : zz_R :=
  zz_ck σ x0 1 fun a1 =>
  zz_cI (zF_X1_croaksFor ρ a1 x1 σ) (fun v4 σ5 =>
    (zz_sJ σ5 x2 3 (0 : Int32) (v4.toInt64)).bind fun σ6 =>
    zz_rI (0 : Int32) σ6)
    (fun q2 σ3 =>
      if q2.1 = 122 then
        zJ_X0_croaksFor_12 ρ (some q2.2) σ3
      else
      none)
def zJ_X4_side_14 (ρ : zz_C) (th : Nat) (x1 : Int32) (x2 : Int32) (t0 : Int32) (t1 : Option Nat) (σ : zz_S) : zz_R :=
  (zz_pf σ t1 4 20 0 (.int t0)).bind fun σ1 =>
  (zz_gI σ1 (some th) 4 0).bind fun v2 =>
  if v2 = 0 then
    zz_ck σ1 (some th) 4 fun a3 =>
    zz_cI (zF_X4_sum ρ a3 x1 x2 σ1) (fun v6 σ7 =>
      zz_rI v6 σ7) zz_P
  else
  zz_rI (0 : Int32) σ1
def zF_X4_side (ρ : zz_C) (th : Nat) (x1 : Int32) (x2 : Int32) (σ : zz_S) : zz_R :=
  zz_ck σ (some th) 4 fun a1 =>
  zz_cI (zF_X4_isMotion ρ a1 x1 σ) (fun v4 σ5 =>
    if v4 = 0 then
      zJ_X4_side_14 ρ th x1 x2 (1 : Int32) (some th) σ5
    else
    zJ_X4_side_14 ρ th x1 x2 (0 : Int32) (some th) σ5) zz_P
def zF_X4_croaksFor (ρ : zz_C) (th : Nat) (x1 : Int32) (σ : zz_S) : zz_R :=
  zz_ck σ (some th) 4 fun a1 =>
  zz_cI (zF_X4_side ρ a1 x1 (1 : Int32) σ) (fun v4 σ5 =>
    zz_rI v4 σ5) zz_P
def zF_X1_croaksForByPonds (ρ : zz_C) (th : Nat) (x1 : Int32) (σ : zz_S) : zz_R :=
  (zz_gR σ (some th) 1 1).bind fun v1 =>
  (zz_aR σ v1 7 (1 : Int32)).bind fun v2 =>
  (zz_gR σ (some th) 1 4).bind fun v3 =>
  (zz_gR σ (some th) 1 4).bind fun v4 =>
  zz_ck σ v4 2 fun a5 =>
  zz_cR (zF_X2_motion ρ a5 x1 σ) (fun v8 σ9 =>
    zz_dp σ9 v2 fun a10 c11 =>
    if c11 = 203 then
      zz_cI (zF_lam3 ρ a10 v3 v8 σ9) (fun v14 σ15 =>
        zz_rI v14 σ15) zz_P
    else
    if c11 = 204 then
      zz_cI (zF_lam4 ρ a10 v3 v8 σ9) (fun v16 σ17 =>
        zz_rI v16 σ17) zz_P
    else
    none) zz_P
def zJ_X0_croaksForByPonds_12 (ρ : zz_C) (t0 : Option Nat) (σ : zz_S) : zz_R :=
  zz_rI (1 : Int32) σ
def zF_X0_croaksForByPonds (ρ : zz_C) (x0 : Option Nat) (x1 : Int32) (x2 : Option Nat) (σ : zz_S) : zz_R :=
  zz_ck σ x0 1 fun a1 =>
  zz_cI (zF_X1_croaksForByPonds ρ a1 x1 σ) (fun v4 σ5 =>
    (zz_sJ σ5 x2 3 (0 : Int32) (v4.toInt64)).bind fun σ6 =>
    zz_rI (0 : Int32) σ6)
    (fun q2 σ3 =>
      if q2.1 = 122 then
        zJ_X0_croaksForByPonds_12 ρ (some q2.2) σ3
      else
      none)
def zF_X4_croaksForByPonds (ρ : zz_C) (th : Nat) (x1 : Int32) (σ : zz_S) : zz_R :=
  zz_ck σ (some th) 4 fun a1 =>
  zz_cI (zF_X4_side ρ a1 x1 (1 : Int32) σ) (fun v4 σ5 =>
    zz_rI v4 σ5) zz_P
def zF_X1_croaksAgainst (ρ : zz_C) (th : Nat) (x1 : Int32) (σ : zz_S) : zz_R :=
  (zz_gR σ (some th) 1 4).bind fun v1 =>
  zz_ck σ v1 2 fun a2 =>
  zz_cR (zF_X2_motion ρ a2 x1 σ) (fun v5 σ6 =>
    zz_ck σ6 v5 6 fun a7 =>
    zz_cI (zF_X6_strengths ρ a7 (0 : Int32) σ6) (fun v10 σ11 =>
      zz_rI v10 σ11) zz_P) zz_P
def zJ_X0_croaksAgainst_12 (ρ : zz_C) (t0 : Option Nat) (σ : zz_S) : zz_R :=
  zz_rI (1 : Int32) σ
def zF_X0_croaksAgainst (ρ : zz_C) (x0 : Option Nat) (x1 : Int32) (x2 : Option Nat) (σ : zz_S) : zz_R :=
  zz_ck σ x0 1 fun a1 =>
  zz_cI (zF_X1_croaksAgainst ρ a1 x1 σ) (fun v4 σ5 =>
    (zz_sJ σ5 x2 3 (0 : Int32) (v4.toInt64)).bind fun σ6 =>
    zz_rI (0 : Int32) σ6)
    (fun q2 σ3 =>
      if q2.1 = 122 then
        zJ_X0_croaksAgainst_12 ρ (some q2.2) σ3
      else
      none)
def zF_X4_croaksAgainst (ρ : zz_C) (th : Nat) (x1 : Int32) (σ : zz_S) : zz_R :=
  zz_ck σ (some th) 4 fun a1 =>
  zz_cI (zF_X4_side ρ a1 x1 (0 : Int32) σ) (fun v4 σ5 =>
    zz_rI v4 σ5) zz_P
def zJ_X6_strongestFrog_72 (ρ : zz_C) (K37 : Option Nat → Option Nat → zz_S → zz_R) (x2 : Option Nat) (t0 : Option Nat) (σ : zz_S) : zz_R :=
  K37 t0 x2 σ
def zL_X6_strongestFrog_37 (ρ : zz_C) : Nat → Option Nat → Option Nat → zz_S → zz_R
  | 0, _, _, _ => none
  | n + 1, x1, x2, σ =>
    zz_ck σ x2 126 fun a1 =>
    zz_cI (zF_J26_hasNext ρ a1 σ) (fun v4 σ5 =>
      if v4 = 0 then
        (zz_gI σ5 x1 8 0).bind fun v6 =>
        zz_rI v6 σ5
      else
      zz_ck σ5 x2 126 fun a7 =>
      zz_cR (zF_J26_next ρ a7 σ5) (fun v10 σ11 =>
        if ¬ (zz_ok σ11 v10 [8] = true) then none else
        (zz_gI σ11 v10 8 2).bind fun v12 =>
        (zz_gI σ11 x1 8 2).bind fun v13 =>
        if v12 ≤ v13 then
          zJ_X6_strongestFrog_72 ρ (zL_X6_strongestFrog_37 ρ n) x2 x1 σ11
        else
        zJ_X6_strongestFrog_72 ρ (zL_X6_strongestFrog_37 ρ n) x2 v10 σ11) zz_P) zz_P
def zJ_X6_strongestFrog_15 (ρ : zz_C) (th : Nat) (t0 : Int32) (σ : zz_S) : zz_R :=
  zz_cV (zF_X1_checkElement ρ t0 σ) (fun σ4 =>
    (zz_gR σ4 (some th) 6 3).bind fun v5 =>
    zz_ck σ4 v5 140 fun a6 =>
    zz_cR (zF_J40_getFirst ρ a6 σ4) (fun v9 σ10 =>
      if ¬ (zz_ok σ10 v9 [8] = true) then none else
      (zz_gR σ10 (some th) 6 3).bind fun v11 =>
      zz_ck σ10 v11 140 fun a12 =>
      zz_cR (zF_J39_iterator ρ a12 σ10) (fun v15 σ16 =>
        zL_X6_strongestFrog_37 ρ ρ.2 v9 v15 σ16) zz_P) zz_P) zz_P
def zF_X6_strongestFrog (ρ : zz_C) (th : Nat) (σ : zz_S) : zz_R :=
  (zz_gR σ (some th) 6 3).bind fun v1 =>
  zz_ck σ v1 140 fun a2 =>
  zz_cI (zF_J0_isEmpty_at_J40 ρ a2 σ) (fun v5 σ6 =>
    if v5 = 0 then
      zJ_X6_strongestFrog_15 ρ th (1 : Int32) σ6
    else
    zJ_X6_strongestFrog_15 ρ th (0 : Int32) σ6) zz_P
def zF_X1_strongestFrog (ρ : zz_C) (th : Nat) (x1 : Int32) (σ : zz_S) : zz_R :=
  (zz_gR σ (some th) 1 4).bind fun v1 =>
  zz_ck σ v1 2 fun a2 =>
  zz_cR (zF_X2_motion ρ a2 x1 σ) (fun v5 σ6 =>
    zz_ck σ6 v5 6 fun a7 =>
    zz_cI (zF_X6_strongestFrog ρ a7 σ6) (fun v10 σ11 =>
      zz_rI v10 σ11) zz_P) zz_P
def zJ_X0_strongestFrog_12 (ρ : zz_C) (t0 : Option Nat) (σ : zz_S) : zz_R :=
  zz_rI (1 : Int32) σ
def zJ_X0_strongestFrog_15 (ρ : zz_C) (t0 : Option Nat) (σ : zz_S) : zz_R :=
  zz_rI (2 : Int32) σ
def zF_X0_strongestFrog (ρ : zz_C) (x0 : Option Nat) (x1 : Int32) (x2 : Option Nat) (σ : zz_S) : zz_R :=
  zz_ck σ x0 1 fun a1 =>
  zz_cI (zF_X1_strongestFrog ρ a1 x1 σ) (fun v4 σ5 =>
    (zz_sJ σ5 x2 3 (0 : Int32) (v4.toInt64)).bind fun σ6 =>
    zz_rI (0 : Int32) σ6)
    (fun q2 σ3 =>
      if q2.1 = 122 then
        zJ_X0_strongestFrog_12 ρ (some q2.2) σ3
      else
      if q2.1 = 119 then
        zJ_X0_strongestFrog_15 ρ (some q2.2) σ3
      else
      none)
def zJ_X4_strongestFrog_80 (ρ : zz_C) (K48 : Nat → Int32 → Int32 → Int32 → zz_S → zz_R) (th : Nat) (x1 : Int32) (x2 : Int32) (x3 : Int32) (σ : zz_S) : zz_R :=
  K48 th x1 x2 (x3 + (1 : Int32)) σ
def zL_X4_strongestFrog_48 (ρ : zz_C) : Nat → Nat → Int32 → Int32 → Int32 → zz_S → zz_R
  | 0, _, _, _, _, _ => none
  | n + 1, th, x1, x2, x3, σ =>
    (zz_gR σ (some th) 4 5).bind fun v1 =>
    zz_cI (zF_X4_of ρ x1 (7 : Int32) σ) (fun v4 σ5 =>
      (zz_aI σ5 v1 0 v4).bind fun v6 =>
      if v6 ≤ x3 then
        (zz_gR σ5 (some th) 4 5).bind fun v7 =>
        zz_cI (zF_X4_croaked ρ x1 x2 σ5) (fun v10 σ11 =>
          (zz_aI σ11 v7 0 v10).bind fun v12 =>
          zz_rI v12 σ11) zz_P
      else
      zz_ck σ5 (some th) 4 fun a13 =>
      zz_cI (zF_X4_strength ρ a13 x1 x3 σ5) (fun v16 σ17 =>
        zz_ck σ17 (some th) 4 fun a18 =>
        zz_cI (zF_X4_strength ρ a18 x1 x2 σ17) (fun v21 σ22 =>
          if v16 ≤ v21 then
            zJ_X4_strongestFrog_80 ρ (zL_X4_strongestFrog_48 ρ n) th x1 x2 x3 σ22
          else
          zJ_X4_strongestFrog_80 ρ (zL_X4_strongestFrog_48 ρ n) th x1 x3 x3 σ22) zz_P) zz_P) zz_P
def zJ_X4_strongestFrog_32 (ρ : zz_C) (th : Nat) (x1 : Int32) (t0 : Int32) (t1 : Option Nat) (σ : zz_S) : zz_R :=
  (zz_pf σ t1 4 20 0 (.int t0)).bind fun σ1 =>
  (zz_gI σ1 (some th) 4 0).bind fun v2 =>
  if v2 = 0 then
    zL_X4_strongestFrog_48 ρ ρ.2 th x1 (0 : Int32) (1 : Int32) σ1
  else
  zz_rI (0 : Int32) σ1
def zF_X4_strongestFrog (ρ : zz_C) (th : Nat) (x1 : Int32) (σ : zz_S) : zz_R :=
  zz_ck σ (some th) 4 fun a1 =>
  zz_cI (zF_X4_isMotion ρ a1 x1 σ) (fun v4 σ5 =>
    if v4 = 0 then
      zJ_X4_strongestFrog_32 ρ th x1 (1 : Int32) (some th) σ5
    else
    (zz_gR σ5 (some th) 4 5).bind fun v6 =>
    zz_cI (zF_X4_of ρ x1 (7 : Int32) σ5) (fun v9 σ10 =>
      (zz_aI σ10 v6 0 v9).bind fun v11 =>
      if v11 = 0 then
        zJ_X4_strongestFrog_32 ρ th x1 (2 : Int32) (some th) σ10
      else
      zJ_X4_strongestFrog_32 ρ th x1 (0 : Int32) (some th) σ10) zz_P) zz_P
def zF_X1_checkDivisor (ρ : zz_C) (x0 : Int32) (σ : zz_S) : zz_R :=
  if x0 = 0 then
    zz_al σ (.inr (144, [])) 6 fun a1 σ2 =>
    zz_th σ2 (some a1) zz_P
  else
  zz_rV σ
def zF_X2_shareFor (ρ : zz_C) (th : Nat) (x1 : Option Nat) (σ : zz_S) : zz_R :=
  zz_ck σ x1 6 fun a1 =>
  zz_cI (zF_X6_strengths ρ a1 (1 : Int32) σ) (fun v4 σ5 =>
    zz_ck σ5 x1 6 fun a6 =>
    zz_cI (zF_X6_strengths ρ a6 (0 : Int32) σ5) (fun v9 σ10 =>
      zz_cV (zF_X1_checkDivisor ρ (v4 + v9) σ10) (fun σ14 =>
        if ¬ (zz_n32 (FP.fdiv (FP.i2f v4) (FP.i2f (v4 + v9))) = true) then none else
        zz_rF (FP.fdiv (FP.i2f v4) (FP.i2f (v4 + v9))) σ14) zz_P) zz_P) zz_P
def zF_X1_shareFor (ρ : zz_C) (th : Nat) (x1 : Int32) (σ : zz_S) : zz_R :=
  (zz_gR σ (some th) 1 4).bind fun v1 =>
  (zz_gR σ (some th) 1 4).bind fun v2 =>
  zz_ck σ v2 2 fun a3 =>
  zz_cR (zF_X2_motion ρ a3 x1 σ) (fun v6 σ7 =>
    zz_ck σ7 v1 2 fun a8 =>
    zz_cF (zF_X2_shareFor ρ a8 v6 σ7) (fun v11 σ12 =>
      zz_rF v11 σ12) zz_P) zz_P
def zJ_X0_shareFor_15 (ρ : zz_C) (t0 : Option Nat) (σ : zz_S) : zz_R :=
  zz_rI (2 : Int32) σ
def zJ_X0_shareFor_12 (ρ : zz_C) (t0 : Option Nat) (σ : zz_S) : zz_R :=
  zz_rI (1 : Int32) σ
def zF_X0_shareFor (ρ : zz_C) (x0 : Option Nat) (x1 : Int32) (x2 : Option Nat) (σ : zz_S) : zz_R :=
  zz_ck σ x0 1 fun a1 =>
  zz_cF (zF_X1_shareFor ρ a1 x1 σ) (fun v4 σ5 =>
    if ¬ (zz_n64 (FP.f2d v4) = true) then none else
    (zz_sD σ5 x2 4 (0 : Int32) (FP.f2d v4)).bind fun σ6 =>
    zz_rI (0 : Int32) σ6)
    (fun q2 σ3 =>
      if q2.1 = 144 then
        zJ_X0_shareFor_15 ρ (some q2.2) σ3
      else
      if q2.1 = 122 then
        zJ_X0_shareFor_12 ρ (some q2.2) σ3
      else
      none)
def zJ_X4_shareFor_32 (ρ : zz_C) (th : Nat) (x1 : Int32) (t0 : Int32) (t1 : Option Nat) (σ : zz_S) : zz_R :=
  (zz_pf σ t1 4 20 0 (.int t0)).bind fun σ1 =>
  (zz_gI σ1 (some th) 4 0).bind fun v2 =>
  if v2 = 0 then
    zz_ck σ1 (some th) 4 fun a3 =>
    zz_cI (zF_X4_sum ρ a3 x1 (1 : Int32) σ1) (fun v6 σ7 =>
      zz_ck σ7 (some th) 4 fun a8 =>
      zz_cI (zF_X4_sum ρ a8 x1 (1 : Int32) σ7) (fun v11 σ12 =>
        zz_ck σ12 (some th) 4 fun a13 =>
        zz_cI (zF_X4_sum ρ a13 x1 (0 : Int32) σ12) (fun v16 σ17 =>
          if ¬ (zz_n32 (FP.fdiv (FP.i2f v6) (FP.i2f (v11 + v16))) = true) then none else
          zz_rF (FP.fdiv (FP.i2f v6) (FP.i2f (v11 + v16))) σ17) zz_P) zz_P) zz_P
  else
  zz_rF FP.fconst0 σ1
def zF_X4_shareFor (ρ : zz_C) (th : Nat) (x1 : Int32) (σ : zz_S) : zz_R :=
  zz_ck σ (some th) 4 fun a1 =>
  zz_cI (zF_X4_isMotion ρ a1 x1 σ) (fun v4 σ5 =>
    if v4 = 0 then
      zJ_X4_shareFor_32 ρ th x1 (1 : Int32) (some th) σ5
    else
    (zz_gR σ5 (some th) 4 5).bind fun v6 =>
    zz_cI (zF_X4_of ρ x1 (7 : Int32) σ5) (fun v9 σ10 =>
      (zz_aI σ10 v6 0 v9).bind fun v11 =>
      if v11 = 0 then
        zJ_X4_shareFor_32 ρ th x1 (2 : Int32) (some th) σ10
      else
      zJ_X4_shareFor_32 ρ th x1 (0 : Int32) (some th) σ10) zz_P) zz_P
def zF_X1_speechTotal (ρ : zz_C) (th : Nat) (σ : zz_S) : zz_R :=
  (zz_gR σ (some th) 1 4).bind fun v1 =>
  (zz_gI σ v1 2 3).bind fun v2 =>
  zz_rI v2 σ
def zF_X4_speechTotal (ρ : zz_C) (th : Nat) (σ : zz_S) : zz_R :=
  zz_ck σ (some th) 4 fun a1 =>
  zz_cI (zF_X4_tells ρ a1 (3 : Int32) σ) (fun v4 σ5 =>
    zz_rI v4 σ5) zz_P
def zF_X1_missedTotal (ρ : zz_C) (th : Nat) (σ : zz_S) : zz_R :=
  (zz_gR σ (some th) 1 4).bind fun v1 =>
  (zz_gI σ v1 2 4).bind fun v2 =>
  zz_rI v2 σ
def zF_X4_missedTotal (ρ : zz_C) (th : Nat) (σ : zz_S) : zz_R :=
  zz_ck σ (some th) 4 fun a1 =>
  zz_cI (zF_X4_tells ρ a1 (4 : Int32) σ) (fun v4 σ5 =>
    zz_rI v4 σ5) zz_P
def zJ_X2_adopted_43 (ρ : zz_C) (K10 : Int32 → Option Nat → zz_S → zz_R) (x2 : Option Nat) (t0 : Int32) (t1 : Int32) (σ : zz_S) : zz_R :=
  K10 (t1 + t0) x2 σ
def zL_X2_adopted_10 (ρ : zz_C) : Nat → Int32 → Option Nat → zz_S → zz_R
  | 0, _, _, _ => none
  | n + 1, x1, x2, σ =>
    zz_ck σ x2 124 fun a1 =>
    zz_cI (zF_J24_hasNext ρ a1 σ) (fun v4 σ5 =>
      if v4 = 0 then
        zz_rI x1 σ5
      else
      zz_ck σ5 x2 124 fun a6 =>
      zz_cR (zF_J24_next ρ a6 σ5) (fun v9 σ10 =>
        if ¬ (zz_ok σ10 v9 [6] = true) then none else
        (zz_gI σ10 v9 6 7).bind fun v11 =>
        if v11 = (1 : Int32) then
          zJ_X2_adopted_43 ρ (zL_X2_adopted_10 ρ n) x2 (1 : Int32) x1 σ10
        else
        zJ_X2_adopted_43 ρ (zL_X2_adopted_10 ρ n) x2 (0 : Int32) x1 σ10) zz_P) zz_P
def zF_X2_adopted (ρ : zz_C) (th : Nat) (σ : zz_S) : zz_R :=
  (zz_gR σ (some th) 2 2).bind fun v1 =>
  zz_ck σ v1 102 fun a2 =>
  zz_cR (zF_J2_iterator ρ a2 σ) (fun v5 σ6 =>
    zL_X2_adopted_10 ρ ρ.2 (0 : Int32) v5 σ6) zz_P
def zF_X1_adoptedCount (ρ : zz_C) (th : Nat) (σ : zz_S) : zz_R :=
  (zz_gR σ (some th) 1 4).bind fun v1 =>
  zz_ck σ v1 2 fun a2 =>
  zz_cI (zF_X2_adopted ρ a2 σ) (fun v5 σ6 =>
    zz_rI v5 σ6) zz_P
def zL_X4_adoptedCount_9 (ρ : zz_C) : Nat → Nat → Int32 → Int32 → zz_S → zz_R
  | 0, _, _, _, _ => none
  | n + 1, th, x1, x2, σ =>
    (zz_gR σ (some th) 4 5).bind fun v1 =>
    (zz_aI σ v1 0 (2 : Int32)).bind fun v2 =>
    if v2 ≤ x2 then
      zz_rI x1 σ
    else
    (zz_gR σ (some th) 4 5).bind fun v3 =>
    zz_cI (zF_X4_of ρ x2 (3 : Int32) σ) (fun v6 σ7 =>
      (zz_aI σ7 v3 0 v6).bind fun v8 =>
      zL_X4_adoptedCount_9 ρ n th (x1 + v8) (x2 + (1 : Int32)) σ7) zz_P
def zF_X4_adoptedCount (ρ : zz_C) (th : Nat) (σ : zz_S) : zz_R :=
  (zz_pf σ (some th) 4 20 0 (.int (0 : Int32))).bind fun σ1 =>
  zL_X4_adoptedCount_9 ρ ρ.2 th (0 : Int32) (0 : Int32) σ1
def zF_J7_length (ρ : zz_C) (th : Nat) (σ : zz_S) : zz_R :=
  (zz_gI σ (some th) 108 3).bind fun v1 =>
  zz_rI v1 σ
def zF_J8_length (ρ : zz_C) (th : Nat) (σ : zz_S) : zz_R :=
  zz_ck σ (some th) 108 fun a1 =>
  zz_cI (zF_J7_length ρ a1 σ) (fun v4 σ5 =>
    zz_rI v4 σ5) zz_P
def zF_J11_newLength (ρ : zz_C) (x0 : Int32) (x1 : Int32) (x2 : Int32) (σ : zz_S) : zz_R :=
  zz_cI (zF_J12_max ρ x1 x2 σ) (fun v3 σ4 =>
    if (x0 + v3) ≤ (0 : Int32) then
      none
    else
    if (2147483639 : Int32) < (x0 + v3) then
      none
    else
    zz_rI (x0 + v3) σ4) zz_P
def zF_J7_newCapacity (ρ : zz_C) (th : Nat) (x1 : Int32) (σ : zz_S) : zz_R :=
  (zz_gR σ (some th) 108 0).bind fun v1 =>
  (zz_len σ v1).bind fun v2 =>
  (zz_gI σ (some th) 108 1).bind fun v3 =>
  (zz_gI σ (some th) 108 1).bind fun v4 =>
  zz_cI (zF_J11_newLength ρ v2 ((x1 <<< (v3 &&& 31)) - v2) (v2 + ((2 : Int32) <<< (v4 &&& 31))) σ) (fun v7 σ8 =>
    if v7 = (2147483647 : Int32) then
      none
    else
    (zz_gI σ8 (some th) 108 1).bind fun v9 =>
    zz_rI (v7 >>> (v9 &&& 31)) σ8) zz_P
def zF_J12_min (ρ : zz_C) (x0 : Int32) (x1 : Int32) (σ : zz_S) : zz_R :=
  if x1 < x0 then
    zz_rI x1 σ
  else
  zz_rI x0 σ
def zF_J13_copyOf (ρ : zz_C) (x0 : Option Nat) (x1 : Int32) (σ : zz_S) : zz_R :=
  (zz_len σ x0).bind fun v1 =>
  if x1 = v1 then
    none
  else
  zz_na σ 1 x1 fun a2 σ3 =>
  (zz_len σ3 x0).bind fun v4 =>
  zz_cI (zF_J12_min ρ v4 x1 σ3) (fun v7 σ8 =>
    (zz_cpB σ8 x0 (0 : Int32) (some a2) (0 : Int32) v7).bind fun σ9 =>
    zz_rR (some a2) σ9) zz_P
def zF_J7_ensureCapacityInternal (ρ : zz_C) (th : Nat) (x1 : Int32) (σ : zz_S) : zz_R :=
  (zz_gR σ (some th) 108 0).bind fun v1 =>
  (zz_len σ v1).bind fun v2 =>
  (zz_gI σ (some th) 108 1).bind fun v3 =>
  if (x1 - (v2 >>> (v3 &&& 31))) ≤ 0 then
    zz_rV σ
  else
  (zz_gR σ (some th) 108 0).bind fun v4 =>
  zz_ck σ (some th) 108 fun a5 =>
  zz_cI (zF_J7_newCapacity ρ a5 x1 σ) (fun v8 σ9 =>
    (zz_gI σ9 (some th) 108 1).bind fun v10 =>
    zz_cR (zF_J13_copyOf ρ v4 (v8 <<< (v10 &&& 31)) σ9) (fun v13 σ14 =>
      (zz_pf σ14 (some th) 108 4 0 (va_rf v13)).bind fun σ15 =>
      zz_rV σ15) zz_P) zz_P
def zF_J7_isLatin1 (ρ : zz_C) (th : Nat) (σ : zz_S) : zz_R :=
  (zz_gI σ (some th) 108 1).bind fun v1 =>
  if v1 = 0 then
    zz_rN .boolean (1 : Int32) σ
  else
  zz_rN .boolean (0 : Int32) σ
def zF_J15_canEncode (ρ : zz_C) (x0 : Int32) (σ : zz_S) : zz_R :=
  if (255 : Int32) < x0 then
    zz_rN .boolean (0 : Int32) σ
  else
  zz_rN .boolean (1 : Int32) σ
def zJ_J7_append_3_45 (ρ : zz_C) (th : Nat) (x1 : Int32) (σ : zz_S) : zz_R :=
  zz_ck σ (some th) 108 fun a1 =>
  zz_cI (zF_J7_isLatin1 ρ a1 σ) (fun v4 σ5 =>
    if v4 = 0 then
      (zz_gR σ5 (some th) 108 0).bind fun v6 =>
      (zz_gI σ5 (some th) 108 3).bind fun v7 =>
      (zz_pf σ5 (some th) 108 4 3 (.int (v7 + (1 : Int32)))).bind fun σ8 =>
      none
    else
    none) zz_P
def zF_J7_append_3 (ρ : zz_C) (th : Nat) (x1 : Int32) (σ : zz_S) : zz_R :=
  (zz_gI σ (some th) 108 3).bind fun v1 =>
  zz_ck σ (some th) 108 fun a2 =>
  zz_cV (zF_J7_ensureCapacityInternal ρ a2 (v1 + (1 : Int32)) σ) (fun σ6 =>
    zz_ck σ6 (some th) 108 fun a7 =>
    zz_cI (zF_J7_isLatin1 ρ a7 σ6) (fun v10 σ11 =>
      if v10 = 0 then
        zJ_J7_append_3_45 ρ th x1 σ11
      else
      zz_cI (zF_J15_canEncode ρ x1 σ11) (fun v14 σ15 =>
        if v14 = 0 then
          zJ_J7_append_3_45 ρ th x1 σ15
        else
        (zz_gR σ15 (some th) 108 0).bind fun v16 =>
        (zz_gI σ15 (some th) 108 3).bind fun v17 =>
        (zz_pf σ15 (some th) 108 4 3 (.int (v17 + (1 : Int32)))).bind fun σ18 =>
        (zz_sI σ18 v16 1 .byte v17 (x1.toInt8.toInt32)).bind fun σ19 =>
        zz_rR (some th) σ19) zz_P) zz_P) zz_P
def zF_J8_append_3 (ρ : zz_C) (th : Nat) (x1 : Int32) (σ : zz_S) : zz_R :=
  zz_ck σ (some th) 108 fun a1 =>
  zz_cR (zF_J7_append_3 ρ a1 x1 σ) (fun v4 σ5 =>
    zz_rR (some th) σ5) zz_P
def zJ_X1_append_28 (ρ : zz_C) (th : Nat) (x1 : Int32) (t0 : Int32) (σ : zz_S) : zz_R :=
  zz_cV (zF_X1_checkState ρ t0 σ) (fun σ4 =>
    (zz_gR σ4 (some th) 1 3).bind fun v5 =>
    zz_ck σ4 v5 108 fun a6 =>
    zz_cR (zF_J8_append_3 ρ a6 x1 σ4) (fun v9 σ10 =>
      (zz_gR σ10 (some th) 1 3).bind fun v11 =>
      zz_ck σ10 v11 108 fun a12 =>
      zz_cI (zF_J8_length ρ a12 σ10) (fun v15 σ16 =>
        zz_rI v15 σ16) zz_P) zz_P) zz_P
def zF_X1_append (ρ : zz_C) (th : Nat) (x1 : Int32) (σ : zz_S) : zz_R :=
  zz_cI (zF_X1_isBetween ρ x1 (32 : Int32) (126 : Int32) σ) (fun v3 σ4 =>
    zz_cV (zF_X1_checkArgument ρ v3 σ4) (fun σ8 =>
      (zz_gR σ8 (some th) 1 3).bind fun v9 =>
      zz_ck σ8 v9 108 fun a10 =>
      zz_cI (zF_J8_length ρ a10 σ8) (fun v13 σ14 =>
        if (60 : Int32) ≤ v13 then
          zJ_X1_append_28 ρ th x1 (0 : Int32) σ14
        else
        zJ_X1_append_28 ρ th x1 (1 : Int32) σ14) zz_P) zz_P) zz_P
def zJ_X0_append_12 (ρ : zz_C) (t0 : Option Nat) (σ : zz_S) : zz_R :=
  zz_rI (1 : Int32) σ
def zJ_X0_append_15 (ρ : zz_C) (t0 : Option Nat) (σ : zz_S) : zz_R :=
  zz_rI (2 : Int32) σ
def zF_X0_append (ρ : zz_C) (x0 : Option Nat) (x1 : Int32) (x2 : Option Nat) (σ : zz_S) : zz_R :=
  zz_ck σ x0 1 fun a1 =>
  zz_cI (zF_X1_append ρ a1 x1 σ) (fun v4 σ5 =>
    (zz_sJ σ5 x2 3 (0 : Int32) (v4.toInt64)).bind fun σ6 =>
    zz_rI (0 : Int32) σ6)
    (fun q2 σ3 =>
      if q2.1 = 106 then
        zJ_X0_append_12 ρ (some q2.2) σ3
      else
      if q2.1 = 138 then
        zJ_X0_append_15 ρ (some q2.2) σ3
      else
      none)
def zJ_X4_append_30 (ρ : zz_C) (th : Nat) (x1 : Int32) (t0 : Int32) (t1 : Option Nat) (σ : zz_S) : zz_R :=
  (zz_pf σ t1 4 20 0 (.int t0)).bind fun σ1 =>
  (zz_gI σ1 (some th) 4 0).bind fun v2 =>
  if v2 = 0 then
    (zz_gR σ1 (some th) 4 9).bind fun v3 =>
    (zz_gI σ1 (some th) 4 14).bind fun v4 =>
    (zz_sI σ1 v3 0 .int v4 x1).bind fun σ5 =>
    (zz_gI σ5 (some th) 4 14).bind fun v6 =>
    (zz_pf σ5 (some th) 4 20 14 (.int (v6 + (1 : Int32)))).bind fun σ7 =>
    (zz_gI σ7 (some th) 4 14).bind fun v8 =>
    zz_rI v8 σ7
  else
  zz_rI (0 : Int32) σ1
def zF_X4_append (ρ : zz_C) (th : Nat) (x1 : Int32) (σ : zz_S) : zz_R :=
  zz_cI (zF_X4_isIn ρ x1 (32 : Int32) (126 : Int32) σ) (fun v3 σ4 =>
    if v3 = 0 then
      zJ_X4_append_30 ρ th x1 (1 : Int32) (some th) σ4
    else
    (zz_gI σ4 (some th) 4 14).bind fun v5 =>
    if v5 = (60 : Int32) then
      zJ_X4_append_30 ρ th x1 (2 : Int32) (some th) σ4
    else
    zJ_X4_append_30 ρ th x1 (0 : Int32) (some th) σ4) zz_P
def zF_X9_init (ρ : zz_C) (th : Nat) (x1 : Option Nat) (σ : zz_S) : zz_R :=
  (zz_pf σ (some th) 9 2 1 (va_rf x1)).bind fun σ1 =>
  zz_rV σ1
def zJ_J3_init_4_41 (ρ : zz_C) (th : Nat) (x1 : Option Nat) (x2 : Option Nat) (x3 : Int32) (σ : zz_S) : zz_R :=
  (zz_pf σ (some th) 10 7 3 (va_rf x1)).bind fun σ1 =>
  (zz_pf σ1 (some th) 10 7 0 (va_rf x2)).bind fun σ2 =>
  if x3 = 0 then
    (zz_pf σ2 (some th) 10 7 2 (va_rf none)).bind fun σ3 =>
    zz_rV σ3
  else
  zz_rV σ2
def zF_J3_init_4 (ρ : zz_C) (th : Nat) (x1 : Option Nat) (x2 : Option Nat) (x3 : Int32) (x4 : Int32) (σ : zz_S) : zz_R :=
  (zz_pf σ (some th) 10 7 0 (va_rf (some th))).bind fun σ1 =>
  (zz_pf σ1 (some th) 10 7 1 (va_rf (ρ.1 12))).bind fun σ2 =>
  (zz_pf σ2 (some th) 10 7 2 (va_rf (ρ.1 13))).bind fun σ3 =>
  if x4 = 0 then
    (zz_pf σ3 (some th) 10 7 1 (va_rf none)).bind fun σ4 =>
    zJ_J3_init_4_41 ρ th x1 x2 x3 σ4
  else
  none
def zF_J4_init_4 (ρ : zz_C) (th : Nat) (x1 : Option Nat) (x2 : Option Nat) (x3 : Int32) (x4 : Int32) (σ : zz_S) : zz_R :=
  zz_cV (zF_J3_init_4 ρ th x1 x2 x3 x4 σ) (fun σ4 =>
    zz_rV σ4) zz_P
def zF_X10_init (ρ : zz_C) (th : Nat) (x1 : Int32) (σ : zz_S) : zz_R :=
  zz_cV (zF_J4_init_4 ρ th none none (0 : Int32) (0 : Int32) σ) (fun σ4 =>
    (zz_pf σ4 (some th) 10 7 6 (.int x1)).bind fun σ5 =>
    zz_rV σ5) zz_P
def zF_J9_coder (ρ : zz_C) (th : Nat) (σ : zz_S) : zz_R :=
  (zz_gI σ (some th) 109 1).bind fun v1 =>
  zz_rN .byte v1 σ
def zF_J9_length (ρ : zz_C) (th : Nat) (σ : zz_S) : zz_R :=
  (zz_gR σ (some th) 109 0).bind fun v1 =>
  (zz_len σ v1).bind fun v2 =>
  zz_ck σ (some th) 109 fun a3 =>
  zz_cI (zF_J9_coder ρ a3 σ) (fun v6 σ7 =>
    zz_rI (v2 >>> (v6 &&& 31)) σ7) zz_P
def zF_J9_checkIndex (ρ : zz_C) (x0 : Int32) (x1 : Int32) (σ : zz_S) : zz_R :=
  zz_cI (zF_J14_checkIndex ρ x0 x1 (ρ.1 14) σ) (fun v3 σ4 =>
    zz_rV σ4) zz_P
def zF_J7_charAt (ρ : zz_C) (th : Nat) (x1 : Int32) (σ : zz_S) : zz_R :=
  (zz_gI σ (some th) 108 1).bind fun v1 =>
  (zz_gR σ (some th) 108 0).bind fun v2 =>
  (zz_gI σ (some th) 108 3).bind fun v3 =>
  (zz_len σ v2).bind fun v4 =>
  zz_cI (zF_J12_min ρ v3 (v4 >>> (v1 &&& 31)) σ) (fun v7 σ8 =>
    zz_cV (zF_J9_checkIndex ρ x1 v7 σ8) (fun σ12 =>
      if v1 = 0 then
        (zz_aI σ12 v2 1 x1).bind fun v13 =>
        zz_rN .char (((v13 &&& (255 : Int32)).toUInt32 % 65536).toInt32) σ12
      else
      none) zz_P) zz_P
def zF_J8_charAt (ρ : zz_C) (th : Nat) (x1 : Int32) (σ : zz_S) : zz_R :=
  zz_ck σ (some th) 108 fun a1 =>
  zz_cI (zF_J7_charAt ρ a1 x1 σ) (fun v4 σ5 =>
    zz_rN .char v4 σ5) zz_P
def zF_J9_isLatin1 (ρ : zz_C) (th : Nat) (σ : zz_S) : zz_R :=
  (zz_gI σ (some th) 109 1).bind fun v1 =>
  if v1 = 0 then
    zz_rN .boolean (1 : Int32) σ
  else
  zz_rN .boolean (0 : Int32) σ
def zF_J15_charAt (ρ : zz_C) (x0 : Option Nat) (x1 : Int32) (σ : zz_S) : zz_R :=
  (zz_len σ x0).bind fun v1 =>
  zz_cV (zF_J9_checkIndex ρ x1 v1 σ) (fun σ5 =>
    (zz_aI σ5 x0 1 x1).bind fun v6 =>
    zz_rN .char (((v6 &&& (255 : Int32)).toUInt32 % 65536).toInt32) σ5) zz_P
def zF_J9_charAt (ρ : zz_C) (th : Nat) (x1 : Int32) (σ : zz_S) : zz_R :=
  zz_ck σ (some th) 109 fun a1 =>
  zz_cI (zF_J9_isLatin1 ρ a1 σ) (fun v4 σ5 =>
    if v4 = 0 then
      (zz_gR σ5 (some th) 109 0).bind fun v6 =>
      none
    else
    (zz_gR σ5 (some th) 109 0).bind fun v7 =>
    zz_cI (zF_J15_charAt ρ v7 x1 σ5) (fun v10 σ11 =>
      zz_rN .char v10 σ11) zz_P) zz_P
def zL_X9_commonPrefix_2 (ρ : zz_C) : Nat → Nat → Option Nat → Int32 → zz_S → zz_R
  | 0, _, _, _, _ => none
  | n + 1, th, x1, x2, σ =>
    zz_ck σ x1 109 fun a1 =>
    zz_cI (zF_J9_length ρ a1 σ) (fun v4 σ5 =>
      if v4 ≤ x2 then
        zz_rI x2 σ5
      else
      (zz_gI σ5 (some th) 9 0).bind fun v6 =>
      (zz_gR σ5 (some th) 9 1).bind fun v7 =>
      (zz_gR σ5 v7 1 3).bind fun v8 =>
      zz_ck σ5 v8 108 fun a9 =>
      zz_cI (zF_J8_length ρ a9 σ5) (fun v12 σ13 =>
        if v12 ≤ (v6 + x2) then
          zz_rI x2 σ13
        else
        (zz_gR σ13 (some th) 9 1).bind fun v14 =>
        (zz_gR σ13 v14 1 3).bind fun v15 =>
        (zz_gI σ13 (some th) 9 0).bind fun v16 =>
        zz_ck σ13 v15 108 fun a17 =>
        zz_cI (zF_J8_charAt ρ a17 (v16 + x2) σ13) (fun v20 σ21 =>
          zz_ck σ21 x1 109 fun a22 =>
          zz_cI (zF_J9_charAt ρ a22 x2 σ21) (fun v25 σ26 =>
            if v20 = v25 then
              zL_X9_commonPrefix_2 ρ n th x1 (x2 + (1 : Int32)) σ26
            else
            zz_rI x2 σ26) zz_P) zz_P) zz_P) zz_P
def zF_X9_commonPrefix (ρ : zz_C) (th : Nat) (x1 : Option Nat) (σ : zz_S) : zz_R :=
  zL_X9_commonPrefix_2 ρ ρ.2 th x1 (0 : Int32) σ
def zL_X9_keyword_11 (ρ : zz_C) : Nat → Nat → Int32 → Option Nat → Int32 → Int32 → zz_S → zz_R
  | 0, _, _, _, _, _, _ => none
  | n + 1, th, x2, x3, x4, x5, σ =>
    if x4 ≤ x5 then
      zz_al σ (.inr (10, [.null, .null, .null, .null, .null, .int 0, .int 0])) 7 fun a1 σ2 =>
      (zz_gI σ2 (some th) 9 0).bind fun v3 =>
      zz_cV (zF_X10_init ρ a1 (v3 + x2) σ2) (fun σ7 =>
        zz_th σ7 (some a1) zz_P) zz_P
    else
    (zz_aR σ x3 8 x5).bind fun v10 =>
    zz_ck σ (some th) 9 fun a11 =>
    zz_cI (zF_X9_commonPrefix ρ a11 v10 σ) (fun v14 σ15 =>
      zz_ck σ15 v10 109 fun a16 =>
      zz_cI (zF_J9_length ρ a16 σ15) (fun v19 σ20 =>
        if v14 = v19 then
          (zz_gI σ20 (some th) 9 0).bind fun v25 =>
          (zz_pf σ20 (some th) 9 2 0 (.int (v25 + v14))).bind fun σ26 =>
          zz_rR v10 σ26
        else
        zz_cI (zF_J12_max ρ x2 v14 σ20) (fun v23 σ24 =>
          zL_X9_keyword_11 ρ n th v23 x3 x4 (x5 + (1 : Int32)) σ24) zz_P) zz_P) zz_P
def zF_X9_keyword (ρ : zz_C) (th : Nat) (x1 : Option Nat) (σ : zz_S) : zz_R :=
  (zz_len σ x1).bind fun v1 =>
  zL_X9_keyword_11 ρ ρ.2 th (0 : Int32) x1 v1 (0 : Int32) σ
def zF_J9_hashCode (ρ : zz_C) (th : Nat) (σ : zz_S) : zz_R :=
  (zz_gI σ (some th) 109 2).bind fun v1 =>
  if v1 = 0 then
    (zz_gI σ (some th) 109 3).bind fun v2 =>
    if v2 = 0 then
      zz_ck σ (some th) 109 fun a3 =>
      zz_cI (zF_J9_isLatin1 ρ a3 σ) (fun v6 σ7 =>
        if v6 = 0 then
          (zz_gR σ7 (some th) 109 0).bind fun v8 =>
          none
        else
        (zz_gR σ7 (some th) 109 0).bind fun v9 =>
        none) zz_P
    else
    zz_rI v1 σ
  else
  zz_rI v1 σ
def zL_J15_equals_9 (ρ : zz_C) : Nat → Option Nat → Option Nat → Int32 → zz_S → zz_R
  | 0, _, _, _, _ => none
  | n + 1, x0, x1, x2, σ =>
    (zz_len σ x0).bind fun v1 =>
    if v1 ≤ x2 then
      zz_rN .boolean (1 : Int32) σ
    else
    (zz_aI σ x0 1 x2).bind fun v2 =>
    (zz_aI σ x1 1 x2).bind fun v3 =>
    if v2 = v3 then
      zL_J15_equals_9 ρ n x0 x1 (x2 + (1 : Int32)) σ
    else
    zz_rN .boolean (0 : Int32) σ
def zF_J15_equals (ρ : zz_C) (x0 : Option Nat) (x1 : Option Nat) (σ : zz_S) : zz_R :=
  (zz_len σ x0).bind fun v1 =>
  (zz_len σ x1).bind fun v2 =>
  if v1 = v2 then
    zL_J15_equals_9 ρ ρ.2 x0 x1 (0 : Int32) σ
  else
  zz_rN .boolean (0 : Int32) σ
def zJ_J9_equals_36 (ρ : zz_C) (th : Nat) (x2 : Option Nat) (σ : zz_S) : zz_R :=
  (zz_gR σ (some th) 109 0).bind fun v1 =>
  (zz_gR σ x2 109 0).bind fun v2 =>
  zz_cI (zF_J15_equals ρ v1 v2 σ) (fun v5 σ6 =>
    if v5 = 0 then
      zz_rN .boolean (0 : Int32) σ6
    else
    zz_rN .boolean (1 : Int32) σ6) zz_P
def zF_J9_equals (ρ : zz_C) (th : Nat) (x1 : Option Nat) (σ : zz_S) : zz_R :=
  if (some th) = x1 then
    zz_rN .boolean (1 : Int32) σ
  else
  (zz_is σ x1 [109] []).bind fun v1 =>
  if v1 = 0 then
    zz_rN .boolean (0 : Int32) σ
  else
  if ¬ (zz_ok σ x1 [109] = true) then none else
  (zz_gI σ (some th) 109 1).bind fun v2 =>
  (zz_gI σ x1 109 1).bind fun v3 =>
  if v2 = v3 then
    zJ_J9_equals_36 ρ th x1 σ
  else
  zz_rN .boolean (0 : Int32) σ
def zF_X9_current (ρ : zz_C) (th : Nat) (σ : zz_S) : zz_R :=
  (zz_gI σ (some th) 9 0).bind fun v1 =>
  (zz_gR σ (some th) 9 1).bind fun v2 =>
  (zz_gR σ v2 1 3).bind fun v3 =>
  zz_ck σ v3 108 fun a4 =>
  zz_cI (zF_J8_length ρ a4 σ) (fun v7 σ8 =>
    if v7 ≤ v1 then
      zz_rI (-1 : Int32) σ8
    else
    (zz_gR σ8 (some th) 9 1).bind fun v9 =>
    (zz_gR σ8 v9 1 3).bind fun v10 =>
    (zz_gI σ8 (some th) 9 0).bind fun v11 =>
    zz_ck σ8 v10 108 fun a12 =>
    zz_cI (zF_J8_charAt ρ a12 v11 σ8) (fun v15 σ16 =>
      zz_rI v15 σ16) zz_P) zz_P
def zF_X9_require (ρ : zz_C) (th : Nat) (x1 : Int32) (σ : zz_S) : zz_R :=
  if x1 = 0 then
    zz_al σ (.inr (10, [.null, .null, .null, .null, .null, .int 0, .int 0])) 7 fun a1 σ2 =>
    (zz_gI σ2 (some th) 9 0).bind fun v3 =>
    zz_cV (zF_X10_init ρ a1 v3 σ2) (fun σ7 =>
      zz_th σ7 (some a1) zz_P) zz_P
  else
  zz_rV σ
def zL_X9_number_19 (ρ : zz_C) : Nat → Nat → Int32 → Int32 → Int32 → zz_S → zz_R
  | 0, _, _, _, _, _ => none
  | n + 1, th, x1, x2, x3, σ =>
    if x1 ≤ x3 then
      zz_rI x2 σ
    else
    zz_ck σ (some th) 9 fun a1 =>
    zz_cI (zF_X9_current ρ a1 σ) (fun v4 σ5 =>
      zz_cI (zF_X1_isBetween ρ v4 (48 : Int32) (57 : Int32) σ5) (fun v8 σ9 =>
        if v8 = 0 then
          zz_rI x2 σ9
        else
        zz_ck σ9 (some th) 9 fun a10 =>
        zz_cI (zF_X9_current ρ a10 σ9) (fun v13 σ14 =>
          (zz_gI σ14 (some th) 9 0).bind fun v15 =>
          (zz_pf σ14 (some th) 9 2 0 (.int (v15 + (1 : Int32)))).bind fun σ16 =>
          zL_X9_number_19 ρ n th x1 ((((10 : Int32) * x2) + v13) - (48 : Int32)) (x3 + (1 : Int32)) σ16) zz_P) zz_P) zz_P
def zF_X9_number (ρ : zz_C) (th : Nat) (x1 : Int32) (σ : zz_S) : zz_R :=
  zz_ck σ (some th) 9 fun a1 =>
  zz_cI (zF_X9_current ρ a1 σ) (fun v4 σ5 =>
    zz_cI (zF_X1_isBetween ρ v4 (48 : Int32) (57 : Int32) σ5) (fun v8 σ9 =>
      zz_ck σ9 (some th) 9 fun a10 =>
      zz_cV (zF_X9_require ρ a10 v8 σ9) (fun σ14 =>
        zL_X9_number_19 ρ ρ.2 th x1 (0 : Int32) (0 : Int32) σ14) zz_P) zz_P) zz_P
def zL_X11_init_18 (ρ : zz_C) : Nat → Nat → Option Nat → Int32 → zz_S → zz_R
  | 0, _, _, _, _ => none
  | n + 1, th, x2, x3, σ =>
    (zz_len σ x2).bind fun v1 =>
    if v1 ≤ x3 then
      zz_rV σ
    else
    (zz_gR σ (some th) 11 1).bind fun v2 =>
    (zz_aI σ x2 0 x3).bind fun v3 =>
    (zz_sI σ v2 0 .int x3 v3).bind fun σ4 =>
    zL_X11_init_18 ρ n th x2 (x3 + (1 : Int32)) σ4
def zF_X11_init (ρ : zz_C) (th : Nat) (x1 : Option Nat) (x2 : Option Nat) (σ : zz_S) : zz_R :=
  zz_na σ 0 (4 : Int32) fun a1 σ2 =>
  (zz_pf σ2 (some th) 11 2 1 (va_rf (some a1))).bind fun σ3 =>
  (zz_pf σ3 (some th) 11 2 0 (va_rf x1)).bind fun σ4 =>
  zL_X11_init_18 ρ ρ.2 th x2 (0 : Int32) σ4
def zJ_X9_accept_13 (ρ : zz_C) (th : Nat) (t0 : Int32) (σ : zz_S) : zz_R :=
  (zz_gI σ (some th) 9 0).bind fun v1 =>
  if t0 = 0 then
    (zz_pf σ (some th) 9 2 0 (.int (v1 + (0 : Int32)))).bind fun σ2 =>
    zz_rN .boolean t0 σ2
  else
  (zz_pf σ (some th) 9 2 0 (.int (v1 + (1 : Int32)))).bind fun σ3 =>
  zz_rN .boolean t0 σ3
def zF_X9_accept (ρ : zz_C) (th : Nat) (x1 : Int32) (σ : zz_S) : zz_R :=
  zz_ck σ (some th) 9 fun a1 =>
  zz_cI (zF_X9_current ρ a1 σ) (fun v4 σ5 =>
    if v4 = x1 then
      zJ_X9_accept_13 ρ th (1 : Int32) σ5
    else
    zJ_X9_accept_13 ρ th (0 : Int32) σ5) zz_P
def zF_X9_spaced (ρ : zz_C) (th : Nat) (x1 : Int32) (σ : zz_S) : zz_R :=
  zz_ck σ (some th) 9 fun a1 =>
  zz_cI (zF_X9_accept ρ a1 (32 : Int32) σ) (fun v4 σ5 =>
    zz_ck σ5 (some th) 9 fun a6 =>
    zz_cV (zF_X9_require ρ a6 v4 σ5) (fun σ10 =>
      zz_ck σ10 (some th) 9 fun a11 =>
      zz_cI (zF_X9_number ρ a11 x1 σ10) (fun v14 σ15 =>
        zz_rI v14 σ15) zz_P) zz_P) zz_P
def zJ_X9_side_21 (ρ : zz_C) (x1 : Int32) (t0 : Option Nat) (σ : zz_S) : zz_R :=
  zz_ck σ t0 9 fun a1 =>
  zz_cV (zF_X9_require ρ a1 (1 : Int32) σ) (fun σ5 =>
    if x1 = 0 then
      zz_rI (0 : Int32) σ5
    else
    zz_rI (1 : Int32) σ5) zz_P
def zF_X9_side (ρ : zz_C) (th : Nat) (σ : zz_S) : zz_R :=
  zz_ck σ (some th) 9 fun a1 =>
  zz_cI (zF_X9_accept ρ a1 (43 : Int32) σ) (fun v4 σ5 =>
    if v4 = 0 then
      zz_ck σ5 (some th) 9 fun a6 =>
      zz_cI (zF_X9_accept ρ a6 (45 : Int32) σ5) (fun v9 σ10 =>
        if v9 = 0 then
          zz_ck σ10 (some th) 9 fun a11 =>
          zz_cV (zF_X9_require ρ a11 (0 : Int32) σ10) (fun σ15 =>
            if v4 = 0 then
              zz_rI (0 : Int32) σ15
            else
            zz_rI (1 : Int32) σ15) zz_P
        else
        zJ_X9_side_21 ρ v4 (some th) σ10) zz_P
    else
    zJ_X9_side_21 ρ v4 (some th) σ5) zz_P
def zJ_X9_command_469 (ρ : zz_C) (th : Nat) (x1 : Option Nat) (σ : zz_S) : zz_R :=
  zz_al σ (.inr (11, [.null, .null])) 2 fun a1 σ2 =>
  zz_na σ2 0 (1 : Int32) fun a3 σ4 =>
  zz_ck σ4 (some th) 9 fun a5 =>
  zz_cI (zF_X9_number ρ a5 (1 : Int32) σ4) (fun v8 σ9 =>
    (zz_sI σ9 (some a3) 0 .int (0 : Int32) v8).bind fun σ10 =>
    zz_cV (zF_X11_init ρ a1 x1 (some a3) σ10) (fun σ14 =>
      zz_rR (some a1) σ14) zz_P) zz_P
def zJ_X9_command_312 (ρ : zz_C) (th : Nat) (x1 : Option Nat) (σ : zz_S) : zz_R :=
  zz_al σ (.inr (11, [.null, .null])) 2 fun a1 σ2 =>
  zz_na σ2 0 (2 : Int32) fun a3 σ4 =>
  zz_ck σ4 (some th) 9 fun a5 =>
  zz_cI (zF_X9_number ρ a5 (1 : Int32) σ4) (fun v8 σ9 =>
    (zz_sI σ9 (some a3) 0 .int (0 : Int32) v8).bind fun σ10 =>
    zz_ck σ10 (some th) 9 fun a11 =>
    zz_cI (zF_X9_number ρ a11 (1 : Int32) σ10) (fun v14 σ15 =>
      (zz_sI σ15 (some a3) 0 .int (1 : Int32) v14).bind fun σ16 =>
      zz_cV (zF_X11_init ρ a1 x1 (some a3) σ16) (fun σ20 =>
        zz_rR (some a1) σ20) zz_P) zz_P) zz_P
def zJ_X9_command_342 (ρ : zz_C) (th : Nat) (x1 : Option Nat) (σ : zz_S) : zz_R :=
  zz_al σ (.inr (11, [.null, .null])) 2 fun a1 σ2 =>
  zz_na σ2 0 (2 : Int32) fun a3 σ4 =>
  zz_ck σ4 (some th) 9 fun a5 =>
  zz_cI (zF_X9_number ρ a5 (2 : Int32) σ4) (fun v8 σ9 =>
    (zz_sI σ9 (some a3) 0 .int (0 : Int32) v8).bind fun σ10 =>
    zz_ck σ10 (some th) 9 fun a11 =>
    zz_cI (zF_X9_spaced ρ a11 (1 : Int32) σ10) (fun v14 σ15 =>
      (zz_sI σ15 (some a3) 0 .int (1 : Int32) v14).bind fun σ16 =>
      zz_cV (zF_X11_init ρ a1 x1 (some a3) σ16) (fun σ20 =>
        zz_rR (some a1) σ20) zz_P) zz_P) zz_P
def zJ_X9_command_372 (ρ : zz_C) (th : Nat) (x1 : Option Nat) (σ : zz_S) : zz_R :=
  zz_al σ (.inr (11, [.null, .null])) 2 fun a1 σ2 =>
  zz_na σ2 0 (1 : Int32) fun a3 σ4 =>
  zz_ck σ4 (some th) 9 fun a5 =>
  zz_cI (zF_X9_number ρ a5 (2 : Int32) σ4) (fun v8 σ9 =>
    (zz_sI σ9 (some a3) 0 .int (0 : Int32) v8).bind fun σ10 =>
    zz_cV (zF_X11_init ρ a1 x1 (some a3) σ10) (fun σ14 =>
      zz_rR (some a1) σ14) zz_P) zz_P
def zJ_X9_command_394 (ρ : zz_C) (th : Nat) (x1 : Option Nat) (σ : zz_S) : zz_R :=
  zz_al σ (.inr (11, [.null, .null])) 2 fun a1 σ2 =>
  zz_na σ2 0 (2 : Int32) fun a3 σ4 =>
  zz_ck σ4 (some th) 9 fun a5 =>
  zz_cI (zF_X9_number ρ a5 (1 : Int32) σ4) (fun v8 σ9 =>
    (zz_sI σ9 (some a3) 0 .int (0 : Int32) v8).bind fun σ10 =>
    zz_ck σ10 (some th) 9 fun a11 =>
    zz_cI (zF_X9_spaced ρ a11 (2 : Int32) σ10) (fun v14 σ15 =>
      (zz_sI σ15 (some a3) 0 .int (1 : Int32) v14).bind fun σ16 =>
      zz_cV (zF_X11_init ρ a1 x1 (some a3) σ16) (fun σ20 =>
        zz_rR (some a1) σ20) zz_P) zz_P) zz_P
def zJ_X9_command_424 (ρ : zz_C) (th : Nat) (x1 : Option Nat) (σ : zz_S) : zz_R :=
  zz_al σ (.inr (11, [.null, .null])) 2 fun a1 σ2 =>
  zz_na σ2 0 (4 : Int32) fun a3 σ4 =>
  zz_ck σ4 (some th) 9 fun a5 =>
  zz_cI (zF_X9_number ρ a5 (1 : Int32) σ4) (fun v8 σ9 =>
    (zz_sI σ9 (some a3) 0 .int (0 : Int32) v8).bind fun σ10 =>
    zz_ck σ10 (some th) 9 fun a11 =>
    zz_cI (zF_X9_spaced ρ a11 (2 : Int32) σ10) (fun v14 σ15 =>
      (zz_sI σ15 (some a3) 0 .int (1 : Int32) v14).bind fun σ16 =>
      zz_ck σ16 (some th) 9 fun a17 =>
      zz_cI (zF_X9_side ρ a17 σ16) (fun v20 σ21 =>
        (zz_sI σ21 (some a3) 0 .int (2 : Int32) v20).bind fun σ22 =>
        zz_ck σ22 (some th) 9 fun a23 =>
        zz_cI (zF_X9_number ρ a23 (1 : Int32) σ22) (fun v26 σ27 =>
          (zz_sI σ27 (some a3) 0 .int (3 : Int32) v26).bind fun σ28 =>
          zz_cV (zF_X11_init ρ a1 x1 (some a3) σ28) (fun σ32 =>
            zz_rR (some a1) σ32) zz_P) zz_P) zz_P) zz_P) zz_P
def zJ_X9_command_263 (ρ : zz_C) (th : Nat) (x1 : Option Nat) (x3 : Int32) (σ : zz_S) : zz_R :=
  if x3 < (0 : Int32) then
    zJ_X9_command_469 ρ th x1 σ
  else if (7 : Int32) < x3 then
    zJ_X9_command_469 ρ th x1 σ
  else
  if x3 = (0 : Int32) then
    zJ_X9_command_312 ρ th x1 σ
  else
  if x3 = (1 : Int32) then
    zJ_X9_command_342 ρ th x1 σ
  else
  if x3 = (2 : Int32) then
    zJ_X9_command_372 ρ th x1 σ
  else
  if x3 = (3 : Int32) then
    zJ_X9_command_372 ρ th x1 σ
  else
  if x3 = (4 : Int32) then
    zJ_X9_command_394 ρ th x1 σ
  else
  if x3 = (5 : Int32) then
    zJ_X9_command_394 ρ th x1 σ
  else
  if x3 = (6 : Int32) then
    zJ_X9_command_394 ρ th x1 σ
  else
  if x3 = (7 : Int32) then
    zJ_X9_command_424 ρ th x1 σ
  else
  none
def zJ_X9_command_222 (ρ : zz_C) (th : Nat) (x1 : Option Nat) (x2 : Option Nat) (x3 : Int32) (σ : zz_S) : zz_R :=
  zz_ck σ x2 109 fun a1 =>
  zz_cI (zF_J9_equals ρ a1 (ρ.1 3581) σ) (fun v4 σ5 =>
    if v4 = 0 then
      zJ_X9_command_263 ρ th x1 x3 σ5
    else
    zJ_X9_command_263 ρ th x1 (5 : Int32) σ5) zz_P
def zJ_X9_command_251 (ρ : zz_C) (th : Nat) (x1 : Option Nat) (x2 : Option Nat) (x3 : Int32) (σ : zz_S) : zz_R :=
  zz_ck σ x2 109 fun a1 =>
  zz_cI (zF_J9_equals ρ a1 (ρ.1 3584) σ) (fun v4 σ5 =>
    if v4 = 0 then
      zJ_X9_command_263 ρ th x1 x3 σ5
    else
    zJ_X9_command_263 ρ th x1 (7 : Int32) σ5) zz_P
def zJ_X9_command_236 (ρ : zz_C) (th : Nat) (x1 : Option Nat) (x2 : Option Nat) (x3 : Int32) (σ : zz_S) : zz_R :=
  zz_ck σ x2 109 fun a1 =>
  zz_cI (zF_J9_equals ρ a1 (ρ.1 3583) σ) (fun v4 σ5 =>
    if v4 = 0 then
      zJ_X9_command_263 ρ th x1 x3 σ5
    else
    zJ_X9_command_263 ρ th x1 (6 : Int32) σ5) zz_P
def zJ_X9_command_166 (ρ : zz_C) (th : Nat) (x1 : Option Nat) (x2 : Option Nat) (x3 : Int32) (σ : zz_S) : zz_R :=
  zz_ck σ x2 109 fun a1 =>
  zz_cI (zF_J9_equals ρ a1 (ρ.1 3577) σ) (fun v4 σ5 =>
    if v4 = 0 then
      zJ_X9_command_263 ρ th x1 x3 σ5
    else
    zJ_X9_command_263 ρ th x1 (1 : Int32) σ5) zz_P
def zJ_X9_command_180 (ρ : zz_C) (th : Nat) (x1 : Option Nat) (x2 : Option Nat) (x3 : Int32) (σ : zz_S) : zz_R :=
  zz_ck σ x2 109 fun a1 =>
  zz_cI (zF_J9_equals ρ a1 (ρ.1 3578) σ) (fun v4 σ5 =>
    if v4 = 0 then
      zJ_X9_command_263 ρ th x1 x3 σ5
    else
    zJ_X9_command_263 ρ th x1 (2 : Int32) σ5) zz_P
def zJ_X9_command_152 (ρ : zz_C) (th : Nat) (x1 : Option Nat) (x2 : Option Nat) (x3 : Int32) (σ : zz_S) : zz_R :=
  zz_ck σ x2 109 fun a1 =>
  zz_cI (zF_J9_equals ρ a1 (ρ.1 3575) σ) (fun v4 σ5 =>
    if v4 = 0 then
      zJ_X9_command_263 ρ th x1 x3 σ5
    else
    zJ_X9_command_263 ρ th x1 (0 : Int32) σ5) zz_P
def zJ_X9_command_208 (ρ : zz_C) (th : Nat) (x1 : Option Nat) (x2 : Option Nat) (x3 : Int32) (σ : zz_S) : zz_R :=
  zz_ck σ x2 109 fun a1 =>
  zz_cI (zF_J9_equals ρ a1 (ρ.1 3580) σ) (fun v4 σ5 =>
    if v4 = 0 then
      zJ_X9_command_263 ρ th x1 x3 σ5
    else
    zJ_X9_command_263 ρ th x1 (4 : Int32) σ5) zz_P
def zJ_X9_command_194 (ρ : zz_C) (th : Nat) (x1 : Option Nat) (x2 : Option Nat) (x3 : Int32) (σ : zz_S) : zz_R :=
  zz_ck σ x2 109 fun a1 =>
  zz_cI (zF_J9_equals ρ a1 (ρ.1 3579) σ) (fun v4 σ5 =>
    if v4 = 0 then
      zJ_X9_command_263 ρ th x1 x3 σ5
    else
    zJ_X9_command_263 ρ th x1 (3 : Int32) σ5) zz_P
def zF_X9_command (ρ : zz_C) (th : Nat) (σ : zz_S) : zz_R :=
  zz_na σ 8 (11 : Int32) fun a1 σ2 =>
  if ¬ (zz_ok σ2 (ρ.1 3575) zz_c8 = true) then none else
  (zz_sR σ2 (some a1) 8 (0 : Int32) (ρ.1 3575)).bind fun σ3 =>
  if ¬ (zz_ok σ3 (ρ.1 3576) zz_c8 = true) then none else
  (zz_sR σ3 (some a1) 8 (1 : Int32) (ρ.1 3576)).bind fun σ4 =>
  if ¬ (zz_ok σ4 (ρ.1 3577) zz_c8 = true) then none else
  (zz_sR σ4 (some a1) 8 (2 : Int32) (ρ.1 3577)).bind fun σ5 =>
  if ¬ (zz_ok σ5 (ρ.1 3578) zz_c8 = true) then none else
  (zz_sR σ5 (some a1) 8 (3 : Int32) (ρ.1 3578)).bind fun σ6 =>
  if ¬ (zz_ok σ6 (ρ.1 3579) zz_c8 = true) then none else
  (zz_sR σ6 (some a1) 8 (4 : Int32) (ρ.1 3579)).bind fun σ7 =>
  if ¬ (zz_ok σ7 (ρ.1 3580) zz_c8 = true) then none else
  (zz_sR σ7 (some a1) 8 (5 : Int32) (ρ.1 3580)).bind fun σ8 =>
  if ¬ (zz_ok σ8 (ρ.1 3581) zz_c8 = true) then none else
  (zz_sR σ8 (some a1) 8 (6 : Int32) (ρ.1 3581)).bind fun σ9 =>
  if ¬ (zz_ok σ9 (ρ.1 3582) zz_c8 = true) then none else
  (zz_sR σ9 (some a1) 8 (7 : Int32) (ρ.1 3582)).bind fun σ10 =>
  if ¬ (zz_ok σ10 (ρ.1 3583) zz_c8 = true) then none else
  (zz_sR σ10 (some a1) 8 (8 : Int32) (ρ.1 3583)).bind fun σ11 =>
  if ¬ (zz_ok σ11 (ρ.1 3584) zz_c8 = true) then none else
  (zz_sR σ11 (some a1) 8 (9 : Int32) (ρ.1 3584)).bind fun σ12 =>
  if ¬ (zz_ok σ12 (ρ.1 3585) zz_c8 = true) then none else
  (zz_sR σ12 (some a1) 8 (10 : Int32) (ρ.1 3585)).bind fun σ13 =>
  zz_ck σ13 (some th) 9 fun a14 =>
  zz_cR (zF_X9_keyword ρ a14 (some a1) σ13) (fun v17 σ18 =>
    zz_ck σ18 v17 109 fun a19 =>
    zz_cI (zF_J9_hashCode ρ a19 σ18) (fun v22 σ23 =>
      if v22 = (-1881762130 : Int32) then
        zJ_X9_command_222 ρ th v17 v17 (-1 : Int32) σ23
      else
      if v22 = (-1351996586 : Int32) then
        zJ_X9_command_251 ρ th v17 v17 (-1 : Int32) σ23
      else
      if v22 = (3117733 : Int32) then
        zJ_X9_command_236 ρ th v17 v17 (-1 : Int32) σ23
      else
      if v22 = (3208439 : Int32) then
        zJ_X9_command_166 ρ th v17 v17 (-1 : Int32) σ23
      else
      if v22 = (95596716 : Int32) then
        zJ_X9_command_180 ρ th v17 v17 (-1 : Int32) σ23
      else
      if v22 = (97705212 : Int32) then
        zJ_X9_command_152 ρ th v17 v17 (-1 : Int32) σ23
      else
      if v22 = (102982466 : Int32) then
        zJ_X9_command_208 ρ th v17 v17 (-1 : Int32) σ23
      else
      if v22 = (1241855786 : Int32) then
        zJ_X9_command_194 ρ th v17 v17 (-1 : Int32) σ23
      else
      zJ_X9_command_263 ρ th v17 (-1 : Int32) σ23) zz_P) zz_P
def zL_X9_commands_16 (ρ : zz_C) : Nat → Nat → Option Nat → zz_S → zz_R
  | 0, _, _, _ => none
  | n + 1, th, x1, σ =>
    zz_ck σ (some th) 9 fun a1 =>
    zz_cI (zF_X9_accept ρ a1 (59 : Int32) σ) (fun v4 σ5 =>
      if v4 = 0 then
        (zz_gI σ5 (some th) 9 0).bind fun v6 =>
        (zz_gR σ5 (some th) 9 1).bind fun v7 =>
        (zz_gR σ5 v7 1 3).bind fun v8 =>
        zz_ck σ5 v8 108 fun a9 =>
        zz_cI (zF_J8_length ρ a9 σ5) (fun v12 σ13 =>
          if v6 = v12 then
            zz_ck σ13 (some th) 9 fun a19 =>
            zz_cV (zF_X9_require ρ a19 (1 : Int32) σ13) (fun σ23 =>
              zz_rR x1 σ23) zz_P
          else
          zz_ck σ13 (some th) 9 fun a14 =>
          zz_cV (zF_X9_require ρ a14 (0 : Int32) σ13) (fun σ18 =>
            zz_rR x1 σ18) zz_P) zz_P
      else
      zz_ck σ5 (some th) 9 fun a24 =>
      zz_cR (zF_X9_command ρ a24 σ5) (fun v27 σ28 =>
        zz_ck σ28 x1 140 fun a29 =>
        zz_cV (zF_J40_addLast ρ a29 v27 σ28) (fun σ33 =>
          zL_X9_commands_16 ρ n th x1 σ33) zz_P) zz_P) zz_P
def zF_X9_commands (ρ : zz_C) (th : Nat) (σ : zz_S) : zz_R :=
  zz_al σ (.inr (140, [.int 0, .int 0, .null, .null])) 4 fun a1 σ2 =>
  zz_cV (zF_J40_init ρ a1 σ2) (fun σ6 =>
    zz_ck σ6 (some th) 9 fun a7 =>
    zz_cR (zF_X9_command ρ a7 σ6) (fun v10 σ11 =>
      zz_ck σ11 (some a1) 140 fun a12 =>
      zz_cV (zF_J40_addLast ρ a12 v10 σ11) (fun σ16 =>
        zL_X9_commands_16 ρ ρ.2 th (some a1) σ16) zz_P) zz_P) zz_P
def zJ_X11_apply_296 (ρ : zz_C) (th : Nat) (x1 : Option Nat) (σ : zz_S) : zz_R :=
  (zz_gR σ (some th) 11 1).bind fun v1 =>
  (zz_aI σ v1 0 (0 : Int32)).bind fun v2 =>
  (zz_gR σ (some th) 11 1).bind fun v3 =>
  (zz_aI σ v3 0 (1 : Int32)).bind fun v4 =>
  zz_ck σ x1 2 fun a5 =>
  zz_cI (zF_X2_addFrog ρ a5 v2 v4 σ) (fun v8 σ9 =>
    zz_rI v8 σ9) zz_P
def zJ_X11_apply_328 (ρ : zz_C) (th : Nat) (x1 : Option Nat) (σ : zz_S) : zz_R :=
  (zz_gR σ (some th) 11 1).bind fun v1 =>
  (zz_aI σ v1 0 (0 : Int32)).bind fun v2 =>
  (zz_gR σ (some th) 11 1).bind fun v3 =>
  (zz_aI σ v3 0 (1 : Int32)).bind fun v4 =>
  zz_ck σ x1 2 fun a5 =>
  zz_cI (zF_X2_hop ρ a5 v2 v4 σ) (fun v8 σ9 =>
    zz_rI v8 σ9) zz_P
def zJ_X11_apply_373 (ρ : zz_C) (th : Nat) (x1 : Option Nat) (σ : zz_S) : zz_R :=
  (zz_gR σ (some th) 11 1).bind fun v1 =>
  (zz_aI σ v1 0 (0 : Int32)).bind fun v2 =>
  (zz_gR σ (some th) 11 1).bind fun v3 =>
  (zz_aI σ v3 0 (1 : Int32)).bind fun v4 =>
  zz_ck σ x1 2 fun a5 =>
  zz_cI (zF_X2_signUp ρ a5 v2 v4 σ) (fun v8 σ9 =>
    zz_rI v8 σ9) zz_P
def zJ_X11_apply_392 (ρ : zz_C) (th : Nat) (x1 : Option Nat) (σ : zz_S) : zz_R :=
  (zz_gR σ (some th) 11 1).bind fun v1 =>
  (zz_aI σ v1 0 (0 : Int32)).bind fun v2 =>
  (zz_gR σ (some th) 11 1).bind fun v3 =>
  (zz_aI σ v3 0 (1 : Int32)).bind fun v4 =>
  zz_ck σ x1 2 fun a5 =>
  zz_cI (zF_X2_strike ρ a5 v2 v4 σ) (fun v8 σ9 =>
    zz_rI v8 σ9) zz_P
def zJ_X11_apply_424 (ρ : zz_C) (th : Nat) (x1 : Option Nat) (σ : zz_S) : zz_R :=
  (zz_gR σ (some th) 11 1).bind fun v1 =>
  (zz_aI σ v1 0 (0 : Int32)).bind fun v2 =>
  (zz_gR σ (some th) 11 1).bind fun v3 =>
  (zz_aI σ v3 0 (1 : Int32)).bind fun v4 =>
  zz_ck σ x1 2 fun a5 =>
  zz_cI (zF_X2_supportClosure ρ a5 v2 v4 σ) (fun v8 σ9 =>
    zz_rI v8 σ9) zz_P
def zJ_X11_apply_443 (ρ : zz_C) (th : Nat) (x1 : Option Nat) (σ : zz_S) : zz_R :=
  (zz_gR σ (some th) 11 1).bind fun v1 =>
  (zz_aI σ v1 0 (0 : Int32)).bind fun v2 =>
  (zz_gR σ (some th) 11 1).bind fun v3 =>
  (zz_aI σ v3 0 (1 : Int32)).bind fun v4 =>
  (zz_gR σ (some th) 11 1).bind fun v5 =>
  (zz_aI σ v5 0 (3 : Int32)).bind fun v6 =>
  (zz_gR σ (some th) 11 1).bind fun v7 =>
  (zz_aI σ v7 0 (2 : Int32)).bind fun v8 =>
  if v8 = (1 : Int32) then
    zz_ck σ x1 2 fun a14 =>
    zz_cI (zF_X2_croak ρ a14 v2 v4 v6 (1 : Int32) σ) (fun v17 σ18 =>
      zz_rI v17 σ18) zz_P
  else
  zz_ck σ x1 2 fun a9 =>
  zz_cI (zF_X2_croak ρ a9 v2 v4 v6 (0 : Int32) σ) (fun v12 σ13 =>
    zz_rI v12 σ13) zz_P
def zJ_X11_apply_241 (ρ : zz_C) (th : Nat) (x1 : Option Nat) (x3 : Int32) (σ : zz_S) : zz_R :=
  if x3 < (0 : Int32) then
    (zz_gR σ (some th) 11 1).bind fun v1 =>
    (zz_aI σ v1 0 (0 : Int32)).bind fun v2 =>
    zz_ck σ x1 2 fun a3 =>
    zz_cI (zF_X2_decide ρ a3 v2 σ) (fun v6 σ7 =>
      zz_rI v6 σ7) zz_P
  else if (9 : Int32) < x3 then
    (zz_gR σ (some th) 11 1).bind fun v1 =>
    (zz_aI σ v1 0 (0 : Int32)).bind fun v2 =>
    zz_ck σ x1 2 fun a3 =>
    zz_cI (zF_X2_decide ρ a3 v2 σ) (fun v6 σ7 =>
      zz_rI v6 σ7) zz_P
  else
  if x3 = (0 : Int32) then
    zJ_X11_apply_296 ρ th x1 σ
  else
  if x3 = (1 : Int32) then
    (zz_gR σ (some th) 11 1).bind fun v8 =>
    (zz_aI σ v8 0 (0 : Int32)).bind fun v9 =>
    zz_ck σ x1 2 fun a10 =>
    zz_cI (zF_X2_addPad ρ a10 v9 σ) (fun v13 σ14 =>
      zz_rI v13 σ14) zz_P
  else
  if x3 = (2 : Int32) then
    zJ_X11_apply_328 ρ th x1 σ
  else
  if x3 = (3 : Int32) then
    (zz_gR σ (some th) 11 1).bind fun v15 =>
    (zz_aI σ v15 0 (0 : Int32)).bind fun v16 =>
    zz_ck σ x1 2 fun a17 =>
    zz_cI (zF_X2_dive ρ a17 v16 σ) (fun v20 σ21 =>
      zz_rI v20 σ21) zz_P
  else
  if x3 = (4 : Int32) then
    (zz_gR σ (some th) 11 1).bind fun v22 =>
    (zz_aI σ v22 0 (0 : Int32)).bind fun v23 =>
    zz_ck σ x1 2 fun a24 =>
    zz_cI (zF_X2_addMotion ρ a24 v23 σ) (fun v27 σ28 =>
      zz_rI v27 σ28) zz_P
  else
  if x3 = (5 : Int32) then
    zJ_X11_apply_373 ρ th x1 σ
  else
  if x3 = (6 : Int32) then
    zJ_X11_apply_392 ρ th x1 σ
  else
  if x3 = (7 : Int32) then
    (zz_gR σ (some th) 11 1).bind fun v29 =>
    (zz_aI σ v29 0 (0 : Int32)).bind fun v30 =>
    zz_ck σ x1 2 fun a31 =>
    zz_cI (zF_X2_callNext ρ a31 v30 σ) (fun v34 σ35 =>
      zz_rI v34 σ35) zz_P
  else
  if x3 = (8 : Int32) then
    zJ_X11_apply_424 ρ th x1 σ
  else
  if x3 = (9 : Int32) then
    zJ_X11_apply_443 ρ th x1 σ
  else
  none
def zJ_X11_apply_184 (ρ : zz_C) (th : Nat) (x1 : Option Nat) (x2 : Option Nat) (x3 : Int32) (σ : zz_S) : zz_R :=
  zz_ck σ x2 109 fun a1 =>
  zz_cI (zF_J9_equals ρ a1 (ρ.1 3771) σ) (fun v4 σ5 =>
    if v4 = 0 then
      zJ_X11_apply_241 ρ th x1 x3 σ5
    else
    zJ_X11_apply_241 ρ th x1 (6 : Int32) σ5) zz_P
def zJ_X11_apply_229 (ρ : zz_C) (th : Nat) (x1 : Option Nat) (x2 : Option Nat) (x3 : Int32) (σ : zz_S) : zz_R :=
  zz_ck σ x2 109 fun a1 =>
  zz_cI (zF_J9_equals ρ a1 (ρ.1 3774) σ) (fun v4 σ5 =>
    if v4 = 0 then
      zJ_X11_apply_241 ρ th x1 x3 σ5
    else
    zJ_X11_apply_241 ρ th x1 (9 : Int32) σ5) zz_P
def zJ_X11_apply_214 (ρ : zz_C) (th : Nat) (x1 : Option Nat) (x2 : Option Nat) (x3 : Int32) (σ : zz_S) : zz_R :=
  zz_ck σ x2 109 fun a1 =>
  zz_cI (zF_J9_equals ρ a1 (ρ.1 3773) σ) (fun v4 σ5 =>
    if v4 = 0 then
      zJ_X11_apply_241 ρ th x1 x3 σ5
    else
    zJ_X11_apply_241 ρ th x1 (8 : Int32) σ5) zz_P
def zJ_X11_apply_128 (ρ : zz_C) (th : Nat) (x1 : Option Nat) (x2 : Option Nat) (x3 : Int32) (σ : zz_S) : zz_R :=
  zz_ck σ x2 109 fun a1 =>
  zz_cI (zF_J9_equals ρ a1 (ρ.1 3767) σ) (fun v4 σ5 =>
    if v4 = 0 then
      zJ_X11_apply_241 ρ th x1 x3 σ5
    else
    zJ_X11_apply_241 ρ th x1 (2 : Int32) σ5) zz_P
def zJ_X11_apply_114 (ρ : zz_C) (th : Nat) (x1 : Option Nat) (x2 : Option Nat) (x3 : Int32) (σ : zz_S) : zz_R :=
  zz_ck σ x2 109 fun a1 =>
  zz_cI (zF_J9_equals ρ a1 (ρ.1 3766) σ) (fun v4 σ5 =>
    if v4 = 0 then
      zJ_X11_apply_241 ρ th x1 x3 σ5
    else
    zJ_X11_apply_241 ρ th x1 (1 : Int32) σ5) zz_P
def zJ_X11_apply_199 (ρ : zz_C) (th : Nat) (x1 : Option Nat) (x2 : Option Nat) (x3 : Int32) (σ : zz_S) : zz_R :=
  zz_ck σ x2 109 fun a1 =>
  zz_cI (zF_J9_equals ρ a1 (ρ.1 3772) σ) (fun v4 σ5 =>
    if v4 = 0 then
      zJ_X11_apply_241 ρ th x1 x3 σ5
    else
    zJ_X11_apply_241 ρ th x1 (7 : Int32) σ5) zz_P
def zJ_X11_apply_142 (ρ : zz_C) (th : Nat) (x1 : Option Nat) (x2 : Option Nat) (x3 : Int32) (σ : zz_S) : zz_R :=
  zz_ck σ x2 109 fun a1 =>
  zz_cI (zF_J9_equals ρ a1 (ρ.1 3768) σ) (fun v4 σ5 =>
    if v4 = 0 then
      zJ_X11_apply_241 ρ th x1 x3 σ5
    else
    zJ_X11_apply_241 ρ th x1 (3 : Int32) σ5) zz_P
def zJ_X11_apply_100 (ρ : zz_C) (th : Nat) (x1 : Option Nat) (x2 : Option Nat) (x3 : Int32) (σ : zz_S) : zz_R :=
  zz_ck σ x2 109 fun a1 =>
  zz_cI (zF_J9_equals ρ a1 (ρ.1 3764) σ) (fun v4 σ5 =>
    if v4 = 0 then
      zJ_X11_apply_241 ρ th x1 x3 σ5
    else
    zJ_X11_apply_241 ρ th x1 (0 : Int32) σ5) zz_P
def zJ_X11_apply_170 (ρ : zz_C) (th : Nat) (x1 : Option Nat) (x2 : Option Nat) (x3 : Int32) (σ : zz_S) : zz_R :=
  zz_ck σ x2 109 fun a1 =>
  zz_cI (zF_J9_equals ρ a1 (ρ.1 3770) σ) (fun v4 σ5 =>
    if v4 = 0 then
      zJ_X11_apply_241 ρ th x1 x3 σ5
    else
    zJ_X11_apply_241 ρ th x1 (5 : Int32) σ5) zz_P
def zJ_X11_apply_156 (ρ : zz_C) (th : Nat) (x1 : Option Nat) (x2 : Option Nat) (x3 : Int32) (σ : zz_S) : zz_R :=
  zz_ck σ x2 109 fun a1 =>
  zz_cI (zF_J9_equals ρ a1 (ρ.1 3769) σ) (fun v4 σ5 =>
    if v4 = 0 then
      zJ_X11_apply_241 ρ th x1 x3 σ5
    else
    zJ_X11_apply_241 ρ th x1 (4 : Int32) σ5) zz_P
def zF_X11_apply (ρ : zz_C) (th : Nat) (x1 : Option Nat) (σ : zz_S) : zz_R :=
  (zz_gR σ (some th) 11 0).bind fun v1 =>
  zz_ck σ v1 109 fun a2 =>
  zz_cI (zF_J9_hashCode ρ a2 σ) (fun v5 σ6 =>
    if v5 = (-1881762130 : Int32) then
      zJ_X11_apply_184 ρ th x1 v1 (-1 : Int32) σ6
    else
    if v5 = (-1351996586 : Int32) then
      zJ_X11_apply_229 ρ th x1 v1 (-1 : Int32) σ6
    else
    if v5 = (3117733 : Int32) then
      zJ_X11_apply_214 ρ th x1 v1 (-1 : Int32) σ6
    else
    if v5 = (3208439 : Int32) then
      zJ_X11_apply_128 ρ th x1 v1 (-1 : Int32) σ6
    else
    if v5 = (3432941 : Int32) then
      zJ_X11_apply_114 ρ th x1 v1 (-1 : Int32) σ6
    else
    if v5 = (94425474 : Int32) then
      zJ_X11_apply_199 ρ th x1 v1 (-1 : Int32) σ6
    else
    if v5 = (95596716 : Int32) then
      zJ_X11_apply_142 ρ th x1 v1 (-1 : Int32) σ6
    else
    if v5 = (97705212 : Int32) then
      zJ_X11_apply_100 ρ th x1 v1 (-1 : Int32) σ6
    else
    if v5 = (102982466 : Int32) then
      zJ_X11_apply_170 ρ th x1 v1 (-1 : Int32) σ6
    else
    if v5 = (1241855786 : Int32) then
      zJ_X11_apply_156 ρ th x1 v1 (-1 : Int32) σ6
    else
    zJ_X11_apply_241 ρ th x1 (-1 : Int32) σ6) zz_P
def zJ_X1_execute_55 (ρ : zz_C) (th : Nat) (x3 : Int32) (t0 : Option Nat) (σ : zz_S) : zz_R :=
  (zz_pf σ (some th) 1 9 8 (.int x3)).bind fun σ1 =>
  zz_al σ1 (.inr (138, [])) 6 fun a2 σ3 =>
  zz_th σ3 (some a2) zz_P
def zL_X1_execute_16 (ρ : zz_C) : Nat → Nat → Option Nat → Int32 → Option Nat → zz_S → zz_R
  | 0, _, _, _, _, _ => none
  | n + 1, th, x2, x3, x4, σ =>
    zz_ck σ x4 126 fun a1 =>
    zz_cI (zF_J26_hasNext ρ a1 σ) (fun v4 σ5 =>
      if v4 = 0 then
        (zz_gR σ5 (some th) 1 4).bind fun v6 =>
        zz_ck σ5 (some th) 1 fun a7 =>
        zz_cV (zF_X1_remember ρ a7 v6 σ5) (fun σ11 =>
          (zz_pf σ11 (some th) 1 9 4 (va_rf x2)).bind fun σ12 =>
          zz_rI x3 σ12) zz_P
      else
      zz_ck σ5 x4 126 fun a13 =>
      zz_cR (zF_J26_next ρ a13 σ5) (fun v16 σ17 =>
        if ¬ (zz_ok σ17 v16 [11] = true) then none else
        zz_ck σ17 v16 11 fun a18 =>
        zz_cI (zF_X11_apply ρ a18 x2 σ17) (fun v21 σ22 =>
          zL_X1_execute_16 ρ n th x2 (x3 + (1 : Int32)) x4 σ22)
          (fun q19 σ20 =>
            if q19.1 = 106 then
              zJ_X1_execute_55 ρ th x3 (some q19.2) σ20
            else
            if q19.1 = 138 then
              zJ_X1_execute_55 ρ th x3 (some q19.2) σ20
            else
            if q19.1 = 122 then
              zJ_X1_execute_55 ρ th x3 (some q19.2) σ20
            else
            if q19.1 = 143 then
              zJ_X1_execute_55 ρ th x3 (some q19.2) σ20
            else
            if q19.1 = 119 then
              zJ_X1_execute_55 ρ th x3 (some q19.2) σ20
            else
            none))
        (fun q14 σ15 =>
          none))
      (fun q2 σ3 =>
        none)
def zF_X1_execute (ρ : zz_C) (th : Nat) (x1 : Option Nat) (σ : zz_S) : zz_R :=
  (zz_gR σ (some th) 1 4).bind fun v1 =>
  zz_ck σ v1 2 fun a2 =>
  zz_cR (zF_X2_copy ρ a2 σ) (fun v5 σ6 =>
    zz_ck σ6 x1 140 fun a7 =>
    zz_cR (zF_J39_iterator ρ a7 σ6) (fun v10 σ11 =>
      zL_X1_execute_16 ρ ρ.2 th v5 (0 : Int32) v10 σ11)
      (fun q8 σ9 =>
        none)) zz_P
def zF_J13_rangeCheck (ρ : zz_C) (x0 : Int32) (x1 : Int32) (x2 : Int32) (σ : zz_S) : zz_R :=
  if x1 ≤ x2 then
    if 0 ≤ x1 then
      if x2 ≤ x0 then
        zz_rV σ
      else
      none
    else
    none
  else
  none
def zL_J13_fill_10 (ρ : zz_C) : Nat → Option Nat → Int32 → Int32 → Int32 → zz_S → zz_R
  | 0, _, _, _, _, _ => none
  | n + 1, x0, x2, x3, x4, σ =>
    if x2 ≤ x4 then
      zz_rV σ
    else
    (zz_sI σ x0 1 .byte x4 x3).bind fun σ1 =>
    zL_J13_fill_10 ρ n x0 x2 x3 (x4 + (1 : Int32)) σ1
def zF_J13_fill (ρ : zz_C) (x0 : Option Nat) (x1 : Int32) (x2 : Int32) (x3 : Int32) (σ : zz_S) : zz_R :=
  (zz_len σ x0).bind fun v1 =>
  zz_cV (zF_J13_rangeCheck ρ v1 x1 x2 σ) (fun σ5 =>
    zL_J13_fill_10 ρ ρ.2 x0 x2 x3 x1 σ5) zz_P
def zF_J15_fillNull (ρ : zz_C) (x0 : Option Nat) (x1 : Int32) (x2 : Int32) (σ : zz_S) : zz_R :=
  zz_cV (zF_J13_fill ρ x0 x1 x2 (0 : Int32) σ) (fun σ4 =>
    zz_rV σ4) zz_P
def zF_J7_setLength (ρ : zz_C) (th : Nat) (x1 : Int32) (σ : zz_S) : zz_R :=
  if 0 ≤ x1 then
    zz_ck σ (some th) 108 fun a1 =>
    zz_cV (zF_J7_ensureCapacityInternal ρ a1 x1 σ) (fun σ5 =>
      (zz_gI σ5 (some th) 108 3).bind fun v6 =>
      if x1 ≤ v6 then
        (zz_gI σ5 (some th) 108 3).bind fun v7 =>
        if v7 ≤ x1 then
          (zz_pf σ5 (some th) 108 4 3 (.int x1)).bind fun σ8 =>
          zz_rV σ8
        else
        (zz_pfN σ5 (some th) 108 4 2 .boolean (1 : Int32)).bind fun σ9 =>
        (zz_pf σ9 (some th) 108 4 3 (.int x1)).bind fun σ10 =>
        zz_rV σ10
      else
      zz_ck σ5 (some th) 108 fun a11 =>
      zz_cI (zF_J7_isLatin1 ρ a11 σ5) (fun v14 σ15 =>
        if v14 = 0 then
          (zz_gR σ15 (some th) 108 0).bind fun v16 =>
          (zz_gI σ15 (some th) 108 3).bind fun v17 =>
          none
        else
        (zz_gR σ15 (some th) 108 0).bind fun v18 =>
        (zz_gI σ15 (some th) 108 3).bind fun v19 =>
        zz_cV (zF_J15_fillNull ρ v18 v19 x1 σ15) (fun σ23 =>
          (zz_pf σ23 (some th) 108 4 3 (.int x1)).bind fun σ24 =>
          zz_rV σ24) zz_P) zz_P) zz_P
  else
  none
def zF_J8_setLength (ρ : zz_C) (th : Nat) (x1 : Int32) (σ : zz_S) : zz_R :=
  zz_ck σ (some th) 108 fun a1 =>
  zz_cV (zF_J7_setLength ρ a1 x1 σ) (fun σ5 =>
    zz_rV σ5) zz_P
def zJ_X1_run_43 (ρ : zz_C) (th : Nat) (t0 : Option Nat) (σ : zz_S) : zz_R :=
  (zz_gR σ (some th) 1 3).bind fun v1 =>
  zz_ck σ v1 108 fun a2 =>
  zz_cV (zF_J8_setLength ρ a2 (0 : Int32) σ) (fun σ6 =>
    zz_th σ6 t0 zz_P) zz_P
def zJ_X1_run_26 (ρ : zz_C) (th : Nat) (t0 : Option Nat) (σ : zz_S) : zz_R :=
  (zz_gI σ t0 10 6).bind fun v1 =>
  (zz_pf σ (some th) 1 9 7 (.int v1)).bind fun σ2 =>
  zz_al σ2 (.inr (106, [])) 6 fun a3 σ4 =>
  zz_th σ4 (some a3) (fun q5 σ6 =>
    if q5.1 = 106 then
      zJ_X1_run_43 ρ th (some q5.2) σ6
    else
    none)
def zF_X1_run (ρ : zz_C) (th : Nat) (σ : zz_S) : zz_R :=
  zz_al σ (.inr (9, [.int 0, .null])) 2 fun a1 σ2 =>
  zz_cV (zF_X9_init ρ a1 (some th) σ2) (fun σ6 =>
    zz_ck σ6 (some a1) 9 fun a7 =>
    zz_cR (zF_X9_commands ρ a7 σ6) (fun v10 σ11 =>
      zz_ck σ11 (some th) 1 fun a12 =>
      zz_cI (zF_X1_execute ρ a12 v10 σ11) (fun v15 σ16 =>
        (zz_gR σ16 (some th) 1 3).bind fun v17 =>
        zz_ck σ16 v17 108 fun a18 =>
        zz_cV (zF_J8_setLength ρ a18 (0 : Int32) σ16) (fun σ22 =>
          zz_rI v15 σ22) zz_P)
        (fun q13 σ14 =>
          if q13.1 = 138 then
            zJ_X1_run_43 ρ th (some q13.2) σ14
          else
          none))
      (fun q8 σ9 =>
        if q8.1 = 10 then
          zJ_X1_run_26 ρ th (some q8.2) σ9
        else
        none))
    (fun q3 σ4 =>
      none)
def zJ_X0_run_11 (ρ : zz_C) (t0 : Option Nat) (σ : zz_S) : zz_R :=
  zz_rI (1 : Int32) σ
def zJ_X0_run_14 (ρ : zz_C) (t0 : Option Nat) (σ : zz_S) : zz_R :=
  zz_rI (2 : Int32) σ
def zF_X0_run (ρ : zz_C) (x0 : Option Nat) (x1 : Option Nat) (σ : zz_S) : zz_R :=
  zz_ck σ x0 1 fun a1 =>
  zz_cI (zF_X1_run ρ a1 σ) (fun v4 σ5 =>
    (zz_sJ σ5 x1 3 (0 : Int32) (v4.toInt64)).bind fun σ6 =>
    zz_rI (0 : Int32) σ6)
    (fun q2 σ3 =>
      if q2.1 = 106 then
        zJ_X0_run_11 ρ (some q2.2) σ3
      else
      if q2.1 = 138 then
        zJ_X0_run_14 ρ (some q2.2) σ3
      else
      none)
def zF_X4_sign (ρ : zz_C) (th : Nat) (σ : zz_S) : zz_R :=
  (zz_gI σ (some th) 4 15).bind fun v1 =>
  (zz_gI σ (some th) 4 16).bind fun v2 =>
  if v2 ≤ v1 then
    zz_rI (-1 : Int32) σ
  else
  (zz_gR σ (some th) 4 9).bind fun v3 =>
  (zz_gI σ (some th) 4 15).bind fun v4 =>
  (zz_aI σ v3 0 v4).bind fun v5 =>
  zz_rI v5 σ
def zJ_X4_word_212 (ρ : zz_C) (K25 : Nat → Int32 → Int32 → zz_S → zz_R) (K167 : Nat → Int32 → Int32 → Int32 → zz_S → zz_R) (th : Nat) (x1 : Int32) (x4 : Int32) (t0 : Int32) (σ : zz_S) : zz_R :=
  K167 th x1 t0 (x4 + (1 : Int32)) σ
def zJ_X4_word_211 (ρ : zz_C) (K25 : Nat → Int32 → Int32 → zz_S → zz_R) (K167 : Nat → Int32 → Int32 → Int32 → zz_S → zz_R) (th : Nat) (x1 : Int32) (x2 : Int32) (x4 : Int32) (σ : zz_S) : zz_R :=
  zJ_X4_word_212 ρ K25 K167 th x1 x4 x2 σ
def zL_X4_word_167 (ρ : zz_C) (K25 : Nat → Int32 → Int32 → zz_S → zz_R) : Nat → Nat → Int32 → Int32 → Int32 → zz_S → zz_R
  | 0, _, _, _, _, _ => none
  | n + 1, th, x1, x2, x4, σ =>
    if (11 : Int32) ≤ x4 then
      K25 th x1 x2 σ
    else
    (zz_gR σ (some th) 4 11).bind fun v1 =>
    (zz_aI σ v1 0 x4).bind fun v2 =>
    if v2 = (1 : Int32) then
      (zz_gR σ (some th) 4 13).bind fun v3 =>
      (zz_aI σ v3 0 x4).bind fun v4 =>
      (zz_gR σ (some th) 4 13).bind fun v5 =>
      (zz_aI σ v5 0 (x4 + (1 : Int32))).bind fun v6 =>
      if (v4 + x1) = v6 then
        zJ_X4_word_212 ρ K25 (zL_X4_word_167 ρ K25 n) th x1 x4 x4 σ
      else
      zJ_X4_word_211 ρ K25 (zL_X4_word_167 ρ K25 n) th x1 x2 x4 σ
    else
    zJ_X4_word_211 ρ K25 (zL_X4_word_167 ρ K25 n) th x1 x2 x4 σ
def zJ_X4_word_157 (ρ : zz_C) (K25 : Nat → Int32 → Int32 → zz_S → zz_R) (th : Nat) (x1 : Int32) (x2 : Int32) (t0 : Int32) (t1 : Int32) (t2 : Option Nat) (σ : zz_S) : zz_R :=
  (zz_pf σ t2 4 20 15 (.int (t1 + t0))).bind fun σ1 =>
  zL_X4_word_167 ρ K25 ρ.2 th (x1 + (1 : Int32)) x2 (0 : Int32) σ1
def zJ_X4_word_140 (ρ : zz_C) (K25 : Nat → Int32 → Int32 → zz_S → zz_R) (th : Nat) (x1 : Int32) (x2 : Int32) (x3 : Int32) (t0 : Int32) (t1 : Option Nat) (σ : zz_S) : zz_R :=
  (zz_pfN σ t1 4 20 18 .boolean t0).bind fun σ1 =>
  (zz_gI σ1 (some th) 4 15).bind fun v2 =>
  if x3 = 0 then
    zJ_X4_word_157 ρ K25 th x1 x2 (0 : Int32) v2 (some th) σ1
  else
  zJ_X4_word_157 ρ K25 th x1 x2 (1 : Int32) v2 (some th) σ1
def zJ_X4_word_122 (ρ : zz_C) (K25 : Nat → Int32 → Int32 → zz_S → zz_R) (K41 : Nat → Int32 → Int32 → Int32 → Int32 → zz_S → zz_R) (th : Nat) (x1 : Int32) (x2 : Int32) (x4 : Int32) (t0 : Int32) (t1 : Int32) (σ : zz_S) : zz_R :=
  K41 th x1 x2 (t1 ||| t0) (x4 + (1 : Int32)) σ
def zJ_X4_word_103 (ρ : zz_C) (K25 : Nat → Int32 → Int32 → zz_S → zz_R) (K41 : Nat → Int32 → Int32 → Int32 → Int32 → zz_S → zz_R) (th : Nat) (x1 : Int32) (x2 : Int32) (x3 : Int32) (x4 : Int32) (t0 : Int32) (t1 : Int32) (t2 : Int32) (t3 : Option Nat) (σ : zz_S) : zz_R :=
  (zz_sI σ t3 0 .int t2 (t1 &&& t0)).bind fun σ1 =>
  (zz_gR σ1 (some th) 4 11).bind fun v2 =>
  (zz_aI σ1 v2 0 x4).bind fun v3 =>
  if v3 = (1 : Int32) then
    zJ_X4_word_122 ρ K25 K41 th x1 x2 x4 (1 : Int32) x3 σ1
  else
  zJ_X4_word_122 ρ K25 K41 th x1 x2 x4 (0 : Int32) x3 σ1
def zJ_X4_word_102 (ρ : zz_C) (K25 : Nat → Int32 → Int32 → zz_S → zz_R) (K41 : Nat → Int32 → Int32 → Int32 → Int32 → zz_S → zz_R) (th : Nat) (x1 : Int32) (x2 : Int32) (x3 : Int32) (x4 : Int32) (t0 : Int32) (t1 : Int32) (t2 : Option Nat) (σ : zz_S) : zz_R :=
  zJ_X4_word_103 ρ K25 K41 th x1 x2 x3 x4 (0 : Int32) t0 t1 t2 σ
def zL_X4_word_41 (ρ : zz_C) (K25 : Nat → Int32 → Int32 → zz_S → zz_R) : Nat → Nat → Int32 → Int32 → Int32 → Int32 → zz_S → zz_R
  | 0, _, _, _, _, _, _ => none
  | n + 1, th, x1, x2, x3, x4, σ =>
    if (11 : Int32) ≤ x4 then
      if x3 = 0 then
        zJ_X4_word_140 ρ K25 th x1 x2 x3 (1 : Int32) (some th) σ
      else
      zJ_X4_word_140 ρ K25 th x1 x2 x3 (0 : Int32) (some th) σ
    else
    (zz_gR σ (some th) 4 11).bind fun v1 =>
    (zz_aI σ v1 0 x4).bind fun v2 =>
    (zz_gR σ (some th) 4 13).bind fun v3 =>
    (zz_aI σ v3 0 x4).bind fun v4 =>
    (zz_gR σ (some th) 4 13).bind fun v5 =>
    (zz_aI σ v5 0 (x4 + (1 : Int32))).bind fun v6 =>
    if v6 ≤ (v4 + x1) then
      zJ_X4_word_102 ρ K25 (zL_X4_word_41 ρ K25 n) th x1 x2 x3 x4 v2 x4 v1 σ
    else
    (zz_gR σ (some th) 4 12).bind fun v7 =>
    (zz_gR σ (some th) 4 13).bind fun v8 =>
    (zz_aI σ v8 0 x4).bind fun v9 =>
    (zz_aI σ v7 0 (v9 + x1)).bind fun v10 =>
    zz_ck σ (some th) 4 fun a11 =>
    zz_cI (zF_X4_sign ρ a11 σ) (fun v14 σ15 =>
      if v10 = v14 then
        zJ_X4_word_103 ρ K25 (zL_X4_word_41 ρ K25 n) th x1 x2 x3 x4 (1 : Int32) v2 x4 v1 σ15
      else
      zJ_X4_word_102 ρ K25 (zL_X4_word_41 ρ K25 n) th x1 x2 x3 x4 v2 x4 v1 σ15) zz_P
def zL_X4_word_25 (ρ : zz_C) : Nat → Nat → Int32 → Int32 → zz_S → zz_R
  | 0, _, _, _, _ => none
  | n + 1, th, x1, x2, σ =>
    if 0 ≤ x2 then
      zz_rI x2 σ
    else
    (zz_gI σ (some th) 4 18).bind fun v1 =>
    if v1 = 0 then
      zL_X4_word_41 ρ (zL_X4_word_25 ρ n) ρ.2 th x1 x2 (0 : Int32) (0 : Int32) σ
    else
    zz_rI x2 σ
def zL_X4_word_2 (ρ : zz_C) : Nat → Nat → Int32 → zz_S → zz_R
  | 0, _, _, _ => none
  | n + 1, th, x1, σ =>
    if (11 : Int32) ≤ x1 then
      zL_X4_word_25 ρ ρ.2 th (0 : Int32) (-1 : Int32) σ
    else
    (zz_gR σ (some th) 4 11).bind fun v1 =>
    (zz_sI σ v1 0 .int x1 (1 : Int32)).bind fun σ2 =>
    zL_X4_word_2 ρ n th (x1 + (1 : Int32)) σ2
def zF_X4_word (ρ : zz_C) (th : Nat) (σ : zz_S) : zz_R :=
  zL_X4_word_2 ρ ρ.2 th (0 : Int32) σ
def zJ_X4_digits_59 (ρ : zz_C) (th : Nat) (x2 : Int32) (x3 : Int32) (σ : zz_S) : zz_R :=
  (zz_gI σ (some th) 4 18).bind fun v1 =>
  if x3 = 0 then
    (zz_pfN σ (some th) 4 20 18 .boolean (v1 ||| (1 : Int32))).bind fun σ3 =>
    zz_rI x2 σ3
  else
  (zz_pfN σ (some th) 4 20 18 .boolean (v1 ||| (0 : Int32))).bind fun σ2 =>
  zz_rI x2 σ2
def zL_X4_digits_4 (ρ : zz_C) : Nat → Nat → Int32 → Int32 → Int32 → zz_S → zz_R
  | 0, _, _, _, _, _ => none
  | n + 1, th, x1, x2, x3, σ =>
    (zz_gI σ (some th) 4 18).bind fun v1 =>
    if v1 = 0 then
      if x1 ≤ x3 then
        zJ_X4_digits_59 ρ th x2 x3 σ
      else
      zz_ck σ (some th) 4 fun a2 =>
      zz_cI (zF_X4_sign ρ a2 σ) (fun v5 σ6 =>
        zz_cI (zF_X4_isIn ρ v5 (48 : Int32) (57 : Int32) σ6) (fun v9 σ10 =>
          if v9 = 0 then
            zJ_X4_digits_59 ρ th x2 x3 σ10
          else
          zz_ck σ10 (some th) 4 fun a11 =>
          zz_cI (zF_X4_sign ρ a11 σ10) (fun v14 σ15 =>
            (zz_gI σ15 (some th) 4 15).bind fun v16 =>
            (zz_pf σ15 (some th) 4 20 15 (.int (v16 + (1 : Int32)))).bind fun σ17 =>
            zL_X4_digits_4 ρ n th x1 ((((10 : Int32) * x2) + v14) - (48 : Int32)) (x3 + (1 : Int32)) σ17) zz_P) zz_P) zz_P
    else
    zJ_X4_digits_59 ρ th x2 x3 σ
def zF_X4_digits (ρ : zz_C) (th : Nat) (x1 : Int32) (σ : zz_S) : zz_R :=
  zL_X4_digits_4 ρ ρ.2 th x1 (0 : Int32) (0 : Int32) σ
def zJ_X4_mark_22 (ρ : zz_C) (th : Nat) (t0 : Int32) (t1 : Option Nat) (σ : zz_S) : zz_R :=
  (zz_pfN σ t1 4 20 18 .boolean t0).bind fun σ1 =>
  (zz_gI σ1 (some th) 4 15).bind fun v2 =>
  (zz_gI σ1 (some th) 4 18).bind fun v3 =>
  if v3 = 0 then
    (zz_pf σ1 (some th) 4 20 15 (.int (v2 + (1 : Int32)))).bind fun σ4 =>
    zz_rV σ4
  else
  (zz_pf σ1 (some th) 4 20 15 (.int (v2 + (0 : Int32)))).bind fun σ5 =>
  zz_rV σ5
def zF_X4_mark (ρ : zz_C) (th : Nat) (x1 : Int32) (σ : zz_S) : zz_R :=
  (zz_gI σ (some th) 4 18).bind fun v1 =>
  if v1 = 0 then
    zz_ck σ (some th) 4 fun a2 =>
    zz_cI (zF_X4_sign ρ a2 σ) (fun v5 σ6 =>
      if v5 = x1 then
        zJ_X4_mark_22 ρ th (0 : Int32) (some th) σ6
      else
      zJ_X4_mark_22 ρ th (1 : Int32) (some th) σ6) zz_P
  else
  zz_rV σ
def zF_X4_behind (ρ : zz_C) (th : Nat) (x1 : Int32) (σ : zz_S) : zz_R :=
  zz_ck σ (some th) 4 fun a1 =>
  zz_cV (zF_X4_mark ρ a1 (32 : Int32) σ) (fun σ5 =>
    (zz_gI σ5 (some th) 4 18).bind fun v6 =>
    if v6 = 0 then
      zz_ck σ5 (some th) 4 fun a7 =>
      zz_cI (zF_X4_digits ρ a7 x1 σ5) (fun v10 σ11 =>
        zz_rI v10 σ11) zz_P
    else
    zz_rI (0 : Int32) σ5) zz_P
def zJ_X4_plus_52 (ρ : zz_C) (x1 : Int32) (t0 : Int32) (t1 : Int32) (t2 : Option Nat) (σ : zz_S) : zz_R :=
  (zz_pf σ t2 4 20 15 (.int (t1 + t0))).bind fun σ1 =>
  if x1 = (43 : Int32) then
    zz_rI (1 : Int32) σ1
  else
  zz_rI (0 : Int32) σ1
def zJ_X4_plus_32 (ρ : zz_C) (th : Nat) (x1 : Int32) (t0 : Int32) (t1 : Option Nat) (σ : zz_S) : zz_R :=
  (zz_pfN σ t1 4 20 18 .boolean t0).bind fun σ1 =>
  (zz_gI σ1 (some th) 4 15).bind fun v2 =>
  (zz_gI σ1 (some th) 4 18).bind fun v3 =>
  if v3 = 0 then
    zJ_X4_plus_52 ρ x1 (1 : Int32) v2 (some th) σ1
  else
  zJ_X4_plus_52 ρ x1 (0 : Int32) v2 (some th) σ1
def zJ_X4_plus_31 (ρ : zz_C) (th : Nat) (x1 : Int32) (t0 : Option Nat) (σ : zz_S) : zz_R :=
  zJ_X4_plus_32 ρ th x1 (0 : Int32) t0 σ
def zF_X4_plus (ρ : zz_C) (th : Nat) (σ : zz_S) : zz_R :=
  (zz_gI σ (some th) 4 18).bind fun v1 =>
  if v1 = 0 then
    zz_ck σ (some th) 4 fun a2 =>
    zz_cI (zF_X4_sign ρ a2 σ) (fun v5 σ6 =>
      if v5 = (43 : Int32) then
        zJ_X4_plus_31 ρ th v5 (some th) σ6
      else
      if v5 = (45 : Int32) then
        zJ_X4_plus_31 ρ th v5 (some th) σ6
      else
      zJ_X4_plus_32 ρ th v5 (1 : Int32) (some th) σ6) zz_P
  else
  zz_rI (0 : Int32) σ
def zL_X4_hasCroaked_2 (ρ : zz_C) : Nat → Nat → Int32 → Int32 → Int32 → zz_S → zz_R
  | 0, _, _, _, _, _ => none
  | n + 1, th, x1, x2, x3, σ =>
    (zz_gR σ (some th) 4 5).bind fun v1 =>
    zz_cI (zF_X4_of ρ x1 (7 : Int32) σ) (fun v4 σ5 =>
      (zz_aI σ5 v1 0 v4).bind fun v6 =>
      if v6 ≤ x3 then
        zz_rN .boolean (0 : Int32) σ5
      else
      (zz_gR σ5 (some th) 4 5).bind fun v7 =>
      zz_cI (zF_X4_croaked ρ x1 x3 σ5) (fun v10 σ11 =>
        (zz_aI σ11 v7 0 v10).bind fun v12 =>
        if v12 = x2 then
          zz_rN .boolean (1 : Int32) σ11
        else
        zL_X4_hasCroaked_2 ρ n th x1 x2 (x3 + (1 : Int32)) σ11) zz_P) zz_P
def zF_X4_hasCroaked (ρ : zz_C) (th : Nat) (x1 : Int32) (x2 : Int32) (σ : zz_S) : zz_R :=
  zL_X4_hasCroaked_2 ρ ρ.2 th x1 x2 (0 : Int32) σ
def zF_X4_croaks (ρ : zz_C) (th : Nat) (x1 : Int32) (x2 : Int32) (x3 : Int32) (x4 : Int32) (σ : zz_S) : zz_R :=
  zz_ck σ (some th) 4 fun a1 =>
  zz_cI (zF_X4_areThere ρ a1 x1 x2 σ) (fun v4 σ5 =>
    if v4 = 0 then
      zz_ck σ5 (some th) 4 fun a83 =>
      zz_cI (zF_X4_fail ρ a83 (1 : Int32) σ5) (fun v86 σ87 =>
        zz_rI v86 σ87) zz_P
    else
    zz_cI (zF_X4_isIn ρ x3 (1 : Int32) (9 : Int32) σ5) (fun v8 σ9 =>
      if v8 = 0 then
        zz_ck σ9 (some th) 4 fun a10 =>
        zz_cI (zF_X4_fail ρ a10 (2 : Int32) σ9) (fun v13 σ14 =>
          zz_rI v13 σ14) zz_P
      else
      zz_ck σ9 (some th) 4 fun a15 =>
      zz_cI (zF_X4_isFor ρ a15 x1 x2 σ9) (fun v18 σ19 =>
        if v18 = 0 then
          zz_ck σ19 (some th) 4 fun a78 =>
          zz_cI (zF_X4_fail ρ a78 (2 : Int32) σ19) (fun v81 σ82 =>
            zz_rI v81 σ82) zz_P
        else
        zz_ck σ19 (some th) 4 fun a20 =>
        zz_cI (zF_X4_isDue ρ a20 x1 σ19) (fun v23 σ24 =>
          if v23 = 0 then
            zz_ck σ24 (some th) 4 fun a73 =>
            zz_cI (zF_X4_fail ρ a73 (3 : Int32) σ24) (fun v76 σ77 =>
              zz_rI v76 σ77) zz_P
          else
          zz_ck σ24 (some th) 4 fun a25 =>
          zz_cI (zF_X4_isOn ρ a25 x2 σ24) (fun v28 σ29 =>
            if v28 = 0 then
              zz_ck σ29 (some th) 4 fun a30 =>
              zz_cI (zF_X4_fail ρ a30 (4 : Int32) σ29) (fun v33 σ34 =>
                zz_rI v33 σ34) zz_P
            else
            zz_ck σ29 (some th) 4 fun a35 =>
            zz_cI (zF_X4_hasCroaked ρ a35 x1 x2 σ29) (fun v38 σ39 =>
              if v38 = 0 then
                (zz_gR σ39 (some th) 4 5).bind fun v40 =>
                zz_cI (zF_X4_of ρ x1 (7 : Int32) σ39) (fun v43 σ44 =>
                  (zz_aI σ44 v40 0 v43).bind fun v45 =>
                  zz_cI (zF_X4_croaked ρ x1 v45 σ44) (fun v48 σ49 =>
                    (zz_gR σ49 (some th) 4 5).bind fun v50 =>
                    (zz_sI σ49 v50 0 .int v48 x2).bind fun σ51 =>
                    (zz_gR σ51 (some th) 4 5).bind fun v52 =>
                    (zz_sI σ51 v52 0 .int (v48 + (1 : Int32)) x3).bind fun σ53 =>
                    (zz_gR σ53 (some th) 4 5).bind fun v54 =>
                    (zz_sI σ53 v54 0 .int (v48 + (2 : Int32)) x4).bind fun σ55 =>
                    (zz_gR σ55 (some th) 4 5).bind fun v56 =>
                    zz_cI (zF_X4_of ρ x1 (7 : Int32) σ55) (fun v59 σ60 =>
                      (zz_aI σ60 v56 0 v59).bind fun v61 =>
                      (zz_sI σ60 v56 0 .int v59 (v61 + (1 : Int32))).bind fun σ62 =>
                      zz_ck σ62 (some th) 4 fun a63 =>
                      zz_cI (zF_X4_sum ρ a63 x1 x4 σ62) (fun v66 σ67 =>
                        zz_rI v66 σ67) zz_P) zz_P) zz_P) zz_P
              else
              zz_ck σ39 (some th) 4 fun a68 =>
              zz_cI (zF_X4_fail ρ a68 (4 : Int32) σ39) (fun v71 σ72 =>
                zz_rI v71 σ72) zz_P) zz_P) zz_P) zz_P) zz_P) zz_P) zz_P
def zF_X4_does (ρ : zz_C) (th : Nat) (x1 : Int32) (x2 : Int32) (x3 : Int32) (x4 : Int32) (x5 : Int32) (σ : zz_S) : zz_R :=
  if x1 < (0 : Int32) then
    zz_ck σ (some th) 4 fun a1 =>
    zz_cI (zF_X4_decides ρ a1 x2 σ) (fun v4 σ5 =>
      zz_rI v4 σ5) zz_P
  else if (9 : Int32) < x1 then
    zz_ck σ (some th) 4 fun a1 =>
    zz_cI (zF_X4_decides ρ a1 x2 σ) (fun v4 σ5 =>
      zz_rI v4 σ5) zz_P
  else
  if x1 = (0 : Int32) then
    zz_ck σ (some th) 4 fun a6 =>
    zz_cI (zF_X4_adds ρ a6 x2 x3 σ) (fun v9 σ10 =>
      zz_rI v9 σ10) zz_P
  else
  if x1 = (1 : Int32) then
    zz_ck σ (some th) 4 fun a11 =>
    zz_cI (zF_X4_addsPad ρ a11 x2 σ) (fun v14 σ15 =>
      zz_rI v14 σ15) zz_P
  else
  if x1 = (2 : Int32) then
    zz_ck σ (some th) 4 fun a16 =>
    zz_cI (zF_X4_hops ρ a16 x2 x3 σ) (fun v19 σ20 =>
      zz_rI v19 σ20) zz_P
  else
  if x1 = (3 : Int32) then
    zz_ck σ (some th) 4 fun a21 =>
    zz_cI (zF_X4_dives ρ a21 x2 σ) (fun v24 σ25 =>
      zz_rI v24 σ25) zz_P
  else
  if x1 = (4 : Int32) then
    zz_ck σ (some th) 4 fun a26 =>
    zz_cI (zF_X4_moves ρ a26 x2 σ) (fun v29 σ30 =>
      zz_rI v29 σ30) zz_P
  else
  if x1 = (5 : Int32) then
    zz_ck σ (some th) 4 fun a31 =>
    zz_cI (zF_X4_signs ρ a31 x2 x3 σ) (fun v34 σ35 =>
      zz_rI v34 σ35) zz_P
  else
  if x1 = (6 : Int32) then
    zz_ck σ (some th) 4 fun a36 =>
    zz_cI (zF_X4_strikes ρ a36 x2 x3 σ) (fun v39 σ40 =>
      zz_rI v39 σ40) zz_P
  else
  if x1 = (7 : Int32) then
    zz_ck σ (some th) 4 fun a41 =>
    zz_cI (zF_X4_calls ρ a41 x2 σ) (fun v44 σ45 =>
      zz_rI v44 σ45) zz_P
  else
  if x1 = (8 : Int32) then
    zz_ck σ (some th) 4 fun a46 =>
    zz_cI (zF_X4_backs ρ a46 x2 x3 σ) (fun v49 σ50 =>
      zz_rI v49 σ50) zz_P
  else
  if x1 = (9 : Int32) then
    zz_ck σ (some th) 4 fun a51 =>
    zz_cI (zF_X4_croaks ρ a51 x2 x3 x4 x5 σ) (fun v54 σ55 =>
      zz_rI v54 σ55) zz_P
  else
  none
def zJ_X4_command_143 (ρ : zz_C) (th : Nat) (x1 : Int32) (x2 : Int32) (x3 : Int32) (x4 : Int32) (x5 : Int32) (σ : zz_S) : zz_R :=
  (zz_gI σ (some th) 4 18).bind fun v1 =>
  if v1 = 0 then
    (zz_gI σ (some th) 4 19).bind fun v2 =>
    if v2 = 0 then
      zz_rV σ
    else
    zz_ck σ (some th) 4 fun a3 =>
    zz_cI (zF_X4_does ρ a3 x1 x5 x2 x3 x4 σ) (fun v6 σ7 =>
      zz_rV σ7) zz_P
  else
  zz_rV σ
def zJ_X4_command_124 (ρ : zz_C) (th : Nat) (x1 : Int32) (x2 : Int32) (x3 : Int32) (x4 : Int32) (x5 : Int32) (σ : zz_S) : zz_R :=
  if x1 = (9 : Int32) then
    (zz_gI σ (some th) 4 18).bind fun v1 =>
    if v1 = 0 then
      zz_ck σ (some th) 4 fun a2 =>
      zz_cI (zF_X4_digits ρ a2 (1 : Int32) σ) (fun v5 σ6 =>
        zJ_X4_command_143 ρ th x1 x2 v5 x4 x5 σ6) zz_P
    else
    zJ_X4_command_143 ρ th x1 x2 x3 x4 x5 σ
  else
  zJ_X4_command_143 ρ th x1 x2 x3 x4 x5 σ
def zJ_X4_command_112 (ρ : zz_C) (th : Nat) (x1 : Int32) (x2 : Int32) (x3 : Int32) (x4 : Int32) (x5 : Int32) (σ : zz_S) : zz_R :=
  if x1 = (9 : Int32) then
    zz_ck σ (some th) 4 fun a1 =>
    zz_cI (zF_X4_plus ρ a1 σ) (fun v4 σ5 =>
      zJ_X4_command_124 ρ th x1 x2 x3 v4 x5 σ5) zz_P
  else
  zJ_X4_command_124 ρ th x1 x2 x3 x4 x5 σ
def zJ_X4_command_99 (ρ : zz_C) (th : Nat) (x1 : Int32) (x2 : Int32) (x3 : Int32) (x4 : Int32) (x5 : Int32) (σ : zz_S) : zz_R :=
  (zz_gI σ (some th) 4 18).bind fun v1 =>
  if v1 = 0 then
    zz_ck σ (some th) 4 fun a2 =>
    zz_cI (zF_X4_behind ρ a2 (2 : Int32) σ) (fun v5 σ6 =>
      zJ_X4_command_112 ρ th x1 v5 x3 x4 x5 σ6) zz_P
  else
  zJ_X4_command_112 ρ th x1 x2 x3 x4 x5 σ
def zJ_X4_command_76 (ρ : zz_C) (th : Nat) (x1 : Int32) (x2 : Int32) (x3 : Int32) (x4 : Int32) (x5 : Int32) (σ : zz_S) : zz_R :=
  if x1 = (5 : Int32) then
    zJ_X4_command_99 ρ th x1 x2 x3 x4 x5 σ
  else
  if x1 = (6 : Int32) then
    zJ_X4_command_99 ρ th x1 x2 x3 x4 x5 σ
  else
  if x1 = (8 : Int32) then
    zJ_X4_command_99 ρ th x1 x2 x3 x4 x5 σ
  else
  if x1 = (9 : Int32) then
    zJ_X4_command_99 ρ th x1 x2 x3 x4 x5 σ
  else
  zJ_X4_command_112 ρ th x1 x2 x3 x4 x5 σ
def zJ_X4_command_58 (ρ : zz_C) (th : Nat) (x1 : Int32) (x2 : Int32) (x3 : Int32) (x4 : Int32) (x5 : Int32) (σ : zz_S) : zz_R :=
  if x1 = (2 : Int32) then
    (zz_gI σ (some th) 4 18).bind fun v1 =>
    if v1 = 0 then
      zz_ck σ (some th) 4 fun a2 =>
      zz_cI (zF_X4_behind ρ a2 (1 : Int32) σ) (fun v5 σ6 =>
        zJ_X4_command_76 ρ th x1 v5 x3 x4 x5 σ6) zz_P
    else
    zJ_X4_command_76 ρ th x1 x2 x3 x4 x5 σ
  else
  zJ_X4_command_76 ρ th x1 x2 x3 x4 x5 σ
def zJ_X4_command_36 (ρ : zz_C) (th : Nat) (x1 : Int32) (x2 : Int32) (x3 : Int32) (x4 : Int32) (t0 : Int32) (t1 : Option Nat) (σ : zz_S) : zz_R :=
  zz_ck σ t1 4 fun a1 =>
  zz_cI (zF_X4_digits ρ a1 t0 σ) (fun v4 σ5 =>
    if x1 = 0 then
      (zz_gI σ5 (some th) 4 18).bind fun v6 =>
      if v6 = 0 then
        zz_ck σ5 (some th) 4 fun a7 =>
        zz_cI (zF_X4_digits ρ a7 (1 : Int32) σ5) (fun v10 σ11 =>
          zJ_X4_command_58 ρ th x1 v10 x3 x4 v4 σ11) zz_P
      else
      zJ_X4_command_58 ρ th x1 x2 x3 x4 v4 σ5
    else
    zJ_X4_command_58 ρ th x1 x2 x3 x4 v4 σ5) zz_P
def zJ_X4_command_35 (ρ : zz_C) (th : Nat) (x1 : Int32) (x2 : Int32) (x3 : Int32) (x4 : Int32) (t0 : Option Nat) (σ : zz_S) : zz_R :=
  zJ_X4_command_36 ρ th x1 x2 x3 x4 (1 : Int32) t0 σ
def zF_X4_command (ρ : zz_C) (th : Nat) (σ : zz_S) : zz_R :=
  zz_ck σ (some th) 4 fun a1 =>
  zz_cI (zF_X4_word ρ a1 σ) (fun v4 σ5 =>
    (zz_gI σ5 (some th) 4 18).bind fun v6 =>
    if v6 = 0 then
      if v4 < (2 : Int32) then
        zJ_X4_command_35 ρ th v4 (0 : Int32) (0 : Int32) (0 : Int32) (some th) σ5
      else
      if (4 : Int32) < v4 then
        zJ_X4_command_35 ρ th v4 (0 : Int32) (0 : Int32) (0 : Int32) (some th) σ5
      else
      zJ_X4_command_36 ρ th v4 (0 : Int32) (0 : Int32) (0 : Int32) (2 : Int32) (some th) σ5
    else
    zz_rV σ5) zz_P
def zJ_X4_commands_58 (ρ : zz_C) (K16 : Nat → Int32 → zz_S → zz_R) (th : Nat) (x1 : Int32) (σ : zz_S) : zz_R :=
  K16 th (x1 + (1 : Int32)) σ
def zL_X4_commands_16 (ρ : zz_C) : Nat → Nat → Int32 → zz_S → zz_R
  | 0, _, _, _ => none
  | n + 1, th, x1, σ =>
    (zz_gI σ (some th) 4 18).bind fun v1 =>
    if v1 = 0 then
      (zz_gI σ (some th) 4 0).bind fun v2 =>
      if v2 = 0 then
        (zz_gI σ (some th) 4 15).bind fun v3 =>
        (zz_gI σ (some th) 4 16).bind fun v4 =>
        if v4 ≤ v3 then
          zz_rI x1 σ
        else
        zz_ck σ (some th) 4 fun a5 =>
        zz_cV (zF_X4_mark ρ a5 (59 : Int32) σ) (fun σ9 =>
          (zz_gI σ9 (some th) 4 18).bind fun v10 =>
          if v10 = 0 then
            zz_ck σ9 (some th) 4 fun a11 =>
            zz_cV (zF_X4_command ρ a11 σ9) (fun σ15 =>
              zJ_X4_commands_58 ρ (zL_X4_commands_16 ρ n) th x1 σ15) zz_P
          else
          zJ_X4_commands_58 ρ (zL_X4_commands_16 ρ n) th x1 σ9) zz_P
      else
      zz_rI x1 σ
    else
    zz_rI x1 σ
def zF_X4_commands (ρ : zz_C) (th : Nat) (σ : zz_S) : zz_R :=
  (zz_pf σ (some th) 4 20 15 (.int (0 : Int32))).bind fun σ1 =>
  (zz_pfN σ1 (some th) 4 20 18 .boolean (0 : Int32)).bind fun σ2 =>
  zz_ck σ2 (some th) 4 fun a3 =>
  zz_cV (zF_X4_command ρ a3 σ2) (fun σ7 =>
    zL_X4_commands_16 ρ ρ.2 th (1 : Int32) σ7) zz_P
def zF_X4_run (ρ : zz_C) (th : Nat) (σ : zz_S) : zz_R :=
  zz_ck σ (some th) 4 fun a1 =>
  zz_cV (zF_X4_begins ρ a1 σ) (fun σ5 =>
    (zz_gI σ5 (some th) 4 14).bind fun v6 =>
    (zz_pf σ5 (some th) 4 20 16 (.int v6)).bind fun σ7 =>
    (zz_pf σ7 (some th) 4 20 14 (.int (0 : Int32))).bind fun σ8 =>
    (zz_pfN σ8 (some th) 4 20 19 .boolean (0 : Int32)).bind fun σ9 =>
    zz_ck σ9 (some th) 4 fun a10 =>
    zz_cI (zF_X4_commands ρ a10 σ9) (fun v13 σ14 =>
      (zz_gI σ14 (some th) 4 18).bind fun v15 =>
      if v15 = 0 then
        (zz_pfN σ14 (some th) 4 20 19 .boolean (1 : Int32)).bind fun σ16 =>
        zz_ck σ16 (some th) 4 fun a17 =>
        zz_cI (zF_X4_commands ρ a17 σ16) (fun v20 σ21 =>
          (zz_gI σ21 (some th) 4 0).bind fun v22 =>
          if v22 = 0 then
            zz_ck σ21 (some th) 4 fun a23 =>
            zz_cI (zF_X4_ends ρ a23 v20 σ21) (fun v26 σ27 =>
              zz_rI v26 σ27) zz_P
          else
          (zz_pf σ21 (some th) 4 20 3 (.int (v20 - (1 : Int32)))).bind fun σ28 =>
          (zz_pf σ28 (some th) 4 20 0 (.int (2 : Int32))).bind fun σ29 =>
          zz_ck σ29 (some th) 4 fun a30 =>
          zz_cI (zF_X4_ends ρ a30 v20 σ29) (fun v33 σ34 =>
            zz_rI v33 σ34) zz_P) zz_P
      else
      (zz_gI σ14 (some th) 4 15).bind fun v35 =>
      (zz_pf σ14 (some th) 4 20 2 (.int v35)).bind fun σ36 =>
      zz_ck σ36 (some th) 4 fun a37 =>
      zz_cI (zF_X4_fail ρ a37 (1 : Int32) σ36) (fun v40 σ41 =>
        zz_rI v40 σ41) zz_P) zz_P) zz_P
def zF_X1_errorPosition (ρ : zz_C) (th : Nat) (σ : zz_S) : zz_R :=
  (zz_gI σ (some th) 1 7).bind fun v1 =>
  if v1 < 0 then
    zz_cV (zF_X1_checkElement ρ (0 : Int32) σ) (fun σ5 =>
      (zz_gI σ5 (some th) 1 7).bind fun v6 =>
      zz_rI v6 σ5) zz_P
  else
  zz_cV (zF_X1_checkElement ρ (1 : Int32) σ) (fun σ10 =>
    (zz_gI σ10 (some th) 1 7).bind fun v11 =>
    zz_rI v11 σ10) zz_P
def zJ_X0_errorPosition_11 (ρ : zz_C) (t0 : Option Nat) (σ : zz_S) : zz_R :=
  zz_rI (1 : Int32) σ
def zF_X0_errorPosition (ρ : zz_C) (x0 : Option Nat) (x1 : Option Nat) (σ : zz_S) : zz_R :=
  zz_ck σ x0 1 fun a1 =>
  zz_cI (zF_X1_errorPosition ρ a1 σ) (fun v4 σ5 =>
    (zz_sJ σ5 x1 3 (0 : Int32) (v4.toInt64)).bind fun σ6 =>
    zz_rI (0 : Int32) σ6)
    (fun q2 σ3 =>
      if q2.1 = 119 then
        zJ_X0_errorPosition_11 ρ (some q2.2) σ3
      else
      none)
def zJ_X4_errorPosition_13 (ρ : zz_C) (th : Nat) (t0 : Int32) (t1 : Option Nat) (σ : zz_S) : zz_R :=
  (zz_pf σ t1 4 20 0 (.int t0)).bind fun σ1 =>
  (zz_gI σ1 (some th) 4 0).bind fun v2 =>
  if v2 = 0 then
    (zz_gI σ1 (some th) 4 2).bind fun v3 =>
    zz_rI v3 σ1
  else
  zz_rI (0 : Int32) σ1
def zF_X4_errorPosition (ρ : zz_C) (th : Nat) (σ : zz_S) : zz_R :=
  (zz_gI σ (some th) 4 2).bind fun v1 =>
  if 0 ≤ v1 then
    zJ_X4_errorPosition_13 ρ th (0 : Int32) (some th) σ
  else
  zJ_X4_errorPosition_13 ρ th (1 : Int32) (some th) σ
def zF_X1_failedCommand (ρ : zz_C) (th : Nat) (σ : zz_S) : zz_R :=
  (zz_gI σ (some th) 1 8).bind fun v1 =>
  if v1 < 0 then
    zz_cV (zF_X1_checkElement ρ (0 : Int32) σ) (fun σ5 =>
      (zz_gI σ5 (some th) 1 8).bind fun v6 =>
      zz_rI v6 σ5) zz_P
  else
  zz_cV (zF_X1_checkElement ρ (1 : Int32) σ) (fun σ10 =>
    (zz_gI σ10 (some th) 1 8).bind fun v11 =>
    zz_rI v11 σ10) zz_P
def zJ_X0_failedCommand_11 (ρ : zz_C) (t0 : Option Nat) (σ : zz_S) : zz_R :=
  zz_rI (1 : Int32) σ
def zF_X0_failedCommand (ρ : zz_C) (x0 : Option Nat) (x1 : Option Nat) (σ : zz_S) : zz_R :=
  zz_ck σ x0 1 fun a1 =>
  zz_cI (zF_X1_failedCommand ρ a1 σ) (fun v4 σ5 =>
    (zz_sJ σ5 x1 3 (0 : Int32) (v4.toInt64)).bind fun σ6 =>
    zz_rI (0 : Int32) σ6)
    (fun q2 σ3 =>
      if q2.1 = 119 then
        zJ_X0_failedCommand_11 ρ (some q2.2) σ3
      else
      none)
def zJ_X4_failedCommand_13 (ρ : zz_C) (th : Nat) (t0 : Int32) (t1 : Option Nat) (σ : zz_S) : zz_R :=
  (zz_pf σ t1 4 20 0 (.int t0)).bind fun σ1 =>
  (zz_gI σ1 (some th) 4 0).bind fun v2 =>
  if v2 = 0 then
    (zz_gI σ1 (some th) 4 3).bind fun v3 =>
    zz_rI v3 σ1
  else
  zz_rI (0 : Int32) σ1
def zF_X4_failedCommand (ρ : zz_C) (th : Nat) (σ : zz_S) : zz_R :=
  (zz_gI σ (some th) 4 3).bind fun v1 =>
  if 0 ≤ v1 then
    zJ_X4_failedCommand_13 ρ th (0 : Int32) (some th) σ
  else
  zJ_X4_failedCommand_13 ρ th (1 : Int32) (some th) σ
def zF_J21_size (ρ : zz_C) (th : Nat) (σ : zz_S) : zz_R :=
  (zz_gI σ (some th) 121 1).bind fun v1 =>
  zz_rI v1 σ
def zF_J0_isEmpty_at_J21 (ρ : zz_C) (th : Nat) (σ : zz_S) : zz_R :=
  zz_ck σ (some th) 121 fun a1 =>
  zz_cI (zF_J21_size ρ a1 σ) (fun v4 σ5 =>
    if v4 = 0 then
      zz_rN .boolean (1 : Int32) σ5
    else
    zz_rN .boolean (0 : Int32) σ5) zz_P
def zF_J7_inflateIfNeededFor (ρ : zz_C) (th : Nat) (x1 : Option Nat) (σ : zz_S) : zz_R :=
  (zz_gI σ (some th) 108 1).bind fun v1 =>
  zz_ck σ x1 109 fun a2 =>
  zz_cI (zF_J9_coder ρ a2 σ) (fun v5 σ6 =>
    if v1 = v5 then
      zz_rV σ6
    else
    none) zz_P
def zF_J9_getBytes (ρ : zz_C) (th : Nat) (x1 : Option Nat) (x2 : Int32) (x3 : Int32) (σ : zz_S) : zz_R :=
  zz_ck σ (some th) 109 fun a1 =>
  zz_cI (zF_J9_coder ρ a1 σ) (fun v4 σ5 =>
    if v4 = x3 then
      (zz_gR σ5 (some th) 109 0).bind fun v9 =>
      (zz_gR σ5 (some th) 109 0).bind fun v10 =>
      (zz_len σ5 v10).bind fun v11 =>
      (zz_cpB σ5 v9 (0 : Int32) x1 (x2 <<< (x3 &&& 31)) v11).bind fun σ12 =>
      zz_rV σ12
    else
    (zz_gR σ5 (some th) 109 0).bind fun v6 =>
    (zz_gR σ5 (some th) 109 0).bind fun v7 =>
    (zz_len σ5 v7).bind fun v8 =>
    none) zz_P
def zF_J7_putStringAt (ρ : zz_C) (th : Nat) (x1 : Int32) (x2 : Option Nat) (σ : zz_S) : zz_R :=
  zz_ck σ (some th) 108 fun a1 =>
  zz_cV (zF_J7_inflateIfNeededFor ρ a1 x2 σ) (fun σ5 =>
    (zz_gR σ5 (some th) 108 0).bind fun v6 =>
    (zz_gI σ5 (some th) 108 1).bind fun v7 =>
    zz_ck σ5 x2 109 fun a8 =>
    zz_cV (zF_J9_getBytes ρ a8 v6 x1 v7 σ5) (fun σ12 =>
      zz_rV σ12) zz_P) zz_P
def zF_J7_append (ρ : zz_C) (th : Nat) (x1 : Option Nat) (σ : zz_S) : zz_R :=
  zz_nul x1 (
    none
  ) fun _ =>
  zz_ck σ x1 109 fun a2 =>
  zz_cI (zF_J9_length ρ a2 σ) (fun v5 σ6 =>
    (zz_gI σ6 (some th) 108 3).bind fun v7 =>
    zz_ck σ6 (some th) 108 fun a8 =>
    zz_cV (zF_J7_ensureCapacityInternal ρ a8 (v7 + v5) σ6) (fun σ12 =>
      (zz_gI σ12 (some th) 108 3).bind fun v13 =>
      zz_ck σ12 (some th) 108 fun a14 =>
      zz_cV (zF_J7_putStringAt ρ a14 v13 x1 σ12) (fun σ18 =>
        (zz_gI σ18 (some th) 108 3).bind fun v19 =>
        (zz_pf σ18 (some th) 108 4 3 (.int (v19 + v5))).bind fun σ20 =>
        zz_rR (some th) σ20) zz_P) zz_P) zz_P
def zF_J8_append (ρ : zz_C) (th : Nat) (x1 : Option Nat) (σ : zz_S) : zz_R :=
  zz_ck σ (some th) 108 fun a1 =>
  zz_cR (zF_J7_append ρ a1 x1 σ) (fun v4 σ5 =>
    zz_rR (some th) σ5) zz_P
def zF_J7_getValue (ρ : zz_C) (th : Nat) (σ : zz_S) : zz_R :=
  (zz_gR σ (some th) 108 0).bind fun v1 =>
  zz_rR v1 σ
def zF_J13_checkLength (ρ : zz_C) (x0 : Int32) (x1 : Int32) (σ : zz_S) : zz_R :=
  if x0 ≤ x1 then
    zz_rV σ
  else
  none
def zF_J13_copyOfRangeByte (ρ : zz_C) (x0 : Option Nat) (x1 : Int32) (x2 : Int32) (σ : zz_S) : zz_R :=
  zz_cV (zF_J13_checkLength ρ x1 x2 σ) (fun σ4 =>
    zz_na σ4 1 (x2 - x1) fun a5 σ6 =>
    (zz_len σ6 x0).bind fun v7 =>
    zz_cI (zF_J12_min ρ (v7 - x1) (x2 - x1) σ6) (fun v10 σ11 =>
      (zz_cpB σ11 x0 x1 (some a5) (0 : Int32) v10).bind fun σ12 =>
      zz_rR (some a5) σ12) zz_P) zz_P
def zF_J13_copyOfRange (ρ : zz_C) (x0 : Option Nat) (x1 : Int32) (x2 : Int32) (σ : zz_S) : zz_R :=
  if x1 = 0 then
    (zz_len σ x0).bind fun v5 =>
    if x2 = v5 then
      zz_clB σ x0 fun a6 σ7 =>
      if ¬ (zz_wB σ7 (some a6) = true) then none else
      zz_rR (some a6) σ7
    else
    zz_cR (zF_J13_copyOfRangeByte ρ x0 x1 x2 σ) (fun v10 σ11 =>
      zz_rR v10 σ11) zz_P
  else
  zz_cR (zF_J13_copyOfRangeByte ρ x0 x1 x2 σ) (fun v3 σ4 =>
    zz_rR v3 σ4) zz_P
def zF_J9_init_2 (ρ : zz_C) (th : Nat) (x1 : Option Nat) (x2 : Option Nat) (σ : zz_S) : zz_R :=
  zz_ck σ x1 108 fun a1 =>
  zz_cR (zF_J7_getValue ρ a1 σ) (fun v4 σ5 =>
    zz_ck σ5 x1 108 fun a6 =>
    zz_cI (zF_J8_length ρ a6 σ5) (fun v9 σ10 =>
      zz_ck σ10 x1 108 fun a11 =>
      zz_cI (zF_J7_isLatin1 ρ a11 σ10) (fun v14 σ15 =>
        if v14 = 0 then
          none
        else
        (zz_pfN σ15 (some th) 109 4 1 .byte (0 : Int32)).bind fun σ16 =>
        zz_cR (zF_J13_copyOfRange ρ v4 (0 : Int32) v9 σ16) (fun v19 σ20 =>
          (zz_pf σ20 (some th) 109 4 0 (va_rf v19)).bind fun σ21 =>
          zz_rV σ21) zz_P) zz_P) zz_P) zz_P
def zF_J9_init (ρ : zz_C) (th : Nat) (x1 : Option Nat) (σ : zz_S) : zz_R :=
  zz_cV (zF_J9_init_2 ρ th x1 none σ) (fun σ4 =>
    zz_rV σ4) zz_P
def zF_J8_toString (ρ : zz_C) (th : Nat) (σ : zz_S) : zz_R :=
  zz_al σ (.inr (109, [.null, .int 0, .int 0, .int 0])) 4 fun a1 σ2 =>
  zz_cV (zF_J9_init ρ a1 (some th) σ2) (fun σ6 =>
    zz_rR (some a1) σ6) zz_P
def zJ_J21_siftDownUsingComparator_61 (ρ : zz_C) (K5 : Int32 → Option Nat → Option Nat → Int32 → Option Nat → Int32 → zz_S → zz_R) (x0 : Int32) (x1 : Option Nat) (x2 : Option Nat) (x3 : Int32) (x4 : Option Nat) (x5 : Int32) (x6 : Int32) (x7 : Option Nat) (σ : zz_S) : zz_R :=
  zz_ck σ x4 3 fun a1 =>
  zz_cI (zF_X3_compare ρ a1 x1 x7 σ) (fun v4 σ5 =>
    if 0 < v4 then
      if ¬ (zz_ok σ5 x7 zz_cO = true) then none else
      (zz_sR σ5 x2 5 x0 x7).bind fun σ6 =>
      K5 x6 x1 x2 x3 x4 x5 σ6
    else
    if ¬ (zz_ok σ5 x1 zz_cO = true) then none else
    (zz_sR σ5 x2 5 x0 x1).bind fun σ7 =>
    zz_rV σ7) zz_P
def zL_J21_siftDownUsingComparator_5 (ρ : zz_C) : Nat → Int32 → Option Nat → Option Nat → Int32 → Option Nat → Int32 → zz_S → zz_R
  | 0, _, _, _, _, _, _, _ => none
  | n + 1, x0, x1, x2, x3, x4, x5, σ =>
    if x5 ≤ x0 then
      if ¬ (zz_ok σ x1 zz_cO = true) then none else
      (zz_sR σ x2 5 x0 x1).bind fun σ1 =>
      zz_rV σ1
    else
    (zz_aR σ x2 5 ((x0 <<< ((1 : Int32) &&& 31)) + (1 : Int32))).bind fun v2 =>
    if x3 ≤ (((x0 <<< ((1 : Int32) &&& 31)) + (1 : Int32)) + (1 : Int32)) then
      zJ_J21_siftDownUsingComparator_61 ρ (zL_J21_siftDownUsingComparator_5 ρ n) x0 x1 x2 x3 x4 x5 ((x0 <<< ((1 : Int32) &&& 31)) + (1 : Int32)) v2 σ
    else
    (zz_aR σ x2 5 (((x0 <<< ((1 : Int32) &&& 31)) + (1 : Int32)) + (1 : Int32))).bind fun v3 =>
    zz_ck σ x4 3 fun a4 =>
    zz_cI (zF_X3_compare ρ a4 v2 v3 σ) (fun v7 σ8 =>
      if v7 ≤ 0 then
        zJ_J21_siftDownUsingComparator_61 ρ (zL_J21_siftDownUsingComparator_5 ρ n) x0 x1 x2 x3 x4 x5 ((x0 <<< ((1 : Int32) &&& 31)) + (1 : Int32)) v2 σ8
      else
      (zz_aR σ8 x2 5 (((x0 <<< ((1 : Int32) &&& 31)) + (1 : Int32)) + (1 : Int32))).bind fun v9 =>
      zJ_J21_siftDownUsingComparator_61 ρ (zL_J21_siftDownUsingComparator_5 ρ n) x0 x1 x2 x3 x4 x5 (((x0 <<< ((1 : Int32) &&& 31)) + (1 : Int32)) + (1 : Int32)) v9 σ8) zz_P
def zF_J21_siftDownUsingComparator (ρ : zz_C) (x0 : Int32) (x1 : Option Nat) (x2 : Option Nat) (x3 : Int32) (x4 : Option Nat) (σ : zz_S) : zz_R :=
  zL_J21_siftDownUsingComparator_5 ρ ρ.2 x0 x1 x2 x3 x4 ((x3.toUInt32 >>> ((1 : Int32).toUInt32 &&& Int32.toUInt32 31)).toInt32) σ
def zF_J21_poll (ρ : zz_C) (th : Nat) (σ : zz_S) : zz_R :=
  (zz_gR σ (some th) 121 0).bind fun v1 =>
  (zz_aR σ v1 5 (0 : Int32)).bind fun v2 =>
  zz_nul v2 (
    zz_rR v2 σ
  ) fun _ =>
  (zz_gI σ (some th) 121 3).bind fun v4 =>
  (zz_pf σ (some th) 121 4 3 (.int (v4 + (1 : Int32)))).bind fun σ5 =>
  (zz_gI σ5 (some th) 121 1).bind fun v6 =>
  (zz_pf σ5 (some th) 121 4 1 (.int (v6 - (1 : Int32)))).bind fun σ7 =>
  (zz_aR σ7 v1 5 (v6 - (1 : Int32))).bind fun v8 =>
  if ¬ (zz_ok σ7 none zz_cO = true) then none else
  (zz_sR σ7 v1 5 (v6 - (1 : Int32)) none).bind fun σ9 =>
  if (v6 - (1 : Int32)) ≤ 0 then
    zz_rR v2 σ9
  else
  (zz_gR σ9 (some th) 121 2).bind fun v10 =>
  zz_nul v10 (
    none
  ) fun _ =>
  zz_cV (zF_J21_siftDownUsingComparator ρ (0 : Int32) v8 v1 (v6 - (1 : Int32)) v10 σ9) (fun σ15 =>
    zz_rR v2 σ15) zz_P
def zL_J17_stringSize_16 (ρ : zz_C) : Nat → Int32 → Int32 → Int32 → Int32 → zz_S → zz_R
  | 0, _, _, _, _, _ => none
  | n + 1, x0, x1, x2, x3, σ =>
    if (10 : Int32) ≤ x3 then
      zz_rI ((10 : Int32) + x1) σ
    else
    if x0 ≤ x2 then
      zL_J17_stringSize_16 ρ n x0 x1 ((10 : Int32) * x2) (x3 + (1 : Int32)) σ
    else
    zz_rI (x3 + x1) σ
def zJ_J17_stringSize_11 (ρ : zz_C) (x0 : Int32) (x1 : Int32) (σ : zz_S) : zz_R :=
  zL_J17_stringSize_16 ρ ρ.2 x0 x1 (-10 : Int32) (1 : Int32) σ
def zF_J17_stringSize (ρ : zz_C) (x0 : Int32) (σ : zz_S) : zz_R :=
  if x0 < 0 then
    zJ_J17_stringSize_11 ρ x0 (1 : Int32) σ
  else
  zJ_J17_stringSize_11 ρ (-x0) (0 : Int32) σ
def zJ_J17_getChars_104 (ρ : zz_C) (x2 : Option Nat) (x5 : Int32) (x6 : Int32) (σ : zz_S) : zz_R :=
  if x6 = 0 then
    zz_rI x5 σ
  else
  (zz_sI σ x2 1 .byte (x5 + (-1 : Int32)) (45 : Int32)).bind fun σ1 =>
  zz_rI (x5 + (-1 : Int32)) σ1
def zL_J17_getChars_22 (ρ : zz_C) : Nat → Int32 → Option Nat → Int32 → Int32 → zz_S → zz_R
  | 0, _, _, _, _, _ => none
  | n + 1, x0, x2, x5, x6, σ =>
    if (-100 : Int32) < x0 then
      (zz_aI σ (ρ.1 15) 1 (-x0)).bind fun v1 =>
      (zz_sI σ x2 1 .byte (x5 + (-1 : Int32)) v1).bind fun σ2 =>
      if (-9 : Int32) ≤ x0 then
        zJ_J17_getChars_104 ρ x2 (x5 + (-1 : Int32)) x6 σ2
      else
      (zz_aI σ2 (ρ.1 16) 1 (-x0)).bind fun v3 =>
      (zz_sI σ2 x2 1 .byte ((x5 + (-1 : Int32)) + (-1 : Int32)) v3).bind fun σ4 =>
      zJ_J17_getChars_104 ρ x2 ((x5 + (-1 : Int32)) + (-1 : Int32)) x6 σ4
    else
    if (100 : Int32) = 0 then none else
    (zz_aI σ (ρ.1 15) 1 (((x0 / (100 : Int32)) * (100 : Int32)) - x0)).bind fun v5 =>
    (zz_sI σ x2 1 .byte (x5 + (-1 : Int32)) v5).bind fun σ6 =>
    (zz_aI σ6 (ρ.1 16) 1 (((x0 / (100 : Int32)) * (100 : Int32)) - x0)).bind fun v7 =>
    (zz_sI σ6 x2 1 .byte ((x5 + (-1 : Int32)) + (-1 : Int32)) v7).bind fun σ8 =>
    zL_J17_getChars_22 ρ n (x0 / (100 : Int32)) x2 ((x5 + (-1 : Int32)) + (-1 : Int32)) x6 σ8
def zJ_J17_getChars_12 (ρ : zz_C) (x0 : Int32) (x2 : Option Nat) (x5 : Int32) (t0 : Int32) (σ : zz_S) : zz_R :=
  if t0 = 0 then
    zL_J17_getChars_22 ρ ρ.2 (-x0) x2 x5 t0 σ
  else
  zL_J17_getChars_22 ρ ρ.2 x0 x2 x5 t0 σ
def zF_J17_getChars (ρ : zz_C) (x0 : Int32) (x1 : Int32) (x2 : Option Nat) (σ : zz_S) : zz_R :=
  if 0 ≤ x0 then
    zJ_J17_getChars_12 ρ x0 x2 x1 (0 : Int32) σ
  else
  zJ_J17_getChars_12 ρ x0 x2 x1 (1 : Int32) σ
def zF_J7_append_2 (ρ : zz_C) (th : Nat) (x1 : Int32) (σ : zz_S) : zz_R :=
  (zz_gI σ (some th) 108 3).bind fun v1 =>
  zz_cI (zF_J17_stringSize ρ x1 σ) (fun v4 σ5 =>
    zz_ck σ5 (some th) 108 fun a6 =>
    zz_cV (zF_J7_ensureCapacityInternal ρ a6 (v1 + v4) σ5) (fun σ10 =>
      zz_ck σ10 (some th) 108 fun a11 =>
      zz_cI (zF_J7_isLatin1 ρ a11 σ10) (fun v14 σ15 =>
        if v14 = 0 then
          (zz_gR σ15 (some th) 108 0).bind fun v16 =>
          none
        else
        (zz_gR σ15 (some th) 108 0).bind fun v17 =>
        zz_cI (zF_J17_getChars ρ x1 (v1 + v4) v17 σ15) (fun v20 σ21 =>
          (zz_pf σ21 (some th) 108 4 3 (.int (v1 + v4))).bind fun σ22 =>
          zz_rR (some th) σ22) zz_P) zz_P) zz_P) zz_P
def zF_J8_append_2 (ρ : zz_C) (th : Nat) (x1 : Int32) (σ : zz_S) : zz_R :=
  zz_ck σ (some th) 108 fun a1 =>
  zz_cR (zF_J7_append_2 ρ a1 x1 σ) (fun v4 σ5 =>
    zz_rR (some th) σ5) zz_P
def zJ_X2_describeList_85 (ρ : zz_C) (K14 : Nat → Option Nat → Option Nat → Option Nat → zz_S → zz_R) (th : Nat) (x1 : Option Nat) (x2 : Option Nat) (x3 : Option Nat) (t0 : Option Nat) (t1 : Option Nat) (σ : zz_S) : zz_R :=
  zz_ck σ t1 108 fun a1 =>
  zz_cR (zF_J8_append ρ a1 t0 σ) (fun v4 σ5 =>
    K14 th x1 x2 x3 σ5) zz_P
def zJ_X2_describeList_58 (ρ : zz_C) (K14 : Nat → Option Nat → Option Nat → Option Nat → zz_S → zz_R) (th : Nat) (x1 : Option Nat) (x2 : Option Nat) (x3 : Option Nat) (x4 : Option Nat) (t0 : Option Nat) (t1 : Option Nat) (σ : zz_S) : zz_R :=
  zz_ck σ t1 108 fun a1 =>
  zz_cR (zF_J8_append ρ a1 t0 σ) (fun v4 σ5 =>
    (zz_gI σ5 x4 5 0).bind fun v6 =>
    zz_ck σ5 v4 108 fun a7 =>
    zz_cR (zF_J8_append_2 ρ a7 v6 σ5) (fun v10 σ11 =>
      zz_ck σ11 x4 5 fun a12 =>
      zz_cI (zF_X5_sits ρ a12 σ11) (fun v15 σ16 =>
        if v15 = 0 then
          zJ_X2_describeList_85 ρ K14 th x1 x2 x3 (ρ.1 3883) v10 σ16
        else
        zJ_X2_describeList_85 ρ K14 th x1 x2 x3 (ρ.1 3879) v10 σ16) zz_P) zz_P) zz_P
def zL_X2_describeList_14 (ρ : zz_C) : Nat → Nat → Option Nat → Option Nat → Option Nat → zz_S → zz_R
  | 0, _, _, _, _, _ => none
  | n + 1, th, x1, x2, x3, σ =>
    zz_ck σ x3 121 fun a1 =>
    zz_cI (zF_J0_isEmpty_at_J21 ρ a1 σ) (fun v4 σ5 =>
      if v4 = 0 then
        (zz_gR σ5 (some th) 2 0).bind fun v27 =>
        zz_ck σ5 x3 121 fun a28 =>
        zz_cR (zF_J21_poll ρ a28 σ5) (fun v31 σ32 =>
          if ¬ (zz_ok σ32 v31 [7] = true) then none else
          (zz_gI σ32 v31 7 0).bind fun v33 =>
          zz_ck σ32 v27 102 fun a34 =>
          zz_cR (zF_J2_get ρ a34 v33 σ32) (fun v37 σ38 =>
            if ¬ (zz_ok σ38 v37 [5] = true) then none else
            zz_ck σ38 x2 108 fun a39 =>
            zz_cI (zF_J8_length ρ a39 σ38) (fun v42 σ43 =>
              if v42 = 0 then
                zJ_X2_describeList_58 ρ (zL_X2_describeList_14 ρ n) th x1 x2 x3 v37 (ρ.1 3879) x2 σ43
              else
              zJ_X2_describeList_58 ρ (zL_X2_describeList_14 ρ n) th x1 x2 x3 v37 (ρ.1 3880) x2 σ43) zz_P) zz_P) zz_P
      else
      (zz_gI σ5 x1 6 8).bind fun v6 =>
      if v6 = 0 then
        zz_ck σ5 x2 108 fun a7 =>
        zz_cR (zF_J8_append ρ a7 (ρ.1 3879) σ5) (fun v10 σ11 =>
          zz_ck σ11 v10 108 fun a12 =>
          zz_cR (zF_J8_toString ρ a12 σ11) (fun v15 σ16 =>
            zz_rR v15 σ16) zz_P) zz_P
      else
      zz_ck σ5 x2 108 fun a17 =>
      zz_cR (zF_J8_append ρ a17 (ρ.1 3884) σ5) (fun v20 σ21 =>
        zz_ck σ21 v20 108 fun a22 =>
        zz_cR (zF_J8_toString ρ a22 σ21) (fun v25 σ26 =>
          zz_rR v25 σ26) zz_P) zz_P) zz_P
def zF_X2_describeList (ρ : zz_C) (th : Nat) (x1 : Option Nat) (σ : zz_S) : zz_R :=
  zz_al σ (.inr (108, [.null, .int 0, .int 0, .int 0])) 4 fun a1 σ2 =>
  zz_cV (zF_J8_init ρ a1 σ2) (fun σ6 =>
    zz_ck σ6 (some th) 2 fun a7 =>
    zz_cR (zF_X2_queue ρ a7 x1 σ6) (fun v10 σ11 =>
      zL_X2_describeList_14 ρ ρ.2 th x1 (some a1) v10 σ11) zz_P) zz_P
def zF_X1_describeList (ρ : zz_C) (th : Nat) (x1 : Int32) (σ : zz_S) : zz_R :=
  (zz_gR σ (some th) 1 4).bind fun v1 =>
  (zz_gR σ (some th) 1 4).bind fun v2 =>
  zz_ck σ v2 2 fun a3 =>
  zz_cR (zF_X2_motion ρ a3 x1 σ) (fun v6 σ7 =>
    zz_ck σ7 v1 2 fun a8 =>
    zz_cR (zF_X2_describeList ρ a8 v6 σ7) (fun v11 σ12 =>
      (zz_pf σ12 (some th) 1 9 6 (va_rf v11)).bind fun σ13 =>
      (zz_gR σ13 (some th) 1 6).bind fun v14 =>
      zz_ck σ13 v14 109 fun a15 =>
      zz_cI (zF_J9_length ρ a15 σ13) (fun v18 σ19 =>
        zz_rI v18 σ19) zz_P) zz_P) zz_P
def zJ_X0_describeList_12 (ρ : zz_C) (t0 : Option Nat) (σ : zz_S) : zz_R :=
  zz_rI (1 : Int32) σ
def zF_X0_describeList (ρ : zz_C) (x0 : Option Nat) (x1 : Int32) (x2 : Option Nat) (σ : zz_S) : zz_R :=
  zz_ck σ x0 1 fun a1 =>
  zz_cI (zF_X1_describeList ρ a1 x1 σ) (fun v4 σ5 =>
    (zz_sJ σ5 x2 3 (0 : Int32) (v4.toInt64)).bind fun σ6 =>
    zz_rI (0 : Int32) σ6)
    (fun q2 σ3 =>
      if q2.1 = 122 then
        zJ_X0_describeList_12 ρ (some q2.2) σ3
      else
      none)
def zF_X4_writes (ρ : zz_C) (th : Nat) (x1 : Int32) (σ : zz_S) : zz_R :=
  (zz_gR σ (some th) 4 10).bind fun v1 =>
  (zz_gI σ (some th) 4 17).bind fun v2 =>
  (zz_sI σ v1 0 .int v2 x1).bind fun σ3 =>
  (zz_gI σ3 (some th) 4 17).bind fun v4 =>
  (zz_pf σ3 (some th) 4 20 17 (.int (v4 + (1 : Int32)))).bind fun σ5 =>
  zz_rV σ5
def zF_X4_writesNumber (ρ : zz_C) (th : Nat) (x1 : Int32) (σ : zz_S) : zz_R :=
  if x1 < (10 : Int32) then
    if (10 : Int32) = 0 then none else
    zz_ck σ (some th) 4 fun a1 =>
    zz_cV (zF_X4_writes ρ a1 ((48 : Int32) + (x1 - x1 / (10 : Int32) * (10 : Int32))) σ) (fun σ5 =>
      zz_rV σ5) zz_P
  else
  if (10 : Int32) = 0 then none else
  zz_ck σ (some th) 4 fun a6 =>
  zz_cV (zF_X4_writes ρ a6 ((48 : Int32) + (x1 / (10 : Int32))) σ) (fun σ10 =>
    if (10 : Int32) = 0 then none else
    zz_ck σ10 (some th) 4 fun a11 =>
    zz_cV (zF_X4_writes ρ a11 ((48 : Int32) + (x1 - x1 / (10 : Int32) * (10 : Int32))) σ10) (fun σ15 =>
      zz_rV σ15) zz_P) zz_P
def zJ_X4_describeList_92 (ρ : zz_C) (K33 : Nat → Int32 → Int32 → zz_S → zz_R) (th : Nat) (x1 : Int32) (x2 : Int32) (σ : zz_S) : zz_R :=
  K33 th x1 (x2 + (1 : Int32)) σ
def zJ_X4_describeList_73 (ρ : zz_C) (K33 : Nat → Int32 → Int32 → zz_S → zz_R) (th : Nat) (x1 : Int32) (x2 : Int32) (x3 : Int32) (σ : zz_S) : zz_R :=
  zz_ck σ (some th) 4 fun a1 =>
  zz_cV (zF_X4_writesNumber ρ a1 x3 σ) (fun σ5 =>
    zz_ck σ5 (some th) 4 fun a6 =>
    zz_cI (zF_X4_isOn ρ a6 x3 σ5) (fun v9 σ10 =>
      if v9 = 0 then
        zz_ck σ10 (some th) 4 fun a11 =>
        zz_cV (zF_X4_writes ρ a11 (126 : Int32) σ10) (fun σ15 =>
          zJ_X4_describeList_92 ρ K33 th x1 x2 σ15) zz_P
      else
      zJ_X4_describeList_92 ρ K33 th x1 x2 σ10) zz_P) zz_P
def zL_X4_describeList_33 (ρ : zz_C) : Nat → Nat → Int32 → Int32 → zz_S → zz_R
  | 0, _, _, _, _ => none
  | n + 1, th, x1, x2, σ =>
    (zz_gR σ (some th) 4 5).bind fun v1 =>
    zz_cI (zF_X4_of ρ x1 (5 : Int32) σ) (fun v4 σ5 =>
      (zz_aI σ5 v1 0 v4).bind fun v6 =>
      if v6 ≤ x2 then
        (zz_gR σ5 (some th) 4 5).bind fun v7 =>
        zz_cI (zF_X4_of ρ x1 (1 : Int32) σ5) (fun v10 σ11 =>
          (zz_aI σ11 v7 0 v10).bind fun v12 =>
          if v12 = (1 : Int32) then
            zz_ck σ11 (some th) 4 fun a14 =>
            zz_cV (zF_X4_writes ρ a14 (124 : Int32) σ11) (fun σ18 =>
              (zz_gI σ18 (some th) 4 17).bind fun v19 =>
              zz_rI v19 σ18) zz_P
          else
          (zz_gI σ11 (some th) 4 17).bind fun v13 =>
          zz_rI v13 σ11) zz_P
      else
      (zz_gR σ5 (some th) 4 5).bind fun v20 =>
      zz_ck σ5 (some th) 4 fun a21 =>
      zz_cI (zF_X4_ranked ρ a21 x1 x2 σ5) (fun v24 σ25 =>
        zz_cI (zF_X4_listed ρ x1 v24 σ25) (fun v28 σ29 =>
          (zz_aI σ29 v20 0 v28).bind fun v30 =>
          if x2 ≤ 0 then
            zJ_X4_describeList_73 ρ (zL_X4_describeList_33 ρ n) th x1 x2 v30 σ29
          else
          zz_ck σ29 (some th) 4 fun a31 =>
          zz_cV (zF_X4_writes ρ a31 (44 : Int32) σ29) (fun σ35 =>
            zJ_X4_describeList_73 ρ (zL_X4_describeList_33 ρ n) th x1 x2 v30 σ35) zz_P) zz_P) zz_P) zz_P
def zJ_X4_describeList_14 (ρ : zz_C) (th : Nat) (x1 : Int32) (t0 : Int32) (t1 : Option Nat) (σ : zz_S) : zz_R :=
  (zz_pf σ t1 4 20 0 (.int t0)).bind fun σ1 =>
  (zz_gI σ1 (some th) 4 0).bind fun v2 =>
  if v2 = 0 then
    (zz_pf σ1 (some th) 4 20 17 (.int (0 : Int32))).bind fun σ3 =>
    zL_X4_describeList_33 ρ ρ.2 th x1 (0 : Int32) σ3
  else
  zz_rI (0 : Int32) σ1
def zF_X4_describeList (ρ : zz_C) (th : Nat) (x1 : Int32) (σ : zz_S) : zz_R :=
  zz_ck σ (some th) 4 fun a1 =>
  zz_cI (zF_X4_isMotion ρ a1 x1 σ) (fun v4 σ5 =>
    if v4 = 0 then
      zJ_X4_describeList_14 ρ th x1 (1 : Int32) (some th) σ5
    else
    zJ_X4_describeList_14 ρ th x1 (0 : Int32) (some th) σ5) zz_P
def zF_X1_lineAt (ρ : zz_C) (th : Nat) (x1 : Int32) (σ : zz_S) : zz_R :=
  (zz_gR σ (some th) 1 6).bind fun v1 =>
  zz_ck σ v1 109 fun a2 =>
  zz_cI (zF_J9_length ρ a2 σ) (fun v5 σ6 =>
    zz_cV (zF_X1_checkIndex ρ x1 v5 σ6) (fun σ10 =>
      (zz_gR σ10 (some th) 1 6).bind fun v11 =>
      zz_ck σ10 v11 109 fun a12 =>
      zz_cI (zF_J9_charAt ρ a12 x1 σ10) (fun v15 σ16 =>
        zz_rN .char v15 σ16) zz_P) zz_P) zz_P
def zJ_X0_lineAt_12 (ρ : zz_C) (t0 : Option Nat) (σ : zz_S) : zz_R :=
  zz_rI (1 : Int32) σ
def zF_X0_lineAt (ρ : zz_C) (x0 : Option Nat) (x1 : Int32) (x2 : Option Nat) (σ : zz_S) : zz_R :=
  zz_ck σ x0 1 fun a1 =>
  zz_cI (zF_X1_lineAt ρ a1 x1 σ) (fun v4 σ5 =>
    (zz_sJ σ5 x2 3 (0 : Int32) (v4.toInt64)).bind fun σ6 =>
    zz_rI (0 : Int32) σ6)
    (fun q2 σ3 =>
      if q2.1 = 122 then
        zJ_X0_lineAt_12 ρ (some q2.2) σ3
      else
      none)
def zJ_X4_lineAt_20 (ρ : zz_C) (th : Nat) (x1 : Int32) (t0 : Int32) (t1 : Option Nat) (σ : zz_S) : zz_R :=
  (zz_pf σ t1 4 20 0 (.int t0)).bind fun σ1 =>
  (zz_gI σ1 (some th) 4 0).bind fun v2 =>
  if v2 = 0 then
    (zz_gR σ1 (some th) 4 10).bind fun v3 =>
    (zz_aI σ1 v3 0 x1).bind fun v4 =>
    zz_rN .char ((v4.toUInt32 % 65536).toInt32) σ1
  else
  zz_rN .char (97 : Int32) σ1
def zF_X4_lineAt (ρ : zz_C) (th : Nat) (x1 : Int32) (σ : zz_S) : zz_R :=
  (zz_gI σ (some th) 4 17).bind fun v1 =>
  zz_cI (zF_X4_isIn ρ x1 (0 : Int32) (v1 - (1 : Int32)) σ) (fun v4 σ5 =>
    if v4 = 0 then
      zJ_X4_lineAt_20 ρ th x1 (1 : Int32) (some th) σ5
    else
    zJ_X4_lineAt_20 ρ th x1 (0 : Int32) (some th) σ5) zz_P
def zF_X2_meanSittingWeight (ρ : zz_C) (th : Nat) (σ : zz_S) : zz_R :=
  zz_ck σ (some th) 2 fun a1 =>
  zz_cI (zF_X2_sittingBySet ρ a1 σ) (fun v4 σ5 =>
    zz_cV (zF_X1_checkDivisor ρ v4 σ5) (fun σ9 =>
      zz_ck σ9 (some th) 2 fun a10 =>
      zz_cI (zF_X2_weight ρ a10 (ρ.1 221) σ9) (fun v13 σ14 =>
        if ¬ (zz_n64 (FP.ddiv (FP.i2d v13) (FP.i2d v4)) = true) then none else
        zz_rD (FP.ddiv (FP.i2d v13) (FP.i2d v4)) σ14) zz_P) zz_P) zz_P
def zF_X1_meanSittingWeight (ρ : zz_C) (th : Nat) (σ : zz_S) : zz_R :=
  (zz_gR σ (some th) 1 4).bind fun v1 =>
  zz_ck σ v1 2 fun a2 =>
  zz_cD (zF_X2_meanSittingWeight ρ a2 σ) (fun v5 σ6 =>
    zz_rD v5 σ6) zz_P
def zJ_X0_meanSittingWeight_10 (ρ : zz_C) (t0 : Option Nat) (σ : zz_S) : zz_R :=
  zz_rI (1 : Int32) σ
def zF_X0_meanSittingWeight (ρ : zz_C) (x0 : Option Nat) (x1 : Option Nat) (σ : zz_S) : zz_R :=
  zz_ck σ x0 1 fun a1 =>
  zz_cD (zF_X1_meanSittingWeight ρ a1 σ) (fun v4 σ5 =>
    (zz_sD σ5 x1 4 (0 : Int32) v4).bind fun σ6 =>
    zz_rI (0 : Int32) σ6)
    (fun q2 σ3 =>
      if q2.1 = 144 then
        zJ_X0_meanSittingWeight_10 ρ (some q2.2) σ3
      else
      none)
def zJ_X4_meanSittingWeight_59 (ρ : zz_C) (th : Nat) (x1 : Int32) (x2 : Int32) (t0 : Int32) (t1 : Option Nat) (σ : zz_S) : zz_R :=
  (zz_pf σ t1 4 20 0 (.int t0)).bind fun σ1 =>
  (zz_gI σ1 (some th) 4 0).bind fun v2 =>
  if v2 = 0 then
    if ¬ (zz_n64 (FP.ddiv (FP.i2d x2) (FP.i2d x1)) = true) then none else
    zz_rD (FP.ddiv (FP.i2d x2) (FP.i2d x1)) σ1
  else
  zz_rD FP.dconst0 σ1
def zJ_X4_meanSittingWeight_41 (ρ : zz_C) (K9 : Nat → Int32 → Int32 → Int32 → zz_S → zz_R) (th : Nat) (x1 : Int32) (x3 : Int32) (t0 : Int32) (t1 : Int32) (σ : zz_S) : zz_R :=
  K9 th x1 (t1 + t0) (x3 + (1 : Int32)) σ
def zL_X4_meanSittingWeight_9 (ρ : zz_C) : Nat → Nat → Int32 → Int32 → Int32 → zz_S → zz_R
  | 0, _, _, _, _, _ => none
  | n + 1, th, x1, x2, x3, σ =>
    (zz_gR σ (some th) 4 5).bind fun v1 =>
    (zz_aI σ v1 0 (0 : Int32)).bind fun v2 =>
    if v2 ≤ x3 then
      if x1 = 0 then
        zJ_X4_meanSittingWeight_59 ρ th x1 x2 (1 : Int32) (some th) σ
      else
      zJ_X4_meanSittingWeight_59 ρ th x1 x2 (0 : Int32) (some th) σ
    else
    zz_ck σ (some th) 4 fun a3 =>
    zz_cI (zF_X4_isOn ρ a3 x3 σ) (fun v6 σ7 =>
      if v6 = 0 then
        zJ_X4_meanSittingWeight_41 ρ (zL_X4_meanSittingWeight_9 ρ n) th x1 x3 (0 : Int32) x2 σ7
      else
      (zz_gR σ7 (some th) 4 5).bind fun v8 =>
      (zz_aI σ7 v8 0 ((17 : Int32) + x3)).bind fun v9 =>
      zJ_X4_meanSittingWeight_41 ρ (zL_X4_meanSittingWeight_9 ρ n) th x1 x3 v9 x2 σ7) zz_P
def zF_X4_meanSittingWeight (ρ : zz_C) (th : Nat) (σ : zz_S) : zz_R :=
  zz_ck σ (some th) 4 fun a1 =>
  zz_cI (zF_X4_sitting ρ a1 σ) (fun v4 σ5 =>
    zL_X4_meanSittingWeight_9 ρ ρ.2 th v4 (0 : Int32) (0 : Int32) σ5) zz_P
def zL_X2_areEqual_7 (ρ : zz_C) : Nat → Option Nat → Option Nat → Int32 → Int32 → zz_S → zz_R
  | 0, _, _, _, _, _ => none
  | n + 1, x0, x1, x2, x3, σ =>
    if x2 ≤ x3 then
      zz_rN .boolean (1 : Int32) σ
    else
    (zz_aI σ x1 0 x3).bind fun v1 =>
    (zz_aI σ x0 0 (0 : Int32)).bind fun v2 =>
    if v1 = v2 then
      zL_X2_areEqual_7 ρ n x0 x1 x2 (x3 + (1 : Int32)) σ
    else
    zz_rN .boolean (0 : Int32) σ
def zF_X2_areEqual (ρ : zz_C) (x0 : Option Nat) (σ : zz_S) : zz_R :=
  (zz_len σ x0).bind fun v1 =>
  zL_X2_areEqual_7 ρ ρ.2 x0 x0 v1 (0 : Int32) σ
def zJ_X2_isConsistent_91 (ρ : zz_C) (K31 : Nat → Int32 → Int32 → Option Nat → zz_S → zz_R) (th : Nat) (x2 : Int32) (x3 : Option Nat) (x4 : Option Nat) (t0 : Int32) (t1 : Int32) (σ : zz_S) : zz_R :=
  zz_na σ 0 (2 : Int32) fun a1 σ2 =>
  zz_ck σ2 x4 6 fun a3 =>
  zz_cI (zF_X6_strengths ρ a3 (1 : Int32) σ2) (fun v6 σ7 =>
    (zz_sI σ7 (some a1) 0 .int (0 : Int32) v6).bind fun σ8 =>
    zz_ck σ8 (some th) 2 fun a9 =>
    zz_cI (zF_X2_strengthsByPonds ρ a9 x4 (1 : Int32) σ8) (fun v12 σ13 =>
      (zz_sI σ13 (some a1) 0 .int (1 : Int32) v12).bind fun σ14 =>
      zz_cI (zF_X2_areEqual ρ (some a1) σ14) (fun v17 σ18 =>
        K31 th ((t1 &&& t0) &&& v17) x2 x3 σ18) zz_P) zz_P) zz_P
def zJ_X2_isConsistent_86 (ρ : zz_C) (K31 : Nat → Int32 → Int32 → Option Nat → zz_S → zz_R) (th : Nat) (x2 : Int32) (x3 : Option Nat) (x4 : Option Nat) (t0 : Int32) (σ : zz_S) : zz_R :=
  zJ_X2_isConsistent_91 ρ K31 th x2 x3 x4 (1 : Int32) t0 σ
def zL_X2_isConsistent_31 (ρ : zz_C) : Nat → Nat → Int32 → Int32 → Option Nat → zz_S → zz_R
  | 0, _, _, _, _, _ => none
  | n + 1, th, x1, x2, x3, σ =>
    zz_ck σ x3 124 fun a1 =>
    zz_cI (zF_J24_hasNext ρ a1 σ) (fun v4 σ5 =>
      if v4 = 0 then
        if x1 = 0 then
          zz_rN .boolean (0 : Int32) σ5
        else
        zz_na σ5 0 (2 : Int32) fun a6 σ7 =>
        (zz_sI σ7 (some a6) 0 .int (0 : Int32) x2).bind fun σ8 =>
        (zz_gI σ8 (some th) 2 3).bind fun v9 =>
        (zz_sI σ8 (some a6) 0 .int (1 : Int32) v9).bind fun σ10 =>
        zz_cI (zF_X2_areEqual ρ (some a6) σ10) (fun v13 σ14 =>
          if v13 = 0 then
            zz_rN .boolean (0 : Int32) σ14
          else
          zz_rN .boolean (1 : Int32) σ14) zz_P
      else
      zz_ck σ5 x3 124 fun a15 =>
      zz_cR (zF_J24_next ρ a15 σ5) (fun v18 σ19 =>
        if ¬ (zz_ok σ19 v18 [6] = true) then none else
        (zz_gI σ19 v18 6 6).bind fun v20 =>
        (zz_gR σ19 v18 6 2).bind fun v21 =>
        zz_ck σ19 v21 140 fun a22 =>
        zz_cI (zF_J0_isEmpty_at_J40 ρ a22 σ19) (fun v25 σ26 =>
          if v25 = 0 then
            zz_ck σ26 (some th) 2 fun a27 =>
            zz_cR (zF_X2_nextByQueue ρ a27 v18 σ26) (fun v30 σ31 =>
              zz_ck σ31 (some th) 2 fun a32 =>
              zz_cR (zF_X2_nextByScan ρ a32 v18 σ31) (fun v35 σ36 =>
                if v30 = v35 then
                  zJ_X2_isConsistent_86 ρ (zL_X2_isConsistent_31 ρ n) th (x2 + v20) x3 v18 x1 σ36
                else
                zJ_X2_isConsistent_91 ρ (zL_X2_isConsistent_31 ρ n) th (x2 + v20) x3 v18 (0 : Int32) x1 σ36) zz_P) zz_P
          else
          zJ_X2_isConsistent_86 ρ (zL_X2_isConsistent_31 ρ n) th (x2 + v20) x3 v18 x1 σ26) zz_P) zz_P) zz_P
def zF_X2_isConsistent (ρ : zz_C) (th : Nat) (σ : zz_S) : zz_R :=
  zz_na σ 0 (2 : Int32) fun a1 σ2 =>
  zz_ck σ2 (some th) 2 fun a3 =>
  zz_cI (zF_X2_sittingByPads ρ a3 σ2) (fun v6 σ7 =>
    (zz_sI σ7 (some a1) 0 .int (0 : Int32) v6).bind fun σ8 =>
    zz_ck σ8 (some th) 2 fun a9 =>
    zz_cI (zF_X2_sittingBySet ρ a9 σ8) (fun v12 σ13 =>
      (zz_sI σ13 (some a1) 0 .int (1 : Int32) v12).bind fun σ14 =>
      zz_cI (zF_X2_areEqual ρ (some a1) σ14) (fun v17 σ18 =>
        (zz_gR σ18 (some th) 2 2).bind fun v19 =>
        zz_ck σ18 v19 102 fun a20 =>
        zz_cR (zF_J2_iterator ρ a20 σ18) (fun v23 σ24 =>
          zL_X2_isConsistent_31 ρ ρ.2 th v17 (0 : Int32) v23 σ24) zz_P) zz_P) zz_P) zz_P
def zF_X1_isConsistent (ρ : zz_C) (th : Nat) (σ : zz_S) : zz_R :=
  (zz_gR σ (some th) 1 4).bind fun v1 =>
  zz_ck σ v1 2 fun a2 =>
  zz_cI (zF_X2_isConsistent ρ a2 σ) (fun v5 σ6 =>
    zz_rN .boolean v5 σ6) zz_P
def zL_X4_isConsistent_9 (ρ : zz_C) : Nat → Nat → Int32 → Int32 → zz_S → zz_R
  | 0, _, _, _, _ => none
  | n + 1, th, x1, x2, σ =>
    (zz_gR σ (some th) 4 5).bind fun v1 =>
    (zz_aI σ v1 0 (2 : Int32)).bind fun v2 =>
    if v2 ≤ x2 then
      (zz_gR σ (some th) 4 5).bind fun v3 =>
      (zz_aI σ v3 0 (3 : Int32)).bind fun v4 =>
      if x1 = v4 then
        zz_rN .boolean (1 : Int32) σ
      else
      zz_rN .boolean (0 : Int32) σ
    else
    (zz_gR σ (some th) 4 5).bind fun v5 =>
    zz_cI (zF_X4_of ρ x2 (6 : Int32) σ) (fun v8 σ9 =>
      (zz_aI σ9 v5 0 v8).bind fun v10 =>
      zL_X4_isConsistent_9 ρ n th (x1 + v10) (x2 + (1 : Int32)) σ9) zz_P
def zF_X4_isConsistent (ρ : zz_C) (th : Nat) (σ : zz_S) : zz_R :=
  (zz_pf σ (some th) 4 20 0 (.int (0 : Int32))).bind fun σ1 =>
  zL_X4_isConsistent_9 ρ ρ.2 th (0 : Int32) (0 : Int32) σ1
def zF_J18_isEmpty (ρ : zz_C) (th : Nat) (σ : zz_S) : zz_R :=
  (zz_gI σ (some th) 118 1).bind fun v1 =>
  (zz_gI σ (some th) 118 2).bind fun v2 =>
  if v1 = v2 then
    zz_rN .boolean (1 : Int32) σ
  else
  zz_rN .boolean (0 : Int32) σ
def zF_J18_dec (ρ : zz_C) (x0 : Int32) (x1 : Int32) (σ : zz_S) : zz_R :=
  if 0 ≤ (x0 + (-1 : Int32)) then
    zz_rI (x0 + (-1 : Int32)) σ
  else
  zz_rI (x1 - (1 : Int32)) σ
def zF_J18_pollLast (ρ : zz_C) (th : Nat) (σ : zz_S) : zz_R :=
  (zz_gR σ (some th) 118 0).bind fun v1 =>
  (zz_gI σ (some th) 118 2).bind fun v2 =>
  (zz_len σ v1).bind fun v3 =>
  zz_cI (zF_J18_dec ρ v2 v3 σ) (fun v6 σ7 =>
    zz_cR (zF_J18_elementAt ρ v1 v6 σ7) (fun v10 σ11 =>
      zz_nul v10 (
        zz_rR v10 σ11
      ) fun _ =>
      (zz_pf σ11 (some th) 118 3 2 (.int v6)).bind fun σ13 =>
      if ¬ (zz_ok σ13 none zz_cO = true) then none else
      (zz_sR σ13 v1 5 v6 none).bind fun σ14 =>
      zz_rR v10 σ14) zz_P) zz_P
def zF_J18_removeLast (ρ : zz_C) (th : Nat) (σ : zz_S) : zz_R :=
  zz_ck σ (some th) 118 fun a1 =>
  zz_cR (zF_J18_pollLast ρ a1 σ) (fun v4 σ5 =>
    zz_nul v4 (
      none
    ) fun _ =>
    zz_rR v4 σ5) zz_P
def zJ_X1_undo_15 (ρ : zz_C) (th : Nat) (t0 : Int32) (σ : zz_S) : zz_R :=
  zz_cV (zF_X1_checkState ρ t0 σ) (fun σ4 =>
    (zz_gR σ4 (some th) 1 2).bind fun v5 =>
    zz_ck σ4 v5 118 fun a6 =>
    zz_cR (zF_J18_removeLast ρ a6 σ4) (fun v9 σ10 =>
      if ¬ (zz_ok σ10 v9 [2] = true) then none else
      (zz_pf σ10 (some th) 1 9 4 (va_rf v9)).bind fun σ11 =>
      (zz_gR σ11 (some th) 1 2).bind fun v12 =>
      zz_ck σ11 v12 118 fun a13 =>
      zz_cI (zF_J18_size ρ a13 σ11) (fun v16 σ17 =>
        zz_rI v16 σ17) zz_P) zz_P) zz_P
def zF_X1_undo (ρ : zz_C) (th : Nat) (σ : zz_S) : zz_R :=
  (zz_gR σ (some th) 1 2).bind fun v1 =>
  zz_ck σ v1 118 fun a2 =>
  zz_cI (zF_J18_isEmpty ρ a2 σ) (fun v5 σ6 =>
    if v5 = 0 then
      zJ_X1_undo_15 ρ th (1 : Int32) σ6
    else
    zJ_X1_undo_15 ρ th (0 : Int32) σ6) zz_P
def zJ_X0_undo_11 (ρ : zz_C) (t0 : Option Nat) (σ : zz_S) : zz_R :=
  zz_rI (1 : Int32) σ
def zF_X0_undo (ρ : zz_C) (x0 : Option Nat) (x1 : Option Nat) (σ : zz_S) : zz_R :=
  zz_ck σ x0 1 fun a1 =>
  zz_cI (zF_X1_undo ρ a1 σ) (fun v4 σ5 =>
    (zz_sJ σ5 x1 3 (0 : Int32) (v4.toInt64)).bind fun σ6 =>
    zz_rI (0 : Int32) σ6)
    (fun q2 σ3 =>
      if q2.1 = 138 then
        zJ_X0_undo_11 ρ (some q2.2) σ3
      else
      none)
def zL_X4_undo_37 (ρ : zz_C) : Nat → Nat → Int32 → zz_S → zz_R
  | 0, _, _, _ => none
  | n + 1, th, x1, σ =>
    if (407 : Int32) ≤ x1 then
      (zz_gI σ (some th) 4 1).bind fun v1 =>
      zz_rI v1 σ
    else
    (zz_gR σ (some th) 4 5).bind fun v2 =>
    (zz_gR σ (some th) 4 8).bind fun v3 =>
    (zz_gI σ (some th) 4 1).bind fun v4 =>
    (zz_aI σ v3 0 ((v4 * (407 : Int32)) + x1)).bind fun v5 =>
    (zz_sI σ v2 0 .int x1 v5).bind fun σ6 =>
    zL_X4_undo_37 ρ n th (x1 + (1 : Int32)) σ6
def zJ_X4_undo_13 (ρ : zz_C) (th : Nat) (t0 : Int32) (t1 : Option Nat) (σ : zz_S) : zz_R :=
  (zz_pf σ t1 4 20 0 (.int t0)).bind fun σ1 =>
  (zz_gI σ1 (some th) 4 0).bind fun v2 =>
  if v2 = 0 then
    (zz_gI σ1 (some th) 4 1).bind fun v3 =>
    (zz_pf σ1 (some th) 4 20 1 (.int (v3 - (1 : Int32)))).bind fun σ4 =>
    zL_X4_undo_37 ρ ρ.2 th (0 : Int32) σ4
  else
  zz_rI (0 : Int32) σ1
def zF_X4_undo (ρ : zz_C) (th : Nat) (σ : zz_S) : zz_R :=
  (zz_gI σ (some th) 4 1).bind fun v1 =>
  if v1 = 0 then
    zJ_X4_undo_13 ρ th (1 : Int32) (some th) σ
  else
  zJ_X4_undo_13 ρ th (0 : Int32) (some th) σ
def zF_X1_save (ρ : zz_C) (th : Nat) (σ : zz_S) : zz_R :=
  (zz_gR σ (some th) 1 4).bind fun v1 =>
  zz_ck σ v1 2 fun a2 =>
  zz_cR (zF_X2_copy ρ a2 σ) (fun v5 σ6 =>
    (zz_pf σ6 (some th) 1 9 5 (va_rf v5)).bind fun σ7 =>
    (zz_gR σ7 (some th) 1 5).bind fun v8 =>
    (zz_gR σ7 v8 2 2).bind fun v9 =>
    zz_ck σ7 v9 102 fun a10 =>
    zz_cI (zF_J2_size ρ a10 σ7) (fun v13 σ14 =>
      zz_rI v13 σ14) zz_P) zz_P
def zF_X4_save (ρ : zz_C) (th : Nat) (σ : zz_S) : zz_R :=
  (zz_pf σ (some th) 4 20 0 (.int (0 : Int32))).bind fun σ1 =>
  (zz_gR σ1 (some th) 4 7).bind fun v2 =>
  (zz_gR σ1 (some th) 4 5).bind fun v3 =>
  zz_cV (zF_X4_lays ρ v2 v3 σ1) (fun σ7 =>
    (zz_pfN σ7 (some th) 4 20 4 .boolean (1 : Int32)).bind fun σ8 =>
    (zz_gR σ8 (some th) 4 5).bind fun v9 =>
    (zz_aI σ8 v9 0 (2 : Int32)).bind fun v10 =>
    zz_rI v10 σ8) zz_P
def zL_J18_circularClear_12 (ρ : zz_C) : Nat → Option Nat → Int32 → Int32 → Int32 → zz_S → zz_R
  | 0, _, _, _, _, _ => none
  | n + 1, x0, x1, x2, x3, σ =>
    if x3 ≤ x1 then
      if x3 = x2 then
        zz_rV σ
      else
      zL_J18_circularClear_12 ρ n x0 (0 : Int32) x2 x2 σ
    else
    if ¬ (zz_ok σ none zz_cO = true) then none else
    (zz_sR σ x0 5 x1 none).bind fun σ1 =>
    zL_J18_circularClear_12 ρ n x0 (x1 + (1 : Int32)) x2 x3 σ1
def zJ_J18_circularClear_11 (ρ : zz_C) (x0 : Option Nat) (x1 : Int32) (x2 : Int32) (t0 : Int32) (σ : zz_S) : zz_R :=
  zL_J18_circularClear_12 ρ ρ.2 x0 x1 x2 t0 σ
def zF_J18_circularClear (ρ : zz_C) (x0 : Option Nat) (x1 : Int32) (x2 : Int32) (σ : zz_S) : zz_R :=
  if x2 < x1 then
    (zz_len σ x0).bind fun v1 =>
    zJ_J18_circularClear_11 ρ x0 x1 x2 v1 σ
  else
  zJ_J18_circularClear_11 ρ x0 x1 x2 x2 σ
def zF_J18_clear (ρ : zz_C) (th : Nat) (σ : zz_S) : zz_R :=
  (zz_gR σ (some th) 118 0).bind fun v1 =>
  (zz_gI σ (some th) 118 1).bind fun v2 =>
  (zz_gI σ (some th) 118 2).bind fun v3 =>
  zz_cV (zF_J18_circularClear ρ v1 v2 v3 σ) (fun σ7 =>
    (zz_pf σ7 (some th) 118 3 2 (.int (0 : Int32))).bind fun σ8 =>
    (zz_pf σ8 (some th) 118 3 1 (.int (0 : Int32))).bind fun σ9 =>
    zz_rV σ9) zz_P
def zJ_X1_restore_12 (ρ : zz_C) (th : Nat) (t0 : Int32) (σ : zz_S) : zz_R :=
  zz_cV (zF_X1_checkState ρ t0 σ) (fun σ4 =>
    (zz_gR σ4 (some th) 1 5).bind fun v5 =>
    zz_ck σ4 v5 2 fun a6 =>
    zz_cR (zF_X2_copy ρ a6 σ4) (fun v9 σ10 =>
      (zz_pf σ10 (some th) 1 9 4 (va_rf v9)).bind fun σ11 =>
      (zz_gR σ11 (some th) 1 2).bind fun v12 =>
      zz_ck σ11 v12 118 fun a13 =>
      zz_cV (zF_J18_clear ρ a13 σ11) (fun σ17 =>
        (zz_gR σ17 (some th) 1 4).bind fun v18 =>
        (zz_gR σ17 v18 2 2).bind fun v19 =>
        zz_ck σ17 v19 102 fun a20 =>
        zz_cI (zF_J2_size ρ a20 σ17) (fun v23 σ24 =>
          zz_rI v23 σ24) zz_P) zz_P) zz_P) zz_P
def zF_X1_restore (ρ : zz_C) (th : Nat) (σ : zz_S) : zz_R :=
  (zz_gR σ (some th) 1 5).bind fun v1 =>
  zz_nul v1 (
    zJ_X1_restore_12 ρ th (0 : Int32) σ
  ) fun _ =>
  zJ_X1_restore_12 ρ th (1 : Int32) σ
def zJ_X0_restore_11 (ρ : zz_C) (t0 : Option Nat) (σ : zz_S) : zz_R :=
  zz_rI (1 : Int32) σ
def zF_X0_restore (ρ : zz_C) (x0 : Option Nat) (x1 : Option Nat) (σ : zz_S) : zz_R :=
  zz_ck σ x0 1 fun a1 =>
  zz_cI (zF_X1_restore ρ a1 σ) (fun v4 σ5 =>
    (zz_sJ σ5 x1 3 (0 : Int32) (v4.toInt64)).bind fun σ6 =>
    zz_rI (0 : Int32) σ6)
    (fun q2 σ3 =>
      if q2.1 = 138 then
        zJ_X0_restore_11 ρ (some q2.2) σ3
      else
      none)
def zJ_X4_restore_13 (ρ : zz_C) (th : Nat) (t0 : Int32) (t1 : Option Nat) (σ : zz_S) : zz_R :=
  (zz_pf σ t1 4 20 0 (.int t0)).bind fun σ1 =>
  (zz_gI σ1 (some th) 4 0).bind fun v2 =>
  if v2 = 0 then
    (zz_gR σ1 (some th) 4 5).bind fun v3 =>
    (zz_gR σ1 (some th) 4 7).bind fun v4 =>
    zz_cV (zF_X4_lays ρ v3 v4 σ1) (fun σ8 =>
      (zz_pf σ8 (some th) 4 20 1 (.int (0 : Int32))).bind fun σ9 =>
      (zz_gR σ9 (some th) 4 5).bind fun v10 =>
      (zz_aI σ9 v10 0 (2 : Int32)).bind fun v11 =>
      zz_rI v11 σ9) zz_P
  else
  zz_rI (0 : Int32) σ1
def zF_X4_restore (ρ : zz_C) (th : Nat) (σ : zz_S) : zz_R :=
  (zz_gI σ (some th) 4 4).bind fun v1 =>
  if v1 = 0 then
    zJ_X4_restore_13 ρ th (1 : Int32) (some th) σ
  else
  zJ_X4_restore_13 ρ th (0 : Int32) (some th) σ
def zF_X1_croak (ρ : zz_C) (th : Nat) (x1 : Int32) (x2 : Int32) (x3 : Int32) (x4 : Int32) (σ : zz_S) : zz_R :=
  if ¬ (zz_fit .boolean x4 = true) then none else
  zz_al σ (.inr (219, [.int x1, .int x2, .int x3, .int x4])) 4 fun a1 σ2 =>
  zz_ck σ2 (some th) 1 fun a4 =>
  zz_cI (zF_X1_change ρ a4 (some a1) σ2) (fun v7 σ8 =>
    zz_rI v7 σ8) zz_P
def zJ_X0_croak_21 (ρ : zz_C) (t0 : Option Nat) (σ : zz_S) : zz_R :=
  zz_rI (2 : Int32) σ
def zJ_X0_croak_25 (ρ : zz_C) (t0 : Option Nat) (σ : zz_S) : zz_R :=
  zz_rI (3 : Int32) σ
def zJ_X0_croak_17 (ρ : zz_C) (t0 : Option Nat) (σ : zz_S) : zz_R :=
  zz_rI (1 : Int32) σ
def zJ_X0_croak_29 (ρ : zz_C) (t0 : Option Nat) (σ : zz_S) : zz_R :=
  zz_rI (4 : Int32) σ
def zF_X0_croak (ρ : zz_C) (x0 : Option Nat) (x1 : Int32) (x2 : Int32) (x3 : Int32) (x4 : Int32) (x5 : Option Nat) (σ : zz_S) : zz_R :=
  zz_ck σ x0 1 fun a1 =>
  zz_cI (zF_X1_croak ρ a1 x1 x2 x3 x4 σ) (fun v4 σ5 =>
    (zz_sJ σ5 x5 3 (0 : Int32) (v4.toInt64)).bind fun σ6 =>
    zz_rI (0 : Int32) σ6)
    (fun q2 σ3 =>
      if q2.1 = 106 then
        zJ_X0_croak_21 ρ (some q2.2) σ3
      else
      if q2.1 = 138 then
        zJ_X0_croak_25 ρ (some q2.2) σ3
      else
      if q2.1 = 122 then
        zJ_X0_croak_17 ρ (some q2.2) σ3
      else
      if q2.1 = 143 then
        zJ_X0_croak_29 ρ (some q2.2) σ3
      else
      if q2.1 = 119 then
        zz_P q2 σ3
      else
      none)
def zF_X4_croak (ρ : zz_C) (th : Nat) (x1 : Int32) (x2 : Int32) (x3 : Int32) (x4 : Int32) (σ : zz_S) : zz_R :=
  zz_ck σ (some th) 4 fun a1 =>
  zz_cV (zF_X4_begins ρ a1 σ) (fun σ5 =>
    if x4 = 0 then
      zz_ck σ5 (some th) 4 fun a6 =>
      zz_cI (zF_X4_croaks ρ a6 x1 x2 x3 (0 : Int32) σ5) (fun v9 σ10 =>
        zz_ck σ10 (some th) 4 fun a11 =>
        zz_cI (zF_X4_ends ρ a11 v9 σ10) (fun v14 σ15 =>
          zz_rI v14 σ15) zz_P) zz_P
    else
    zz_ck σ5 (some th) 4 fun a16 =>
    zz_cI (zF_X4_croaks ρ a16 x1 x2 x3 (1 : Int32) σ5) (fun v19 σ20 =>
      zz_ck σ20 (some th) 4 fun a21 =>
      zz_cI (zF_X4_ends ρ a21 v19 σ20) (fun v24 σ25 =>
        zz_rI v24 σ25) zz_P) zz_P) zz_P
def zJ_L_law_2968 (ρ : zz_C) (K28 : Option Nat → Option Nat → Option Nat → Option Nat → Option Nat → Int32 → zz_S → zz_R) (x0 : Option Nat) (x1 : Option Nat) (x2 : Option Nat) (x3 : Option Nat) (x4 : Option Nat) (x5 : Int32) (σ : zz_S) : zz_R :=
  K28 x0 x1 x2 x3 x4 (x5 + (5 : Int32)) σ
def zJ_L_law_337 (ρ : zz_C) (K28 : Option Nat → Option Nat → Option Nat → Option Nat → Option Nat → Int32 → zz_S → zz_R) (x0 : Option Nat) (x1 : Option Nat) (x2 : Option Nat) (x3 : Option Nat) (x4 : Option Nat) (x5 : Int32) (σ : zz_S) : zz_R :=
  zJ_L_law_2968 ρ K28 x0 x1 x2 x3 x4 x5 σ
def zJ_L_law_272 (ρ : zz_C) (K28 : Option Nat → Option Nat → Option Nat → Option Nat → Option Nat → Int32 → zz_S → zz_R) (x0 : Option Nat) (x1 : Option Nat) (x2 : Option Nat) (x3 : Option Nat) (x4 : Option Nat) (x5 : Int32) (σ : zz_S) : zz_R :=
  (zz_aI σ x0 0 (x5 + (1 : Int32))).bind fun v1 =>
  (zz_aI σ x0 0 (x5 + (2 : Int32))).bind fun v2 =>
  zz_cI (zF_X0_addFrog ρ x1 v1 v2 x3 σ) (fun v5 σ6 =>
    (zz_aI σ6 x0 0 (x5 + (1 : Int32))).bind fun v7 =>
    (zz_aI σ6 x0 0 (x5 + (2 : Int32))).bind fun v8 =>
    zz_ck σ6 x2 4 fun a9 =>
    zz_cI (zF_X4_addFrog ρ a9 v7 v8 σ6) (fun v12 σ13 =>
      zz_ck σ13 x2 4 fun a14 =>
      zz_cI (zF_X4_thrown ρ a14 σ13) (fun v17 σ18 =>
        if v17 = v5 then
          if v5 = 0 then
            (zz_aJ σ18 x3 3 (0 : Int32)).bind fun v19 =>
            if (lg_cmp v19 (v12.toInt64)) = 0 then
              zJ_L_law_337 ρ K28 x0 x1 x2 x3 x4 x5 σ18
            else
            zz_rN .boolean (0 : Int32) σ18
          else
          zJ_L_law_337 ρ K28 x0 x1 x2 x3 x4 x5 σ18
        else
        zz_rN .boolean (0 : Int32) σ18) zz_P) zz_P) zz_P
def zJ_L_law_393 (ρ : zz_C) (K28 : Option Nat → Option Nat → Option Nat → Option Nat → Option Nat → Int32 → zz_S → zz_R) (x0 : Option Nat) (x1 : Option Nat) (x2 : Option Nat) (x3 : Option Nat) (x4 : Option Nat) (x5 : Int32) (σ : zz_S) : zz_R :=
  zJ_L_law_2968 ρ K28 x0 x1 x2 x3 x4 x5 σ
def zJ_L_law_340 (ρ : zz_C) (K28 : Option Nat → Option Nat → Option Nat → Option Nat → Option Nat → Int32 → zz_S → zz_R) (x0 : Option Nat) (x1 : Option Nat) (x2 : Option Nat) (x3 : Option Nat) (x4 : Option Nat) (x5 : Int32) (σ : zz_S) : zz_R :=
  (zz_aI σ x0 0 (x5 + (1 : Int32))).bind fun v1 =>
  zz_cI (zF_X0_addPad ρ x1 v1 x3 σ) (fun v4 σ5 =>
    (zz_aI σ5 x0 0 (x5 + (1 : Int32))).bind fun v6 =>
    zz_ck σ5 x2 4 fun a7 =>
    zz_cI (zF_X4_addPad ρ a7 v6 σ5) (fun v10 σ11 =>
      zz_ck σ11 x2 4 fun a12 =>
      zz_cI (zF_X4_thrown ρ a12 σ11) (fun v15 σ16 =>
        if v15 = v4 then
          if v4 = 0 then
            (zz_aJ σ16 x3 3 (0 : Int32)).bind fun v17 =>
            if (lg_cmp v17 (v10.toInt64)) = 0 then
              zJ_L_law_393 ρ K28 x0 x1 x2 x3 x4 x5 σ16
            else
            zz_rN .boolean (0 : Int32) σ16
          else
          zJ_L_law_393 ρ K28 x0 x1 x2 x3 x4 x5 σ16
        else
        zz_rN .boolean (0 : Int32) σ16) zz_P) zz_P) zz_P
def zJ_L_law_461 (ρ : zz_C) (K28 : Option Nat → Option Nat → Option Nat → Option Nat → Option Nat → Int32 → zz_S → zz_R) (x0 : Option Nat) (x1 : Option Nat) (x2 : Option Nat) (x3 : Option Nat) (x4 : Option Nat) (x5 : Int32) (σ : zz_S) : zz_R :=
  zJ_L_law_2968 ρ K28 x0 x1 x2 x3 x4 x5 σ
def zJ_L_law_396 (ρ : zz_C) (K28 : Option Nat → Option Nat → Option Nat → Option Nat → Option Nat → Int32 → zz_S → zz_R) (x0 : Option Nat) (x1 : Option Nat) (x2 : Option Nat) (x3 : Option Nat) (x4 : Option Nat) (x5 : Int32) (σ : zz_S) : zz_R :=
  (zz_aI σ x0 0 (x5 + (1 : Int32))).bind fun v1 =>
  (zz_aI σ x0 0 (x5 + (2 : Int32))).bind fun v2 =>
  zz_cI (zF_X0_hop ρ x1 v1 v2 x3 σ) (fun v5 σ6 =>
    (zz_aI σ6 x0 0 (x5 + (1 : Int32))).bind fun v7 =>
    (zz_aI σ6 x0 0 (x5 + (2 : Int32))).bind fun v8 =>
    zz_ck σ6 x2 4 fun a9 =>
    zz_cI (zF_X4_hop ρ a9 v7 v8 σ6) (fun v12 σ13 =>
      zz_ck σ13 x2 4 fun a14 =>
      zz_cI (zF_X4_thrown ρ a14 σ13) (fun v17 σ18 =>
        if v17 = v5 then
          if v5 = 0 then
            (zz_aJ σ18 x3 3 (0 : Int32)).bind fun v19 =>
            if (lg_cmp v19 (v12.toInt64)) = 0 then
              zJ_L_law_461 ρ K28 x0 x1 x2 x3 x4 x5 σ18
            else
            zz_rN .boolean (0 : Int32) σ18
          else
          zJ_L_law_461 ρ K28 x0 x1 x2 x3 x4 x5 σ18
        else
        zz_rN .boolean (0 : Int32) σ18) zz_P) zz_P) zz_P
def zJ_L_law_517 (ρ : zz_C) (K28 : Option Nat → Option Nat → Option Nat → Option Nat → Option Nat → Int32 → zz_S → zz_R) (x0 : Option Nat) (x1 : Option Nat) (x2 : Option Nat) (x3 : Option Nat) (x4 : Option Nat) (x5 : Int32) (σ : zz_S) : zz_R :=
  zJ_L_law_2968 ρ K28 x0 x1 x2 x3 x4 x5 σ
def zJ_L_law_464 (ρ : zz_C) (K28 : Option Nat → Option Nat → Option Nat → Option Nat → Option Nat → Int32 → zz_S → zz_R) (x0 : Option Nat) (x1 : Option Nat) (x2 : Option Nat) (x3 : Option Nat) (x4 : Option Nat) (x5 : Int32) (σ : zz_S) : zz_R :=
  (zz_aI σ x0 0 (x5 + (1 : Int32))).bind fun v1 =>
  zz_cI (zF_X0_dive ρ x1 v1 x3 σ) (fun v4 σ5 =>
    (zz_aI σ5 x0 0 (x5 + (1 : Int32))).bind fun v6 =>
    zz_ck σ5 x2 4 fun a7 =>
    zz_cI (zF_X4_dive ρ a7 v6 σ5) (fun v10 σ11 =>
      zz_ck σ11 x2 4 fun a12 =>
      zz_cI (zF_X4_thrown ρ a12 σ11) (fun v15 σ16 =>
        if v15 = v4 then
          if v4 = 0 then
            (zz_aJ σ16 x3 3 (0 : Int32)).bind fun v17 =>
            if (lg_cmp v17 (v10.toInt64)) = 0 then
              zJ_L_law_517 ρ K28 x0 x1 x2 x3 x4 x5 σ16
            else
            zz_rN .boolean (0 : Int32) σ16
          else
          zJ_L_law_517 ρ K28 x0 x1 x2 x3 x4 x5 σ16
        else
        zz_rN .boolean (0 : Int32) σ16) zz_P) zz_P) zz_P
def zJ_L_law_520 (ρ : zz_C) (K28 : Option Nat → Option Nat → Option Nat → Option Nat → Option Nat → Int32 → zz_S → zz_R) (x0 : Option Nat) (x1 : Option Nat) (x2 : Option Nat) (x3 : Option Nat) (x4 : Option Nat) (x5 : Int32) (σ : zz_S) : zz_R :=
  zz_ck σ x1 1 fun a1 =>
  zz_cI (zF_X1_frogCount ρ a1 σ) (fun v4 σ5 =>
    zz_ck σ5 x2 4 fun a6 =>
    zz_cI (zF_X4_frogCount ρ a6 σ5) (fun v9 σ10 =>
      if v4 = v9 then
        zJ_L_law_2968 ρ K28 x0 x1 x2 x3 x4 x5 σ10
      else
      zz_rN .boolean (0 : Int32) σ10) zz_P) zz_P
def zJ_L_law_586 (ρ : zz_C) (K28 : Option Nat → Option Nat → Option Nat → Option Nat → Option Nat → Int32 → zz_S → zz_R) (x0 : Option Nat) (x1 : Option Nat) (x2 : Option Nat) (x3 : Option Nat) (x4 : Option Nat) (x5 : Int32) (σ : zz_S) : zz_R :=
  zJ_L_law_2968 ρ K28 x0 x1 x2 x3 x4 x5 σ
def zJ_L_law_533 (ρ : zz_C) (K28 : Option Nat → Option Nat → Option Nat → Option Nat → Option Nat → Int32 → zz_S → zz_R) (x0 : Option Nat) (x1 : Option Nat) (x2 : Option Nat) (x3 : Option Nat) (x4 : Option Nat) (x5 : Int32) (σ : zz_S) : zz_R :=
  (zz_aI σ x0 0 (x5 + (1 : Int32))).bind fun v1 =>
  zz_cI (zF_X0_pondOf ρ x1 v1 x3 σ) (fun v4 σ5 =>
    (zz_aI σ5 x0 0 (x5 + (1 : Int32))).bind fun v6 =>
    zz_ck σ5 x2 4 fun a7 =>
    zz_cI (zF_X4_pondOf ρ a7 v6 σ5) (fun v10 σ11 =>
      zz_ck σ11 x2 4 fun a12 =>
      zz_cI (zF_X4_thrown ρ a12 σ11) (fun v15 σ16 =>
        if v15 = v4 then
          if v4 = 0 then
            (zz_aJ σ16 x3 3 (0 : Int32)).bind fun v17 =>
            if (lg_cmp v17 (v10.toInt64)) = 0 then
              zJ_L_law_586 ρ K28 x0 x1 x2 x3 x4 x5 σ16
            else
            zz_rN .boolean (0 : Int32) σ16
          else
          zJ_L_law_586 ρ K28 x0 x1 x2 x3 x4 x5 σ16
        else
        zz_rN .boolean (0 : Int32) σ16) zz_P) zz_P) zz_P
def zJ_L_law_642 (ρ : zz_C) (K28 : Option Nat → Option Nat → Option Nat → Option Nat → Option Nat → Int32 → zz_S → zz_R) (x0 : Option Nat) (x1 : Option Nat) (x2 : Option Nat) (x3 : Option Nat) (x4 : Option Nat) (x5 : Int32) (σ : zz_S) : zz_R :=
  zJ_L_law_2968 ρ K28 x0 x1 x2 x3 x4 x5 σ
def zJ_L_law_589 (ρ : zz_C) (K28 : Option Nat → Option Nat → Option Nat → Option Nat → Option Nat → Int32 → zz_S → zz_R) (x0 : Option Nat) (x1 : Option Nat) (x2 : Option Nat) (x3 : Option Nat) (x4 : Option Nat) (x5 : Int32) (σ : zz_S) : zz_R :=
  (zz_aI σ x0 0 (x5 + (1 : Int32))).bind fun v1 =>
  zz_cI (zF_X0_weightOf ρ x1 v1 x3 σ) (fun v4 σ5 =>
    (zz_aI σ5 x0 0 (x5 + (1 : Int32))).bind fun v6 =>
    zz_ck σ5 x2 4 fun a7 =>
    zz_cI (zF_X4_weightOf ρ a7 v6 σ5) (fun v10 σ11 =>
      zz_ck σ11 x2 4 fun a12 =>
      zz_cI (zF_X4_thrown ρ a12 σ11) (fun v15 σ16 =>
        if v15 = v4 then
          if v4 = 0 then
            (zz_aJ σ16 x3 3 (0 : Int32)).bind fun v17 =>
            if (lg_cmp v17 (v10.toInt64)) = 0 then
              zJ_L_law_642 ρ K28 x0 x1 x2 x3 x4 x5 σ16
            else
            zz_rN .boolean (0 : Int32) σ16
          else
          zJ_L_law_642 ρ K28 x0 x1 x2 x3 x4 x5 σ16
        else
        zz_rN .boolean (0 : Int32) σ16) zz_P) zz_P) zz_P
def zJ_L_law_698 (ρ : zz_C) (K28 : Option Nat → Option Nat → Option Nat → Option Nat → Option Nat → Int32 → zz_S → zz_R) (x0 : Option Nat) (x1 : Option Nat) (x2 : Option Nat) (x3 : Option Nat) (x4 : Option Nat) (x5 : Int32) (σ : zz_S) : zz_R :=
  zJ_L_law_2968 ρ K28 x0 x1 x2 x3 x4 x5 σ
def zJ_L_law_645 (ρ : zz_C) (K28 : Option Nat → Option Nat → Option Nat → Option Nat → Option Nat → Int32 → zz_S → zz_R) (x0 : Option Nat) (x1 : Option Nat) (x2 : Option Nat) (x3 : Option Nat) (x4 : Option Nat) (x5 : Int32) (σ : zz_S) : zz_R :=
  (zz_aI σ x0 0 (x5 + (1 : Int32))).bind fun v1 =>
  zz_cI (zF_X0_padOf ρ x1 v1 x3 σ) (fun v4 σ5 =>
    (zz_aI σ5 x0 0 (x5 + (1 : Int32))).bind fun v6 =>
    zz_ck σ5 x2 4 fun a7 =>
    zz_cI (zF_X4_padOf ρ a7 v6 σ5) (fun v10 σ11 =>
      zz_ck σ11 x2 4 fun a12 =>
      zz_cI (zF_X4_thrown ρ a12 σ11) (fun v15 σ16 =>
        if v15 = v4 then
          if v4 = 0 then
            (zz_aJ σ16 x3 3 (0 : Int32)).bind fun v17 =>
            if (lg_cmp v17 (v10.toInt64)) = 0 then
              zJ_L_law_698 ρ K28 x0 x1 x2 x3 x4 x5 σ16
            else
            zz_rN .boolean (0 : Int32) σ16
          else
          zJ_L_law_698 ρ K28 x0 x1 x2 x3 x4 x5 σ16
        else
        zz_rN .boolean (0 : Int32) σ16) zz_P) zz_P) zz_P
def zJ_L_law_701 (ρ : zz_C) (K28 : Option Nat → Option Nat → Option Nat → Option Nat → Option Nat → Int32 → zz_S → zz_R) (x0 : Option Nat) (x1 : Option Nat) (x2 : Option Nat) (x3 : Option Nat) (x4 : Option Nat) (x5 : Int32) (σ : zz_S) : zz_R :=
  zz_ck σ x1 1 fun a1 =>
  zz_cI (zF_X1_padCount ρ a1 σ) (fun v4 σ5 =>
    zz_ck σ5 x2 4 fun a6 =>
    zz_cI (zF_X4_padCount ρ a6 σ5) (fun v9 σ10 =>
      if v4 = v9 then
        zJ_L_law_2968 ρ K28 x0 x1 x2 x3 x4 x5 σ10
      else
      zz_rN .boolean (0 : Int32) σ10) zz_P) zz_P
def zJ_L_law_767 (ρ : zz_C) (K28 : Option Nat → Option Nat → Option Nat → Option Nat → Option Nat → Int32 → zz_S → zz_R) (x0 : Option Nat) (x1 : Option Nat) (x2 : Option Nat) (x3 : Option Nat) (x4 : Option Nat) (x5 : Int32) (σ : zz_S) : zz_R :=
  zJ_L_law_2968 ρ K28 x0 x1 x2 x3 x4 x5 σ
def zJ_L_law_714 (ρ : zz_C) (K28 : Option Nat → Option Nat → Option Nat → Option Nat → Option Nat → Int32 → zz_S → zz_R) (x0 : Option Nat) (x1 : Option Nat) (x2 : Option Nat) (x3 : Option Nat) (x4 : Option Nat) (x5 : Int32) (σ : zz_S) : zz_R :=
  (zz_aI σ x0 0 (x5 + (1 : Int32))).bind fun v1 =>
  zz_cI (zF_X0_frogsOn ρ x1 v1 x3 σ) (fun v4 σ5 =>
    (zz_aI σ5 x0 0 (x5 + (1 : Int32))).bind fun v6 =>
    zz_ck σ5 x2 4 fun a7 =>
    zz_cI (zF_X4_frogsOn ρ a7 v6 σ5) (fun v10 σ11 =>
      zz_ck σ11 x2 4 fun a12 =>
      zz_cI (zF_X4_thrown ρ a12 σ11) (fun v15 σ16 =>
        if v15 = v4 then
          if v4 = 0 then
            (zz_aJ σ16 x3 3 (0 : Int32)).bind fun v17 =>
            if (lg_cmp v17 (v10.toInt64)) = 0 then
              zJ_L_law_767 ρ K28 x0 x1 x2 x3 x4 x5 σ16
            else
            zz_rN .boolean (0 : Int32) σ16
          else
          zJ_L_law_767 ρ K28 x0 x1 x2 x3 x4 x5 σ16
        else
        zz_rN .boolean (0 : Int32) σ16) zz_P) zz_P) zz_P
def zJ_L_law_823 (ρ : zz_C) (K28 : Option Nat → Option Nat → Option Nat → Option Nat → Option Nat → Int32 → zz_S → zz_R) (x0 : Option Nat) (x1 : Option Nat) (x2 : Option Nat) (x3 : Option Nat) (x4 : Option Nat) (x5 : Int32) (σ : zz_S) : zz_R :=
  zJ_L_law_2968 ρ K28 x0 x1 x2 x3 x4 x5 σ
def zJ_L_law_770 (ρ : zz_C) (K28 : Option Nat → Option Nat → Option Nat → Option Nat → Option Nat → Int32 → zz_S → zz_R) (x0 : Option Nat) (x1 : Option Nat) (x2 : Option Nat) (x3 : Option Nat) (x4 : Option Nat) (x5 : Int32) (σ : zz_S) : zz_R :=
  (zz_aI σ x0 0 (x5 + (1 : Int32))).bind fun v1 =>
  zz_cI (zF_X0_padWeight ρ x1 v1 x3 σ) (fun v4 σ5 =>
    (zz_aI σ5 x0 0 (x5 + (1 : Int32))).bind fun v6 =>
    zz_ck σ5 x2 4 fun a7 =>
    zz_cI (zF_X4_padWeight ρ a7 v6 σ5) (fun v10 σ11 =>
      zz_ck σ11 x2 4 fun a12 =>
      zz_cI (zF_X4_thrown ρ a12 σ11) (fun v15 σ16 =>
        if v15 = v4 then
          if v4 = 0 then
            (zz_aJ σ16 x3 3 (0 : Int32)).bind fun v17 =>
            if (lg_cmp v17 (v10.toInt64)) = 0 then
              zJ_L_law_823 ρ K28 x0 x1 x2 x3 x4 x5 σ16
            else
            zz_rN .boolean (0 : Int32) σ16
          else
          zJ_L_law_823 ρ K28 x0 x1 x2 x3 x4 x5 σ16
        else
        zz_rN .boolean (0 : Int32) σ16) zz_P) zz_P) zz_P
def zJ_L_law_826 (ρ : zz_C) (K28 : Option Nat → Option Nat → Option Nat → Option Nat → Option Nat → Int32 → zz_S → zz_R) (x0 : Option Nat) (x1 : Option Nat) (x2 : Option Nat) (x3 : Option Nat) (x4 : Option Nat) (x5 : Int32) (σ : zz_S) : zz_R :=
  zz_ck σ x1 1 fun a1 =>
  zz_cI (zF_X1_sittingCount ρ a1 σ) (fun v4 σ5 =>
    zz_ck σ5 x2 4 fun a6 =>
    zz_cI (zF_X4_sittingCount ρ a6 σ5) (fun v9 σ10 =>
      if v4 = v9 then
        zJ_L_law_2968 ρ K28 x0 x1 x2 x3 x4 x5 σ10
      else
      zz_rN .boolean (0 : Int32) σ10) zz_P) zz_P
def zJ_L_law_839 (ρ : zz_C) (K28 : Option Nat → Option Nat → Option Nat → Option Nat → Option Nat → Int32 → zz_S → zz_R) (x0 : Option Nat) (x1 : Option Nat) (x2 : Option Nat) (x3 : Option Nat) (x4 : Option Nat) (x5 : Int32) (σ : zz_S) : zz_R :=
  zz_ck σ x1 1 fun a1 =>
  zz_cI (zF_X1_sittingCountBySet ρ a1 σ) (fun v4 σ5 =>
    zz_ck σ5 x2 4 fun a6 =>
    zz_cI (zF_X4_sittingCountBySet ρ a6 σ5) (fun v9 σ10 =>
      if v4 = v9 then
        zJ_L_law_2968 ρ K28 x0 x1 x2 x3 x4 x5 σ10
      else
      zz_rN .boolean (0 : Int32) σ10) zz_P) zz_P
def zJ_L_law_905 (ρ : zz_C) (K28 : Option Nat → Option Nat → Option Nat → Option Nat → Option Nat → Int32 → zz_S → zz_R) (x0 : Option Nat) (x1 : Option Nat) (x2 : Option Nat) (x3 : Option Nat) (x4 : Option Nat) (x5 : Int32) (σ : zz_S) : zz_R :=
  zJ_L_law_2968 ρ K28 x0 x1 x2 x3 x4 x5 σ
def zJ_L_law_852 (ρ : zz_C) (K28 : Option Nat → Option Nat → Option Nat → Option Nat → Option Nat → Int32 → zz_S → zz_R) (x0 : Option Nat) (x1 : Option Nat) (x2 : Option Nat) (x3 : Option Nat) (x4 : Option Nat) (x5 : Int32) (σ : zz_S) : zz_R :=
  (zz_aI σ x0 0 (x5 + (1 : Int32))).bind fun v1 =>
  zz_cI (zF_X0_addMotion ρ x1 v1 x3 σ) (fun v4 σ5 =>
    (zz_aI σ5 x0 0 (x5 + (1 : Int32))).bind fun v6 =>
    zz_ck σ5 x2 4 fun a7 =>
    zz_cI (zF_X4_addMotion ρ a7 v6 σ5) (fun v10 σ11 =>
      zz_ck σ11 x2 4 fun a12 =>
      zz_cI (zF_X4_thrown ρ a12 σ11) (fun v15 σ16 =>
        if v15 = v4 then
          if v4 = 0 then
            (zz_aJ σ16 x3 3 (0 : Int32)).bind fun v17 =>
            if (lg_cmp v17 (v10.toInt64)) = 0 then
              zJ_L_law_905 ρ K28 x0 x1 x2 x3 x4 x5 σ16
            else
            zz_rN .boolean (0 : Int32) σ16
          else
          zJ_L_law_905 ρ K28 x0 x1 x2 x3 x4 x5 σ16
        else
        zz_rN .boolean (0 : Int32) σ16) zz_P) zz_P) zz_P
def zJ_L_law_908 (ρ : zz_C) (K28 : Option Nat → Option Nat → Option Nat → Option Nat → Option Nat → Int32 → zz_S → zz_R) (x0 : Option Nat) (x1 : Option Nat) (x2 : Option Nat) (x3 : Option Nat) (x4 : Option Nat) (x5 : Int32) (σ : zz_S) : zz_R :=
  zz_ck σ x1 1 fun a1 =>
  zz_cI (zF_X1_motionCount ρ a1 σ) (fun v4 σ5 =>
    zz_ck σ5 x2 4 fun a6 =>
    zz_cI (zF_X4_motionCount ρ a6 σ5) (fun v9 σ10 =>
      if v4 = v9 then
        zJ_L_law_2968 ρ K28 x0 x1 x2 x3 x4 x5 σ10
      else
      zz_rN .boolean (0 : Int32) σ10) zz_P) zz_P
def zJ_L_law_993 (ρ : zz_C) (K28 : Option Nat → Option Nat → Option Nat → Option Nat → Option Nat → Int32 → zz_S → zz_R) (x0 : Option Nat) (x1 : Option Nat) (x2 : Option Nat) (x3 : Option Nat) (x4 : Option Nat) (x5 : Int32) (σ : zz_S) : zz_R :=
  zJ_L_law_2968 ρ K28 x0 x1 x2 x3 x4 x5 σ
def zJ_L_law_987 (ρ : zz_C) (K28 : Option Nat → Option Nat → Option Nat → Option Nat → Option Nat → Int32 → zz_S → zz_R) (x0 : Option Nat) (x1 : Option Nat) (x2 : Option Nat) (x3 : Option Nat) (x4 : Option Nat) (x5 : Int32) (t0 : Int64) (t1 : Int64) (σ : zz_S) : zz_R :=
  if (lg_cmp t1 t0) = 0 then
    zJ_L_law_993 ρ K28 x0 x1 x2 x3 x4 x5 σ
  else
  zz_rN .boolean (0 : Int32) σ
def zJ_L_law_921 (ρ : zz_C) (K28 : Option Nat → Option Nat → Option Nat → Option Nat → Option Nat → Int32 → zz_S → zz_R) (x0 : Option Nat) (x1 : Option Nat) (x2 : Option Nat) (x3 : Option Nat) (x4 : Option Nat) (x5 : Int32) (σ : zz_S) : zz_R :=
  (zz_aI σ x0 0 (x5 + (1 : Int32))).bind fun v1 =>
  (zz_aI σ x0 0 (x5 + (2 : Int32))).bind fun v2 =>
  zz_cI (zF_X0_isEntitled ρ x1 v1 v2 x3 σ) (fun v5 σ6 =>
    (zz_aI σ6 x0 0 (x5 + (1 : Int32))).bind fun v7 =>
    (zz_aI σ6 x0 0 (x5 + (2 : Int32))).bind fun v8 =>
    zz_ck σ6 x2 4 fun a9 =>
    zz_cI (zF_X4_isEntitled ρ a9 v7 v8 σ6) (fun v12 σ13 =>
      zz_ck σ13 x2 4 fun a14 =>
      zz_cI (zF_X4_thrown ρ a14 σ13) (fun v17 σ18 =>
        if v17 = v5 then
          if v5 = 0 then
            (zz_aJ σ18 x3 3 (0 : Int32)).bind fun v19 =>
            if v12 = 0 then
              zJ_L_law_987 ρ K28 x0 x1 x2 x3 x4 x5 (0 : Int64) v19 σ18
            else
            zJ_L_law_987 ρ K28 x0 x1 x2 x3 x4 x5 (1 : Int64) v19 σ18
          else
          zJ_L_law_993 ρ K28 x0 x1 x2 x3 x4 x5 σ18
        else
        zz_rN .boolean (0 : Int32) σ18) zz_P) zz_P) zz_P
def zJ_L_law_1061 (ρ : zz_C) (K28 : Option Nat → Option Nat → Option Nat → Option Nat → Option Nat → Int32 → zz_S → zz_R) (x0 : Option Nat) (x1 : Option Nat) (x2 : Option Nat) (x3 : Option Nat) (x4 : Option Nat) (x5 : Int32) (σ : zz_S) : zz_R :=
  zJ_L_law_2968 ρ K28 x0 x1 x2 x3 x4 x5 σ
def zJ_L_law_996 (ρ : zz_C) (K28 : Option Nat → Option Nat → Option Nat → Option Nat → Option Nat → Int32 → zz_S → zz_R) (x0 : Option Nat) (x1 : Option Nat) (x2 : Option Nat) (x3 : Option Nat) (x4 : Option Nat) (x5 : Int32) (σ : zz_S) : zz_R :=
  (zz_aI σ x0 0 (x5 + (1 : Int32))).bind fun v1 =>
  (zz_aI σ x0 0 (x5 + (2 : Int32))).bind fun v2 =>
  zz_cI (zF_X0_signUp ρ x1 v1 v2 x3 σ) (fun v5 σ6 =>
    (zz_aI σ6 x0 0 (x5 + (1 : Int32))).bind fun v7 =>
    (zz_aI σ6 x0 0 (x5 + (2 : Int32))).bind fun v8 =>
    zz_ck σ6 x2 4 fun a9 =>
    zz_cI (zF_X4_signUp ρ a9 v7 v8 σ6) (fun v12 σ13 =>
      zz_ck σ13 x2 4 fun a14 =>
      zz_cI (zF_X4_thrown ρ a14 σ13) (fun v17 σ18 =>
        if v17 = v5 then
          if v5 = 0 then
            (zz_aJ σ18 x3 3 (0 : Int32)).bind fun v19 =>
            if (lg_cmp v19 (v12.toInt64)) = 0 then
              zJ_L_law_1061 ρ K28 x0 x1 x2 x3 x4 x5 σ18
            else
            zz_rN .boolean (0 : Int32) σ18
          else
          zJ_L_law_1061 ρ K28 x0 x1 x2 x3 x4 x5 σ18
        else
        zz_rN .boolean (0 : Int32) σ18) zz_P) zz_P) zz_P
def zJ_L_law_1129 (ρ : zz_C) (K28 : Option Nat → Option Nat → Option Nat → Option Nat → Option Nat → Int32 → zz_S → zz_R) (x0 : Option Nat) (x1 : Option Nat) (x2 : Option Nat) (x3 : Option Nat) (x4 : Option Nat) (x5 : Int32) (σ : zz_S) : zz_R :=
  zJ_L_law_2968 ρ K28 x0 x1 x2 x3 x4 x5 σ
def zJ_L_law_1064 (ρ : zz_C) (K28 : Option Nat → Option Nat → Option Nat → Option Nat → Option Nat → Int32 → zz_S → zz_R) (x0 : Option Nat) (x1 : Option Nat) (x2 : Option Nat) (x3 : Option Nat) (x4 : Option Nat) (x5 : Int32) (σ : zz_S) : zz_R :=
  (zz_aI σ x0 0 (x5 + (1 : Int32))).bind fun v1 =>
  (zz_aI σ x0 0 (x5 + (2 : Int32))).bind fun v2 =>
  zz_cI (zF_X0_strike ρ x1 v1 v2 x3 σ) (fun v5 σ6 =>
    (zz_aI σ6 x0 0 (x5 + (1 : Int32))).bind fun v7 =>
    (zz_aI σ6 x0 0 (x5 + (2 : Int32))).bind fun v8 =>
    zz_ck σ6 x2 4 fun a9 =>
    zz_cI (zF_X4_strike ρ a9 v7 v8 σ6) (fun v12 σ13 =>
      zz_ck σ13 x2 4 fun a14 =>
      zz_cI (zF_X4_thrown ρ a14 σ13) (fun v17 σ18 =>
        if v17 = v5 then
          if v5 = 0 then
            (zz_aJ σ18 x3 3 (0 : Int32)).bind fun v19 =>
            if (lg_cmp v19 (v12.toInt64)) = 0 then
              zJ_L_law_1129 ρ K28 x0 x1 x2 x3 x4 x5 σ18
            else
            zz_rN .boolean (0 : Int32) σ18
          else
          zJ_L_law_1129 ρ K28 x0 x1 x2 x3 x4 x5 σ18
        else
        zz_rN .boolean (0 : Int32) σ18) zz_P) zz_P) zz_P
def zJ_L_law_1192 (ρ : zz_C) (K28 : Option Nat → Option Nat → Option Nat → Option Nat → Option Nat → Int32 → zz_S → zz_R) (x0 : Option Nat) (x1 : Option Nat) (x2 : Option Nat) (x3 : Option Nat) (x4 : Option Nat) (x5 : Int32) (σ : zz_S) : zz_R :=
  zJ_L_law_2968 ρ K28 x0 x1 x2 x3 x4 x5 σ
def zJ_L_law_1186 (ρ : zz_C) (K28 : Option Nat → Option Nat → Option Nat → Option Nat → Option Nat → Int32 → zz_S → zz_R) (x0 : Option Nat) (x1 : Option Nat) (x2 : Option Nat) (x3 : Option Nat) (x4 : Option Nat) (x5 : Int32) (t0 : Int64) (t1 : Int64) (σ : zz_S) : zz_R :=
  if (lg_cmp t1 t0) = 0 then
    zJ_L_law_1192 ρ K28 x0 x1 x2 x3 x4 x5 σ
  else
  zz_rN .boolean (0 : Int32) σ
def zJ_L_law_1132 (ρ : zz_C) (K28 : Option Nat → Option Nat → Option Nat → Option Nat → Option Nat → Int32 → zz_S → zz_R) (x0 : Option Nat) (x1 : Option Nat) (x2 : Option Nat) (x3 : Option Nat) (x4 : Option Nat) (x5 : Int32) (σ : zz_S) : zz_R :=
  (zz_aI σ x0 0 (x5 + (1 : Int32))).bind fun v1 =>
  zz_cI (zF_X0_callNext ρ x1 v1 x3 σ) (fun v4 σ5 =>
    (zz_aI σ5 x0 0 (x5 + (1 : Int32))).bind fun v6 =>
    zz_ck σ5 x2 4 fun a7 =>
    zz_cI (zF_X4_callNext ρ a7 v6 σ5) (fun v10 σ11 =>
      zz_ck σ11 x2 4 fun a12 =>
      zz_cI (zF_X4_thrown ρ a12 σ11) (fun v15 σ16 =>
        if v15 = v4 then
          if v4 = 0 then
            (zz_aJ σ16 x3 3 (0 : Int32)).bind fun v17 =>
            if v10 = 0 then
              zJ_L_law_1186 ρ K28 x0 x1 x2 x3 x4 x5 (0 : Int64) v17 σ16
            else
            zJ_L_law_1186 ρ K28 x0 x1 x2 x3 x4 x5 (1 : Int64) v17 σ16
          else
          zJ_L_law_1192 ρ K28 x0 x1 x2 x3 x4 x5 σ16
        else
        zz_rN .boolean (0 : Int32) σ16) zz_P) zz_P) zz_P
def zJ_L_law_1248 (ρ : zz_C) (K28 : Option Nat → Option Nat → Option Nat → Option Nat → Option Nat → Int32 → zz_S → zz_R) (x0 : Option Nat) (x1 : Option Nat) (x2 : Option Nat) (x3 : Option Nat) (x4 : Option Nat) (x5 : Int32) (σ : zz_S) : zz_R :=
  zJ_L_law_2968 ρ K28 x0 x1 x2 x3 x4 x5 σ
def zJ_L_law_1195 (ρ : zz_C) (K28 : Option Nat → Option Nat → Option Nat → Option Nat → Option Nat → Int32 → zz_S → zz_R) (x0 : Option Nat) (x1 : Option Nat) (x2 : Option Nat) (x3 : Option Nat) (x4 : Option Nat) (x5 : Int32) (σ : zz_S) : zz_R :=
  (zz_aI σ x0 0 (x5 + (1 : Int32))).bind fun v1 =>
  zz_cI (zF_X0_listLength ρ x1 v1 x3 σ) (fun v4 σ5 =>
    (zz_aI σ5 x0 0 (x5 + (1 : Int32))).bind fun v6 =>
    zz_ck σ5 x2 4 fun a7 =>
    zz_cI (zF_X4_listLength ρ a7 v6 σ5) (fun v10 σ11 =>
      zz_ck σ11 x2 4 fun a12 =>
      zz_cI (zF_X4_thrown ρ a12 σ11) (fun v15 σ16 =>
        if v15 = v4 then
          if v4 = 0 then
            (zz_aJ σ16 x3 3 (0 : Int32)).bind fun v17 =>
            if (lg_cmp v17 (v10.toInt64)) = 0 then
              zJ_L_law_1248 ρ K28 x0 x1 x2 x3 x4 x5 σ16
            else
            zz_rN .boolean (0 : Int32) σ16
          else
          zJ_L_law_1248 ρ K28 x0 x1 x2 x3 x4 x5 σ16
        else
        zz_rN .boolean (0 : Int32) σ16) zz_P) zz_P) zz_P
def zJ_L_law_1304 (ρ : zz_C) (K28 : Option Nat → Option Nat → Option Nat → Option Nat → Option Nat → Int32 → zz_S → zz_R) (x0 : Option Nat) (x1 : Option Nat) (x2 : Option Nat) (x3 : Option Nat) (x4 : Option Nat) (x5 : Int32) (σ : zz_S) : zz_R :=
  zJ_L_law_2968 ρ K28 x0 x1 x2 x3 x4 x5 σ
def zJ_L_law_1251 (ρ : zz_C) (K28 : Option Nat → Option Nat → Option Nat → Option Nat → Option Nat → Int32 → zz_S → zz_R) (x0 : Option Nat) (x1 : Option Nat) (x2 : Option Nat) (x3 : Option Nat) (x4 : Option Nat) (x5 : Int32) (σ : zz_S) : zz_R :=
  (zz_aI σ x0 0 (x5 + (1 : Int32))).bind fun v1 =>
  zz_cI (zF_X0_nextFrog ρ x1 v1 x3 σ) (fun v4 σ5 =>
    (zz_aI σ5 x0 0 (x5 + (1 : Int32))).bind fun v6 =>
    zz_ck σ5 x2 4 fun a7 =>
    zz_cI (zF_X4_nextFrog ρ a7 v6 σ5) (fun v10 σ11 =>
      zz_ck σ11 x2 4 fun a12 =>
      zz_cI (zF_X4_thrown ρ a12 σ11) (fun v15 σ16 =>
        if v15 = v4 then
          if v4 = 0 then
            (zz_aJ σ16 x3 3 (0 : Int32)).bind fun v17 =>
            if (lg_cmp v17 (v10.toInt64)) = 0 then
              zJ_L_law_1304 ρ K28 x0 x1 x2 x3 x4 x5 σ16
            else
            zz_rN .boolean (0 : Int32) σ16
          else
          zJ_L_law_1304 ρ K28 x0 x1 x2 x3 x4 x5 σ16
        else
        zz_rN .boolean (0 : Int32) σ16) zz_P) zz_P) zz_P
def zJ_L_law_1360 (ρ : zz_C) (K28 : Option Nat → Option Nat → Option Nat → Option Nat → Option Nat → Int32 → zz_S → zz_R) (x0 : Option Nat) (x1 : Option Nat) (x2 : Option Nat) (x3 : Option Nat) (x4 : Option Nat) (x5 : Int32) (σ : zz_S) : zz_R :=
  zJ_L_law_2968 ρ K28 x0 x1 x2 x3 x4 x5 σ
def zJ_L_law_1307 (ρ : zz_C) (K28 : Option Nat → Option Nat → Option Nat → Option Nat → Option Nat → Int32 → zz_S → zz_R) (x0 : Option Nat) (x1 : Option Nat) (x2 : Option Nat) (x3 : Option Nat) (x4 : Option Nat) (x5 : Int32) (σ : zz_S) : zz_R :=
  (zz_aI σ x0 0 (x5 + (1 : Int32))).bind fun v1 =>
  zz_cI (zF_X0_nextFrogByScan ρ x1 v1 x3 σ) (fun v4 σ5 =>
    (zz_aI σ5 x0 0 (x5 + (1 : Int32))).bind fun v6 =>
    zz_ck σ5 x2 4 fun a7 =>
    zz_cI (zF_X4_nextFrogByScan ρ a7 v6 σ5) (fun v10 σ11 =>
      zz_ck σ11 x2 4 fun a12 =>
      zz_cI (zF_X4_thrown ρ a12 σ11) (fun v15 σ16 =>
        if v15 = v4 then
          if v4 = 0 then
            (zz_aJ σ16 x3 3 (0 : Int32)).bind fun v17 =>
            if (lg_cmp v17 (v10.toInt64)) = 0 then
              zJ_L_law_1360 ρ K28 x0 x1 x2 x3 x4 x5 σ16
            else
            zz_rN .boolean (0 : Int32) σ16
          else
          zJ_L_law_1360 ρ K28 x0 x1 x2 x3 x4 x5 σ16
        else
        zz_rN .boolean (0 : Int32) σ16) zz_P) zz_P) zz_P
def zJ_L_law_1428 (ρ : zz_C) (K28 : Option Nat → Option Nat → Option Nat → Option Nat → Option Nat → Int32 → zz_S → zz_R) (x0 : Option Nat) (x1 : Option Nat) (x2 : Option Nat) (x3 : Option Nat) (x4 : Option Nat) (x5 : Int32) (σ : zz_S) : zz_R :=
  zJ_L_law_2968 ρ K28 x0 x1 x2 x3 x4 x5 σ
def zJ_L_law_1363 (ρ : zz_C) (K28 : Option Nat → Option Nat → Option Nat → Option Nat → Option Nat → Int32 → zz_S → zz_R) (x0 : Option Nat) (x1 : Option Nat) (x2 : Option Nat) (x3 : Option Nat) (x4 : Option Nat) (x5 : Int32) (σ : zz_S) : zz_R :=
  (zz_aI σ x0 0 (x5 + (1 : Int32))).bind fun v1 =>
  (zz_aI σ x0 0 (x5 + (2 : Int32))).bind fun v2 =>
  zz_cI (zF_X0_frogsBefore ρ x1 v1 v2 x3 σ) (fun v5 σ6 =>
    (zz_aI σ6 x0 0 (x5 + (1 : Int32))).bind fun v7 =>
    (zz_aI σ6 x0 0 (x5 + (2 : Int32))).bind fun v8 =>
    zz_ck σ6 x2 4 fun a9 =>
    zz_cI (zF_X4_frogsBefore ρ a9 v7 v8 σ6) (fun v12 σ13 =>
      zz_ck σ13 x2 4 fun a14 =>
      zz_cI (zF_X4_thrown ρ a14 σ13) (fun v17 σ18 =>
        if v17 = v5 then
          if v5 = 0 then
            (zz_aJ σ18 x3 3 (0 : Int32)).bind fun v19 =>
            if (lg_cmp v19 (v12.toInt64)) = 0 then
              zJ_L_law_1428 ρ K28 x0 x1 x2 x3 x4 x5 σ18
            else
            zz_rN .boolean (0 : Int32) σ18
          else
          zJ_L_law_1428 ρ K28 x0 x1 x2 x3 x4 x5 σ18
        else
        zz_rN .boolean (0 : Int32) σ18) zz_P) zz_P) zz_P
def zJ_L_law_1484 (ρ : zz_C) (K28 : Option Nat → Option Nat → Option Nat → Option Nat → Option Nat → Int32 → zz_S → zz_R) (x0 : Option Nat) (x1 : Option Nat) (x2 : Option Nat) (x3 : Option Nat) (x4 : Option Nat) (x5 : Int32) (σ : zz_S) : zz_R :=
  zJ_L_law_2968 ρ K28 x0 x1 x2 x3 x4 x5 σ
def zJ_L_law_1431 (ρ : zz_C) (K28 : Option Nat → Option Nat → Option Nat → Option Nat → Option Nat → Int32 → zz_S → zz_R) (x0 : Option Nat) (x1 : Option Nat) (x2 : Option Nat) (x3 : Option Nat) (x4 : Option Nat) (x5 : Int32) (σ : zz_S) : zz_R :=
  (zz_aI σ x0 0 (x5 + (1 : Int32))).bind fun v1 =>
  zz_cI (zF_X0_speeches ρ x1 v1 x3 σ) (fun v4 σ5 =>
    (zz_aI σ5 x0 0 (x5 + (1 : Int32))).bind fun v6 =>
    zz_ck σ5 x2 4 fun a7 =>
    zz_cI (zF_X4_speeches ρ a7 v6 σ5) (fun v10 σ11 =>
      zz_ck σ11 x2 4 fun a12 =>
      zz_cI (zF_X4_thrown ρ a12 σ11) (fun v15 σ16 =>
        if v15 = v4 then
          if v4 = 0 then
            (zz_aJ σ16 x3 3 (0 : Int32)).bind fun v17 =>
            if (lg_cmp v17 (v10.toInt64)) = 0 then
              zJ_L_law_1484 ρ K28 x0 x1 x2 x3 x4 x5 σ16
            else
            zz_rN .boolean (0 : Int32) σ16
          else
          zJ_L_law_1484 ρ K28 x0 x1 x2 x3 x4 x5 σ16
        else
        zz_rN .boolean (0 : Int32) σ16) zz_P) zz_P) zz_P
def zJ_L_law_1540 (ρ : zz_C) (K28 : Option Nat → Option Nat → Option Nat → Option Nat → Option Nat → Int32 → zz_S → zz_R) (x0 : Option Nat) (x1 : Option Nat) (x2 : Option Nat) (x3 : Option Nat) (x4 : Option Nat) (x5 : Int32) (σ : zz_S) : zz_R :=
  zJ_L_law_2968 ρ K28 x0 x1 x2 x3 x4 x5 σ
def zJ_L_law_1487 (ρ : zz_C) (K28 : Option Nat → Option Nat → Option Nat → Option Nat → Option Nat → Int32 → zz_S → zz_R) (x0 : Option Nat) (x1 : Option Nat) (x2 : Option Nat) (x3 : Option Nat) (x4 : Option Nat) (x5 : Int32) (σ : zz_S) : zz_R :=
  (zz_aI σ x0 0 (x5 + (1 : Int32))).bind fun v1 =>
  zz_cI (zF_X0_speechesOn ρ x1 v1 x3 σ) (fun v4 σ5 =>
    (zz_aI σ5 x0 0 (x5 + (1 : Int32))).bind fun v6 =>
    zz_ck σ5 x2 4 fun a7 =>
    zz_cI (zF_X4_speechesOn ρ a7 v6 σ5) (fun v10 σ11 =>
      zz_ck σ11 x2 4 fun a12 =>
      zz_cI (zF_X4_thrown ρ a12 σ11) (fun v15 σ16 =>
        if v15 = v4 then
          if v4 = 0 then
            (zz_aJ σ16 x3 3 (0 : Int32)).bind fun v17 =>
            if (lg_cmp v17 (v10.toInt64)) = 0 then
              zJ_L_law_1540 ρ K28 x0 x1 x2 x3 x4 x5 σ16
            else
            zz_rN .boolean (0 : Int32) σ16
          else
          zJ_L_law_1540 ρ K28 x0 x1 x2 x3 x4 x5 σ16
        else
        zz_rN .boolean (0 : Int32) σ16) zz_P) zz_P) zz_P
def zJ_L_law_1596 (ρ : zz_C) (K28 : Option Nat → Option Nat → Option Nat → Option Nat → Option Nat → Int32 → zz_S → zz_R) (x0 : Option Nat) (x1 : Option Nat) (x2 : Option Nat) (x3 : Option Nat) (x4 : Option Nat) (x5 : Int32) (σ : zz_S) : zz_R :=
  zJ_L_law_2968 ρ K28 x0 x1 x2 x3 x4 x5 σ
def zJ_L_law_1543 (ρ : zz_C) (K28 : Option Nat → Option Nat → Option Nat → Option Nat → Option Nat → Int32 → zz_S → zz_R) (x0 : Option Nat) (x1 : Option Nat) (x2 : Option Nat) (x3 : Option Nat) (x4 : Option Nat) (x5 : Int32) (σ : zz_S) : zz_R :=
  (zz_aI σ x0 0 (x5 + (1 : Int32))).bind fun v1 =>
  zz_cI (zF_X0_frogAtRank ρ x1 v1 x3 σ) (fun v4 σ5 =>
    (zz_aI σ5 x0 0 (x5 + (1 : Int32))).bind fun v6 =>
    zz_ck σ5 x2 4 fun a7 =>
    zz_cI (zF_X4_frogAtRank ρ a7 v6 σ5) (fun v10 σ11 =>
      zz_ck σ11 x2 4 fun a12 =>
      zz_cI (zF_X4_thrown ρ a12 σ11) (fun v15 σ16 =>
        if v15 = v4 then
          if v4 = 0 then
            (zz_aJ σ16 x3 3 (0 : Int32)).bind fun v17 =>
            if (lg_cmp v17 (v10.toInt64)) = 0 then
              zJ_L_law_1596 ρ K28 x0 x1 x2 x3 x4 x5 σ16
            else
            zz_rN .boolean (0 : Int32) σ16
          else
          zJ_L_law_1596 ρ K28 x0 x1 x2 x3 x4 x5 σ16
        else
        zz_rN .boolean (0 : Int32) σ16) zz_P) zz_P) zz_P
def zJ_L_law_1671 (ρ : zz_C) (K28 : Option Nat → Option Nat → Option Nat → Option Nat → Option Nat → Int32 → zz_S → zz_R) (x0 : Option Nat) (x1 : Option Nat) (x2 : Option Nat) (x3 : Option Nat) (x4 : Option Nat) (x5 : Int32) (σ : zz_S) : zz_R :=
  zJ_L_law_2968 ρ K28 x0 x1 x2 x3 x4 x5 σ
def zJ_L_law_1665 (ρ : zz_C) (K28 : Option Nat → Option Nat → Option Nat → Option Nat → Option Nat → Int32 → zz_S → zz_R) (x0 : Option Nat) (x1 : Option Nat) (x2 : Option Nat) (x3 : Option Nat) (x4 : Option Nat) (x5 : Int32) (t0 : Int64) (t1 : Int64) (σ : zz_S) : zz_R :=
  if (lg_cmp t1 t0) = 0 then
    zJ_L_law_1671 ρ K28 x0 x1 x2 x3 x4 x5 σ
  else
  zz_rN .boolean (0 : Int32) σ
def zJ_L_law_1599 (ρ : zz_C) (K28 : Option Nat → Option Nat → Option Nat → Option Nat → Option Nat → Int32 → zz_S → zz_R) (x0 : Option Nat) (x1 : Option Nat) (x2 : Option Nat) (x3 : Option Nat) (x4 : Option Nat) (x5 : Int32) (σ : zz_S) : zz_R :=
  (zz_aI σ x0 0 (x5 + (1 : Int32))).bind fun v1 =>
  (zz_aI σ x0 0 (x5 + (2 : Int32))).bind fun v2 =>
  zz_cI (zF_X0_supportClosure ρ x1 v1 v2 x3 σ) (fun v5 σ6 =>
    (zz_aI σ6 x0 0 (x5 + (1 : Int32))).bind fun v7 =>
    (zz_aI σ6 x0 0 (x5 + (2 : Int32))).bind fun v8 =>
    zz_ck σ6 x2 4 fun a9 =>
    zz_cI (zF_X4_supportClosure ρ a9 v7 v8 σ6) (fun v12 σ13 =>
      zz_ck σ13 x2 4 fun a14 =>
      zz_cI (zF_X4_thrown ρ a14 σ13) (fun v17 σ18 =>
        if v17 = v5 then
          if v5 = 0 then
            (zz_aJ σ18 x3 3 (0 : Int32)).bind fun v19 =>
            if v12 = 0 then
              zJ_L_law_1665 ρ K28 x0 x1 x2 x3 x4 x5 (0 : Int64) v19 σ18
            else
            zJ_L_law_1665 ρ K28 x0 x1 x2 x3 x4 x5 (1 : Int64) v19 σ18
          else
          zJ_L_law_1671 ρ K28 x0 x1 x2 x3 x4 x5 σ18
        else
        zz_rN .boolean (0 : Int32) σ18) zz_P) zz_P) zz_P
def zJ_L_law_1734 (ρ : zz_C) (K28 : Option Nat → Option Nat → Option Nat → Option Nat → Option Nat → Int32 → zz_S → zz_R) (x0 : Option Nat) (x1 : Option Nat) (x2 : Option Nat) (x3 : Option Nat) (x4 : Option Nat) (x5 : Int32) (σ : zz_S) : zz_R :=
  zJ_L_law_2968 ρ K28 x0 x1 x2 x3 x4 x5 σ
def zJ_L_law_1728 (ρ : zz_C) (K28 : Option Nat → Option Nat → Option Nat → Option Nat → Option Nat → Int32 → zz_S → zz_R) (x0 : Option Nat) (x1 : Option Nat) (x2 : Option Nat) (x3 : Option Nat) (x4 : Option Nat) (x5 : Int32) (t0 : Int64) (t1 : Int64) (σ : zz_S) : zz_R :=
  if (lg_cmp t1 t0) = 0 then
    zJ_L_law_1734 ρ K28 x0 x1 x2 x3 x4 x5 σ
  else
  zz_rN .boolean (0 : Int32) σ
def zJ_L_law_1674 (ρ : zz_C) (K28 : Option Nat → Option Nat → Option Nat → Option Nat → Option Nat → Int32 → zz_S → zz_R) (x0 : Option Nat) (x1 : Option Nat) (x2 : Option Nat) (x3 : Option Nat) (x4 : Option Nat) (x5 : Int32) (σ : zz_S) : zz_R :=
  (zz_aI σ x0 0 (x5 + (1 : Int32))).bind fun v1 =>
  zz_cI (zF_X0_isListClosed ρ x1 v1 x3 σ) (fun v4 σ5 =>
    (zz_aI σ5 x0 0 (x5 + (1 : Int32))).bind fun v6 =>
    zz_ck σ5 x2 4 fun a7 =>
    zz_cI (zF_X4_isListClosed ρ a7 v6 σ5) (fun v10 σ11 =>
      zz_ck σ11 x2 4 fun a12 =>
      zz_cI (zF_X4_thrown ρ a12 σ11) (fun v15 σ16 =>
        if v15 = v4 then
          if v4 = 0 then
            (zz_aJ σ16 x3 3 (0 : Int32)).bind fun v17 =>
            if v10 = 0 then
              zJ_L_law_1728 ρ K28 x0 x1 x2 x3 x4 x5 (0 : Int64) v17 σ16
            else
            zJ_L_law_1728 ρ K28 x0 x1 x2 x3 x4 x5 (1 : Int64) v17 σ16
          else
          zJ_L_law_1734 ρ K28 x0 x1 x2 x3 x4 x5 σ16
        else
        zz_rN .boolean (0 : Int32) σ16) zz_P) zz_P) zz_P
def zJ_L_law_1790 (ρ : zz_C) (K28 : Option Nat → Option Nat → Option Nat → Option Nat → Option Nat → Int32 → zz_S → zz_R) (x0 : Option Nat) (x1 : Option Nat) (x2 : Option Nat) (x3 : Option Nat) (x4 : Option Nat) (x5 : Int32) (σ : zz_S) : zz_R :=
  zJ_L_law_2968 ρ K28 x0 x1 x2 x3 x4 x5 σ
def zJ_L_law_1737 (ρ : zz_C) (K28 : Option Nat → Option Nat → Option Nat → Option Nat → Option Nat → Int32 → zz_S → zz_R) (x0 : Option Nat) (x1 : Option Nat) (x2 : Option Nat) (x3 : Option Nat) (x4 : Option Nat) (x5 : Int32) (σ : zz_S) : zz_R :=
  (zz_aI σ x0 0 (x5 + (1 : Int32))).bind fun v1 =>
  zz_cI (zF_X0_closureWeight ρ x1 v1 x3 σ) (fun v4 σ5 =>
    (zz_aI σ5 x0 0 (x5 + (1 : Int32))).bind fun v6 =>
    zz_ck σ5 x2 4 fun a7 =>
    zz_cI (zF_X4_closureWeight ρ a7 v6 σ5) (fun v10 σ11 =>
      zz_ck σ11 x2 4 fun a12 =>
      zz_cI (zF_X4_thrown ρ a12 σ11) (fun v15 σ16 =>
        if v15 = v4 then
          if v4 = 0 then
            (zz_aJ σ16 x3 3 (0 : Int32)).bind fun v17 =>
            if (lg_cmp v17 (v10.toInt64)) = 0 then
              zJ_L_law_1790 ρ K28 x0 x1 x2 x3 x4 x5 σ16
            else
            zz_rN .boolean (0 : Int32) σ16
          else
          zJ_L_law_1790 ρ K28 x0 x1 x2 x3 x4 x5 σ16
        else
        zz_rN .boolean (0 : Int32) σ16) zz_P) zz_P) zz_P
def zJ_L_law_1846 (ρ : zz_C) (K28 : Option Nat → Option Nat → Option Nat → Option Nat → Option Nat → Int32 → zz_S → zz_R) (x0 : Option Nat) (x1 : Option Nat) (x2 : Option Nat) (x3 : Option Nat) (x4 : Option Nat) (x5 : Int32) (σ : zz_S) : zz_R :=
  zJ_L_law_2968 ρ K28 x0 x1 x2 x3 x4 x5 σ
def zJ_L_law_1793 (ρ : zz_C) (K28 : Option Nat → Option Nat → Option Nat → Option Nat → Option Nat → Int32 → zz_S → zz_R) (x0 : Option Nat) (x1 : Option Nat) (x2 : Option Nat) (x3 : Option Nat) (x4 : Option Nat) (x5 : Int32) (σ : zz_S) : zz_R :=
  (zz_aI σ x0 0 (x5 + (1 : Int32))).bind fun v1 =>
  zz_cI (zF_X0_entitledWeight ρ x1 v1 x3 σ) (fun v4 σ5 =>
    (zz_aI σ5 x0 0 (x5 + (1 : Int32))).bind fun v6 =>
    zz_ck σ5 x2 4 fun a7 =>
    zz_cI (zF_X4_entitledWeight ρ a7 v6 σ5) (fun v10 σ11 =>
      zz_ck σ11 x2 4 fun a12 =>
      zz_cI (zF_X4_thrown ρ a12 σ11) (fun v15 σ16 =>
        if v15 = v4 then
          if v4 = 0 then
            (zz_aJ σ16 x3 3 (0 : Int32)).bind fun v17 =>
            if (lg_cmp v17 (v10.toInt64)) = 0 then
              zJ_L_law_1846 ρ K28 x0 x1 x2 x3 x4 x5 σ16
            else
            zz_rN .boolean (0 : Int32) σ16
          else
          zJ_L_law_1846 ρ K28 x0 x1 x2 x3 x4 x5 σ16
        else
        zz_rN .boolean (0 : Int32) σ16) zz_P) zz_P) zz_P
def zJ_L_law_1954 (ρ : zz_C) (K28 : Option Nat → Option Nat → Option Nat → Option Nat → Option Nat → Int32 → zz_S → zz_R) (x0 : Option Nat) (x1 : Option Nat) (x2 : Option Nat) (x3 : Option Nat) (x4 : Option Nat) (x5 : Int32) (σ : zz_S) : zz_R :=
  zJ_L_law_2968 ρ K28 x0 x1 x2 x3 x4 x5 σ
def zJ_L_law_1921 (ρ : zz_C) (K28 : Option Nat → Option Nat → Option Nat → Option Nat → Option Nat → Int32 → zz_S → zz_R) (x0 : Option Nat) (x1 : Option Nat) (x2 : Option Nat) (x3 : Option Nat) (x4 : Option Nat) (x5 : Int32) (x6 : Int32) (t0 : Int32) (t1 : Int32) (t2 : Int32) (t3 : Int32) (t4 : Option Nat) (σ : zz_S) : zz_R :=
  zz_ck σ t4 4 fun a1 =>
  zz_cI (zF_X4_croak ρ a1 t3 t2 t1 t0 σ) (fun v4 σ5 =>
    zz_ck σ5 x2 4 fun a6 =>
    zz_cI (zF_X4_thrown ρ a6 σ5) (fun v9 σ10 =>
      if v9 = x6 then
        if x6 = 0 then
          (zz_aJ σ10 x3 3 (0 : Int32)).bind fun v11 =>
          if (lg_cmp v11 (v4.toInt64)) = 0 then
            zJ_L_law_1954 ρ K28 x0 x1 x2 x3 x4 x5 σ10
          else
          zz_rN .boolean (0 : Int32) σ10
        else
        zJ_L_law_1954 ρ K28 x0 x1 x2 x3 x4 x5 σ10
      else
      zz_rN .boolean (0 : Int32) σ10) zz_P) zz_P
def zJ_L_law_1882 (ρ : zz_C) (K28 : Option Nat → Option Nat → Option Nat → Option Nat → Option Nat → Int32 → zz_S → zz_R) (x0 : Option Nat) (x1 : Option Nat) (x2 : Option Nat) (x3 : Option Nat) (x4 : Option Nat) (x5 : Int32) (t0 : Int32) (t1 : Int32) (t2 : Int32) (t3 : Int32) (t4 : Option Nat) (σ : zz_S) : zz_R :=
  zz_cI (zF_X0_croak ρ t4 t3 t2 t1 t0 x3 σ) (fun v3 σ4 =>
    (zz_aI σ4 x0 0 (x5 + (1 : Int32))).bind fun v5 =>
    (zz_aI σ4 x0 0 (x5 + (2 : Int32))).bind fun v6 =>
    (zz_aI σ4 x0 0 (x5 + (3 : Int32))).bind fun v7 =>
    (zz_aI σ4 x0 0 (x5 + (4 : Int32))).bind fun v8 =>
    if v8 = 0 then
      zJ_L_law_1921 ρ K28 x0 x1 x2 x3 x4 x5 v3 (0 : Int32) v7 v6 v5 x2 σ4
    else
    zJ_L_law_1921 ρ K28 x0 x1 x2 x3 x4 x5 v3 (1 : Int32) v7 v6 v5 x2 σ4) zz_P
def zJ_L_law_1849 (ρ : zz_C) (K28 : Option Nat → Option Nat → Option Nat → Option Nat → Option Nat → Int32 → zz_S → zz_R) (x0 : Option Nat) (x1 : Option Nat) (x2 : Option Nat) (x3 : Option Nat) (x4 : Option Nat) (x5 : Int32) (σ : zz_S) : zz_R :=
  (zz_aI σ x0 0 (x5 + (1 : Int32))).bind fun v1 =>
  (zz_aI σ x0 0 (x5 + (2 : Int32))).bind fun v2 =>
  (zz_aI σ x0 0 (x5 + (3 : Int32))).bind fun v3 =>
  (zz_aI σ x0 0 (x5 + (4 : Int32))).bind fun v4 =>
  if v4 = 0 then
    zJ_L_law_1882 ρ K28 x0 x1 x2 x3 x4 x5 (0 : Int32) v3 v2 v1 x1 σ
  else
  zJ_L_law_1882 ρ K28 x0 x1 x2 x3 x4 x5 (1 : Int32) v3 v2 v1 x1 σ
def zJ_L_law_2017 (ρ : zz_C) (K28 : Option Nat → Option Nat → Option Nat → Option Nat → Option Nat → Int32 → zz_S → zz_R) (x0 : Option Nat) (x1 : Option Nat) (x2 : Option Nat) (x3 : Option Nat) (x4 : Option Nat) (x5 : Int32) (σ : zz_S) : zz_R :=
  zJ_L_law_2968 ρ K28 x0 x1 x2 x3 x4 x5 σ
def zJ_L_law_2011 (ρ : zz_C) (K28 : Option Nat → Option Nat → Option Nat → Option Nat → Option Nat → Int32 → zz_S → zz_R) (x0 : Option Nat) (x1 : Option Nat) (x2 : Option Nat) (x3 : Option Nat) (x4 : Option Nat) (x5 : Int32) (t0 : Int64) (t1 : Int64) (σ : zz_S) : zz_R :=
  if (lg_cmp t1 t0) = 0 then
    zJ_L_law_2017 ρ K28 x0 x1 x2 x3 x4 x5 σ
  else
  zz_rN .boolean (0 : Int32) σ
def zJ_L_law_1957 (ρ : zz_C) (K28 : Option Nat → Option Nat → Option Nat → Option Nat → Option Nat → Int32 → zz_S → zz_R) (x0 : Option Nat) (x1 : Option Nat) (x2 : Option Nat) (x3 : Option Nat) (x4 : Option Nat) (x5 : Int32) (σ : zz_S) : zz_R :=
  (zz_aI σ x0 0 (x5 + (1 : Int32))).bind fun v1 =>
  zz_cI (zF_X0_decide ρ x1 v1 x3 σ) (fun v4 σ5 =>
    (zz_aI σ5 x0 0 (x5 + (1 : Int32))).bind fun v6 =>
    zz_ck σ5 x2 4 fun a7 =>
    zz_cI (zF_X4_decide ρ a7 v6 σ5) (fun v10 σ11 =>
      zz_ck σ11 x2 4 fun a12 =>
      zz_cI (zF_X4_thrown ρ a12 σ11) (fun v15 σ16 =>
        if v15 = v4 then
          if v4 = 0 then
            (zz_aJ σ16 x3 3 (0 : Int32)).bind fun v17 =>
            if v10 = 0 then
              zJ_L_law_2011 ρ K28 x0 x1 x2 x3 x4 x5 (0 : Int64) v17 σ16
            else
            zJ_L_law_2011 ρ K28 x0 x1 x2 x3 x4 x5 (1 : Int64) v17 σ16
          else
          zJ_L_law_2017 ρ K28 x0 x1 x2 x3 x4 x5 σ16
        else
        zz_rN .boolean (0 : Int32) σ16) zz_P) zz_P) zz_P
def zJ_L_law_2080 (ρ : zz_C) (K28 : Option Nat → Option Nat → Option Nat → Option Nat → Option Nat → Int32 → zz_S → zz_R) (x0 : Option Nat) (x1 : Option Nat) (x2 : Option Nat) (x3 : Option Nat) (x4 : Option Nat) (x5 : Int32) (σ : zz_S) : zz_R :=
  zJ_L_law_2968 ρ K28 x0 x1 x2 x3 x4 x5 σ
def zJ_L_law_2074 (ρ : zz_C) (K28 : Option Nat → Option Nat → Option Nat → Option Nat → Option Nat → Int32 → zz_S → zz_R) (x0 : Option Nat) (x1 : Option Nat) (x2 : Option Nat) (x3 : Option Nat) (x4 : Option Nat) (x5 : Int32) (t0 : Int64) (t1 : Int64) (σ : zz_S) : zz_R :=
  if (lg_cmp t1 t0) = 0 then
    zJ_L_law_2080 ρ K28 x0 x1 x2 x3 x4 x5 σ
  else
  zz_rN .boolean (0 : Int32) σ
def zJ_L_law_2020 (ρ : zz_C) (K28 : Option Nat → Option Nat → Option Nat → Option Nat → Option Nat → Int32 → zz_S → zz_R) (x0 : Option Nat) (x1 : Option Nat) (x2 : Option Nat) (x3 : Option Nat) (x4 : Option Nat) (x5 : Int32) (σ : zz_S) : zz_R :=
  (zz_aI σ x0 0 (x5 + (1 : Int32))).bind fun v1 =>
  zz_cI (zF_X0_isDecided ρ x1 v1 x3 σ) (fun v4 σ5 =>
    (zz_aI σ5 x0 0 (x5 + (1 : Int32))).bind fun v6 =>
    zz_ck σ5 x2 4 fun a7 =>
    zz_cI (zF_X4_isDecided ρ a7 v6 σ5) (fun v10 σ11 =>
      zz_ck σ11 x2 4 fun a12 =>
      zz_cI (zF_X4_thrown ρ a12 σ11) (fun v15 σ16 =>
        if v15 = v4 then
          if v4 = 0 then
            (zz_aJ σ16 x3 3 (0 : Int32)).bind fun v17 =>
            if v10 = 0 then
              zJ_L_law_2074 ρ K28 x0 x1 x2 x3 x4 x5 (0 : Int64) v17 σ16
            else
            zJ_L_law_2074 ρ K28 x0 x1 x2 x3 x4 x5 (1 : Int64) v17 σ16
          else
          zJ_L_law_2080 ρ K28 x0 x1 x2 x3 x4 x5 σ16
        else
        zz_rN .boolean (0 : Int32) σ16) zz_P) zz_P) zz_P
def zJ_L_law_2143 (ρ : zz_C) (K28 : Option Nat → Option Nat → Option Nat → Option Nat → Option Nat → Int32 → zz_S → zz_R) (x0 : Option Nat) (x1 : Option Nat) (x2 : Option Nat) (x3 : Option Nat) (x4 : Option Nat) (x5 : Int32) (σ : zz_S) : zz_R :=
  zJ_L_law_2968 ρ K28 x0 x1 x2 x3 x4 x5 σ
def zJ_L_law_2137 (ρ : zz_C) (K28 : Option Nat → Option Nat → Option Nat → Option Nat → Option Nat → Int32 → zz_S → zz_R) (x0 : Option Nat) (x1 : Option Nat) (x2 : Option Nat) (x3 : Option Nat) (x4 : Option Nat) (x5 : Int32) (t0 : Int64) (t1 : Int64) (σ : zz_S) : zz_R :=
  if (lg_cmp t1 t0) = 0 then
    zJ_L_law_2143 ρ K28 x0 x1 x2 x3 x4 x5 σ
  else
  zz_rN .boolean (0 : Int32) σ
def zJ_L_law_2083 (ρ : zz_C) (K28 : Option Nat → Option Nat → Option Nat → Option Nat → Option Nat → Int32 → zz_S → zz_R) (x0 : Option Nat) (x1 : Option Nat) (x2 : Option Nat) (x3 : Option Nat) (x4 : Option Nat) (x5 : Int32) (σ : zz_S) : zz_R :=
  (zz_aI σ x0 0 (x5 + (1 : Int32))).bind fun v1 =>
  zz_cI (zF_X0_isAdopted ρ x1 v1 x3 σ) (fun v4 σ5 =>
    (zz_aI σ5 x0 0 (x5 + (1 : Int32))).bind fun v6 =>
    zz_ck σ5 x2 4 fun a7 =>
    zz_cI (zF_X4_isAdopted ρ a7 v6 σ5) (fun v10 σ11 =>
      zz_ck σ11 x2 4 fun a12 =>
      zz_cI (zF_X4_thrown ρ a12 σ11) (fun v15 σ16 =>
        if v15 = v4 then
          if v4 = 0 then
            (zz_aJ σ16 x3 3 (0 : Int32)).bind fun v17 =>
            if v10 = 0 then
              zJ_L_law_2137 ρ K28 x0 x1 x2 x3 x4 x5 (0 : Int64) v17 σ16
            else
            zJ_L_law_2137 ρ K28 x0 x1 x2 x3 x4 x5 (1 : Int64) v17 σ16
          else
          zJ_L_law_2143 ρ K28 x0 x1 x2 x3 x4 x5 σ16
        else
        zz_rN .boolean (0 : Int32) σ16) zz_P) zz_P) zz_P
def zJ_L_law_2199 (ρ : zz_C) (K28 : Option Nat → Option Nat → Option Nat → Option Nat → Option Nat → Int32 → zz_S → zz_R) (x0 : Option Nat) (x1 : Option Nat) (x2 : Option Nat) (x3 : Option Nat) (x4 : Option Nat) (x5 : Int32) (σ : zz_S) : zz_R :=
  zJ_L_law_2968 ρ K28 x0 x1 x2 x3 x4 x5 σ
def zJ_L_law_2146 (ρ : zz_C) (K28 : Option Nat → Option Nat → Option Nat → Option Nat → Option Nat → Int32 → zz_S → zz_R) (x0 : Option Nat) (x1 : Option Nat) (x2 : Option Nat) (x3 : Option Nat) (x4 : Option Nat) (x5 : Int32) (σ : zz_S) : zz_R :=
  (zz_aI σ x0 0 (x5 + (1 : Int32))).bind fun v1 =>
  zz_cI (zF_X0_croaksFor ρ x1 v1 x3 σ) (fun v4 σ5 =>
    (zz_aI σ5 x0 0 (x5 + (1 : Int32))).bind fun v6 =>
    zz_ck σ5 x2 4 fun a7 =>
    zz_cI (zF_X4_croaksFor ρ a7 v6 σ5) (fun v10 σ11 =>
      zz_ck σ11 x2 4 fun a12 =>
      zz_cI (zF_X4_thrown ρ a12 σ11) (fun v15 σ16 =>
        if v15 = v4 then
          if v4 = 0 then
            (zz_aJ σ16 x3 3 (0 : Int32)).bind fun v17 =>
            if (lg_cmp v17 (v10.toInt64)) = 0 then
              zJ_L_law_2199 ρ K28 x0 x1 x2 x3 x4 x5 σ16
            else
            zz_rN .boolean (0 : Int32) σ16
          else
          zJ_L_law_2199 ρ K28 x0 x1 x2 x3 x4 x5 σ16
        else
        zz_rN .boolean (0 : Int32) σ16) zz_P) zz_P) zz_P
def zJ_L_law_2255 (ρ : zz_C) (K28 : Option Nat → Option Nat → Option Nat → Option Nat → Option Nat → Int32 → zz_S → zz_R) (x0 : Option Nat) (x1 : Option Nat) (x2 : Option Nat) (x3 : Option Nat) (x4 : Option Nat) (x5 : Int32) (σ : zz_S) : zz_R :=
  zJ_L_law_2968 ρ K28 x0 x1 x2 x3 x4 x5 σ
def zJ_L_law_2202 (ρ : zz_C) (K28 : Option Nat → Option Nat → Option Nat → Option Nat → Option Nat → Int32 → zz_S → zz_R) (x0 : Option Nat) (x1 : Option Nat) (x2 : Option Nat) (x3 : Option Nat) (x4 : Option Nat) (x5 : Int32) (σ : zz_S) : zz_R :=
  (zz_aI σ x0 0 (x5 + (1 : Int32))).bind fun v1 =>
  zz_cI (zF_X0_croaksForByPonds ρ x1 v1 x3 σ) (fun v4 σ5 =>
    (zz_aI σ5 x0 0 (x5 + (1 : Int32))).bind fun v6 =>
    zz_ck σ5 x2 4 fun a7 =>
    zz_cI (zF_X4_croaksForByPonds ρ a7 v6 σ5) (fun v10 σ11 =>
      zz_ck σ11 x2 4 fun a12 =>
      zz_cI (zF_X4_thrown ρ a12 σ11) (fun v15 σ16 =>
        if v15 = v4 then
          if v4 = 0 then
            (zz_aJ σ16 x3 3 (0 : Int32)).bind fun v17 =>
            if (lg_cmp v17 (v10.toInt64)) = 0 then
              zJ_L_law_2255 ρ K28 x0 x1 x2 x3 x4 x5 σ16
            else
            zz_rN .boolean (0 : Int32) σ16
          else
          zJ_L_law_2255 ρ K28 x0 x1 x2 x3 x4 x5 σ16
        else
        zz_rN .boolean (0 : Int32) σ16) zz_P) zz_P) zz_P
def zJ_L_law_2311 (ρ : zz_C) (K28 : Option Nat → Option Nat → Option Nat → Option Nat → Option Nat → Int32 → zz_S → zz_R) (x0 : Option Nat) (x1 : Option Nat) (x2 : Option Nat) (x3 : Option Nat) (x4 : Option Nat) (x5 : Int32) (σ : zz_S) : zz_R :=
  zJ_L_law_2968 ρ K28 x0 x1 x2 x3 x4 x5 σ
def zJ_L_law_2258 (ρ : zz_C) (K28 : Option Nat → Option Nat → Option Nat → Option Nat → Option Nat → Int32 → zz_S → zz_R) (x0 : Option Nat) (x1 : Option Nat) (x2 : Option Nat) (x3 : Option Nat) (x4 : Option Nat) (x5 : Int32) (σ : zz_S) : zz_R :=
  (zz_aI σ x0 0 (x5 + (1 : Int32))).bind fun v1 =>
  zz_cI (zF_X0_croaksAgainst ρ x1 v1 x3 σ) (fun v4 σ5 =>
    (zz_aI σ5 x0 0 (x5 + (1 : Int32))).bind fun v6 =>
    zz_ck σ5 x2 4 fun a7 =>
    zz_cI (zF_X4_croaksAgainst ρ a7 v6 σ5) (fun v10 σ11 =>
      zz_ck σ11 x2 4 fun a12 =>
      zz_cI (zF_X4_thrown ρ a12 σ11) (fun v15 σ16 =>
        if v15 = v4 then
          if v4 = 0 then
            (zz_aJ σ16 x3 3 (0 : Int32)).bind fun v17 =>
            if (lg_cmp v17 (v10.toInt64)) = 0 then
              zJ_L_law_2311 ρ K28 x0 x1 x2 x3 x4 x5 σ16
            else
            zz_rN .boolean (0 : Int32) σ16
          else
          zJ_L_law_2311 ρ K28 x0 x1 x2 x3 x4 x5 σ16
        else
        zz_rN .boolean (0 : Int32) σ16) zz_P) zz_P) zz_P
def zJ_L_law_2367 (ρ : zz_C) (K28 : Option Nat → Option Nat → Option Nat → Option Nat → Option Nat → Int32 → zz_S → zz_R) (x0 : Option Nat) (x1 : Option Nat) (x2 : Option Nat) (x3 : Option Nat) (x4 : Option Nat) (x5 : Int32) (σ : zz_S) : zz_R :=
  zJ_L_law_2968 ρ K28 x0 x1 x2 x3 x4 x5 σ
def zJ_L_law_2314 (ρ : zz_C) (K28 : Option Nat → Option Nat → Option Nat → Option Nat → Option Nat → Int32 → zz_S → zz_R) (x0 : Option Nat) (x1 : Option Nat) (x2 : Option Nat) (x3 : Option Nat) (x4 : Option Nat) (x5 : Int32) (σ : zz_S) : zz_R :=
  (zz_aI σ x0 0 (x5 + (1 : Int32))).bind fun v1 =>
  zz_cI (zF_X0_strongestFrog ρ x1 v1 x3 σ) (fun v4 σ5 =>
    (zz_aI σ5 x0 0 (x5 + (1 : Int32))).bind fun v6 =>
    zz_ck σ5 x2 4 fun a7 =>
    zz_cI (zF_X4_strongestFrog ρ a7 v6 σ5) (fun v10 σ11 =>
      zz_ck σ11 x2 4 fun a12 =>
      zz_cI (zF_X4_thrown ρ a12 σ11) (fun v15 σ16 =>
        if v15 = v4 then
          if v4 = 0 then
            (zz_aJ σ16 x3 3 (0 : Int32)).bind fun v17 =>
            if (lg_cmp v17 (v10.toInt64)) = 0 then
              zJ_L_law_2367 ρ K28 x0 x1 x2 x3 x4 x5 σ16
            else
            zz_rN .boolean (0 : Int32) σ16
          else
          zJ_L_law_2367 ρ K28 x0 x1 x2 x3 x4 x5 σ16
        else
        zz_rN .boolean (0 : Int32) σ16) zz_P) zz_P) zz_P
def zJ_L_law_2445 (ρ : zz_C) (K28 : Option Nat → Option Nat → Option Nat → Option Nat → Option Nat → Int32 → zz_S → zz_R) (x0 : Option Nat) (x1 : Option Nat) (x2 : Option Nat) (x3 : Option Nat) (x4 : Option Nat) (x5 : Int32) (σ : zz_S) : zz_R :=
  zJ_L_law_2968 ρ K28 x0 x1 x2 x3 x4 x5 σ
def zJ_L_law_2370 (ρ : zz_C) (K28 : Option Nat → Option Nat → Option Nat → Option Nat → Option Nat → Int32 → zz_S → zz_R) (x0 : Option Nat) (x1 : Option Nat) (x2 : Option Nat) (x3 : Option Nat) (x4 : Option Nat) (x5 : Int32) (σ : zz_S) : zz_R :=
  (zz_aI σ x0 0 (x5 + (1 : Int32))).bind fun v1 =>
  zz_cI (zF_X0_shareFor ρ x1 v1 x4 σ) (fun v4 σ5 =>
    (zz_aI σ5 x0 0 (x5 + (1 : Int32))).bind fun v6 =>
    zz_ck σ5 x2 4 fun a7 =>
    zz_cF (zF_X4_shareFor ρ a7 v6 σ5) (fun v10 σ11 =>
      zz_ck σ11 x2 4 fun a12 =>
      zz_cI (zF_X4_thrown ρ a12 σ11) (fun v15 σ16 =>
        if v15 = v4 then
          if v4 = 0 then
            (zz_aD σ16 x4 4 (0 : Int32)).bind fun v17 =>
            if ¬ (zz_n64 (FP.f2d v10) = true) then none else
            if (Op.cmpValue (FP.dcmp v17 (FP.f2d v10)) .l) = 0 then
              zJ_L_law_2445 ρ K28 x0 x1 x2 x3 x4 x5 σ16
            else
            (zz_aD σ16 x4 4 (0 : Int32)).bind fun v18 =>
            (zz_aD σ16 x4 4 (0 : Int32)).bind fun v19 =>
            if (Op.cmpValue (FP.dcmp v18 v19) .l) = 0 then
              zz_rN .boolean (0 : Int32) σ16
            else
            if (Op.cmpValue (FP.fcmp v10 v10) .l) = 0 then
              zz_rN .boolean (0 : Int32) σ16
            else
            zJ_L_law_2445 ρ K28 x0 x1 x2 x3 x4 x5 σ16
          else
          zJ_L_law_2445 ρ K28 x0 x1 x2 x3 x4 x5 σ16
        else
        zz_rN .boolean (0 : Int32) σ16) zz_P) zz_P) zz_P
def zJ_L_law_2448 (ρ : zz_C) (K28 : Option Nat → Option Nat → Option Nat → Option Nat → Option Nat → Int32 → zz_S → zz_R) (x0 : Option Nat) (x1 : Option Nat) (x2 : Option Nat) (x3 : Option Nat) (x4 : Option Nat) (x5 : Int32) (σ : zz_S) : zz_R :=
  zz_ck σ x1 1 fun a1 =>
  zz_cI (zF_X1_speechTotal ρ a1 σ) (fun v4 σ5 =>
    zz_ck σ5 x2 4 fun a6 =>
    zz_cI (zF_X4_speechTotal ρ a6 σ5) (fun v9 σ10 =>
      if v4 = v9 then
        zJ_L_law_2968 ρ K28 x0 x1 x2 x3 x4 x5 σ10
      else
      zz_rN .boolean (0 : Int32) σ10) zz_P) zz_P
def zJ_L_law_2461 (ρ : zz_C) (K28 : Option Nat → Option Nat → Option Nat → Option Nat → Option Nat → Int32 → zz_S → zz_R) (x0 : Option Nat) (x1 : Option Nat) (x2 : Option Nat) (x3 : Option Nat) (x4 : Option Nat) (x5 : Int32) (σ : zz_S) : zz_R :=
  zz_ck σ x1 1 fun a1 =>
  zz_cI (zF_X1_missedTotal ρ a1 σ) (fun v4 σ5 =>
    zz_ck σ5 x2 4 fun a6 =>
    zz_cI (zF_X4_missedTotal ρ a6 σ5) (fun v9 σ10 =>
      if v4 = v9 then
        zJ_L_law_2968 ρ K28 x0 x1 x2 x3 x4 x5 σ10
      else
      zz_rN .boolean (0 : Int32) σ10) zz_P) zz_P
def zJ_L_law_2474 (ρ : zz_C) (K28 : Option Nat → Option Nat → Option Nat → Option Nat → Option Nat → Int32 → zz_S → zz_R) (x0 : Option Nat) (x1 : Option Nat) (x2 : Option Nat) (x3 : Option Nat) (x4 : Option Nat) (x5 : Int32) (σ : zz_S) : zz_R :=
  zz_ck σ x1 1 fun a1 =>
  zz_cI (zF_X1_adoptedCount ρ a1 σ) (fun v4 σ5 =>
    zz_ck σ5 x2 4 fun a6 =>
    zz_cI (zF_X4_adoptedCount ρ a6 σ5) (fun v9 σ10 =>
      if v4 = v9 then
        zJ_L_law_2968 ρ K28 x0 x1 x2 x3 x4 x5 σ10
      else
      zz_rN .boolean (0 : Int32) σ10) zz_P) zz_P
def zJ_L_law_2542 (ρ : zz_C) (K28 : Option Nat → Option Nat → Option Nat → Option Nat → Option Nat → Int32 → zz_S → zz_R) (x0 : Option Nat) (x1 : Option Nat) (x2 : Option Nat) (x3 : Option Nat) (x4 : Option Nat) (x5 : Int32) (σ : zz_S) : zz_R :=
  zJ_L_law_2968 ρ K28 x0 x1 x2 x3 x4 x5 σ
def zJ_L_law_2487 (ρ : zz_C) (K28 : Option Nat → Option Nat → Option Nat → Option Nat → Option Nat → Int32 → zz_S → zz_R) (x0 : Option Nat) (x1 : Option Nat) (x2 : Option Nat) (x3 : Option Nat) (x4 : Option Nat) (x5 : Int32) (σ : zz_S) : zz_R :=
  (zz_aI σ x0 0 (x5 + (1 : Int32))).bind fun v1 =>
  zz_cI (zF_X0_append ρ x1 ((v1.toUInt32 % 65536).toInt32) x3 σ) (fun v4 σ5 =>
    (zz_aI σ5 x0 0 (x5 + (1 : Int32))).bind fun v6 =>
    zz_ck σ5 x2 4 fun a7 =>
    zz_cI (zF_X4_append ρ a7 ((v6.toUInt32 % 65536).toInt32) σ5) (fun v10 σ11 =>
      zz_ck σ11 x2 4 fun a12 =>
      zz_cI (zF_X4_thrown ρ a12 σ11) (fun v15 σ16 =>
        if v15 = v4 then
          if v4 = 0 then
            (zz_aJ σ16 x3 3 (0 : Int32)).bind fun v17 =>
            if (lg_cmp v17 (v10.toInt64)) = 0 then
              zJ_L_law_2542 ρ K28 x0 x1 x2 x3 x4 x5 σ16
            else
            zz_rN .boolean (0 : Int32) σ16
          else
          zJ_L_law_2542 ρ K28 x0 x1 x2 x3 x4 x5 σ16
        else
        zz_rN .boolean (0 : Int32) σ16) zz_P) zz_P) zz_P
def zJ_L_law_2586 (ρ : zz_C) (K28 : Option Nat → Option Nat → Option Nat → Option Nat → Option Nat → Int32 → zz_S → zz_R) (x0 : Option Nat) (x1 : Option Nat) (x2 : Option Nat) (x3 : Option Nat) (x4 : Option Nat) (x5 : Int32) (σ : zz_S) : zz_R :=
  zJ_L_law_2968 ρ K28 x0 x1 x2 x3 x4 x5 σ
def zJ_L_law_2545 (ρ : zz_C) (K28 : Option Nat → Option Nat → Option Nat → Option Nat → Option Nat → Int32 → zz_S → zz_R) (x0 : Option Nat) (x1 : Option Nat) (x2 : Option Nat) (x3 : Option Nat) (x4 : Option Nat) (x5 : Int32) (σ : zz_S) : zz_R :=
  zz_cI (zF_X0_run ρ x1 x3 σ) (fun v3 σ4 =>
    zz_ck σ4 x2 4 fun a5 =>
    zz_cI (zF_X4_run ρ a5 σ4) (fun v8 σ9 =>
      zz_ck σ9 x2 4 fun a10 =>
      zz_cI (zF_X4_thrown ρ a10 σ9) (fun v13 σ14 =>
        if v13 = v3 then
          if v3 = 0 then
            (zz_aJ σ14 x3 3 (0 : Int32)).bind fun v15 =>
            if (lg_cmp v15 (v8.toInt64)) = 0 then
              zJ_L_law_2586 ρ K28 x0 x1 x2 x3 x4 x5 σ14
            else
            zz_rN .boolean (0 : Int32) σ14
          else
          zJ_L_law_2586 ρ K28 x0 x1 x2 x3 x4 x5 σ14
        else
        zz_rN .boolean (0 : Int32) σ14) zz_P) zz_P) zz_P
def zJ_L_law_2630 (ρ : zz_C) (K28 : Option Nat → Option Nat → Option Nat → Option Nat → Option Nat → Int32 → zz_S → zz_R) (x0 : Option Nat) (x1 : Option Nat) (x2 : Option Nat) (x3 : Option Nat) (x4 : Option Nat) (x5 : Int32) (σ : zz_S) : zz_R :=
  zJ_L_law_2968 ρ K28 x0 x1 x2 x3 x4 x5 σ
def zJ_L_law_2589 (ρ : zz_C) (K28 : Option Nat → Option Nat → Option Nat → Option Nat → Option Nat → Int32 → zz_S → zz_R) (x0 : Option Nat) (x1 : Option Nat) (x2 : Option Nat) (x3 : Option Nat) (x4 : Option Nat) (x5 : Int32) (σ : zz_S) : zz_R :=
  zz_cI (zF_X0_errorPosition ρ x1 x3 σ) (fun v3 σ4 =>
    zz_ck σ4 x2 4 fun a5 =>
    zz_cI (zF_X4_errorPosition ρ a5 σ4) (fun v8 σ9 =>
      zz_ck σ9 x2 4 fun a10 =>
      zz_cI (zF_X4_thrown ρ a10 σ9) (fun v13 σ14 =>
        if v13 = v3 then
          if v3 = 0 then
            (zz_aJ σ14 x3 3 (0 : Int32)).bind fun v15 =>
            if (lg_cmp v15 (v8.toInt64)) = 0 then
              zJ_L_law_2630 ρ K28 x0 x1 x2 x3 x4 x5 σ14
            else
            zz_rN .boolean (0 : Int32) σ14
          else
          zJ_L_law_2630 ρ K28 x0 x1 x2 x3 x4 x5 σ14
        else
        zz_rN .boolean (0 : Int32) σ14) zz_P) zz_P) zz_P
def zJ_L_law_2674 (ρ : zz_C) (K28 : Option Nat → Option Nat → Option Nat → Option Nat → Option Nat → Int32 → zz_S → zz_R) (x0 : Option Nat) (x1 : Option Nat) (x2 : Option Nat) (x3 : Option Nat) (x4 : Option Nat) (x5 : Int32) (σ : zz_S) : zz_R :=
  zJ_L_law_2968 ρ K28 x0 x1 x2 x3 x4 x5 σ
def zJ_L_law_2633 (ρ : zz_C) (K28 : Option Nat → Option Nat → Option Nat → Option Nat → Option Nat → Int32 → zz_S → zz_R) (x0 : Option Nat) (x1 : Option Nat) (x2 : Option Nat) (x3 : Option Nat) (x4 : Option Nat) (x5 : Int32) (σ : zz_S) : zz_R :=
  zz_cI (zF_X0_failedCommand ρ x1 x3 σ) (fun v3 σ4 =>
    zz_ck σ4 x2 4 fun a5 =>
    zz_cI (zF_X4_failedCommand ρ a5 σ4) (fun v8 σ9 =>
      zz_ck σ9 x2 4 fun a10 =>
      zz_cI (zF_X4_thrown ρ a10 σ9) (fun v13 σ14 =>
        if v13 = v3 then
          if v3 = 0 then
            (zz_aJ σ14 x3 3 (0 : Int32)).bind fun v15 =>
            if (lg_cmp v15 (v8.toInt64)) = 0 then
              zJ_L_law_2674 ρ K28 x0 x1 x2 x3 x4 x5 σ14
            else
            zz_rN .boolean (0 : Int32) σ14
          else
          zJ_L_law_2674 ρ K28 x0 x1 x2 x3 x4 x5 σ14
        else
        zz_rN .boolean (0 : Int32) σ14) zz_P) zz_P) zz_P
def zJ_L_law_2730 (ρ : zz_C) (K28 : Option Nat → Option Nat → Option Nat → Option Nat → Option Nat → Int32 → zz_S → zz_R) (x0 : Option Nat) (x1 : Option Nat) (x2 : Option Nat) (x3 : Option Nat) (x4 : Option Nat) (x5 : Int32) (σ : zz_S) : zz_R :=
  zJ_L_law_2968 ρ K28 x0 x1 x2 x3 x4 x5 σ
def zJ_L_law_2677 (ρ : zz_C) (K28 : Option Nat → Option Nat → Option Nat → Option Nat → Option Nat → Int32 → zz_S → zz_R) (x0 : Option Nat) (x1 : Option Nat) (x2 : Option Nat) (x3 : Option Nat) (x4 : Option Nat) (x5 : Int32) (σ : zz_S) : zz_R :=
  (zz_aI σ x0 0 (x5 + (1 : Int32))).bind fun v1 =>
  zz_cI (zF_X0_describeList ρ x1 v1 x3 σ) (fun v4 σ5 =>
    (zz_aI σ5 x0 0 (x5 + (1 : Int32))).bind fun v6 =>
    zz_ck σ5 x2 4 fun a7 =>
    zz_cI (zF_X4_describeList ρ a7 v6 σ5) (fun v10 σ11 =>
      zz_ck σ11 x2 4 fun a12 =>
      zz_cI (zF_X4_thrown ρ a12 σ11) (fun v15 σ16 =>
        if v15 = v4 then
          if v4 = 0 then
            (zz_aJ σ16 x3 3 (0 : Int32)).bind fun v17 =>
            if (lg_cmp v17 (v10.toInt64)) = 0 then
              zJ_L_law_2730 ρ K28 x0 x1 x2 x3 x4 x5 σ16
            else
            zz_rN .boolean (0 : Int32) σ16
          else
          zJ_L_law_2730 ρ K28 x0 x1 x2 x3 x4 x5 σ16
        else
        zz_rN .boolean (0 : Int32) σ16) zz_P) zz_P) zz_P
def zJ_L_law_2786 (ρ : zz_C) (K28 : Option Nat → Option Nat → Option Nat → Option Nat → Option Nat → Int32 → zz_S → zz_R) (x0 : Option Nat) (x1 : Option Nat) (x2 : Option Nat) (x3 : Option Nat) (x4 : Option Nat) (x5 : Int32) (σ : zz_S) : zz_R :=
  zJ_L_law_2968 ρ K28 x0 x1 x2 x3 x4 x5 σ
def zJ_L_law_2733 (ρ : zz_C) (K28 : Option Nat → Option Nat → Option Nat → Option Nat → Option Nat → Int32 → zz_S → zz_R) (x0 : Option Nat) (x1 : Option Nat) (x2 : Option Nat) (x3 : Option Nat) (x4 : Option Nat) (x5 : Int32) (σ : zz_S) : zz_R :=
  (zz_aI σ x0 0 (x5 + (1 : Int32))).bind fun v1 =>
  zz_cI (zF_X0_lineAt ρ x1 v1 x3 σ) (fun v4 σ5 =>
    (zz_aI σ5 x0 0 (x5 + (1 : Int32))).bind fun v6 =>
    zz_ck σ5 x2 4 fun a7 =>
    zz_cI (zF_X4_lineAt ρ a7 v6 σ5) (fun v10 σ11 =>
      zz_ck σ11 x2 4 fun a12 =>
      zz_cI (zF_X4_thrown ρ a12 σ11) (fun v15 σ16 =>
        if v15 = v4 then
          if v4 = 0 then
            (zz_aJ σ16 x3 3 (0 : Int32)).bind fun v17 =>
            if (lg_cmp v17 (v10.toInt64)) = 0 then
              zJ_L_law_2786 ρ K28 x0 x1 x2 x3 x4 x5 σ16
            else
            zz_rN .boolean (0 : Int32) σ16
          else
          zJ_L_law_2786 ρ K28 x0 x1 x2 x3 x4 x5 σ16
        else
        zz_rN .boolean (0 : Int32) σ16) zz_P) zz_P) zz_P
def zJ_L_law_2851 (ρ : zz_C) (K28 : Option Nat → Option Nat → Option Nat → Option Nat → Option Nat → Int32 → zz_S → zz_R) (x0 : Option Nat) (x1 : Option Nat) (x2 : Option Nat) (x3 : Option Nat) (x4 : Option Nat) (x5 : Int32) (σ : zz_S) : zz_R :=
  zJ_L_law_2968 ρ K28 x0 x1 x2 x3 x4 x5 σ
def zJ_L_law_2789 (ρ : zz_C) (K28 : Option Nat → Option Nat → Option Nat → Option Nat → Option Nat → Int32 → zz_S → zz_R) (x0 : Option Nat) (x1 : Option Nat) (x2 : Option Nat) (x3 : Option Nat) (x4 : Option Nat) (x5 : Int32) (σ : zz_S) : zz_R :=
  zz_cI (zF_X0_meanSittingWeight ρ x1 x4 σ) (fun v3 σ4 =>
    zz_ck σ4 x2 4 fun a5 =>
    zz_cD (zF_X4_meanSittingWeight ρ a5 σ4) (fun v8 σ9 =>
      zz_ck σ9 x2 4 fun a10 =>
      zz_cI (zF_X4_thrown ρ a10 σ9) (fun v13 σ14 =>
        if v13 = v3 then
          if v3 = 0 then
            (zz_aD σ14 x4 4 (0 : Int32)).bind fun v15 =>
            if (Op.cmpValue (FP.dcmp v15 v8) .l) = 0 then
              zJ_L_law_2851 ρ K28 x0 x1 x2 x3 x4 x5 σ14
            else
            (zz_aD σ14 x4 4 (0 : Int32)).bind fun v16 =>
            (zz_aD σ14 x4 4 (0 : Int32)).bind fun v17 =>
            if (Op.cmpValue (FP.dcmp v16 v17) .l) = 0 then
              zz_rN .boolean (0 : Int32) σ14
            else
            if (Op.cmpValue (FP.dcmp v8 v8) .l) = 0 then
              zz_rN .boolean (0 : Int32) σ14
            else
            zJ_L_law_2851 ρ K28 x0 x1 x2 x3 x4 x5 σ14
          else
          zJ_L_law_2851 ρ K28 x0 x1 x2 x3 x4 x5 σ14
        else
        zz_rN .boolean (0 : Int32) σ14) zz_P) zz_P) zz_P
def zJ_L_law_2854 (ρ : zz_C) (K28 : Option Nat → Option Nat → Option Nat → Option Nat → Option Nat → Int32 → zz_S → zz_R) (x0 : Option Nat) (x1 : Option Nat) (x2 : Option Nat) (x3 : Option Nat) (x4 : Option Nat) (x5 : Int32) (σ : zz_S) : zz_R :=
  zz_ck σ x1 1 fun a1 =>
  zz_cI (zF_X1_isConsistent ρ a1 σ) (fun v4 σ5 =>
    zz_ck σ5 x2 4 fun a6 =>
    zz_cI (zF_X4_isConsistent ρ a6 σ5) (fun v9 σ10 =>
      if v4 = v9 then
        zJ_L_law_2968 ρ K28 x0 x1 x2 x3 x4 x5 σ10
      else
      zz_rN .boolean (0 : Int32) σ10) zz_P) zz_P
def zJ_L_law_2908 (ρ : zz_C) (K28 : Option Nat → Option Nat → Option Nat → Option Nat → Option Nat → Int32 → zz_S → zz_R) (x0 : Option Nat) (x1 : Option Nat) (x2 : Option Nat) (x3 : Option Nat) (x4 : Option Nat) (x5 : Int32) (σ : zz_S) : zz_R :=
  zJ_L_law_2968 ρ K28 x0 x1 x2 x3 x4 x5 σ
def zJ_L_law_2867 (ρ : zz_C) (K28 : Option Nat → Option Nat → Option Nat → Option Nat → Option Nat → Int32 → zz_S → zz_R) (x0 : Option Nat) (x1 : Option Nat) (x2 : Option Nat) (x3 : Option Nat) (x4 : Option Nat) (x5 : Int32) (σ : zz_S) : zz_R :=
  zz_cI (zF_X0_undo ρ x1 x3 σ) (fun v3 σ4 =>
    zz_ck σ4 x2 4 fun a5 =>
    zz_cI (zF_X4_undo ρ a5 σ4) (fun v8 σ9 =>
      zz_ck σ9 x2 4 fun a10 =>
      zz_cI (zF_X4_thrown ρ a10 σ9) (fun v13 σ14 =>
        if v13 = v3 then
          if v3 = 0 then
            (zz_aJ σ14 x3 3 (0 : Int32)).bind fun v15 =>
            if (lg_cmp v15 (v8.toInt64)) = 0 then
              zJ_L_law_2908 ρ K28 x0 x1 x2 x3 x4 x5 σ14
            else
            zz_rN .boolean (0 : Int32) σ14
          else
          zJ_L_law_2908 ρ K28 x0 x1 x2 x3 x4 x5 σ14
        else
        zz_rN .boolean (0 : Int32) σ14) zz_P) zz_P) zz_P
def zJ_L_law_2911 (ρ : zz_C) (K28 : Option Nat → Option Nat → Option Nat → Option Nat → Option Nat → Int32 → zz_S → zz_R) (x0 : Option Nat) (x1 : Option Nat) (x2 : Option Nat) (x3 : Option Nat) (x4 : Option Nat) (x5 : Int32) (σ : zz_S) : zz_R :=
  zz_ck σ x1 1 fun a1 =>
  zz_cI (zF_X1_save ρ a1 σ) (fun v4 σ5 =>
    zz_ck σ5 x2 4 fun a6 =>
    zz_cI (zF_X4_save ρ a6 σ5) (fun v9 σ10 =>
      if v4 = v9 then
        zJ_L_law_2968 ρ K28 x0 x1 x2 x3 x4 x5 σ10
      else
      zz_rN .boolean (0 : Int32) σ10) zz_P) zz_P
def zJ_L_law_2965 (ρ : zz_C) (K28 : Option Nat → Option Nat → Option Nat → Option Nat → Option Nat → Int32 → zz_S → zz_R) (x0 : Option Nat) (x1 : Option Nat) (x2 : Option Nat) (x3 : Option Nat) (x4 : Option Nat) (x5 : Int32) (σ : zz_S) : zz_R :=
  zJ_L_law_2968 ρ K28 x0 x1 x2 x3 x4 x5 σ
def zJ_L_law_2924 (ρ : zz_C) (K28 : Option Nat → Option Nat → Option Nat → Option Nat → Option Nat → Int32 → zz_S → zz_R) (x0 : Option Nat) (x1 : Option Nat) (x2 : Option Nat) (x3 : Option Nat) (x4 : Option Nat) (x5 : Int32) (σ : zz_S) : zz_R :=
  zz_cI (zF_X0_restore ρ x1 x3 σ) (fun v3 σ4 =>
    zz_ck σ4 x2 4 fun a5 =>
    zz_cI (zF_X4_restore ρ a5 σ4) (fun v8 σ9 =>
      zz_ck σ9 x2 4 fun a10 =>
      zz_cI (zF_X4_thrown ρ a10 σ9) (fun v13 σ14 =>
        if v13 = v3 then
          if v3 = 0 then
            (zz_aJ σ14 x3 3 (0 : Int32)).bind fun v15 =>
            if (lg_cmp v15 (v8.toInt64)) = 0 then
              zJ_L_law_2965 ρ K28 x0 x1 x2 x3 x4 x5 σ14
            else
            zz_rN .boolean (0 : Int32) σ14
          else
          zJ_L_law_2965 ρ K28 x0 x1 x2 x3 x4 x5 σ14
        else
        zz_rN .boolean (0 : Int32) σ14) zz_P) zz_P) zz_P
def zL_L_law_28 (ρ : zz_C) : Nat → Option Nat → Option Nat → Option Nat → Option Nat → Option Nat → Int32 → zz_S → zz_R
  | 0, _, _, _, _, _, _, _ => none
  | n + 1, x0, x1, x2, x3, x4, x5, σ =>
    (zz_len σ x0).bind fun v1 =>
    if (v1 - (5 : Int32)) < x5 then
      zz_rN .boolean (1 : Int32) σ
    else
    (zz_aI σ x0 0 x5).bind fun v2 =>
    if (v2 &&& (63 : Int32)) < (0 : Int32) then
      zJ_L_law_2968 ρ (zL_L_law_28 ρ n) x0 x1 x2 x3 x4 x5 σ
    else if (52 : Int32) < (v2 &&& (63 : Int32)) then
      zJ_L_law_2968 ρ (zL_L_law_28 ρ n) x0 x1 x2 x3 x4 x5 σ
    else
    if (v2 &&& (63 : Int32)) = (0 : Int32) then
      zJ_L_law_272 ρ (zL_L_law_28 ρ n) x0 x1 x2 x3 x4 x5 σ
    else
    if (v2 &&& (63 : Int32)) = (1 : Int32) then
      zJ_L_law_340 ρ (zL_L_law_28 ρ n) x0 x1 x2 x3 x4 x5 σ
    else
    if (v2 &&& (63 : Int32)) = (2 : Int32) then
      zJ_L_law_396 ρ (zL_L_law_28 ρ n) x0 x1 x2 x3 x4 x5 σ
    else
    if (v2 &&& (63 : Int32)) = (3 : Int32) then
      zJ_L_law_464 ρ (zL_L_law_28 ρ n) x0 x1 x2 x3 x4 x5 σ
    else
    if (v2 &&& (63 : Int32)) = (4 : Int32) then
      zJ_L_law_520 ρ (zL_L_law_28 ρ n) x0 x1 x2 x3 x4 x5 σ
    else
    if (v2 &&& (63 : Int32)) = (5 : Int32) then
      zJ_L_law_533 ρ (zL_L_law_28 ρ n) x0 x1 x2 x3 x4 x5 σ
    else
    if (v2 &&& (63 : Int32)) = (6 : Int32) then
      zJ_L_law_589 ρ (zL_L_law_28 ρ n) x0 x1 x2 x3 x4 x5 σ
    else
    if (v2 &&& (63 : Int32)) = (7 : Int32) then
      zJ_L_law_645 ρ (zL_L_law_28 ρ n) x0 x1 x2 x3 x4 x5 σ
    else
    if (v2 &&& (63 : Int32)) = (8 : Int32) then
      zJ_L_law_701 ρ (zL_L_law_28 ρ n) x0 x1 x2 x3 x4 x5 σ
    else
    if (v2 &&& (63 : Int32)) = (9 : Int32) then
      zJ_L_law_714 ρ (zL_L_law_28 ρ n) x0 x1 x2 x3 x4 x5 σ
    else
    if (v2 &&& (63 : Int32)) = (10 : Int32) then
      zJ_L_law_770 ρ (zL_L_law_28 ρ n) x0 x1 x2 x3 x4 x5 σ
    else
    if (v2 &&& (63 : Int32)) = (11 : Int32) then
      zJ_L_law_826 ρ (zL_L_law_28 ρ n) x0 x1 x2 x3 x4 x5 σ
    else
    if (v2 &&& (63 : Int32)) = (12 : Int32) then
      zJ_L_law_839 ρ (zL_L_law_28 ρ n) x0 x1 x2 x3 x4 x5 σ
    else
    if (v2 &&& (63 : Int32)) = (13 : Int32) then
      zJ_L_law_852 ρ (zL_L_law_28 ρ n) x0 x1 x2 x3 x4 x5 σ
    else
    if (v2 &&& (63 : Int32)) = (14 : Int32) then
      zJ_L_law_908 ρ (zL_L_law_28 ρ n) x0 x1 x2 x3 x4 x5 σ
    else
    if (v2 &&& (63 : Int32)) = (15 : Int32) then
      zJ_L_law_921 ρ (zL_L_law_28 ρ n) x0 x1 x2 x3 x4 x5 σ
    else
    if (v2 &&& (63 : Int32)) = (16 : Int32) then
      zJ_L_law_996 ρ (zL_L_law_28 ρ n) x0 x1 x2 x3 x4 x5 σ
    else
    if (v2 &&& (63 : Int32)) = (17 : Int32) then
      zJ_L_law_1064 ρ (zL_L_law_28 ρ n) x0 x1 x2 x3 x4 x5 σ
    else
    if (v2 &&& (63 : Int32)) = (18 : Int32) then
      zJ_L_law_1132 ρ (zL_L_law_28 ρ n) x0 x1 x2 x3 x4 x5 σ
    else
    if (v2 &&& (63 : Int32)) = (19 : Int32) then
      zJ_L_law_1195 ρ (zL_L_law_28 ρ n) x0 x1 x2 x3 x4 x5 σ
    else
    if (v2 &&& (63 : Int32)) = (20 : Int32) then
      zJ_L_law_1251 ρ (zL_L_law_28 ρ n) x0 x1 x2 x3 x4 x5 σ
    else
    if (v2 &&& (63 : Int32)) = (21 : Int32) then
      zJ_L_law_1307 ρ (zL_L_law_28 ρ n) x0 x1 x2 x3 x4 x5 σ
    else
    if (v2 &&& (63 : Int32)) = (22 : Int32) then
      zJ_L_law_1363 ρ (zL_L_law_28 ρ n) x0 x1 x2 x3 x4 x5 σ
    else
    if (v2 &&& (63 : Int32)) = (23 : Int32) then
      zJ_L_law_1431 ρ (zL_L_law_28 ρ n) x0 x1 x2 x3 x4 x5 σ
    else
    if (v2 &&& (63 : Int32)) = (24 : Int32) then
      zJ_L_law_1487 ρ (zL_L_law_28 ρ n) x0 x1 x2 x3 x4 x5 σ
    else
    if (v2 &&& (63 : Int32)) = (25 : Int32) then
      zJ_L_law_1543 ρ (zL_L_law_28 ρ n) x0 x1 x2 x3 x4 x5 σ
    else
    if (v2 &&& (63 : Int32)) = (26 : Int32) then
      zJ_L_law_1599 ρ (zL_L_law_28 ρ n) x0 x1 x2 x3 x4 x5 σ
    else
    if (v2 &&& (63 : Int32)) = (27 : Int32) then
      zJ_L_law_1674 ρ (zL_L_law_28 ρ n) x0 x1 x2 x3 x4 x5 σ
    else
    if (v2 &&& (63 : Int32)) = (28 : Int32) then
      zJ_L_law_1737 ρ (zL_L_law_28 ρ n) x0 x1 x2 x3 x4 x5 σ
    else
    if (v2 &&& (63 : Int32)) = (29 : Int32) then
      zJ_L_law_1793 ρ (zL_L_law_28 ρ n) x0 x1 x2 x3 x4 x5 σ
    else
    if (v2 &&& (63 : Int32)) = (30 : Int32) then
      zJ_L_law_1849 ρ (zL_L_law_28 ρ n) x0 x1 x2 x3 x4 x5 σ
    else
    if (v2 &&& (63 : Int32)) = (31 : Int32) then
      zJ_L_law_1957 ρ (zL_L_law_28 ρ n) x0 x1 x2 x3 x4 x5 σ
    else
    if (v2 &&& (63 : Int32)) = (32 : Int32) then
      zJ_L_law_2020 ρ (zL_L_law_28 ρ n) x0 x1 x2 x3 x4 x5 σ
    else
    if (v2 &&& (63 : Int32)) = (33 : Int32) then
      zJ_L_law_2083 ρ (zL_L_law_28 ρ n) x0 x1 x2 x3 x4 x5 σ
    else
    if (v2 &&& (63 : Int32)) = (34 : Int32) then
      zJ_L_law_2146 ρ (zL_L_law_28 ρ n) x0 x1 x2 x3 x4 x5 σ
    else
    if (v2 &&& (63 : Int32)) = (35 : Int32) then
      zJ_L_law_2202 ρ (zL_L_law_28 ρ n) x0 x1 x2 x3 x4 x5 σ
    else
    if (v2 &&& (63 : Int32)) = (36 : Int32) then
      zJ_L_law_2258 ρ (zL_L_law_28 ρ n) x0 x1 x2 x3 x4 x5 σ
    else
    if (v2 &&& (63 : Int32)) = (37 : Int32) then
      zJ_L_law_2314 ρ (zL_L_law_28 ρ n) x0 x1 x2 x3 x4 x5 σ
    else
    if (v2 &&& (63 : Int32)) = (38 : Int32) then
      zJ_L_law_2370 ρ (zL_L_law_28 ρ n) x0 x1 x2 x3 x4 x5 σ
    else
    if (v2 &&& (63 : Int32)) = (39 : Int32) then
      zJ_L_law_2448 ρ (zL_L_law_28 ρ n) x0 x1 x2 x3 x4 x5 σ
    else
    if (v2 &&& (63 : Int32)) = (40 : Int32) then
      zJ_L_law_2461 ρ (zL_L_law_28 ρ n) x0 x1 x2 x3 x4 x5 σ
    else
    if (v2 &&& (63 : Int32)) = (41 : Int32) then
      zJ_L_law_2474 ρ (zL_L_law_28 ρ n) x0 x1 x2 x3 x4 x5 σ
    else
    if (v2 &&& (63 : Int32)) = (42 : Int32) then
      zJ_L_law_2487 ρ (zL_L_law_28 ρ n) x0 x1 x2 x3 x4 x5 σ
    else
    if (v2 &&& (63 : Int32)) = (43 : Int32) then
      zJ_L_law_2545 ρ (zL_L_law_28 ρ n) x0 x1 x2 x3 x4 x5 σ
    else
    if (v2 &&& (63 : Int32)) = (44 : Int32) then
      zJ_L_law_2589 ρ (zL_L_law_28 ρ n) x0 x1 x2 x3 x4 x5 σ
    else
    if (v2 &&& (63 : Int32)) = (45 : Int32) then
      zJ_L_law_2633 ρ (zL_L_law_28 ρ n) x0 x1 x2 x3 x4 x5 σ
    else
    if (v2 &&& (63 : Int32)) = (46 : Int32) then
      zJ_L_law_2677 ρ (zL_L_law_28 ρ n) x0 x1 x2 x3 x4 x5 σ
    else
    if (v2 &&& (63 : Int32)) = (47 : Int32) then
      zJ_L_law_2733 ρ (zL_L_law_28 ρ n) x0 x1 x2 x3 x4 x5 σ
    else
    if (v2 &&& (63 : Int32)) = (48 : Int32) then
      zJ_L_law_2789 ρ (zL_L_law_28 ρ n) x0 x1 x2 x3 x4 x5 σ
    else
    if (v2 &&& (63 : Int32)) = (49 : Int32) then
      zJ_L_law_2854 ρ (zL_L_law_28 ρ n) x0 x1 x2 x3 x4 x5 σ
    else
    if (v2 &&& (63 : Int32)) = (50 : Int32) then
      zJ_L_law_2867 ρ (zL_L_law_28 ρ n) x0 x1 x2 x3 x4 x5 σ
    else
    if (v2 &&& (63 : Int32)) = (51 : Int32) then
      zJ_L_law_2911 ρ (zL_L_law_28 ρ n) x0 x1 x2 x3 x4 x5 σ
    else
    if (v2 &&& (63 : Int32)) = (52 : Int32) then
      zJ_L_law_2924 ρ (zL_L_law_28 ρ n) x0 x1 x2 x3 x4 x5 σ
    else
    none
def zF_L_law (ρ : zz_C) (x0 : Option Nat) (σ : zz_S) : zz_R :=
  zz_al σ (.inr (1, [.null, .null, .null, .null, .null, .null, .null, .int 0, .int 0])) 9 fun a1 σ2 =>
  zz_cV (zF_X1_init ρ a1 σ2) (fun σ6 =>
    zz_al σ6 (.inr (4, [.int 0, .int 0, .int 0, .int 0, .int 0, .null, .null, .null, .null, .null, .null, .null, .null, .null, .int 0, .int 0, .int 0, .int 0, .int 0, .int 0])) 20 fun a7 σ8 =>
    zz_cV (zF_X4_init ρ a7 σ8) (fun σ12 =>
      zz_na σ12 3 (1 : Int32) fun a13 σ14 =>
      zz_na σ14 4 (1 : Int32) fun a15 σ16 =>
      zL_L_law_28 ρ ρ.2 x0 (some a1) (some a7) (some a13) (some a15) (0 : Int32) σ16) zz_P) zz_P
