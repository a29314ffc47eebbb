section
set_option maxRecDepth 100000
variable {mc ms : Nat} {Q : y_Po} {lv : y_Lv} {st r : List Value} {ω : y_Hp} {c s a : Nat} {x y j : Int32} {z w : Int64} {v v0 v1 v2 v3 v4 v5 : Value} {ad : y_Ad}

def P_X3_in : y_Pool := ([], [], [], [], [], [], [])
def M_X3_in : y_Md := (cX3_in, "YoungerBackModel", (6, (some FieldType.boolean)), (0, 0), false, P_X3_in, [])
def F_X3_in : y_Tr := y_F M_X3_in
theorem nX3_in : y_nL M_X3_in = 6 := rfl
theorem wX3_in_0 : y_w M_X3_in mc ms Q (0, lv, st, ω, c, s) = y_ldL lv 0 (fun v => y_w M_X3_in mc ms Q (1, lv, v :: st, ω, c, s)) := w_lload_n dX3_in_0 rfl rfl
theorem wX3_in_1 : y_w M_X3_in mc ms Q (1, lv, st, ω, c, s) = y_ldL lv 2 (fun v => y_w M_X3_in mc ms Q (2, lv, v :: st, ω, c, s)) := w_lload_n dX3_in_1 rfl rfl
theorem wX3_in_2 : y_w M_X3_in mc ms Q (2, lv, .long w :: .long z :: r, ω, c, s) = y_w M_X3_in mc ms Q (3, lv, .int (lg_cmp z w) :: r, ω, c, s) := w_lcmp dX3_in_2 rfl
theorem wX3_in_3 : y_w M_X3_in mc ms Q (3, lv, .int x :: r, ω, c, s) = ((x < 0 → y_w M_X3_in mc ms Q (17, lv, r, ω, c, s)) ∧ (¬ (x < 0) → y_w M_X3_in mc ms Q (6, lv, r, ω, c, s))) := w_if dX3_in_3 (tgt := 17) rfl rfl rfl
theorem wX3_in_6 : y_w M_X3_in mc ms Q (6, lv, st, ω, c, s) = y_ldL lv 0 (fun v => y_w M_X3_in mc ms Q (7, lv, v :: st, ω, c, s)) := w_lload_n dX3_in_6 rfl rfl
theorem wX3_in_7 : y_w M_X3_in mc ms Q (7, lv, st, ω, c, s) = y_ldL lv 4 (fun v => y_w M_X3_in mc ms Q (9, lv, v :: st, ω, c, s)) := w_lload dX3_in_7 rfl
theorem wX3_in_9 : y_w M_X3_in mc ms Q (9, lv, .long w :: .long z :: r, ω, c, s) = y_w M_X3_in mc ms Q (10, lv, .int (lg_cmp z w) :: r, ω, c, s) := w_lcmp dX3_in_9 rfl
theorem wX3_in_10 : y_w M_X3_in mc ms Q (10, lv, .int x :: r, ω, c, s) = ((0 < x → y_w M_X3_in mc ms Q (17, lv, r, ω, c, s)) ∧ (¬ (0 < x) → y_w M_X3_in mc ms Q (13, lv, r, ω, c, s))) := w_if dX3_in_10 (tgt := 17) rfl rfl rfl
theorem wX3_in_13 : y_w M_X3_in mc ms Q (13, lv, st, ω, c, s) = y_w M_X3_in mc ms Q (14, lv, .int 1 :: st, ω, c, s) := w_iconst dX3_in_13 (v := 1) (by decide) rfl
theorem wX3_in_14 : y_w M_X3_in mc ms Q (14, lv, st, ω, c, s) = y_w M_X3_in mc ms Q (18, lv, st, ω, c, s) := w_goto dX3_in_14 (tgt := 18) (by decide) rfl
theorem wX3_in_17 : y_w M_X3_in mc ms Q (17, lv, st, ω, c, s) = y_w M_X3_in mc ms Q (18, lv, .int 0 :: st, ω, c, s) := w_iconst dX3_in_17 (v := 0) (by decide) rfl
theorem wX3_in_18 : y_w M_X3_in mc ms Q (18, lv, [.int x], ω, c, s) = (narrow FieldType.boolean (.int x) = .int x ∧ Q (.returned (some (.int x))) ω c s) := w_ireturn dX3_in_18 rfl
def P_X3_isRow : y_Pool := ([], [], [(56, .long (lN 7))], [(58, 0, 0, 3, (1, 25), F_X3_in)], [], [], [])
def M_X3_isRow : y_Md := (cX3_isRow, "YoungerBackModel", (1, (some FieldType.boolean)), (1, 25), false, P_X3_isRow, [])
def F_X3_isRow : y_Tr := y_F M_X3_isRow
theorem nX3_isRow : y_nL M_X3_isRow = 1 := rfl
theorem wX3_isRow_0 : y_w M_X3_isRow mc ms Q (0, lv, st, ω, c, s) = y_ldI lv 0 (fun v => y_w M_X3_isRow mc ms Q (1, lv, v :: st, ω, c, s)) := w_iload_n dX3_isRow_0 rfl rfl
theorem wX3_isRow_1 : y_w M_X3_isRow mc ms Q (1, lv, .int x :: r, ω, c, s) = y_w M_X3_isRow mc ms Q (2, lv, .long x.toInt64 :: r, ω, c, s) := w_i2l dX3_isRow_1 rfl
theorem wX3_isRow_2 : y_w M_X3_isRow mc ms Q (2, lv, st, ω, c, s) = y_w M_X3_isRow mc ms Q (3, lv, .long 0 :: st, ω, c, s) := w_lconst dX3_isRow_2 (v := 0) (by decide) rfl
theorem wX3_isRow_3 : y_w M_X3_isRow mc ms Q (3, lv, st, ω, c, s) = y_w M_X3_isRow mc ms Q (6, lv, .long (lN 7) :: st, ω, c, s) := w_ldc2_w dX3_isRow_3 rfl rfl rfl
theorem wX3_isRow_6 : y_w M_X3_isRow mc ms Q (6, lv, v2 :: v1 :: v0 :: r, ω, c, s) = (y_cat r ≤ 8 ∧ F_X3_in mc ms [v0, v1, v2] ω c s (y_aft M_X3_isRow 6 3 lv r (y_w M_X3_isRow mc ms Q) Q)) := w_call0 (av := [v0, v1, v2]) ⟨Or.inr ⟨rfl, rfl⟩, rfl⟩ dX3_isRow_6 rfl (y_F_mono _) (y_dle rfl) (y_dle rfl) rfl rfl
theorem wX3_isRow_9 : y_w M_X3_isRow mc ms Q (9, lv, [.int x], ω, c, s) = (narrow FieldType.boolean (.int x) = .int x ∧ Q (.returned (some (.int x))) ω c s) := w_ireturn dX3_isRow_9 rfl
def P_X3_finding : y_Pool := ([(52, 3, 1, .int, false)], [], [(55, .int (-1000010))], [], [], [], [])
def M_X3_finding : y_Md := (cX3_finding, "YoungerBackModel", (2, (some FieldType.int)), (0, 0), false, P_X3_finding, [])
def F_X3_finding : y_Tr := y_F M_X3_finding
theorem nX3_finding : y_nL M_X3_finding = 2 := rfl
theorem fX3_finding_52_3 : y_ffP P_X3_finding 52 3 = some (1, .int, false) := rfl
theorem wX3_finding_0 : y_w M_X3_finding mc ms Q (0, lv, st, ω, c, s) = y_ldA lv 0 (fun v => y_w M_X3_finding mc ms Q (1, lv, v :: st, ω, c, s)) := w_aload_n dX3_finding_0 rfl rfl
theorem wX3_finding_1 : y_w M_X3_finding mc ms Q (1, lv, st, ω, c, s) = y_ldI lv 1 (fun v => y_w M_X3_finding mc ms Q (2, lv, v :: st, ω, c, s)) := w_iload_n dX3_finding_1 rfl rfl
theorem wX3_finding_2 : y_w M_X3_finding mc ms Q (2, lv, v :: .ref a :: r, ω, c, s) = y_pf P_X3_finding false 52 (ω.2 a) v (fun ci fs => y_w M_X3_finding mc ms Q (5, lv, r, y_hup ω a (.inr (ci, fs)), c, s)) := w_putfield dX3_finding_2 rfl rfl rfl
theorem wX3_finding_5 : y_w M_X3_finding mc ms Q (5, lv, st, ω, c, s) = y_w M_X3_finding mc ms Q (7, lv, .int (-1000010) :: st, ω, c, s) := w_ldc dX3_finding_5 rfl rfl rfl
theorem wX3_finding_7 : y_w M_X3_finding mc ms Q (7, lv, st, ω, c, s) = y_ldI lv 1 (fun v => y_w M_X3_finding mc ms Q (8, lv, v :: st, ω, c, s)) := w_iload_n dX3_finding_7 rfl rfl
theorem wX3_finding_8 : y_w M_X3_finding mc ms Q (8, lv, .int y :: .int x :: r, ω, c, s) = y_w M_X3_finding mc ms Q (9, lv, .int (x - y) :: r, ω, c, s) := w_isub dX3_finding_8 rfl
theorem wX3_finding_9 : y_w M_X3_finding mc ms Q (9, lv, [.int x], ω, c, s) = Q (.returned (some (.int x))) ω c s := w_ireturnI dX3_finding_9 rfl
def P_X3_row : y_Pool := ([(48, 3, 0, .int, false), (52, 3, 1, .int, false), (7, 3, 2, (.array .int), true), (13, 3, 3, (.array .int), true), (16, 3, 4, (.array .int), true)], [], [(66, .long (lN 2)), (68, .int (-1000001))], [(62, 0, 0, 1, (2, 45), F_X3_isRow), (58, 0, 0, 3, (1, 25), F_X3_in), (69, 1, 3, 2, (1, 21), F_X3_finding)], [], [], [])
def M_X3_row : y_Md := (cX3_row, "YoungerBackModel", (5, (some FieldType.int)), (2, 45), false, P_X3_row, [])
def F_X3_row : y_Tr := y_F M_X3_row
theorem nX3_row : y_nL M_X3_row = 5 := rfl
theorem fX3_row_48_3 : y_ffP P_X3_row 48 3 = some (0, .int, false) := rfl
theorem fX3_row_52_3 : y_ffP P_X3_row 52 3 = some (1, .int, false) := rfl
theorem fX3_row_7_3 : y_ffP P_X3_row 7 3 = some (2, (.array .int), true) := rfl
theorem fX3_row_13_3 : y_ffP P_X3_row 13 3 = some (3, (.array .int), true) := rfl
theorem fX3_row_16_3 : y_ffP P_X3_row 16 3 = some (4, (.array .int), true) := rfl
theorem wX3_row_0 : y_w M_X3_row mc ms Q (0, lv, st, ω, c, s) = y_ldA lv 0 (fun v => y_w M_X3_row mc ms Q (1, lv, v :: st, ω, c, s)) := w_aload_n dX3_row_0 rfl rfl
theorem wX3_row_1 : y_w M_X3_row mc ms Q (1, lv, st, ω, c, s) = y_w M_X3_row mc ms Q (2, lv, .int 0 :: st, ω, c, s) := w_iconst dX3_row_1 (v := 0) (by decide) rfl
theorem wX3_row_2 : y_w M_X3_row mc ms Q (2, lv, v :: .ref a :: r, ω, c, s) = y_pf P_X3_row false 48 (ω.2 a) v (fun ci fs => y_w M_X3_row mc ms Q (5, lv, r, y_hup ω a (.inr (ci, fs)), c, s)) := w_putfield dX3_row_2 rfl rfl rfl
theorem wX3_row_5 : y_w M_X3_row mc ms Q (5, lv, st, ω, c, s) = y_ldI lv 1 (fun v => y_w M_X3_row mc ms Q (6, lv, v :: st, ω, c, s)) := w_iload_n dX3_row_5 rfl rfl
theorem wX3_row_6 : y_w M_X3_row mc ms Q (6, lv, v0 :: r, ω, c, s) = (y_cat r ≤ 8 ∧ F_X3_isRow mc ms [v0] ω c s (y_aft M_X3_row 6 3 lv r (y_w M_X3_row mc ms Q) Q)) := w_call0 (av := [v0]) ⟨Or.inr ⟨rfl, rfl⟩, rfl⟩ dX3_row_6 rfl (y_F_mono _) (y_dle rfl) (y_dle rfl) rfl rfl
theorem wX3_row_9 : y_w M_X3_row mc ms Q (9, lv, .int x :: r, ω, c, s) = ((x = 0 → y_w M_X3_row mc ms Q (30, lv, r, ω, c, s)) ∧ (¬ (x = 0) → y_w M_X3_row mc ms Q (12, lv, r, ω, c, s))) := w_if dX3_row_9 (tgt := 30) rfl rfl rfl
theorem wX3_row_12 : y_w M_X3_row mc ms Q (12, lv, st, ω, c, s) = y_ldI lv 2 (fun v => y_w M_X3_row mc ms Q (13, lv, v :: st, ω, c, s)) := w_iload_n dX3_row_12 rfl rfl
theorem wX3_row_13 : y_w M_X3_row mc ms Q (13, lv, .int x :: r, ω, c, s) = y_w M_X3_row mc ms Q (14, lv, .long x.toInt64 :: r, ω, c, s) := w_i2l dX3_row_13 rfl
theorem wX3_row_14 : y_w M_X3_row mc ms Q (14, lv, st, ω, c, s) = y_w M_X3_row mc ms Q (15, lv, .long 0 :: st, ω, c, s) := w_lconst dX3_row_14 (v := 0) (by decide) rfl
theorem wX3_row_15 : y_w M_X3_row mc ms Q (15, lv, st, ω, c, s) = y_w M_X3_row mc ms Q (18, lv, .long (lN 2) :: st, ω, c, s) := w_ldc2_w dX3_row_15 rfl rfl rfl
theorem wX3_row_18 : y_w M_X3_row mc ms Q (18, lv, v2 :: v1 :: v0 :: r, ω, c, s) = (y_cat r ≤ 8 ∧ F_X3_in mc ms [v0, v1, v2] ω c s (y_aft M_X3_row 18 3 lv r (y_w M_X3_row mc ms Q) Q)) := w_call0 (av := [v0, v1, v2]) ⟨Or.inr ⟨rfl, rfl⟩, rfl⟩ dX3_row_18 rfl (y_F_mono _) (y_dle rfl) (y_dle rfl) rfl rfl
theorem wX3_row_21 : y_w M_X3_row mc ms Q (21, lv, .int x :: r, ω, c, s) = ((x = 0 → y_w M_X3_row mc ms Q (30, lv, r, ω, c, s)) ∧ (¬ (x = 0) → y_w M_X3_row mc ms Q (24, lv, r, ω, c, s))) := w_if dX3_row_21 (tgt := 30) rfl rfl rfl
theorem wX3_row_24 : y_w M_X3_row mc ms Q (24, lv, st, ω, c, s) = y_ldI lv 3 (fun v => y_w M_X3_row mc ms Q (25, lv, v :: st, ω, c, s)) := w_iload_n dX3_row_24 rfl rfl
theorem wX3_row_25 : y_w M_X3_row mc ms Q (25, lv, st, ω, c, s) = y_w M_X3_row mc ms Q (27, lv, .int (nI 40) :: st, ω, c, s) := w_bipush dX3_row_25 (v := (nI 40)) (by decide) rfl
theorem wX3_row_27 : y_w M_X3_row mc ms Q (27, lv, .int y :: .int x :: r, ω, c, s) = ((x ≤ y → y_w M_X3_row mc ms Q (33, lv, r, ω, c, s)) ∧ (¬ (x ≤ y) → y_w M_X3_row mc ms Q (30, lv, r, ω, c, s))) := w_icmp dX3_row_27 (tgt := 33) rfl rfl rfl
theorem wX3_row_30 : y_w M_X3_row mc ms Q (30, lv, st, ω, c, s) = y_w M_X3_row mc ms Q (32, lv, .int (-1000001) :: st, ω, c, s) := w_ldc dX3_row_30 rfl rfl rfl
theorem wX3_row_32 : y_w M_X3_row mc ms Q (32, lv, [.int x], ω, c, s) = Q (.returned (some (.int x))) ω c s := w_ireturnI dX3_row_32 rfl
theorem wX3_row_33 : y_w M_X3_row mc ms Q (33, lv, st, ω, c, s) = y_ldA lv 0 (fun v => y_w M_X3_row mc ms Q (34, lv, v :: st, ω, c, s)) := w_aload_n dX3_row_33 rfl rfl
theorem wX3_row_34 : y_w M_X3_row mc ms Q (34, lv, st, ω, c, s) = y_w M_X3_row mc ms Q (35, lv, .int 0 :: st, ω, c, s) := w_iconst dX3_row_34 (v := 0) (by decide) rfl
theorem wX3_row_35 : y_w M_X3_row mc ms Q (35, lv, v :: .ref a :: r, ω, c, s) = y_pf P_X3_row false 52 (ω.2 a) v (fun ci fs => y_w M_X3_row mc ms Q (38, lv, r, y_hup ω a (.inr (ci, fs)), c, s)) := w_putfield dX3_row_35 rfl rfl rfl
theorem wX3_row_38 : y_w M_X3_row mc ms Q (38, lv, st, ω, c, s) = y_ldI lv 3 (fun v => y_w M_X3_row mc ms Q (39, lv, v :: st, ω, c, s)) := w_iload_n dX3_row_38 rfl rfl
theorem wX3_row_39 : y_w M_X3_row mc ms Q (39, lv, .int x :: r, ω, c, s) = ((0 ≤ x → y_w M_X3_row mc ms Q (48, lv, r, ω, c, s)) ∧ (¬ (0 ≤ x) → y_w M_X3_row mc ms Q (42, lv, r, ω, c, s))) := w_if dX3_row_39 (tgt := 48) rfl rfl rfl
theorem wX3_row_42 : y_w M_X3_row mc ms Q (42, lv, st, ω, c, s) = y_ldA lv 0 (fun v => y_w M_X3_row mc ms Q (43, lv, v :: st, ω, c, s)) := w_aload_n dX3_row_42 rfl rfl
theorem wX3_row_43 : y_w M_X3_row mc ms Q (43, lv, st, ω, c, s) = y_w M_X3_row mc ms Q (44, lv, .int (nI 4) :: st, ω, c, s) := w_iconst dX3_row_43 (v := (nI 4)) (by decide) rfl
theorem wX3_row_44 (hc : y_cls ω a = some 3) : y_w M_X3_row mc ms Q (44, lv, v1 :: .ref a :: r, ω, c, s) = (y_cat r ≤ 8 ∧ F_X3_finding mc ms [.ref a, v1] ω c s (y_aft M_X3_row 44 3 lv r (y_w M_X3_row mc ms Q) Q)) := w_call1 (av := [v1]) (Or.inl ⟨⟨rfl, rfl⟩, rfl⟩) dX3_row_44 rfl hc rfl (y_F_mono _) (y_dle rfl) (y_dle rfl) rfl rfl
theorem wX3_row_47 : y_w M_X3_row mc ms Q (47, lv, [.int x], ω, c, s) = Q (.returned (some (.int x))) ω c s := w_ireturnI dX3_row_47 rfl
theorem wX3_row_48 : y_w M_X3_row mc ms Q (48, lv, st, ω, c, s) = y_ldA lv 0 (fun v => y_w M_X3_row mc ms Q (49, lv, v :: st, ω, c, s)) := w_aload_n dX3_row_48 rfl rfl
theorem wX3_row_49 : y_w M_X3_row mc ms Q (49, lv, .ref a :: r, ω, c, s) = y_gf P_X3_row 7 (ω.2 a) (fun v => y_w M_X3_row mc ms Q (52, lv, v :: r, ω, c, s)) := w_getfield dX3_row_49 rfl rfl
theorem wX3_row_52 : y_w M_X3_row mc ms Q (52, lv, st, ω, c, s) = y_ldI lv 1 (fun v => y_w M_X3_row mc ms Q (53, lv, v :: st, ω, c, s)) := w_iload_n dX3_row_52 rfl rfl
theorem wX3_row_53 : y_w M_X3_row mc ms Q (53, lv, st, ω, c, s) = y_ldI lv 2 (fun v => y_w M_X3_row mc ms Q (54, lv, v :: st, ω, c, s)) := w_iload_n dX3_row_53 rfl rfl
theorem wX3_row_54 : y_w M_X3_row mc ms Q (54, lv, .int x :: .int j :: .ref a :: r, ω, c, s) = y_wI (ω.2 a) j x (fun e => y_w M_X3_row mc ms Q (55, lv, r, y_hup ω a e, c, s)) := w_iastore dX3_row_54 rfl
theorem wX3_row_55 : y_w M_X3_row mc ms Q (55, lv, st, ω, c, s) = y_ldA lv 0 (fun v => y_w M_X3_row mc ms Q (56, lv, v :: st, ω, c, s)) := w_aload_n dX3_row_55 rfl rfl
theorem wX3_row_56 : y_w M_X3_row mc ms Q (56, lv, .ref a :: r, ω, c, s) = y_gf P_X3_row 13 (ω.2 a) (fun v => y_w M_X3_row mc ms Q (59, lv, v :: r, ω, c, s)) := w_getfield dX3_row_56 rfl rfl
theorem wX3_row_59 : y_w M_X3_row mc ms Q (59, lv, st, ω, c, s) = y_ldI lv 1 (fun v => y_w M_X3_row mc ms Q (60, lv, v :: st, ω, c, s)) := w_iload_n dX3_row_59 rfl rfl
theorem wX3_row_60 : y_w M_X3_row mc ms Q (60, lv, st, ω, c, s) = y_ldI lv 3 (fun v => y_w M_X3_row mc ms Q (61, lv, v :: st, ω, c, s)) := w_iload_n dX3_row_60 rfl rfl
theorem wX3_row_61 : y_w M_X3_row mc ms Q (61, lv, .int x :: .int j :: .ref a :: r, ω, c, s) = y_wI (ω.2 a) j x (fun e => y_w M_X3_row mc ms Q (62, lv, r, y_hup ω a e, c, s)) := w_iastore dX3_row_61 rfl
theorem wX3_row_62 : y_w M_X3_row mc ms Q (62, lv, st, ω, c, s) = y_w M_X3_row mc ms Q (63, lv, .int 0 :: st, ω, c, s) := w_iconst dX3_row_62 (v := 0) (by decide) rfl
theorem wX3_row_63 : y_w M_X3_row mc ms Q (63, lv, .int x :: r, ω, c, s) = y_w M_X3_row mc ms Q (65, (4, .int x) :: y_kill 4 lv, r, ω, c, s) := w_istore dX3_row_63 (y_dle rfl) rfl
theorem wX3_row_65 : y_w M_X3_row mc ms Q (65, lv, st, ω, c, s) = y_ldI lv 4 (fun v => y_w M_X3_row mc ms Q (67, lv, v :: st, ω, c, s)) := w_iload dX3_row_65 rfl
theorem wX3_row_67 : y_w M_X3_row mc ms Q (67, lv, st, ω, c, s) = y_w M_X3_row mc ms Q (69, lv, .int (nI 40) :: st, ω, c, s) := w_bipush dX3_row_67 (v := (nI 40)) (by decide) rfl
theorem wX3_row_69 : y_w M_X3_row mc ms Q (69, lv, .int y :: .int x :: r, ω, c, s) = ((y ≤ x → y_w M_X3_row mc ms Q (91, lv, r, ω, c, s)) ∧ (¬ (y ≤ x) → y_w M_X3_row mc ms Q (72, lv, r, ω, c, s))) := w_icmp dX3_row_69 (tgt := 91) rfl rfl rfl
theorem wX3_row_72 : y_w M_X3_row mc ms Q (72, lv, st, ω, c, s) = y_ldA lv 0 (fun v => y_w M_X3_row mc ms Q (73, lv, v :: st, ω, c, s)) := w_aload_n dX3_row_72 rfl rfl
theorem wX3_row_73 : y_w M_X3_row mc ms Q (73, lv, .ref a :: r, ω, c, s) = y_gf P_X3_row 16 (ω.2 a) (fun v => y_w M_X3_row mc ms Q (76, lv, v :: r, ω, c, s)) := w_getfield dX3_row_73 rfl rfl
theorem wX3_row_76 : y_w M_X3_row mc ms Q (76, lv, st, ω, c, s) = y_w M_X3_row mc ms Q (78, lv, .int (nI 40) :: st, ω, c, s) := w_bipush dX3_row_76 (v := (nI 40)) (by decide) rfl
theorem wX3_row_78 : y_w M_X3_row mc ms Q (78, lv, st, ω, c, s) = y_ldI lv 1 (fun v => y_w M_X3_row mc ms Q (79, lv, v :: st, ω, c, s)) := w_iload_n dX3_row_78 rfl rfl
theorem wX3_row_79 : y_w M_X3_row mc ms Q (79, lv, .int y :: .int x :: r, ω, c, s) = y_w M_X3_row mc ms Q (80, lv, .int (x * y) :: r, ω, c, s) := w_imul dX3_row_79 rfl
theorem wX3_row_80 : y_w M_X3_row mc ms Q (80, lv, st, ω, c, s) = y_ldI lv 4 (fun v => y_w M_X3_row mc ms Q (82, lv, v :: st, ω, c, s)) := w_iload dX3_row_80 rfl
theorem wX3_row_82 : y_w M_X3_row mc ms Q (82, lv, .int y :: .int x :: r, ω, c, s) = y_w M_X3_row mc ms Q (83, lv, .int (x + y) :: r, ω, c, s) := w_iadd dX3_row_82 rfl
theorem wX3_row_83 : y_w M_X3_row mc ms Q (83, lv, st, ω, c, s) = y_w M_X3_row mc ms Q (84, lv, .int 0 :: st, ω, c, s) := w_iconst dX3_row_83 (v := 0) (by decide) rfl
theorem wX3_row_84 : y_w M_X3_row mc ms Q (84, lv, .int x :: .int j :: .ref a :: r, ω, c, s) = y_wI (ω.2 a) j x (fun e => y_w M_X3_row mc ms Q (85, lv, r, y_hup ω a e, c, s)) := w_iastore dX3_row_84 rfl
theorem wX3_row_85 : y_w M_X3_row mc ms Q (85, lv, st, ω, c, s) = y_inc lv 4 (fun x => y_w M_X3_row mc ms Q (88, (4, .int (x + 1)) :: y_kill 4 lv, st, ω, c, s)) := w_iinc dX3_row_85 (d := 1) (by decide) (y_dle rfl) rfl
theorem wX3_row_88 : y_w M_X3_row mc ms Q (88, lv, st, ω, c, s) = ∃ lv2, y_lsub lv2 lv ∧ y_w M_X3_row mc ms Q (65, lv2, st, ω, c, s) := w_back dX3_row_88 (tgt := 65) (by decide) rfl
theorem wX3_row_91 : y_w M_X3_row mc ms Q (91, lv, st, ω, c, s) = y_ldI lv 3 (fun v => y_w M_X3_row mc ms Q (92, lv, v :: st, ω, c, s)) := w_iload_n dX3_row_91 rfl rfl
theorem wX3_row_92 : y_w M_X3_row mc ms Q (92, lv, [.int x], ω, c, s) = Q (.returned (some (.int x))) ω c s := w_ireturnI dX3_row_92 rfl
def P_X3_set : y_Pool := ([(48, 3, 0, .int, false), (52, 3, 1, .int, false), (7, 3, 2, (.array .int), true), (13, 3, 3, (.array .int), true), (16, 3, 4, (.array .int), true)], [], [(68, .int (-1000001))], [(62, 0, 0, 1, (2, 45), F_X3_isRow), (69, 1, 3, 2, (1, 21), F_X3_finding), (58, 0, 0, 3, (1, 25), F_X3_in)], [], [], [])
def M_X3_set : y_Md := (cX3_set, "YoungerBackModel", (4, (some FieldType.int)), (2, 45), false, P_X3_set, [])
def F_X3_set : y_Tr := y_F M_X3_set
theorem nX3_set : y_nL M_X3_set = 4 := rfl
theorem fX3_set_48_3 : y_ffP P_X3_set 48 3 = some (0, .int, false) := rfl
theorem fX3_set_52_3 : y_ffP P_X3_set 52 3 = some (1, .int, false) := rfl
theorem fX3_set_7_3 : y_ffP P_X3_set 7 3 = some (2, (.array .int), true) := rfl
theorem fX3_set_13_3 : y_ffP P_X3_set 13 3 = some (3, (.array .int), true) := rfl
theorem fX3_set_16_3 : y_ffP P_X3_set 16 3 = some (4, (.array .int), true) := rfl
theorem wX3_set_0 : y_w M_X3_set mc ms Q (0, lv, st, ω, c, s) = y_ldA lv 0 (fun v => y_w M_X3_set mc ms Q (1, lv, v :: st, ω, c, s)) := w_aload_n dX3_set_0 rfl rfl
theorem wX3_set_1 : y_w M_X3_set mc ms Q (1, lv, st, ω, c, s) = y_w M_X3_set mc ms Q (2, lv, .int 0 :: st, ω, c, s) := w_iconst dX3_set_1 (v := 0) (by decide) rfl
theorem wX3_set_2 : y_w M_X3_set mc ms Q (2, lv, v :: .ref a :: r, ω, c, s) = y_pf P_X3_set false 48 (ω.2 a) v (fun ci fs => y_w M_X3_set mc ms Q (5, lv, r, y_hup ω a (.inr (ci, fs)), c, s)) := w_putfield dX3_set_2 rfl rfl rfl
theorem wX3_set_5 : y_w M_X3_set mc ms Q (5, lv, st, ω, c, s) = y_ldI lv 1 (fun v => y_w M_X3_set mc ms Q (6, lv, v :: st, ω, c, s)) := w_iload_n dX3_set_5 rfl rfl
theorem wX3_set_6 : y_w M_X3_set mc ms Q (6, lv, v0 :: r, ω, c, s) = (y_cat r ≤ 8 ∧ F_X3_isRow mc ms [v0] ω c s (y_aft M_X3_set 6 3 lv r (y_w M_X3_set mc ms Q) Q)) := w_call0 (av := [v0]) ⟨Or.inr ⟨rfl, rfl⟩, rfl⟩ dX3_set_6 rfl (y_F_mono _) (y_dle rfl) (y_dle rfl) rfl rfl
theorem wX3_set_9 : y_w M_X3_set mc ms Q (9, lv, .int x :: r, ω, c, s) = ((¬ x = 0 → y_w M_X3_set mc ms Q (15, lv, r, ω, c, s)) ∧ (¬ (¬ x = 0) → y_w M_X3_set mc ms Q (12, lv, r, ω, c, s))) := w_if dX3_set_9 (tgt := 15) rfl rfl rfl
theorem wX3_set_12 : y_w M_X3_set mc ms Q (12, lv, st, ω, c, s) = y_w M_X3_set mc ms Q (14, lv, .int (-1000001) :: st, ω, c, s) := w_ldc dX3_set_12 rfl rfl rfl
theorem wX3_set_14 : y_w M_X3_set mc ms Q (14, lv, [.int x], ω, c, s) = Q (.returned (some (.int x))) ω c s := w_ireturnI dX3_set_14 rfl
theorem wX3_set_15 : y_w M_X3_set mc ms Q (15, lv, st, ω, c, s) = y_ldA lv 0 (fun v => y_w M_X3_set mc ms Q (16, lv, v :: st, ω, c, s)) := w_aload_n dX3_set_15 rfl rfl
theorem wX3_set_16 : y_w M_X3_set mc ms Q (16, lv, st, ω, c, s) = y_w M_X3_set mc ms Q (17, lv, .int 0 :: st, ω, c, s) := w_iconst dX3_set_16 (v := 0) (by decide) rfl
theorem wX3_set_17 : y_w M_X3_set mc ms Q (17, lv, v :: .ref a :: r, ω, c, s) = y_pf P_X3_set false 52 (ω.2 a) v (fun ci fs => y_w M_X3_set mc ms Q (20, lv, r, y_hup ω a (.inr (ci, fs)), c, s)) := w_putfield dX3_set_17 rfl rfl rfl
theorem wX3_set_20 : y_w M_X3_set mc ms Q (20, lv, st, ω, c, s) = y_ldA lv 0 (fun v => y_w M_X3_set mc ms Q (21, lv, v :: st, ω, c, s)) := w_aload_n dX3_set_20 rfl rfl
theorem wX3_set_21 : y_w M_X3_set mc ms Q (21, lv, .ref a :: r, ω, c, s) = y_gf P_X3_set 7 (ω.2 a) (fun v => y_w M_X3_set mc ms Q (24, lv, v :: r, ω, c, s)) := w_getfield dX3_set_21 rfl rfl
theorem wX3_set_24 : y_w M_X3_set mc ms Q (24, lv, st, ω, c, s) = y_ldI lv 1 (fun v => y_w M_X3_set mc ms Q (25, lv, v :: st, ω, c, s)) := w_iload_n dX3_set_24 rfl rfl
theorem wX3_set_25 : y_w M_X3_set mc ms Q (25, lv, .int j :: .ref a :: r, ω, c, s) = y_rI (ω.2 a) j (fun x => y_w M_X3_set mc ms Q (26, lv, .int x :: r, ω, c, s)) := w_iaload dX3_set_25 rfl
theorem wX3_set_26 : y_w M_X3_set mc ms Q (26, lv, .int x :: r, ω, c, s) = ((0 ≤ x → y_w M_X3_set mc ms Q (35, lv, r, ω, c, s)) ∧ (¬ (0 ≤ x) → y_w M_X3_set mc ms Q (29, lv, r, ω, c, s))) := w_if dX3_set_26 (tgt := 35) rfl rfl rfl
theorem wX3_set_29 : y_w M_X3_set mc ms Q (29, lv, st, ω, c, s) = y_ldA lv 0 (fun v => y_w M_X3_set mc ms Q (30, lv, v :: st, ω, c, s)) := w_aload_n dX3_set_29 rfl rfl
theorem wX3_set_30 : y_w M_X3_set mc ms Q (30, lv, st, ω, c, s) = y_w M_X3_set mc ms Q (31, lv, .int 1 :: st, ω, c, s) := w_iconst dX3_set_30 (v := 1) (by decide) rfl
theorem wX3_set_31 (hc : y_cls ω a = some 3) : y_w M_X3_set mc ms Q (31, lv, v1 :: .ref a :: r, ω, c, s) = (y_cat r ≤ 8 ∧ F_X3_finding mc ms [.ref a, v1] ω c s (y_aft M_X3_set 31 3 lv r (y_w M_X3_set mc ms Q) Q)) := w_call1 (av := [v1]) (Or.inl ⟨⟨rfl, rfl⟩, rfl⟩) dX3_set_31 rfl hc rfl (y_F_mono _) (y_dle rfl) (y_dle rfl) rfl rfl
theorem wX3_set_34 : y_w M_X3_set mc ms Q (34, lv, [.int x], ω, c, s) = Q (.returned (some (.int x))) ω c s := w_ireturnI dX3_set_34 rfl
theorem wX3_set_35 : y_w M_X3_set mc ms Q (35, lv, st, ω, c, s) = y_ldI lv 2 (fun v => y_w M_X3_set mc ms Q (36, lv, v :: st, ω, c, s)) := w_iload_n dX3_set_35 rfl rfl
theorem wX3_set_36 : y_w M_X3_set mc ms Q (36, lv, .int x :: r, ω, c, s) = y_w M_X3_set mc ms Q (37, lv, .long x.toInt64 :: r, ω, c, s) := w_i2l dX3_set_36 rfl
theorem wX3_set_37 : y_w M_X3_set mc ms Q (37, lv, st, ω, c, s) = y_w M_X3_set mc ms Q (38, lv, .long 0 :: st, ω, c, s) := w_lconst dX3_set_37 (v := 0) (by decide) rfl
theorem wX3_set_38 : y_w M_X3_set mc ms Q (38, lv, st, ω, c, s) = y_ldA lv 0 (fun v => y_w M_X3_set mc ms Q (39, lv, v :: st, ω, c, s)) := w_aload_n dX3_set_38 rfl rfl
theorem wX3_set_39 : y_w M_X3_set mc ms Q (39, lv, .ref a :: r, ω, c, s) = y_gf P_X3_set 13 (ω.2 a) (fun v => y_w M_X3_set mc ms Q (42, lv, v :: r, ω, c, s)) := w_getfield dX3_set_39 rfl rfl
theorem wX3_set_42 : y_w M_X3_set mc ms Q (42, lv, st, ω, c, s) = y_ldI lv 1 (fun v => y_w M_X3_set mc ms Q (43, lv, v :: st, ω, c, s)) := w_iload_n dX3_set_42 rfl rfl
theorem wX3_set_43 : y_w M_X3_set mc ms Q (43, lv, .int j :: .ref a :: r, ω, c, s) = y_rI (ω.2 a) j (fun x => y_w M_X3_set mc ms Q (44, lv, .int x :: r, ω, c, s)) := w_iaload dX3_set_43 rfl
theorem wX3_set_44 : y_w M_X3_set mc ms Q (44, lv, st, ω, c, s) = y_w M_X3_set mc ms Q (45, lv, .int 1 :: st, ω, c, s) := w_iconst dX3_set_44 (v := 1) (by decide) rfl
theorem wX3_set_45 : y_w M_X3_set mc ms Q (45, lv, .int y :: .int x :: r, ω, c, s) = y_w M_X3_set mc ms Q (46, lv, .int (x - y) :: r, ω, c, s) := w_isub dX3_set_45 rfl
theorem wX3_set_46 : y_w M_X3_set mc ms Q (46, lv, .int x :: r, ω, c, s) = y_w M_X3_set mc ms Q (47, lv, .long x.toInt64 :: r, ω, c, s) := w_i2l dX3_set_46 rfl
theorem wX3_set_47 : y_w M_X3_set mc ms Q (47, lv, v2 :: v1 :: v0 :: r, ω, c, s) = (y_cat r ≤ 8 ∧ F_X3_in mc ms [v0, v1, v2] ω c s (y_aft M_X3_set 47 3 lv r (y_w M_X3_set mc ms Q) Q)) := w_call0 (av := [v0, v1, v2]) ⟨Or.inr ⟨rfl, rfl⟩, rfl⟩ dX3_set_47 rfl (y_F_mono _) (y_dle rfl) (y_dle rfl) rfl rfl
theorem wX3_set_50 : y_w M_X3_set mc ms Q (50, lv, .int x :: r, ω, c, s) = ((¬ x = 0 → y_w M_X3_set mc ms Q (59, lv, r, ω, c, s)) ∧ (¬ (¬ x = 0) → y_w M_X3_set mc ms Q (53, lv, r, ω, c, s))) := w_if dX3_set_50 (tgt := 59) rfl rfl rfl
theorem wX3_set_53 : y_w M_X3_set mc ms Q (53, lv, st, ω, c, s) = y_ldA lv 0 (fun v => y_w M_X3_set mc ms Q (54, lv, v :: st, ω, c, s)) := w_aload_n dX3_set_53 rfl rfl
theorem wX3_set_54 : y_w M_X3_set mc ms Q (54, lv, st, ω, c, s) = y_w M_X3_set mc ms Q (55, lv, .int (nI 2) :: st, ω, c, s) := w_iconst dX3_set_54 (v := (nI 2)) (by decide) rfl
theorem wX3_set_55 (hc : y_cls ω a = some 3) : y_w M_X3_set mc ms Q (55, lv, v1 :: .ref a :: r, ω, c, s) = (y_cat r ≤ 8 ∧ F_X3_finding mc ms [.ref a, v1] ω c s (y_aft M_X3_set 55 3 lv r (y_w M_X3_set mc ms Q) Q)) := w_call1 (av := [v1]) (Or.inl ⟨⟨rfl, rfl⟩, rfl⟩) dX3_set_55 rfl hc rfl (y_F_mono _) (y_dle rfl) (y_dle rfl) rfl rfl
theorem wX3_set_58 : y_w M_X3_set mc ms Q (58, lv, [.int x], ω, c, s) = Q (.returned (some (.int x))) ω c s := w_ireturnI dX3_set_58 rfl
theorem wX3_set_59 : y_w M_X3_set mc ms Q (59, lv, st, ω, c, s) = y_ldA lv 0 (fun v => y_w M_X3_set mc ms Q (60, lv, v :: st, ω, c, s)) := w_aload_n dX3_set_59 rfl rfl
theorem wX3_set_60 : y_w M_X3_set mc ms Q (60, lv, .ref a :: r, ω, c, s) = y_gf P_X3_set 16 (ω.2 a) (fun v => y_w M_X3_set mc ms Q (63, lv, v :: r, ω, c, s)) := w_getfield dX3_set_60 rfl rfl
theorem wX3_set_63 : y_w M_X3_set mc ms Q (63, lv, st, ω, c, s) = y_w M_X3_set mc ms Q (65, lv, .int (nI 40) :: st, ω, c, s) := w_bipush dX3_set_63 (v := (nI 40)) (by decide) rfl
theorem wX3_set_65 : y_w M_X3_set mc ms Q (65, lv, st, ω, c, s) = y_ldI lv 1 (fun v => y_w M_X3_set mc ms Q (66, lv, v :: st, ω, c, s)) := w_iload_n dX3_set_65 rfl rfl
theorem wX3_set_66 : y_w M_X3_set mc ms Q (66, lv, .int y :: .int x :: r, ω, c, s) = y_w M_X3_set mc ms Q (67, lv, .int (x * y) :: r, ω, c, s) := w_imul dX3_set_66 rfl
theorem wX3_set_67 : y_w M_X3_set mc ms Q (67, lv, st, ω, c, s) = y_ldI lv 2 (fun v => y_w M_X3_set mc ms Q (68, lv, v :: st, ω, c, s)) := w_iload_n dX3_set_67 rfl rfl
theorem wX3_set_68 : y_w M_X3_set mc ms Q (68, lv, .int y :: .int x :: r, ω, c, s) = y_w M_X3_set mc ms Q (69, lv, .int (x + y) :: r, ω, c, s) := w_iadd dX3_set_68 rfl
theorem wX3_set_69 : y_w M_X3_set mc ms Q (69, lv, st, ω, c, s) = y_ldA lv 0 (fun v => y_w M_X3_set mc ms Q (70, lv, v :: st, ω, c, s)) := w_aload_n dX3_set_69 rfl rfl
theorem wX3_set_70 : y_w M_X3_set mc ms Q (70, lv, .ref a :: r, ω, c, s) = y_gf P_X3_set 7 (ω.2 a) (fun v => y_w M_X3_set mc ms Q (73, lv, v :: r, ω, c, s)) := w_getfield dX3_set_70 rfl rfl
theorem wX3_set_73 : y_w M_X3_set mc ms Q (73, lv, st, ω, c, s) = y_ldI lv 1 (fun v => y_w M_X3_set mc ms Q (74, lv, v :: st, ω, c, s)) := w_iload_n dX3_set_73 rfl rfl
theorem wX3_set_74 : y_w M_X3_set mc ms Q (74, lv, .int j :: .ref a :: r, ω, c, s) = y_rI (ω.2 a) j (fun x => y_w M_X3_set mc ms Q (75, lv, .int x :: r, ω, c, s)) := w_iaload dX3_set_74 rfl
theorem wX3_set_75 : y_w M_X3_set mc ms Q (75, lv, .int x :: r, ω, c, s) = ((¬ x = 0 → y_w M_X3_set mc ms Q (83, lv, r, ω, c, s)) ∧ (¬ (¬ x = 0) → y_w M_X3_set mc ms Q (78, lv, r, ω, c, s))) := w_if dX3_set_75 (tgt := 83) rfl rfl rfl
theorem wX3_set_78 : y_w M_X3_set mc ms Q (78, lv, st, ω, c, s) = y_ldI lv 3 (fun v => y_w M_X3_set mc ms Q (79, lv, v :: st, ω, c, s)) := w_iload_n dX3_set_78 rfl rfl
theorem wX3_set_79 : y_w M_X3_set mc ms Q (79, lv, .int x :: r, ω, c, s) = y_w M_X3_set mc ms Q (80, lv, .int x.toInt8.toInt32 :: r, ω, c, s) := w_i2b dX3_set_79 rfl
theorem wX3_set_80 : y_w M_X3_set mc ms Q (80, lv, st, ω, c, s) = y_w M_X3_set mc ms Q (99, lv, st, ω, c, s) := w_goto dX3_set_80 (tgt := 99) (by decide) rfl
theorem wX3_set_83 : y_w M_X3_set mc ms Q (83, lv, st, ω, c, s) = y_ldA lv 0 (fun v => y_w M_X3_set mc ms Q (84, lv, v :: st, ω, c, s)) := w_aload_n dX3_set_83 rfl rfl
theorem wX3_set_84 : y_w M_X3_set mc ms Q (84, lv, .ref a :: r, ω, c, s) = y_gf P_X3_set 7 (ω.2 a) (fun v => y_w M_X3_set mc ms Q (87, lv, v :: r, ω, c, s)) := w_getfield dX3_set_84 rfl rfl
theorem wX3_set_87 : y_w M_X3_set mc ms Q (87, lv, st, ω, c, s) = y_ldI lv 1 (fun v => y_w M_X3_set mc ms Q (88, lv, v :: st, ω, c, s)) := w_iload_n dX3_set_87 rfl rfl
theorem wX3_set_88 : y_w M_X3_set mc ms Q (88, lv, .int j :: .ref a :: r, ω, c, s) = y_rI (ω.2 a) j (fun x => y_w M_X3_set mc ms Q (89, lv, .int x :: r, ω, c, s)) := w_iaload dX3_set_88 rfl
theorem wX3_set_89 : y_w M_X3_set mc ms Q (89, lv, st, ω, c, s) = y_w M_X3_set mc ms Q (90, lv, .int 1 :: st, ω, c, s) := w_iconst dX3_set_89 (v := 1) (by decide) rfl
theorem wX3_set_90 : y_w M_X3_set mc ms Q (90, lv, .int y :: .int x :: r, ω, c, s) = ((¬ x = y → y_w M_X3_set mc ms Q (98, lv, r, ω, c, s)) ∧ (¬ (¬ x = y) → y_w M_X3_set mc ms Q (93, lv, r, ω, c, s))) := w_icmp dX3_set_90 (tgt := 98) rfl rfl rfl
theorem wX3_set_93 : y_w M_X3_set mc ms Q (93, lv, st, ω, c, s) = y_ldI lv 3 (fun v => y_w M_X3_set mc ms Q (94, lv, v :: st, ω, c, s)) := w_iload_n dX3_set_93 rfl rfl
theorem wX3_set_94 : y_w M_X3_set mc ms Q (94, lv, .int x :: r, ω, c, s) = y_w M_X3_set mc ms Q (95, lv, .int x.toInt16.toInt32 :: r, ω, c, s) := w_i2s dX3_set_94 rfl
theorem wX3_set_95 : y_w M_X3_set mc ms Q (95, lv, st, ω, c, s) = y_w M_X3_set mc ms Q (99, lv, st, ω, c, s) := w_goto dX3_set_95 (tgt := 99) (by decide) rfl
theorem wX3_set_98 : y_w M_X3_set mc ms Q (98, lv, st, ω, c, s) = y_ldI lv 3 (fun v => y_w M_X3_set mc ms Q (99, lv, v :: st, ω, c, s)) := w_iload_n dX3_set_98 rfl rfl
theorem wX3_set_99 : y_w M_X3_set mc ms Q (99, lv, .int x :: .int j :: .ref a :: r, ω, c, s) = y_wI (ω.2 a) j x (fun e => y_w M_X3_set mc ms Q (100, lv, r, y_hup ω a e, c, s)) := w_iastore dX3_set_99 rfl
theorem wX3_set_100 : y_w M_X3_set mc ms Q (100, lv, st, ω, c, s) = y_ldA lv 0 (fun v => y_w M_X3_set mc ms Q (101, lv, v :: st, ω, c, s)) := w_aload_n dX3_set_100 rfl rfl
theorem wX3_set_101 : y_w M_X3_set mc ms Q (101, lv, .ref a :: r, ω, c, s) = y_gf P_X3_set 16 (ω.2 a) (fun v => y_w M_X3_set mc ms Q (104, lv, v :: r, ω, c, s)) := w_getfield dX3_set_101 rfl rfl
theorem wX3_set_104 : y_w M_X3_set mc ms Q (104, lv, st, ω, c, s) = y_w M_X3_set mc ms Q (106, lv, .int (nI 40) :: st, ω, c, s) := w_bipush dX3_set_104 (v := (nI 40)) (by decide) rfl
theorem wX3_set_106 : y_w M_X3_set mc ms Q (106, lv, st, ω, c, s) = y_ldI lv 1 (fun v => y_w M_X3_set mc ms Q (107, lv, v :: st, ω, c, s)) := w_iload_n dX3_set_106 rfl rfl
theorem wX3_set_107 : y_w M_X3_set mc ms Q (107, lv, .int y :: .int x :: r, ω, c, s) = y_w M_X3_set mc ms Q (108, lv, .int (x * y) :: r, ω, c, s) := w_imul dX3_set_107 rfl
theorem wX3_set_108 : y_w M_X3_set mc ms Q (108, lv, st, ω, c, s) = y_ldI lv 2 (fun v => y_w M_X3_set mc ms Q (109, lv, v :: st, ω, c, s)) := w_iload_n dX3_set_108 rfl rfl
theorem wX3_set_109 : y_w M_X3_set mc ms Q (109, lv, .int y :: .int x :: r, ω, c, s) = y_w M_X3_set mc ms Q (110, lv, .int (x + y) :: r, ω, c, s) := w_iadd dX3_set_109 rfl
theorem wX3_set_110 : y_w M_X3_set mc ms Q (110, lv, .int j :: .ref a :: r, ω, c, s) = y_rI (ω.2 a) j (fun x => y_w M_X3_set mc ms Q (111, lv, .int x :: r, ω, c, s)) := w_iaload dX3_set_110 rfl
theorem wX3_set_111 : y_w M_X3_set mc ms Q (111, lv, [.int x], ω, c, s) = Q (.returned (some (.int x))) ω c s := w_ireturnI dX3_set_111 rfl
def P_X3_copy : y_Pool := ([(48, 3, 0, .int, false), (52, 3, 1, .int, false), (7, 3, 2, (.array .int), true), (13, 3, 3, (.array .int), true), (16, 3, 4, (.array .int), true)], [], [(68, .int (-1000001))], [(62, 0, 0, 1, (2, 45), F_X3_isRow), (69, 1, 3, 2, (1, 21), F_X3_finding)], [], [], [])
def M_X3_copy : y_Md := (cX3_copy, "YoungerBackModel", (9, (some FieldType.int)), (2, 45), false, P_X3_copy, [])
def F_X3_copy : y_Tr := y_F M_X3_copy
theorem nX3_copy : y_nL M_X3_copy = 9 := rfl
theorem fX3_copy_48_3 : y_ffP P_X3_copy 48 3 = some (0, .int, false) := rfl
theorem fX3_copy_52_3 : y_ffP P_X3_copy 52 3 = some (1, .int, false) := rfl
theorem fX3_copy_7_3 : y_ffP P_X3_copy 7 3 = some (2, (.array .int), true) := rfl
theorem fX3_copy_13_3 : y_ffP P_X3_copy 13 3 = some (3, (.array .int), true) := rfl
theorem fX3_copy_16_3 : y_ffP P_X3_copy 16 3 = some (4, (.array .int), true) := rfl
theorem wX3_copy_0 : y_w M_X3_copy mc ms Q (0, lv, st, ω, c, s) = y_ldA lv 0 (fun v => y_w M_X3_copy mc ms Q (1, lv, v :: st, ω, c, s)) := w_aload_n dX3_copy_0 rfl rfl
theorem wX3_copy_1 : y_w M_X3_copy mc ms Q (1, lv, st, ω, c, s) = y_w M_X3_copy mc ms Q (2, lv, .int 0 :: st, ω, c, s) := w_iconst dX3_copy_1 (v := 0) (by decide) rfl
theorem wX3_copy_2 : y_w M_X3_copy mc ms Q (2, lv, v :: .ref a :: r, ω, c, s) = y_pf P_X3_copy false 48 (ω.2 a) v (fun ci fs => y_w M_X3_copy mc ms Q (5, lv, r, y_hup ω a (.inr (ci, fs)), c, s)) := w_putfield dX3_copy_2 rfl rfl rfl
theorem wX3_copy_5 : y_w M_X3_copy mc ms Q (5, lv, st, ω, c, s) = y_ldI lv 1 (fun v => y_w M_X3_copy mc ms Q (6, lv, v :: st, ω, c, s)) := w_iload_n dX3_copy_5 rfl rfl
theorem wX3_copy_6 : y_w M_X3_copy mc ms Q (6, lv, v0 :: r, ω, c, s) = (y_cat r ≤ 8 ∧ F_X3_isRow mc ms [v0] ω c s (y_aft M_X3_copy 6 3 lv r (y_w M_X3_copy mc ms Q) Q)) := w_call0 (av := [v0]) ⟨Or.inr ⟨rfl, rfl⟩, rfl⟩ dX3_copy_6 rfl (y_F_mono _) (y_dle rfl) (y_dle rfl) rfl rfl
theorem wX3_copy_9 : y_w M_X3_copy mc ms Q (9, lv, .int x :: r, ω, c, s) = ((x = 0 → y_w M_X3_copy mc ms Q (19, lv, r, ω, c, s)) ∧ (¬ (x = 0) → y_w M_X3_copy mc ms Q (12, lv, r, ω, c, s))) := w_if dX3_copy_9 (tgt := 19) rfl rfl rfl
theorem wX3_copy_12 : y_w M_X3_copy mc ms Q (12, lv, st, ω, c, s) = y_ldI lv 3 (fun v => y_w M_X3_copy mc ms Q (13, lv, v :: st, ω, c, s)) := w_iload_n dX3_copy_12 rfl rfl
theorem wX3_copy_13 : y_w M_X3_copy mc ms Q (13, lv, v0 :: r, ω, c, s) = (y_cat r ≤ 8 ∧ F_X3_isRow mc ms [v0] ω c s (y_aft M_X3_copy 13 3 lv r (y_w M_X3_copy mc ms Q) Q)) := w_call0 (av := [v0]) ⟨Or.inr ⟨rfl, rfl⟩, rfl⟩ dX3_copy_13 rfl (y_F_mono _) (y_dle rfl) (y_dle rfl) rfl rfl
theorem wX3_copy_16 : y_w M_X3_copy mc ms Q (16, lv, .int x :: r, ω, c, s) = ((¬ x = 0 → y_w M_X3_copy mc ms Q (22, lv, r, ω, c, s)) ∧ (¬ (¬ x = 0) → y_w M_X3_copy mc ms Q (19, lv, r, ω, c, s))) := w_if dX3_copy_16 (tgt := 22) rfl rfl rfl
theorem wX3_copy_19 : y_w M_X3_copy mc ms Q (19, lv, st, ω, c, s) = y_w M_X3_copy mc ms Q (21, lv, .int (-1000001) :: st, ω, c, s) := w_ldc dX3_copy_19 rfl rfl rfl
theorem wX3_copy_21 : y_w M_X3_copy mc ms Q (21, lv, [.int x], ω, c, s) = Q (.returned (some (.int x))) ω c s := w_ireturnI dX3_copy_21 rfl
theorem wX3_copy_22 : y_w M_X3_copy mc ms Q (22, lv, st, ω, c, s) = y_ldA lv 0 (fun v => y_w M_X3_copy mc ms Q (23, lv, v :: st, ω, c, s)) := w_aload_n dX3_copy_22 rfl rfl
theorem wX3_copy_23 : y_w M_X3_copy mc ms Q (23, lv, st, ω, c, s) = y_w M_X3_copy mc ms Q (24, lv, .int 0 :: st, ω, c, s) := w_iconst dX3_copy_23 (v := 0) (by decide) rfl
theorem wX3_copy_24 : y_w M_X3_copy mc ms Q (24, lv, v :: .ref a :: r, ω, c, s) = y_pf P_X3_copy false 52 (ω.2 a) v (fun ci fs => y_w M_X3_copy mc ms Q (27, lv, r, y_hup ω a (.inr (ci, fs)), c, s)) := w_putfield dX3_copy_24 rfl rfl rfl
theorem wX3_copy_27 : y_w M_X3_copy mc ms Q (27, lv, st, ω, c, s) = y_ldA lv 0 (fun v => y_w M_X3_copy mc ms Q (28, lv, v :: st, ω, c, s)) := w_aload_n dX3_copy_27 rfl rfl
theorem wX3_copy_28 : y_w M_X3_copy mc ms Q (28, lv, .ref a :: r, ω, c, s) = y_gf P_X3_copy 7 (ω.2 a) (fun v => y_w M_X3_copy mc ms Q (31, lv, v :: r, ω, c, s)) := w_getfield dX3_copy_28 rfl rfl
theorem wX3_copy_31 : y_w M_X3_copy mc ms Q (31, lv, st, ω, c, s) = y_ldI lv 1 (fun v => y_w M_X3_copy mc ms Q (32, lv, v :: st, ω, c, s)) := w_iload_n dX3_copy_31 rfl rfl
theorem wX3_copy_32 : y_w M_X3_copy mc ms Q (32, lv, .int j :: .ref a :: r, ω, c, s) = y_rI (ω.2 a) j (fun x => y_w M_X3_copy mc ms Q (33, lv, .int x :: r, ω, c, s)) := w_iaload dX3_copy_32 rfl
theorem wX3_copy_33 : y_w M_X3_copy mc ms Q (33, lv, .int x :: r, ω, c, s) = ((x < 0 → y_w M_X3_copy mc ms Q (45, lv, r, ω, c, s)) ∧ (¬ (x < 0) → y_w M_X3_copy mc ms Q (36, lv, r, ω, c, s))) := w_if dX3_copy_33 (tgt := 45) rfl rfl rfl
theorem wX3_copy_36 : y_w M_X3_copy mc ms Q (36, lv, st, ω, c, s) = y_ldA lv 0 (fun v => y_w M_X3_copy mc ms Q (37, lv, v :: st, ω, c, s)) := w_aload_n dX3_copy_36 rfl rfl
theorem wX3_copy_37 : y_w M_X3_copy mc ms Q (37, lv, .ref a :: r, ω, c, s) = y_gf P_X3_copy 7 (ω.2 a) (fun v => y_w M_X3_copy mc ms Q (40, lv, v :: r, ω, c, s)) := w_getfield dX3_copy_37 rfl rfl
theorem wX3_copy_40 : y_w M_X3_copy mc ms Q (40, lv, st, ω, c, s) = y_ldI lv 3 (fun v => y_w M_X3_copy mc ms Q (41, lv, v :: st, ω, c, s)) := w_iload_n dX3_copy_40 rfl rfl
theorem wX3_copy_41 : y_w M_X3_copy mc ms Q (41, lv, .int j :: .ref a :: r, ω, c, s) = y_rI (ω.2 a) j (fun x => y_w M_X3_copy mc ms Q (42, lv, .int x :: r, ω, c, s)) := w_iaload dX3_copy_41 rfl
theorem wX3_copy_42 : y_w M_X3_copy mc ms Q (42, lv, .int x :: r, ω, c, s) = ((0 ≤ x → y_w M_X3_copy mc ms Q (51, lv, r, ω, c, s)) ∧ (¬ (0 ≤ x) → y_w M_X3_copy mc ms Q (45, lv, r, ω, c, s))) := w_if dX3_copy_42 (tgt := 51) rfl rfl rfl
theorem wX3_copy_45 : y_w M_X3_copy mc ms Q (45, lv, st, ω, c, s) = y_ldA lv 0 (fun v => y_w M_X3_copy mc ms Q (46, lv, v :: st, ω, c, s)) := w_aload_n dX3_copy_45 rfl rfl
theorem wX3_copy_46 : y_w M_X3_copy mc ms Q (46, lv, st, ω, c, s) = y_w M_X3_copy mc ms Q (47, lv, .int 1 :: st, ω, c, s) := w_iconst dX3_copy_46 (v := 1) (by decide) rfl
theorem wX3_copy_47 (hc : y_cls ω a = some 3) : y_w M_X3_copy mc ms Q (47, lv, v1 :: .ref a :: r, ω, c, s) = (y_cat r ≤ 8 ∧ F_X3_finding mc ms [.ref a, v1] ω c s (y_aft M_X3_copy 47 3 lv r (y_w M_X3_copy mc ms Q) Q)) := w_call1 (av := [v1]) (Or.inl ⟨⟨rfl, rfl⟩, rfl⟩) dX3_copy_47 rfl hc rfl (y_F_mono _) (y_dle rfl) (y_dle rfl) rfl rfl
theorem wX3_copy_50 : y_w M_X3_copy mc ms Q (50, lv, [.int x], ω, c, s) = Q (.returned (some (.int x))) ω c s := w_ireturnI dX3_copy_50 rfl
theorem wX3_copy_51 : y_w M_X3_copy mc ms Q (51, lv, st, ω, c, s) = y_ldA lv 0 (fun v => y_w M_X3_copy mc ms Q (52, lv, v :: st, ω, c, s)) := w_aload_n dX3_copy_51 rfl rfl
theorem wX3_copy_52 : y_w M_X3_copy mc ms Q (52, lv, .ref a :: r, ω, c, s) = y_gf P_X3_copy 7 (ω.2 a) (fun v => y_w M_X3_copy mc ms Q (55, lv, v :: r, ω, c, s)) := w_getfield dX3_copy_52 rfl rfl
theorem wX3_copy_55 : y_w M_X3_copy mc ms Q (55, lv, st, ω, c, s) = y_ldI lv 1 (fun v => y_w M_X3_copy mc ms Q (56, lv, v :: st, ω, c, s)) := w_iload_n dX3_copy_55 rfl rfl
theorem wX3_copy_56 : y_w M_X3_copy mc ms Q (56, lv, .int j :: .ref a :: r, ω, c, s) = y_rI (ω.2 a) j (fun x => y_w M_X3_copy mc ms Q (57, lv, .int x :: r, ω, c, s)) := w_iaload dX3_copy_56 rfl
theorem wX3_copy_57 : y_w M_X3_copy mc ms Q (57, lv, st, ω, c, s) = y_ldA lv 0 (fun v => y_w M_X3_copy mc ms Q (58, lv, v :: st, ω, c, s)) := w_aload_n dX3_copy_57 rfl rfl
theorem wX3_copy_58 : y_w M_X3_copy mc ms Q (58, lv, .ref a :: r, ω, c, s) = y_gf P_X3_copy 7 (ω.2 a) (fun v => y_w M_X3_copy mc ms Q (61, lv, v :: r, ω, c, s)) := w_getfield dX3_copy_58 rfl rfl
theorem wX3_copy_61 : y_w M_X3_copy mc ms Q (61, lv, st, ω, c, s) = y_ldI lv 3 (fun v => y_w M_X3_copy mc ms Q (62, lv, v :: st, ω, c, s)) := w_iload_n dX3_copy_61 rfl rfl
theorem wX3_copy_62 : y_w M_X3_copy mc ms Q (62, lv, .int j :: .ref a :: r, ω, c, s) = y_rI (ω.2 a) j (fun x => y_w M_X3_copy mc ms Q (63, lv, .int x :: r, ω, c, s)) := w_iaload dX3_copy_62 rfl
theorem wX3_copy_63 : y_w M_X3_copy mc ms Q (63, lv, .int y :: .int x :: r, ω, c, s) = ((x = y → y_w M_X3_copy mc ms Q (72, lv, r, ω, c, s)) ∧ (¬ (x = y) → y_w M_X3_copy mc ms Q (66, lv, r, ω, c, s))) := w_icmp dX3_copy_63 (tgt := 72) rfl rfl rfl
theorem wX3_copy_66 : y_w M_X3_copy mc ms Q (66, lv, st, ω, c, s) = y_ldA lv 0 (fun v => y_w M_X3_copy mc ms Q (67, lv, v :: st, ω, c, s)) := w_aload_n dX3_copy_66 rfl rfl
theorem wX3_copy_67 : y_w M_X3_copy mc ms Q (67, lv, st, ω, c, s) = y_w M_X3_copy mc ms Q (68, lv, .int (nI 5) :: st, ω, c, s) := w_iconst dX3_copy_67 (v := (nI 5)) (by decide) rfl
theorem wX3_copy_68 (hc : y_cls ω a = some 3) : y_w M_X3_copy mc ms Q (68, lv, v1 :: .ref a :: r, ω, c, s) = (y_cat r ≤ 8 ∧ F_X3_finding mc ms [.ref a, v1] ω c s (y_aft M_X3_copy 68 3 lv r (y_w M_X3_copy mc ms Q) Q)) := w_call1 (av := [v1]) (Or.inl ⟨⟨rfl, rfl⟩, rfl⟩) dX3_copy_68 rfl hc rfl (y_F_mono _) (y_dle rfl) (y_dle rfl) rfl rfl
theorem wX3_copy_71 : y_w M_X3_copy mc ms Q (71, lv, [.int x], ω, c, s) = Q (.returned (some (.int x))) ω c s := w_ireturnI dX3_copy_71 rfl
theorem wX3_copy_72 : y_w M_X3_copy mc ms Q (72, lv, st, ω, c, s) = y_ldI lv 2 (fun v => y_w M_X3_copy mc ms Q (73, lv, v :: st, ω, c, s)) := w_iload_n dX3_copy_72 rfl rfl
theorem wX3_copy_73 : y_w M_X3_copy mc ms Q (73, lv, .int x :: r, ω, c, s) = ((x < 0 → y_w M_X3_copy mc ms Q (121, lv, r, ω, c, s)) ∧ (¬ (x < 0) → y_w M_X3_copy mc ms Q (76, lv, r, ω, c, s))) := w_if dX3_copy_73 (tgt := 121) rfl rfl rfl
theorem wX3_copy_76 : y_w M_X3_copy mc ms Q (76, lv, st, ω, c, s) = y_ldI lv 4 (fun v => y_w M_X3_copy mc ms Q (78, lv, v :: st, ω, c, s)) := w_iload dX3_copy_76 rfl
theorem wX3_copy_78 : y_w M_X3_copy mc ms Q (78, lv, .int x :: r, ω, c, s) = ((x < 0 → y_w M_X3_copy mc ms Q (121, lv, r, ω, c, s)) ∧ (¬ (x < 0) → y_w M_X3_copy mc ms Q (81, lv, r, ω, c, s))) := w_if dX3_copy_78 (tgt := 121) rfl rfl rfl
theorem wX3_copy_81 : y_w M_X3_copy mc ms Q (81, lv, st, ω, c, s) = y_ldI lv 5 (fun v => y_w M_X3_copy mc ms Q (83, lv, v :: st, ω, c, s)) := w_iload dX3_copy_81 rfl
theorem wX3_copy_83 : y_w M_X3_copy mc ms Q (83, lv, .int x :: r, ω, c, s) = ((x < 0 → y_w M_X3_copy mc ms Q (121, lv, r, ω, c, s)) ∧ (¬ (x < 0) → y_w M_X3_copy mc ms Q (86, lv, r, ω, c, s))) := w_if dX3_copy_83 (tgt := 121) rfl rfl rfl
theorem wX3_copy_86 : y_w M_X3_copy mc ms Q (86, lv, st, ω, c, s) = y_ldI lv 2 (fun v => y_w M_X3_copy mc ms Q (87, lv, v :: st, ω, c, s)) := w_iload_n dX3_copy_86 rfl rfl
theorem wX3_copy_87 : y_w M_X3_copy mc ms Q (87, lv, .int x :: r, ω, c, s) = y_w M_X3_copy mc ms Q (88, lv, .long x.toInt64 :: r, ω, c, s) := w_i2l dX3_copy_87 rfl
theorem wX3_copy_88 : y_w M_X3_copy mc ms Q (88, lv, st, ω, c, s) = y_ldI lv 5 (fun v => y_w M_X3_copy mc ms Q (90, lv, v :: st, ω, c, s)) := w_iload dX3_copy_88 rfl
theorem wX3_copy_90 : y_w M_X3_copy mc ms Q (90, lv, .int x :: r, ω, c, s) = y_w M_X3_copy mc ms Q (91, lv, .long x.toInt64 :: r, ω, c, s) := w_i2l dX3_copy_90 rfl
theorem wX3_copy_91 : y_w M_X3_copy mc ms Q (91, lv, .long w :: .long z :: r, ω, c, s) = y_w M_X3_copy mc ms Q (92, lv, .long (z + w) :: r, ω, c, s) := w_ladd dX3_copy_91 rfl
theorem wX3_copy_92 : y_w M_X3_copy mc ms Q (92, lv, st, ω, c, s) = y_ldA lv 0 (fun v => y_w M_X3_copy mc ms Q (93, lv, v :: st, ω, c, s)) := w_aload_n dX3_copy_92 rfl rfl
theorem wX3_copy_93 : y_w M_X3_copy mc ms Q (93, lv, .ref a :: r, ω, c, s) = y_gf P_X3_copy 13 (ω.2 a) (fun v => y_w M_X3_copy mc ms Q (96, lv, v :: r, ω, c, s)) := w_getfield dX3_copy_93 rfl rfl
theorem wX3_copy_96 : y_w M_X3_copy mc ms Q (96, lv, st, ω, c, s) = y_ldI lv 1 (fun v => y_w M_X3_copy mc ms Q (97, lv, v :: st, ω, c, s)) := w_iload_n dX3_copy_96 rfl rfl
theorem wX3_copy_97 : y_w M_X3_copy mc ms Q (97, lv, .int j :: .ref a :: r, ω, c, s) = y_rI (ω.2 a) j (fun x => y_w M_X3_copy mc ms Q (98, lv, .int x :: r, ω, c, s)) := w_iaload dX3_copy_97 rfl
theorem wX3_copy_98 : y_w M_X3_copy mc ms Q (98, lv, .int x :: r, ω, c, s) = y_w M_X3_copy mc ms Q (99, lv, .long x.toInt64 :: r, ω, c, s) := w_i2l dX3_copy_98 rfl
theorem wX3_copy_99 : y_w M_X3_copy mc ms Q (99, lv, .long w :: .long z :: r, ω, c, s) = y_w M_X3_copy mc ms Q (100, lv, .int (lg_cmp z w) :: r, ω, c, s) := w_lcmp dX3_copy_99 rfl
theorem wX3_copy_100 : y_w M_X3_copy mc ms Q (100, lv, .int x :: r, ω, c, s) = ((0 < x → y_w M_X3_copy mc ms Q (121, lv, r, ω, c, s)) ∧ (¬ (0 < x) → y_w M_X3_copy mc ms Q (103, lv, r, ω, c, s))) := w_if dX3_copy_100 (tgt := 121) rfl rfl rfl
theorem wX3_copy_103 : y_w M_X3_copy mc ms Q (103, lv, st, ω, c, s) = y_ldI lv 4 (fun v => y_w M_X3_copy mc ms Q (105, lv, v :: st, ω, c, s)) := w_iload dX3_copy_103 rfl
theorem wX3_copy_105 : y_w M_X3_copy mc ms Q (105, lv, .int x :: r, ω, c, s) = y_w M_X3_copy mc ms Q (106, lv, .long x.toInt64 :: r, ω, c, s) := w_i2l dX3_copy_105 rfl
theorem wX3_copy_106 : y_w M_X3_copy mc ms Q (106, lv, st, ω, c, s) = y_ldI lv 5 (fun v => y_w M_X3_copy mc ms Q (108, lv, v :: st, ω, c, s)) := w_iload dX3_copy_106 rfl
theorem wX3_copy_108 : y_w M_X3_copy mc ms Q (108, lv, .int x :: r, ω, c, s) = y_w M_X3_copy mc ms Q (109, lv, .long x.toInt64 :: r, ω, c, s) := w_i2l dX3_copy_108 rfl
theorem wX3_copy_109 : y_w M_X3_copy mc ms Q (109, lv, .long w :: .long z :: r, ω, c, s) = y_w M_X3_copy mc ms Q (110, lv, .long (z + w) :: r, ω, c, s) := w_ladd dX3_copy_109 rfl
theorem wX3_copy_110 : y_w M_X3_copy mc ms Q (110, lv, st, ω, c, s) = y_ldA lv 0 (fun v => y_w M_X3_copy mc ms Q (111, lv, v :: st, ω, c, s)) := w_aload_n dX3_copy_110 rfl rfl
theorem wX3_copy_111 : y_w M_X3_copy mc ms Q (111, lv, .ref a :: r, ω, c, s) = y_gf P_X3_copy 13 (ω.2 a) (fun v => y_w M_X3_copy mc ms Q (114, lv, v :: r, ω, c, s)) := w_getfield dX3_copy_111 rfl rfl
theorem wX3_copy_114 : y_w M_X3_copy mc ms Q (114, lv, st, ω, c, s) = y_ldI lv 3 (fun v => y_w M_X3_copy mc ms Q (115, lv, v :: st, ω, c, s)) := w_iload_n dX3_copy_114 rfl rfl
theorem wX3_copy_115 : y_w M_X3_copy mc ms Q (115, lv, .int j :: .ref a :: r, ω, c, s) = y_rI (ω.2 a) j (fun x => y_w M_X3_copy mc ms Q (116, lv, .int x :: r, ω, c, s)) := w_iaload dX3_copy_115 rfl
theorem wX3_copy_116 : y_w M_X3_copy mc ms Q (116, lv, .int x :: r, ω, c, s) = y_w M_X3_copy mc ms Q (117, lv, .long x.toInt64 :: r, ω, c, s) := w_i2l dX3_copy_116 rfl
theorem wX3_copy_117 : y_w M_X3_copy mc ms Q (117, lv, .long w :: .long z :: r, ω, c, s) = y_w M_X3_copy mc ms Q (118, lv, .int (lg_cmp z w) :: r, ω, c, s) := w_lcmp dX3_copy_117 rfl
theorem wX3_copy_118 : y_w M_X3_copy mc ms Q (118, lv, .int x :: r, ω, c, s) = ((x ≤ 0 → y_w M_X3_copy mc ms Q (127, lv, r, ω, c, s)) ∧ (¬ (x ≤ 0) → y_w M_X3_copy mc ms Q (121, lv, r, ω, c, s))) := w_if dX3_copy_118 (tgt := 127) rfl rfl rfl
theorem wX3_copy_121 : y_w M_X3_copy mc ms Q (121, lv, st, ω, c, s) = y_ldA lv 0 (fun v => y_w M_X3_copy mc ms Q (122, lv, v :: st, ω, c, s)) := w_aload_n dX3_copy_121 rfl rfl
theorem wX3_copy_122 : y_w M_X3_copy mc ms Q (122, lv, st, ω, c, s) = y_w M_X3_copy mc ms Q (123, lv, .int (nI 2) :: st, ω, c, s) := w_iconst dX3_copy_122 (v := (nI 2)) (by decide) rfl
theorem wX3_copy_123 (hc : y_cls ω a = some 3) : y_w M_X3_copy mc ms Q (123, lv, v1 :: .ref a :: r, ω, c, s) = (y_cat r ≤ 8 ∧ F_X3_finding mc ms [.ref a, v1] ω c s (y_aft M_X3_copy 123 3 lv r (y_w M_X3_copy mc ms Q) Q)) := w_call1 (av := [v1]) (Or.inl ⟨⟨rfl, rfl⟩, rfl⟩) dX3_copy_123 rfl hc rfl (y_F_mono _) (y_dle rfl) (y_dle rfl) rfl rfl
theorem wX3_copy_126 : y_w M_X3_copy mc ms Q (126, lv, [.int x], ω, c, s) = Q (.returned (some (.int x))) ω c s := w_ireturnI dX3_copy_126 rfl
theorem wX3_copy_127 : y_w M_X3_copy mc ms Q (127, lv, st, ω, c, s) = y_ldI lv 2 (fun v => y_w M_X3_copy mc ms Q (128, lv, v :: st, ω, c, s)) := w_iload_n dX3_copy_127 rfl rfl
theorem wX3_copy_128 : y_w M_X3_copy mc ms Q (128, lv, st, ω, c, s) = y_ldI lv 4 (fun v => y_w M_X3_copy mc ms Q (130, lv, v :: st, ω, c, s)) := w_iload dX3_copy_128 rfl
theorem wX3_copy_130 : y_w M_X3_copy mc ms Q (130, lv, .int y :: .int x :: r, ω, c, s) = ((x < y → y_w M_X3_copy mc ms Q (137, lv, r, ω, c, s)) ∧ (¬ (x < y) → y_w M_X3_copy mc ms Q (133, lv, r, ω, c, s))) := w_icmp dX3_copy_130 (tgt := 137) rfl rfl rfl
theorem wX3_copy_133 : y_w M_X3_copy mc ms Q (133, lv, st, ω, c, s) = y_w M_X3_copy mc ms Q (134, lv, .int 1 :: st, ω, c, s) := w_iconst dX3_copy_133 (v := 1) (by decide) rfl
theorem wX3_copy_134 : y_w M_X3_copy mc ms Q (134, lv, st, ω, c, s) = y_w M_X3_copy mc ms Q (138, lv, st, ω, c, s) := w_goto dX3_copy_134 (tgt := 138) (by decide) rfl
theorem wX3_copy_137 : y_w M_X3_copy mc ms Q (137, lv, st, ω, c, s) = y_w M_X3_copy mc ms Q (138, lv, .int 0 :: st, ω, c, s) := w_iconst dX3_copy_137 (v := 0) (by decide) rfl
theorem wX3_copy_138 : y_w M_X3_copy mc ms Q (138, lv, .int x :: r, ω, c, s) = y_w M_X3_copy mc ms Q (140, (6, .int x) :: y_kill 6 lv, r, ω, c, s) := w_istore dX3_copy_138 (y_dle rfl) rfl
theorem wX3_copy_140 : y_w M_X3_copy mc ms Q (140, lv, st, ω, c, s) = y_w M_X3_copy mc ms Q (141, lv, .int 0 :: st, ω, c, s) := w_iconst dX3_copy_140 (v := 0) (by decide) rfl
theorem wX3_copy_141 : y_w M_X3_copy mc ms Q (141, lv, .int x :: r, ω, c, s) = y_w M_X3_copy mc ms Q (143, (7, .int x) :: y_kill 7 lv, r, ω, c, s) := w_istore dX3_copy_141 (y_dle rfl) rfl
theorem wX3_copy_143 : y_w M_X3_copy mc ms Q (143, lv, st, ω, c, s) = y_ldI lv 7 (fun v => y_w M_X3_copy mc ms Q (145, lv, v :: st, ω, c, s)) := w_iload dX3_copy_143 rfl
theorem wX3_copy_145 : y_w M_X3_copy mc ms Q (145, lv, st, ω, c, s) = y_ldI lv 5 (fun v => y_w M_X3_copy mc ms Q (147, lv, v :: st, ω, c, s)) := w_iload dX3_copy_145 rfl
theorem wX3_copy_147 : y_w M_X3_copy mc ms Q (147, lv, .int y :: .int x :: r, ω, c, s) = ((y ≤ x → y_w M_X3_copy mc ms Q (204, lv, r, ω, c, s)) ∧ (¬ (y ≤ x) → y_w M_X3_copy mc ms Q (150, lv, r, ω, c, s))) := w_icmp dX3_copy_147 (tgt := 204) rfl rfl rfl
theorem wX3_copy_150 : y_w M_X3_copy mc ms Q (150, lv, st, ω, c, s) = y_ldI lv 6 (fun v => y_w M_X3_copy mc ms Q (152, lv, v :: st, ω, c, s)) := w_iload dX3_copy_150 rfl
theorem wX3_copy_152 : y_w M_X3_copy mc ms Q (152, lv, .int x :: r, ω, c, s) = ((x = 0 → y_w M_X3_copy mc ms Q (160, lv, r, ω, c, s)) ∧ (¬ (x = 0) → y_w M_X3_copy mc ms Q (155, lv, r, ω, c, s))) := w_if dX3_copy_152 (tgt := 160) rfl rfl rfl
theorem wX3_copy_155 : y_w M_X3_copy mc ms Q (155, lv, st, ω, c, s) = y_ldI lv 7 (fun v => y_w M_X3_copy mc ms Q (157, lv, v :: st, ω, c, s)) := w_iload dX3_copy_155 rfl
theorem wX3_copy_157 : y_w M_X3_copy mc ms Q (157, lv, st, ω, c, s) = y_w M_X3_copy mc ms Q (167, lv, st, ω, c, s) := w_goto dX3_copy_157 (tgt := 167) (by decide) rfl
theorem wX3_copy_160 : y_w M_X3_copy mc ms Q (160, lv, st, ω, c, s) = y_ldI lv 5 (fun v => y_w M_X3_copy mc ms Q (162, lv, v :: st, ω, c, s)) := w_iload dX3_copy_160 rfl
theorem wX3_copy_162 : y_w M_X3_copy mc ms Q (162, lv, st, ω, c, s) = y_w M_X3_copy mc ms Q (163, lv, .int 1 :: st, ω, c, s) := w_iconst dX3_copy_162 (v := 1) (by decide) rfl
theorem wX3_copy_163 : y_w M_X3_copy mc ms Q (163, lv, .int y :: .int x :: r, ω, c, s) = y_w M_X3_copy mc ms Q (164, lv, .int (x - y) :: r, ω, c, s) := w_isub dX3_copy_163 rfl
theorem wX3_copy_164 : y_w M_X3_copy mc ms Q (164, lv, st, ω, c, s) = y_ldI lv 7 (fun v => y_w M_X3_copy mc ms Q (166, lv, v :: st, ω, c, s)) := w_iload dX3_copy_164 rfl
theorem wX3_copy_166 : y_w M_X3_copy mc ms Q (166, lv, .int y :: .int x :: r, ω, c, s) = y_w M_X3_copy mc ms Q (167, lv, .int (x - y) :: r, ω, c, s) := w_isub dX3_copy_166 rfl
theorem wX3_copy_167 : y_w M_X3_copy mc ms Q (167, lv, .int x :: r, ω, c, s) = y_w M_X3_copy mc ms Q (169, (8, .int x) :: y_kill 8 lv, r, ω, c, s) := w_istore dX3_copy_167 (y_dle rfl) rfl
theorem wX3_copy_169 : y_w M_X3_copy mc ms Q (169, lv, st, ω, c, s) = y_ldA lv 0 (fun v => y_w M_X3_copy mc ms Q (170, lv, v :: st, ω, c, s)) := w_aload_n dX3_copy_169 rfl rfl
theorem wX3_copy_170 : y_w M_X3_copy mc ms Q (170, lv, .ref a :: r, ω, c, s) = y_gf P_X3_copy 16 (ω.2 a) (fun v => y_w M_X3_copy mc ms Q (173, lv, v :: r, ω, c, s)) := w_getfield dX3_copy_170 rfl rfl
theorem wX3_copy_173 : y_w M_X3_copy mc ms Q (173, lv, st, ω, c, s) = y_w M_X3_copy mc ms Q (175, lv, .int (nI 40) :: st, ω, c, s) := w_bipush dX3_copy_173 (v := (nI 40)) (by decide) rfl
theorem wX3_copy_175 : y_w M_X3_copy mc ms Q (175, lv, st, ω, c, s) = y_ldI lv 3 (fun v => y_w M_X3_copy mc ms Q (176, lv, v :: st, ω, c, s)) := w_iload_n dX3_copy_175 rfl rfl
theorem wX3_copy_176 : y_w M_X3_copy mc ms Q (176, lv, .int y :: .int x :: r, ω, c, s) = y_w M_X3_copy mc ms Q (177, lv, .int (x * y) :: r, ω, c, s) := w_imul dX3_copy_176 rfl
theorem wX3_copy_177 : y_w M_X3_copy mc ms Q (177, lv, st, ω, c, s) = y_ldI lv 4 (fun v => y_w M_X3_copy mc ms Q (179, lv, v :: st, ω, c, s)) := w_iload dX3_copy_177 rfl
theorem wX3_copy_179 : y_w M_X3_copy mc ms Q (179, lv, .int y :: .int x :: r, ω, c, s) = y_w M_X3_copy mc ms Q (180, lv, .int (x + y) :: r, ω, c, s) := w_iadd dX3_copy_179 rfl
theorem wX3_copy_180 : y_w M_X3_copy mc ms Q (180, lv, st, ω, c, s) = y_ldI lv 8 (fun v => y_w M_X3_copy mc ms Q (182, lv, v :: st, ω, c, s)) := w_iload dX3_copy_180 rfl
theorem wX3_copy_182 : y_w M_X3_copy mc ms Q (182, lv, .int y :: .int x :: r, ω, c, s) = y_w M_X3_copy mc ms Q (183, lv, .int (x + y) :: r, ω, c, s) := w_iadd dX3_copy_182 rfl
theorem wX3_copy_183 : y_w M_X3_copy mc ms Q (183, lv, st, ω, c, s) = y_ldA lv 0 (fun v => y_w M_X3_copy mc ms Q (184, lv, v :: st, ω, c, s)) := w_aload_n dX3_copy_183 rfl rfl
theorem wX3_copy_184 : y_w M_X3_copy mc ms Q (184, lv, .ref a :: r, ω, c, s) = y_gf P_X3_copy 16 (ω.2 a) (fun v => y_w M_X3_copy mc ms Q (187, lv, v :: r, ω, c, s)) := w_getfield dX3_copy_184 rfl rfl
theorem wX3_copy_187 : y_w M_X3_copy mc ms Q (187, lv, st, ω, c, s) = y_w M_X3_copy mc ms Q (189, lv, .int (nI 40) :: st, ω, c, s) := w_bipush dX3_copy_187 (v := (nI 40)) (by decide) rfl
theorem wX3_copy_189 : y_w M_X3_copy mc ms Q (189, lv, st, ω, c, s) = y_ldI lv 1 (fun v => y_w M_X3_copy mc ms Q (190, lv, v :: st, ω, c, s)) := w_iload_n dX3_copy_189 rfl rfl
theorem wX3_copy_190 : y_w M_X3_copy mc ms Q (190, lv, .int y :: .int x :: r, ω, c, s) = y_w M_X3_copy mc ms Q (191, lv, .int (x * y) :: r, ω, c, s) := w_imul dX3_copy_190 rfl
theorem wX3_copy_191 : y_w M_X3_copy mc ms Q (191, lv, st, ω, c, s) = y_ldI lv 2 (fun v => y_w M_X3_copy mc ms Q (192, lv, v :: st, ω, c, s)) := w_iload_n dX3_copy_191 rfl rfl
theorem wX3_copy_192 : y_w M_X3_copy mc ms Q (192, lv, .int y :: .int x :: r, ω, c, s) = y_w M_X3_copy mc ms Q (193, lv, .int (x + y) :: r, ω, c, s) := w_iadd dX3_copy_192 rfl
theorem wX3_copy_193 : y_w M_X3_copy mc ms Q (193, lv, st, ω, c, s) = y_ldI lv 8 (fun v => y_w M_X3_copy mc ms Q (195, lv, v :: st, ω, c, s)) := w_iload dX3_copy_193 rfl
theorem wX3_copy_195 : y_w M_X3_copy mc ms Q (195, lv, .int y :: .int x :: r, ω, c, s) = y_w M_X3_copy mc ms Q (196, lv, .int (x + y) :: r, ω, c, s) := w_iadd dX3_copy_195 rfl
theorem wX3_copy_196 : y_w M_X3_copy mc ms Q (196, lv, .int j :: .ref a :: r, ω, c, s) = y_rI (ω.2 a) j (fun x => y_w M_X3_copy mc ms Q (197, lv, .int x :: r, ω, c, s)) := w_iaload dX3_copy_196 rfl
theorem wX3_copy_197 : y_w M_X3_copy mc ms Q (197, lv, .int x :: .int j :: .ref a :: r, ω, c, s) = y_wI (ω.2 a) j x (fun e => y_w M_X3_copy mc ms Q (198, lv, r, y_hup ω a e, c, s)) := w_iastore dX3_copy_197 rfl
theorem wX3_copy_198 : y_w M_X3_copy mc ms Q (198, lv, st, ω, c, s) = y_inc lv 7 (fun x => y_w M_X3_copy mc ms Q (201, (7, .int (x + 1)) :: y_kill 7 lv, st, ω, c, s)) := w_iinc dX3_copy_198 (d := 1) (by decide) (y_dle rfl) rfl
theorem wX3_copy_201 : y_w M_X3_copy mc ms Q (201, lv, st, ω, c, s) = ∃ lv2, y_lsub lv2 lv ∧ y_w M_X3_copy mc ms Q (143, lv2, st, ω, c, s) := w_back dX3_copy_201 (tgt := 143) (by decide) rfl
theorem wX3_copy_204 : y_w M_X3_copy mc ms Q (204, lv, st, ω, c, s) = y_ldI lv 5 (fun v => y_w M_X3_copy mc ms Q (206, lv, v :: st, ω, c, s)) := w_iload dX3_copy_204 rfl
theorem wX3_copy_206 : y_w M_X3_copy mc ms Q (206, lv, [.int x], ω, c, s) = Q (.returned (some (.int x))) ω c s := w_ireturnI dX3_copy_206 rfl
def P_X3_drop : y_Pool := ([(48, 3, 0, .int, false), (52, 3, 1, .int, false), (7, 3, 2, (.array .int), true), (13, 3, 3, (.array .int), true)], [], [(68, .int (-1000001))], [(62, 0, 0, 1, (2, 45), F_X3_isRow), (69, 1, 3, 2, (1, 21), F_X3_finding)], [], [], [])
def M_X3_drop : y_Md := (cX3_drop, "YoungerBackModel", (2, (some FieldType.int)), (2, 45), false, P_X3_drop, [])
def F_X3_drop : y_Tr := y_F M_X3_drop
theorem nX3_drop : y_nL M_X3_drop = 2 := rfl
theorem fX3_drop_48_3 : y_ffP P_X3_drop 48 3 = some (0, .int, false) := rfl
theorem fX3_drop_52_3 : y_ffP P_X3_drop 52 3 = some (1, .int, false) := rfl
theorem fX3_drop_7_3 : y_ffP P_X3_drop 7 3 = some (2, (.array .int), true) := rfl
theorem fX3_drop_13_3 : y_ffP P_X3_drop 13 3 = some (3, (.array .int), true) := rfl
theorem wX3_drop_0 : y_w M_X3_drop mc ms Q (0, lv, st, ω, c, s) = y_ldA lv 0 (fun v => y_w M_X3_drop mc ms Q (1, lv, v :: st, ω, c, s)) := w_aload_n dX3_drop_0 rfl rfl
theorem wX3_drop_1 : y_w M_X3_drop mc ms Q (1, lv, st, ω, c, s) = y_w M_X3_drop mc ms Q (2, lv, .int 0 :: st, ω, c, s) := w_iconst dX3_drop_1 (v := 0) (by decide) rfl
theorem wX3_drop_2 : y_w M_X3_drop mc ms Q (2, lv, v :: .ref a :: r, ω, c, s) = y_pf P_X3_drop false 48 (ω.2 a) v (fun ci fs => y_w M_X3_drop mc ms Q (5, lv, r, y_hup ω a (.inr (ci, fs)), c, s)) := w_putfield dX3_drop_2 rfl rfl rfl
theorem wX3_drop_5 : y_w M_X3_drop mc ms Q (5, lv, st, ω, c, s) = y_ldI lv 1 (fun v => y_w M_X3_drop mc ms Q (6, lv, v :: st, ω, c, s)) := w_iload_n dX3_drop_5 rfl rfl
theorem wX3_drop_6 : y_w M_X3_drop mc ms Q (6, lv, v0 :: r, ω, c, s) = (y_cat r ≤ 8 ∧ F_X3_isRow mc ms [v0] ω c s (y_aft M_X3_drop 6 3 lv r (y_w M_X3_drop mc ms Q) Q)) := w_call0 (av := [v0]) ⟨Or.inr ⟨rfl, rfl⟩, rfl⟩ dX3_drop_6 rfl (y_F_mono _) (y_dle rfl) (y_dle rfl) rfl rfl
theorem wX3_drop_9 : y_w M_X3_drop mc ms Q (9, lv, .int x :: r, ω, c, s) = ((¬ x = 0 → y_w M_X3_drop mc ms Q (15, lv, r, ω, c, s)) ∧ (¬ (¬ x = 0) → y_w M_X3_drop mc ms Q (12, lv, r, ω, c, s))) := w_if dX3_drop_9 (tgt := 15) rfl rfl rfl
theorem wX3_drop_12 : y_w M_X3_drop mc ms Q (12, lv, st, ω, c, s) = y_w M_X3_drop mc ms Q (14, lv, .int (-1000001) :: st, ω, c, s) := w_ldc dX3_drop_12 rfl rfl rfl
theorem wX3_drop_14 : y_w M_X3_drop mc ms Q (14, lv, [.int x], ω, c, s) = Q (.returned (some (.int x))) ω c s := w_ireturnI dX3_drop_14 rfl
theorem wX3_drop_15 : y_w M_X3_drop mc ms Q (15, lv, st, ω, c, s) = y_ldA lv 0 (fun v => y_w M_X3_drop mc ms Q (16, lv, v :: st, ω, c, s)) := w_aload_n dX3_drop_15 rfl rfl
theorem wX3_drop_16 : y_w M_X3_drop mc ms Q (16, lv, st, ω, c, s) = y_w M_X3_drop mc ms Q (17, lv, .int 0 :: st, ω, c, s) := w_iconst dX3_drop_16 (v := 0) (by decide) rfl
theorem wX3_drop_17 : y_w M_X3_drop mc ms Q (17, lv, v :: .ref a :: r, ω, c, s) = y_pf P_X3_drop false 52 (ω.2 a) v (fun ci fs => y_w M_X3_drop mc ms Q (20, lv, r, y_hup ω a (.inr (ci, fs)), c, s)) := w_putfield dX3_drop_17 rfl rfl rfl
theorem wX3_drop_20 : y_w M_X3_drop mc ms Q (20, lv, st, ω, c, s) = y_ldA lv 0 (fun v => y_w M_X3_drop mc ms Q (21, lv, v :: st, ω, c, s)) := w_aload_n dX3_drop_20 rfl rfl
theorem wX3_drop_21 : y_w M_X3_drop mc ms Q (21, lv, .ref a :: r, ω, c, s) = y_gf P_X3_drop 7 (ω.2 a) (fun v => y_w M_X3_drop mc ms Q (24, lv, v :: r, ω, c, s)) := w_getfield dX3_drop_21 rfl rfl
theorem wX3_drop_24 : y_w M_X3_drop mc ms Q (24, lv, st, ω, c, s) = y_ldI lv 1 (fun v => y_w M_X3_drop mc ms Q (25, lv, v :: st, ω, c, s)) := w_iload_n dX3_drop_24 rfl rfl
theorem wX3_drop_25 : y_w M_X3_drop mc ms Q (25, lv, .int j :: .ref a :: r, ω, c, s) = y_rI (ω.2 a) j (fun x => y_w M_X3_drop mc ms Q (26, lv, .int x :: r, ω, c, s)) := w_iaload dX3_drop_25 rfl
theorem wX3_drop_26 : y_w M_X3_drop mc ms Q (26, lv, .int x :: r, ω, c, s) = ((0 ≤ x → y_w M_X3_drop mc ms Q (35, lv, r, ω, c, s)) ∧ (¬ (0 ≤ x) → y_w M_X3_drop mc ms Q (29, lv, r, ω, c, s))) := w_if dX3_drop_26 (tgt := 35) rfl rfl rfl
theorem wX3_drop_29 : y_w M_X3_drop mc ms Q (29, lv, st, ω, c, s) = y_ldA lv 0 (fun v => y_w M_X3_drop mc ms Q (30, lv, v :: st, ω, c, s)) := w_aload_n dX3_drop_29 rfl rfl
theorem wX3_drop_30 : y_w M_X3_drop mc ms Q (30, lv, st, ω, c, s) = y_w M_X3_drop mc ms Q (31, lv, .int 1 :: st, ω, c, s) := w_iconst dX3_drop_30 (v := 1) (by decide) rfl
theorem wX3_drop_31 (hc : y_cls ω a = some 3) : y_w M_X3_drop mc ms Q (31, lv, v1 :: .ref a :: r, ω, c, s) = (y_cat r ≤ 8 ∧ F_X3_finding mc ms [.ref a, v1] ω c s (y_aft M_X3_drop 31 3 lv r (y_w M_X3_drop mc ms Q) Q)) := w_call1 (av := [v1]) (Or.inl ⟨⟨rfl, rfl⟩, rfl⟩) dX3_drop_31 rfl hc rfl (y_F_mono _) (y_dle rfl) (y_dle rfl) rfl rfl
theorem wX3_drop_34 : y_w M_X3_drop mc ms Q (34, lv, [.int x], ω, c, s) = Q (.returned (some (.int x))) ω c s := w_ireturnI dX3_drop_34 rfl
theorem wX3_drop_35 : y_w M_X3_drop mc ms Q (35, lv, st, ω, c, s) = y_ldA lv 0 (fun v => y_w M_X3_drop mc ms Q (36, lv, v :: st, ω, c, s)) := w_aload_n dX3_drop_35 rfl rfl
theorem wX3_drop_36 : y_w M_X3_drop mc ms Q (36, lv, .ref a :: r, ω, c, s) = y_gf P_X3_drop 7 (ω.2 a) (fun v => y_w M_X3_drop mc ms Q (39, lv, v :: r, ω, c, s)) := w_getfield dX3_drop_36 rfl rfl
theorem wX3_drop_39 : y_w M_X3_drop mc ms Q (39, lv, st, ω, c, s) = y_ldI lv 1 (fun v => y_w M_X3_drop mc ms Q (40, lv, v :: st, ω, c, s)) := w_iload_n dX3_drop_39 rfl rfl
theorem wX3_drop_40 : y_w M_X3_drop mc ms Q (40, lv, st, ω, c, s) = y_w M_X3_drop mc ms Q (41, lv, .int (-1) :: st, ω, c, s) := w_iconst dX3_drop_40 (v := (-1)) (by decide) rfl
theorem wX3_drop_41 : y_w M_X3_drop mc ms Q (41, lv, .int x :: .int j :: .ref a :: r, ω, c, s) = y_wI (ω.2 a) j x (fun e => y_w M_X3_drop mc ms Q (42, lv, r, y_hup ω a e, c, s)) := w_iastore dX3_drop_41 rfl
theorem wX3_drop_42 : y_w M_X3_drop mc ms Q (42, lv, st, ω, c, s) = y_ldA lv 0 (fun v => y_w M_X3_drop mc ms Q (43, lv, v :: st, ω, c, s)) := w_aload_n dX3_drop_42 rfl rfl
theorem wX3_drop_43 : y_w M_X3_drop mc ms Q (43, lv, .ref a :: r, ω, c, s) = y_gf P_X3_drop 13 (ω.2 a) (fun v => y_w M_X3_drop mc ms Q (46, lv, v :: r, ω, c, s)) := w_getfield dX3_drop_43 rfl rfl
theorem wX3_drop_46 : y_w M_X3_drop mc ms Q (46, lv, st, ω, c, s) = y_ldI lv 1 (fun v => y_w M_X3_drop mc ms Q (47, lv, v :: st, ω, c, s)) := w_iload_n dX3_drop_46 rfl rfl
theorem wX3_drop_47 : y_w M_X3_drop mc ms Q (47, lv, .int j :: .ref a :: r, ω, c, s) = y_rI (ω.2 a) j (fun x => y_w M_X3_drop mc ms Q (48, lv, .int x :: r, ω, c, s)) := w_iaload dX3_drop_47 rfl
theorem wX3_drop_48 : y_w M_X3_drop mc ms Q (48, lv, [.int x], ω, c, s) = Q (.returned (some (.int x))) ω c s := w_ireturnI dX3_drop_48 rfl
def P_X3_feed : y_Pool := ([(48, 3, 0, .int, false), (75, 3, 10, .int, false), (28, 3, 9, (.array .int), true)], [], [(73, .long (lN 8)), (68, .int (-1000001)), (78, .int (-1000003)), (79, .long (lN 255))], [(58, 0, 0, 3, (1, 25), F_X3_in)], [], [], [])
def M_X3_feed : y_Md := (cX3_feed, "YoungerBackModel", (5, (some FieldType.int)), (1, 25), false, P_X3_feed, [])
def F_X3_feed : y_Tr := y_F M_X3_feed
theorem nX3_feed : y_nL M_X3_feed = 5 := rfl
theorem fX3_feed_48_3 : y_ffP P_X3_feed 48 3 = some (0, .int, false) := rfl
theorem fX3_feed_75_3 : y_ffP P_X3_feed 75 3 = some (10, .int, false) := rfl
theorem fX3_feed_28_3 : y_ffP P_X3_feed 28 3 = some (9, (.array .int), true) := rfl
theorem wX3_feed_0 : y_w M_X3_feed mc ms Q (0, lv, st, ω, c, s) = y_ldA lv 0 (fun v => y_w M_X3_feed mc ms Q (1, lv, v :: st, ω, c, s)) := w_aload_n dX3_feed_0 rfl rfl
theorem wX3_feed_1 : y_w M_X3_feed mc ms Q (1, lv, st, ω, c, s) = y_w M_X3_feed mc ms Q (2, lv, .int 0 :: st, ω, c, s) := w_iconst dX3_feed_1 (v := 0) (by decide) rfl
theorem wX3_feed_2 : y_w M_X3_feed mc ms Q (2, lv, v :: .ref a :: r, ω, c, s) = y_pf P_X3_feed false 48 (ω.2 a) v (fun ci fs => y_w M_X3_feed mc ms Q (5, lv, r, y_hup ω a (.inr (ci, fs)), c, s)) := w_putfield dX3_feed_2 rfl rfl rfl
theorem wX3_feed_5 : y_w M_X3_feed mc ms Q (5, lv, st, ω, c, s) = y_ldI lv 3 (fun v => y_w M_X3_feed mc ms Q (6, lv, v :: st, ω, c, s)) := w_iload_n dX3_feed_5 rfl rfl
theorem wX3_feed_6 : y_w M_X3_feed mc ms Q (6, lv, .int x :: r, ω, c, s) = y_w M_X3_feed mc ms Q (7, lv, .long x.toInt64 :: r, ω, c, s) := w_i2l dX3_feed_6 rfl
theorem wX3_feed_7 : y_w M_X3_feed mc ms Q (7, lv, st, ω, c, s) = y_w M_X3_feed mc ms Q (8, lv, .long 1 :: st, ω, c, s) := w_lconst dX3_feed_7 (v := 1) (by decide) rfl
theorem wX3_feed_8 : y_w M_X3_feed mc ms Q (8, lv, st, ω, c, s) = y_w M_X3_feed mc ms Q (11, lv, .long (lN 8) :: st, ω, c, s) := w_ldc2_w dX3_feed_8 rfl rfl rfl
theorem wX3_feed_11 : y_w M_X3_feed mc ms Q (11, lv, v2 :: v1 :: v0 :: r, ω, c, s) = (y_cat r ≤ 8 ∧ F_X3_in mc ms [v0, v1, v2] ω c s (y_aft M_X3_feed 11 3 lv r (y_w M_X3_feed mc ms Q) Q)) := w_call0 (av := [v0, v1, v2]) ⟨Or.inr ⟨rfl, rfl⟩, rfl⟩ dX3_feed_11 rfl (y_F_mono _) (y_dle rfl) (y_dle rfl) rfl rfl
theorem wX3_feed_14 : y_w M_X3_feed mc ms Q (14, lv, .int x :: r, ω, c, s) = ((¬ x = 0 → y_w M_X3_feed mc ms Q (20, lv, r, ω, c, s)) ∧ (¬ (¬ x = 0) → y_w M_X3_feed mc ms Q (17, lv, r, ω, c, s))) := w_if dX3_feed_14 (tgt := 20) rfl rfl rfl
theorem wX3_feed_17 : y_w M_X3_feed mc ms Q (17, lv, st, ω, c, s) = y_w M_X3_feed mc ms Q (19, lv, .int (-1000001) :: st, ω, c, s) := w_ldc dX3_feed_17 rfl rfl rfl
theorem wX3_feed_19 : y_w M_X3_feed mc ms Q (19, lv, [.int x], ω, c, s) = Q (.returned (some (.int x))) ω c s := w_ireturnI dX3_feed_19 rfl
theorem wX3_feed_20 : y_w M_X3_feed mc ms Q (20, lv, st, ω, c, s) = y_ldA lv 0 (fun v => y_w M_X3_feed mc ms Q (21, lv, v :: st, ω, c, s)) := w_aload_n dX3_feed_20 rfl rfl
theorem wX3_feed_21 : y_w M_X3_feed mc ms Q (21, lv, .ref a :: r, ω, c, s) = y_gf P_X3_feed 75 (ω.2 a) (fun v => y_w M_X3_feed mc ms Q (24, lv, v :: r, ω, c, s)) := w_getfield dX3_feed_21 rfl rfl
theorem wX3_feed_24 : y_w M_X3_feed mc ms Q (24, lv, st, ω, c, s) = y_ldI lv 3 (fun v => y_w M_X3_feed mc ms Q (25, lv, v :: st, ω, c, s)) := w_iload_n dX3_feed_24 rfl rfl
theorem wX3_feed_25 : y_w M_X3_feed mc ms Q (25, lv, .int y :: .int x :: r, ω, c, s) = y_w M_X3_feed mc ms Q (26, lv, .int (x + y) :: r, ω, c, s) := w_iadd dX3_feed_25 rfl
theorem wX3_feed_26 : y_w M_X3_feed mc ms Q (26, lv, st, ω, c, s) = y_w M_X3_feed mc ms Q (29, lv, .int (nI 400) :: st, ω, c, s) := w_sipush dX3_feed_26 (v := (nI 400)) (by decide) rfl
theorem wX3_feed_29 : y_w M_X3_feed mc ms Q (29, lv, .int y :: .int x :: r, ω, c, s) = ((x ≤ y → y_w M_X3_feed mc ms Q (35, lv, r, ω, c, s)) ∧ (¬ (x ≤ y) → y_w M_X3_feed mc ms Q (32, lv, r, ω, c, s))) := w_icmp dX3_feed_29 (tgt := 35) rfl rfl rfl
theorem wX3_feed_32 : y_w M_X3_feed mc ms Q (32, lv, st, ω, c, s) = y_w M_X3_feed mc ms Q (34, lv, .int (-1000003) :: st, ω, c, s) := w_ldc dX3_feed_32 rfl rfl rfl
theorem wX3_feed_34 : y_w M_X3_feed mc ms Q (34, lv, [.int x], ω, c, s) = Q (.returned (some (.int x))) ω c s := w_ireturnI dX3_feed_34 rfl
theorem wX3_feed_35 : y_w M_X3_feed mc ms Q (35, lv, st, ω, c, s) = y_ldI lv 3 (fun v => y_w M_X3_feed mc ms Q (36, lv, v :: st, ω, c, s)) := w_iload_n dX3_feed_35 rfl rfl
theorem wX3_feed_36 : y_w M_X3_feed mc ms Q (36, lv, st, ω, c, s) = y_w M_X3_feed mc ms Q (37, lv, .int 1 :: st, ω, c, s) := w_iconst dX3_feed_36 (v := 1) (by decide) rfl
theorem wX3_feed_37 : y_w M_X3_feed mc ms Q (37, lv, .int y :: .int x :: r, ω, c, s) = y_w M_X3_feed mc ms Q (38, lv, .int (x - y) :: r, ω, c, s) := w_isub dX3_feed_37 rfl
theorem wX3_feed_38 : y_w M_X3_feed mc ms Q (38, lv, .int x :: r, ω, c, s) = y_w M_X3_feed mc ms Q (40, (4, .int x) :: y_kill 4 lv, r, ω, c, s) := w_istore dX3_feed_38 (y_dle rfl) rfl
theorem wX3_feed_40 : y_w M_X3_feed mc ms Q (40, lv, st, ω, c, s) = y_ldI lv 4 (fun v => y_w M_X3_feed mc ms Q (42, lv, v :: st, ω, c, s)) := w_iload dX3_feed_40 rfl
theorem wX3_feed_42 : y_w M_X3_feed mc ms Q (42, lv, .int x :: r, ω, c, s) = ((x < 0 → y_w M_X3_feed mc ms Q (82, lv, r, ω, c, s)) ∧ (¬ (x < 0) → y_w M_X3_feed mc ms Q (45, lv, r, ω, c, s))) := w_if dX3_feed_42 (tgt := 82) rfl rfl rfl
theorem wX3_feed_45 : y_w M_X3_feed mc ms Q (45, lv, st, ω, c, s) = y_ldA lv 0 (fun v => y_w M_X3_feed mc ms Q (46, lv, v :: st, ω, c, s)) := w_aload_n dX3_feed_45 rfl rfl
theorem wX3_feed_46 : y_w M_X3_feed mc ms Q (46, lv, .ref a :: r, ω, c, s) = y_gf P_X3_feed 28 (ω.2 a) (fun v => y_w M_X3_feed mc ms Q (49, lv, v :: r, ω, c, s)) := w_getfield dX3_feed_46 rfl rfl
theorem wX3_feed_49 : y_w M_X3_feed mc ms Q (49, lv, st, ω, c, s) = y_ldA lv 0 (fun v => y_w M_X3_feed mc ms Q (50, lv, v :: st, ω, c, s)) := w_aload_n dX3_feed_49 rfl rfl
theorem wX3_feed_50 : y_w M_X3_feed mc ms Q (50, lv, .ref a :: r, ω, c, s) = y_gf P_X3_feed 75 (ω.2 a) (fun v => y_w M_X3_feed mc ms Q (53, lv, v :: r, ω, c, s)) := w_getfield dX3_feed_50 rfl rfl
theorem wX3_feed_53 : y_w M_X3_feed mc ms Q (53, lv, st, ω, c, s) = y_ldL lv 1 (fun v => y_w M_X3_feed mc ms Q (54, lv, v :: st, ω, c, s)) := w_lload_n dX3_feed_53 rfl rfl
theorem wX3_feed_54 : y_w M_X3_feed mc ms Q (54, lv, st, ω, c, s) = y_w M_X3_feed mc ms Q (56, lv, .int (nI 8) :: st, ω, c, s) := w_bipush dX3_feed_54 (v := (nI 8)) (by decide) rfl
theorem wX3_feed_56 : y_w M_X3_feed mc ms Q (56, lv, st, ω, c, s) = y_ldI lv 4 (fun v => y_w M_X3_feed mc ms Q (58, lv, v :: st, ω, c, s)) := w_iload dX3_feed_56 rfl
theorem wX3_feed_58 : y_w M_X3_feed mc ms Q (58, lv, .int y :: .int x :: r, ω, c, s) = y_w M_X3_feed mc ms Q (59, lv, .int (x * y) :: r, ω, c, s) := w_imul dX3_feed_58 rfl
theorem wX3_feed_59 : y_w M_X3_feed mc ms Q (59, lv, .int y :: .long z :: r, ω, c, s) = y_w M_X3_feed mc ms Q (60, lv, .long (z >>> (y.toInt64 &&& 63)) :: r, ω, c, s) := w_lshr dX3_feed_59 rfl
theorem wX3_feed_60 : y_w M_X3_feed mc ms Q (60, lv, st, ω, c, s) = y_w M_X3_feed mc ms Q (63, lv, .long (lN 255) :: st, ω, c, s) := w_ldc2_w dX3_feed_60 rfl rfl rfl
theorem wX3_feed_63 : y_w M_X3_feed mc ms Q (63, lv, .long w :: .long z :: r, ω, c, s) = y_w M_X3_feed mc ms Q (64, lv, .long (z &&& w) :: r, ω, c, s) := w_land dX3_feed_63 rfl
theorem wX3_feed_64 : y_w M_X3_feed mc ms Q (64, lv, .long z :: r, ω, c, s) = y_w M_X3_feed mc ms Q (65, lv, .int z.toInt32 :: r, ω, c, s) := w_l2i dX3_feed_64 rfl
theorem wX3_feed_65 : y_w M_X3_feed mc ms Q (65, lv, .int x :: .int j :: .ref a :: r, ω, c, s) = y_wI (ω.2 a) j x (fun e => y_w M_X3_feed mc ms Q (66, lv, r, y_hup ω a e, c, s)) := w_iastore dX3_feed_65 rfl
theorem wX3_feed_66 : y_w M_X3_feed mc ms Q (66, lv, st, ω, c, s) = y_ldA lv 0 (fun v => y_w M_X3_feed mc ms Q (67, lv, v :: st, ω, c, s)) := w_aload_n dX3_feed_66 rfl rfl
theorem wX3_feed_67 : y_w M_X3_feed mc ms Q (67, lv, v :: r, ω, c, s) = (v.category = 1 ∧ y_w M_X3_feed mc ms Q (68, lv, v :: v :: r, ω, c, s)) := w_dup dX3_feed_67 rfl
theorem wX3_feed_68 : y_w M_X3_feed mc ms Q (68, lv, .ref a :: r, ω, c, s) = y_gf P_X3_feed 75 (ω.2 a) (fun v => y_w M_X3_feed mc ms Q (71, lv, v :: r, ω, c, s)) := w_getfield dX3_feed_68 rfl rfl
theorem wX3_feed_71 : y_w M_X3_feed mc ms Q (71, lv, st, ω, c, s) = y_w M_X3_feed mc ms Q (72, lv, .int 1 :: st, ω, c, s) := w_iconst dX3_feed_71 (v := 1) (by decide) rfl
theorem wX3_feed_72 : y_w M_X3_feed mc ms Q (72, lv, .int y :: .int x :: r, ω, c, s) = y_w M_X3_feed mc ms Q (73, lv, .int (x + y) :: r, ω, c, s) := w_iadd dX3_feed_72 rfl
theorem wX3_feed_73 : y_w M_X3_feed mc ms Q (73, lv, v :: .ref a :: r, ω, c, s) = y_pf P_X3_feed false 75 (ω.2 a) v (fun ci fs => y_w M_X3_feed mc ms Q (76, lv, r, y_hup ω a (.inr (ci, fs)), c, s)) := w_putfield dX3_feed_73 rfl rfl rfl
theorem wX3_feed_76 : y_w M_X3_feed mc ms Q (76, lv, st, ω, c, s) = y_inc lv 4 (fun x => y_w M_X3_feed mc ms Q (79, (4, .int (x + (-1))) :: y_kill 4 lv, st, ω, c, s)) := w_iinc dX3_feed_76 (d := (-1)) (by decide) (y_dle rfl) rfl
theorem wX3_feed_79 : y_w M_X3_feed mc ms Q (79, lv, st, ω, c, s) = ∃ lv2, y_lsub lv2 lv ∧ y_w M_X3_feed mc ms Q (40, lv2, st, ω, c, s) := w_back dX3_feed_79 (tgt := 40) (by decide) rfl
theorem wX3_feed_82 : y_w M_X3_feed mc ms Q (82, lv, st, ω, c, s) = y_ldA lv 0 (fun v => y_w M_X3_feed mc ms Q (83, lv, v :: st, ω, c, s)) := w_aload_n dX3_feed_82 rfl rfl
theorem wX3_feed_83 : y_w M_X3_feed mc ms Q (83, lv, .ref a :: r, ω, c, s) = y_gf P_X3_feed 75 (ω.2 a) (fun v => y_w M_X3_feed mc ms Q (86, lv, v :: r, ω, c, s)) := w_getfield dX3_feed_83 rfl rfl
theorem wX3_feed_86 : y_w M_X3_feed mc ms Q (86, lv, [.int x], ω, c, s) = Q (.returned (some (.int x))) ω c s := w_ireturnI dX3_feed_86 rfl
def P_X3_byteAt : y_Pool := ([(81, 3, 12, .int, false), (28, 3, 9, (.array .int), true)], [], [(84, .int (-1000000))], [], [], [], [])
def M_X3_byteAt : y_Md := (cX3_byteAt, "YoungerBackModel", (2, (some FieldType.int)), (0, 0), false, P_X3_byteAt, [])
def F_X3_byteAt : y_Tr := y_F M_X3_byteAt
theorem nX3_byteAt : y_nL M_X3_byteAt = 2 := rfl
theorem fX3_byteAt_81_3 : y_ffP P_X3_byteAt 81 3 = some (12, .int, false) := rfl
theorem fX3_byteAt_28_3 : y_ffP P_X3_byteAt 28 3 = some (9, (.array .int), true) := rfl
theorem wX3_byteAt_0 : y_w M_X3_byteAt mc ms Q (0, lv, st, ω, c, s) = y_ldI lv 1 (fun v => y_w M_X3_byteAt mc ms Q (1, lv, v :: st, ω, c, s)) := w_iload_n dX3_byteAt_0 rfl rfl
theorem wX3_byteAt_1 : y_w M_X3_byteAt mc ms Q (1, lv, st, ω, c, s) = y_ldA lv 0 (fun v => y_w M_X3_byteAt mc ms Q (2, lv, v :: st, ω, c, s)) := w_aload_n dX3_byteAt_1 rfl rfl
theorem wX3_byteAt_2 : y_w M_X3_byteAt mc ms Q (2, lv, .ref a :: r, ω, c, s) = y_gf P_X3_byteAt 81 (ω.2 a) (fun v => y_w M_X3_byteAt mc ms Q (5, lv, v :: r, ω, c, s)) := w_getfield dX3_byteAt_2 rfl rfl
theorem wX3_byteAt_5 : y_w M_X3_byteAt mc ms Q (5, lv, .int y :: .int x :: r, ω, c, s) = ((y ≤ x → y_w M_X3_byteAt mc ms Q (17, lv, r, ω, c, s)) ∧ (¬ (y ≤ x) → y_w M_X3_byteAt mc ms Q (8, lv, r, ω, c, s))) := w_icmp dX3_byteAt_5 (tgt := 17) rfl rfl rfl
theorem wX3_byteAt_8 : y_w M_X3_byteAt mc ms Q (8, lv, st, ω, c, s) = y_ldA lv 0 (fun v => y_w M_X3_byteAt mc ms Q (9, lv, v :: st, ω, c, s)) := w_aload_n dX3_byteAt_8 rfl rfl
theorem wX3_byteAt_9 : y_w M_X3_byteAt mc ms Q (9, lv, .ref a :: r, ω, c, s) = y_gf P_X3_byteAt 28 (ω.2 a) (fun v => y_w M_X3_byteAt mc ms Q (12, lv, v :: r, ω, c, s)) := w_getfield dX3_byteAt_9 rfl rfl
theorem wX3_byteAt_12 : y_w M_X3_byteAt mc ms Q (12, lv, st, ω, c, s) = y_ldI lv 1 (fun v => y_w M_X3_byteAt mc ms Q (13, lv, v :: st, ω, c, s)) := w_iload_n dX3_byteAt_12 rfl rfl
theorem wX3_byteAt_13 : y_w M_X3_byteAt mc ms Q (13, lv, .int j :: .ref a :: r, ω, c, s) = y_rI (ω.2 a) j (fun x => y_w M_X3_byteAt mc ms Q (14, lv, .int x :: r, ω, c, s)) := w_iaload dX3_byteAt_13 rfl
theorem wX3_byteAt_14 : y_w M_X3_byteAt mc ms Q (14, lv, st, ω, c, s) = y_w M_X3_byteAt mc ms Q (19, lv, st, ω, c, s) := w_goto dX3_byteAt_14 (tgt := 19) (by decide) rfl
theorem wX3_byteAt_17 : y_w M_X3_byteAt mc ms Q (17, lv, st, ω, c, s) = y_w M_X3_byteAt mc ms Q (19, lv, .int (-1000000) :: st, ω, c, s) := w_ldc dX3_byteAt_17 rfl rfl rfl
theorem wX3_byteAt_19 : y_w M_X3_byteAt mc ms Q (19, lv, [.int x], ω, c, s) = Q (.returned (some (.int x))) ω c s := w_ireturnI dX3_byteAt_19 rfl
def P_X3_isLetter : y_Pool := ([], [], [], [], [], [], [])
def M_X3_isLetter : y_Md := (cX3_isLetter, "YoungerBackModel", (1, (some FieldType.boolean)), (0, 0), false, P_X3_isLetter, [])
def F_X3_isLetter : y_Tr := y_F M_X3_isLetter
theorem nX3_isLetter : y_nL M_X3_isLetter = 1 := rfl
theorem wX3_isLetter_0 : y_w M_X3_isLetter mc ms Q (0, lv, st, ω, c, s) = y_ldI lv 0 (fun v => y_w M_X3_isLetter mc ms Q (1, lv, v :: st, ω, c, s)) := w_iload_n dX3_isLetter_0 rfl rfl
theorem wX3_isLetter_1 : y_w M_X3_isLetter mc ms Q (1, lv, st, ω, c, s) = y_w M_X3_isLetter mc ms Q (3, lv, .int (nI 97) :: st, ω, c, s) := w_bipush dX3_isLetter_1 (v := (nI 97)) (by decide) rfl
theorem wX3_isLetter_3 : y_w M_X3_isLetter mc ms Q (3, lv, .int y :: .int x :: r, ω, c, s) = ((x < y → y_w M_X3_isLetter mc ms Q (16, lv, r, ω, c, s)) ∧ (¬ (x < y) → y_w M_X3_isLetter mc ms Q (6, lv, r, ω, c, s))) := w_icmp dX3_isLetter_3 (tgt := 16) rfl rfl rfl
theorem wX3_isLetter_6 : y_w M_X3_isLetter mc ms Q (6, lv, st, ω, c, s) = y_ldI lv 0 (fun v => y_w M_X3_isLetter mc ms Q (7, lv, v :: st, ω, c, s)) := w_iload_n dX3_isLetter_6 rfl rfl
theorem wX3_isLetter_7 : y_w M_X3_isLetter mc ms Q (7, lv, st, ω, c, s) = y_w M_X3_isLetter mc ms Q (9, lv, .int (nI 122) :: st, ω, c, s) := w_bipush dX3_isLetter_7 (v := (nI 122)) (by decide) rfl
theorem wX3_isLetter_9 : y_w M_X3_isLetter mc ms Q (9, lv, .int y :: .int x :: r, ω, c, s) = ((y < x → y_w M_X3_isLetter mc ms Q (16, lv, r, ω, c, s)) ∧ (¬ (y < x) → y_w M_X3_isLetter mc ms Q (12, lv, r, ω, c, s))) := w_icmp dX3_isLetter_9 (tgt := 16) rfl rfl rfl
theorem wX3_isLetter_12 : y_w M_X3_isLetter mc ms Q (12, lv, st, ω, c, s) = y_w M_X3_isLetter mc ms Q (13, lv, .int 1 :: st, ω, c, s) := w_iconst dX3_isLetter_12 (v := 1) (by decide) rfl
theorem wX3_isLetter_13 : y_w M_X3_isLetter mc ms Q (13, lv, st, ω, c, s) = y_w M_X3_isLetter mc ms Q (17, lv, st, ω, c, s) := w_goto dX3_isLetter_13 (tgt := 17) (by decide) rfl
theorem wX3_isLetter_16 : y_w M_X3_isLetter mc ms Q (16, lv, st, ω, c, s) = y_w M_X3_isLetter mc ms Q (17, lv, .int 0 :: st, ω, c, s) := w_iconst dX3_isLetter_16 (v := 0) (by decide) rfl
theorem wX3_isLetter_17 : y_w M_X3_isLetter mc ms Q (17, lv, [.int x], ω, c, s) = (narrow FieldType.boolean (.int x) = .int x ∧ Q (.returned (some (.int x))) ω c s) := w_ireturn dX3_isLetter_17 rfl
def P_X3_isFigure : y_Pool := ([], [], [], [], [], [], [])
def M_X3_isFigure : y_Md := (cX3_isFigure, "YoungerBackModel", (1, (some FieldType.boolean)), (0, 0), false, P_X3_isFigure, [])
def F_X3_isFigure : y_Tr := y_F M_X3_isFigure
theorem nX3_isFigure : y_nL M_X3_isFigure = 1 := rfl
theorem wX3_isFigure_0 : y_w M_X3_isFigure mc ms Q (0, lv, st, ω, c, s) = y_ldI lv 0 (fun v => y_w M_X3_isFigure mc ms Q (1, lv, v :: st, ω, c, s)) := w_iload_n dX3_isFigure_0 rfl rfl
theorem wX3_isFigure_1 : y_w M_X3_isFigure mc ms Q (1, lv, st, ω, c, s) = y_w M_X3_isFigure mc ms Q (3, lv, .int (nI 48) :: st, ω, c, s) := w_bipush dX3_isFigure_1 (v := (nI 48)) (by decide) rfl
theorem wX3_isFigure_3 : y_w M_X3_isFigure mc ms Q (3, lv, .int y :: .int x :: r, ω, c, s) = ((x < y → y_w M_X3_isFigure mc ms Q (16, lv, r, ω, c, s)) ∧ (¬ (x < y) → y_w M_X3_isFigure mc ms Q (6, lv, r, ω, c, s))) := w_icmp dX3_isFigure_3 (tgt := 16) rfl rfl rfl
theorem wX3_isFigure_6 : y_w M_X3_isFigure mc ms Q (6, lv, st, ω, c, s) = y_ldI lv 0 (fun v => y_w M_X3_isFigure mc ms Q (7, lv, v :: st, ω, c, s)) := w_iload_n dX3_isFigure_6 rfl rfl
theorem wX3_isFigure_7 : y_w M_X3_isFigure mc ms Q (7, lv, st, ω, c, s) = y_w M_X3_isFigure mc ms Q (9, lv, .int (nI 57) :: st, ω, c, s) := w_bipush dX3_isFigure_7 (v := (nI 57)) (by decide) rfl
theorem wX3_isFigure_9 : y_w M_X3_isFigure mc ms Q (9, lv, .int y :: .int x :: r, ω, c, s) = ((y < x → y_w M_X3_isFigure mc ms Q (16, lv, r, ω, c, s)) ∧ (¬ (y < x) → y_w M_X3_isFigure mc ms Q (12, lv, r, ω, c, s))) := w_icmp dX3_isFigure_9 (tgt := 16) rfl rfl rfl
theorem wX3_isFigure_12 : y_w M_X3_isFigure mc ms Q (12, lv, st, ω, c, s) = y_w M_X3_isFigure mc ms Q (13, lv, .int 1 :: st, ω, c, s) := w_iconst dX3_isFigure_12 (v := 1) (by decide) rfl
theorem wX3_isFigure_13 : y_w M_X3_isFigure mc ms Q (13, lv, st, ω, c, s) = y_w M_X3_isFigure mc ms Q (17, lv, st, ω, c, s) := w_goto dX3_isFigure_13 (tgt := 17) (by decide) rfl
theorem wX3_isFigure_16 : y_w M_X3_isFigure mc ms Q (16, lv, st, ω, c, s) = y_w M_X3_isFigure mc ms Q (17, lv, .int 0 :: st, ω, c, s) := w_iconst dX3_isFigure_16 (v := 0) (by decide) rfl
theorem wX3_isFigure_17 : y_w M_X3_isFigure mc ms Q (17, lv, [.int x], ω, c, s) = (narrow FieldType.boolean (.int x) = .int x ∧ Q (.returned (some (.int x))) ω c s) := w_ireturn dX3_isFigure_17 rfl
def P_X3_next : y_Pool := ([(85, 3, 13, .int, false), (91, 3, 15, .int, false), (94, 3, 14, .int, false), (103, 3, 16, .int, false)], [], [(84, .int (-1000000))], [(88, 1, 3, 2, (1, 21), F_X3_byteAt), (97, 0, 0, 1, (1, 20), F_X3_isLetter), (100, 0, 0, 1, (1, 20), F_X3_isFigure)], [], [], [])
def M_X3_next : y_Md := (cX3_next, "YoungerBackModel", (2, none), (1, 21), false, P_X3_next, [])
def F_X3_next : y_Tr := y_F M_X3_next
theorem nX3_next : y_nL M_X3_next = 2 := rfl
theorem fX3_next_85_3 : y_ffP P_X3_next 85 3 = some (13, .int, false) := rfl
theorem fX3_next_91_3 : y_ffP P_X3_next 91 3 = some (15, .int, false) := rfl
theorem fX3_next_94_3 : y_ffP P_X3_next 94 3 = some (14, .int, false) := rfl
theorem fX3_next_103_3 : y_ffP P_X3_next 103 3 = some (16, .int, false) := rfl
theorem wX3_next_0 : y_w M_X3_next mc ms Q (0, lv, st, ω, c, s) = y_ldA lv 0 (fun v => y_w M_X3_next mc ms Q (1, lv, v :: st, ω, c, s)) := w_aload_n dX3_next_0 rfl rfl
theorem wX3_next_1 : y_w M_X3_next mc ms Q (1, lv, st, ω, c, s) = y_ldA lv 0 (fun v => y_w M_X3_next mc ms Q (2, lv, v :: st, ω, c, s)) := w_aload_n dX3_next_1 rfl rfl
theorem wX3_next_2 : y_w M_X3_next mc ms Q (2, lv, .ref a :: r, ω, c, s) = y_gf P_X3_next 85 (ω.2 a) (fun v => y_w M_X3_next mc ms Q (5, lv, v :: r, ω, c, s)) := w_getfield dX3_next_2 rfl rfl
theorem wX3_next_5 (hc : y_cls ω a = some 3) : y_w M_X3_next mc ms Q (5, lv, v1 :: .ref a :: r, ω, c, s) = (y_cat r ≤ 8 ∧ F_X3_byteAt mc ms [.ref a, v1] ω c s (y_aft M_X3_next 5 3 lv r (y_w M_X3_next mc ms Q) Q)) := w_call1 (av := [v1]) (Or.inl ⟨⟨rfl, rfl⟩, rfl⟩) dX3_next_5 rfl hc rfl (y_F_mono _) (y_dle rfl) (y_dle rfl) rfl rfl
theorem wX3_next_8 : y_w M_X3_next mc ms Q (8, lv, st, ω, c, s) = y_w M_X3_next mc ms Q (10, lv, .int (nI 32) :: st, ω, c, s) := w_bipush dX3_next_8 (v := (nI 32)) (by decide) rfl
theorem wX3_next_10 : y_w M_X3_next mc ms Q (10, lv, .int y :: .int x :: r, ω, c, s) = ((x = y → y_w M_X3_next mc ms Q (26, lv, r, ω, c, s)) ∧ (¬ (x = y) → y_w M_X3_next mc ms Q (13, lv, r, ω, c, s))) := w_icmp dX3_next_10 (tgt := 26) rfl rfl rfl
theorem wX3_next_13 : y_w M_X3_next mc ms Q (13, lv, st, ω, c, s) = y_ldA lv 0 (fun v => y_w M_X3_next mc ms Q (14, lv, v :: st, ω, c, s)) := w_aload_n dX3_next_13 rfl rfl
theorem wX3_next_14 : y_w M_X3_next mc ms Q (14, lv, st, ω, c, s) = y_ldA lv 0 (fun v => y_w M_X3_next mc ms Q (15, lv, v :: st, ω, c, s)) := w_aload_n dX3_next_14 rfl rfl
theorem wX3_next_15 : y_w M_X3_next mc ms Q (15, lv, .ref a :: r, ω, c, s) = y_gf P_X3_next 85 (ω.2 a) (fun v => y_w M_X3_next mc ms Q (18, lv, v :: r, ω, c, s)) := w_getfield dX3_next_15 rfl rfl
theorem wX3_next_18 (hc : y_cls ω a = some 3) : y_w M_X3_next mc ms Q (18, lv, v1 :: .ref a :: r, ω, c, s) = (y_cat r ≤ 8 ∧ F_X3_byteAt mc ms [.ref a, v1] ω c s (y_aft M_X3_next 18 3 lv r (y_w M_X3_next mc ms Q) Q)) := w_call1 (av := [v1]) (Or.inl ⟨⟨rfl, rfl⟩, rfl⟩) dX3_next_18 rfl hc rfl (y_F_mono _) (y_dle rfl) (y_dle rfl) rfl rfl
theorem wX3_next_21 : y_w M_X3_next mc ms Q (21, lv, st, ω, c, s) = y_w M_X3_next mc ms Q (23, lv, .int (nI 10) :: st, ω, c, s) := w_bipush dX3_next_21 (v := (nI 10)) (by decide) rfl
theorem wX3_next_23 : y_w M_X3_next mc ms Q (23, lv, .int y :: .int x :: r, ω, c, s) = ((¬ x = y → y_w M_X3_next mc ms Q (39, lv, r, ω, c, s)) ∧ (¬ (¬ x = y) → y_w M_X3_next mc ms Q (26, lv, r, ω, c, s))) := w_icmp dX3_next_23 (tgt := 39) rfl rfl rfl
theorem wX3_next_26 : y_w M_X3_next mc ms Q (26, lv, st, ω, c, s) = y_ldA lv 0 (fun v => y_w M_X3_next mc ms Q (27, lv, v :: st, ω, c, s)) := w_aload_n dX3_next_26 rfl rfl
theorem wX3_next_27 : y_w M_X3_next mc ms Q (27, lv, v :: r, ω, c, s) = (v.category = 1 ∧ y_w M_X3_next mc ms Q (28, lv, v :: v :: r, ω, c, s)) := w_dup dX3_next_27 rfl
theorem wX3_next_28 : y_w M_X3_next mc ms Q (28, lv, .ref a :: r, ω, c, s) = y_gf P_X3_next 85 (ω.2 a) (fun v => y_w M_X3_next mc ms Q (31, lv, v :: r, ω, c, s)) := w_getfield dX3_next_28 rfl rfl
theorem wX3_next_31 : y_w M_X3_next mc ms Q (31, lv, st, ω, c, s) = y_w M_X3_next mc ms Q (32, lv, .int 1 :: st, ω, c, s) := w_iconst dX3_next_31 (v := 1) (by decide) rfl
theorem wX3_next_32 : y_w M_X3_next mc ms Q (32, lv, .int y :: .int x :: r, ω, c, s) = y_w M_X3_next mc ms Q (33, lv, .int (x + y) :: r, ω, c, s) := w_iadd dX3_next_32 rfl
theorem wX3_next_33 : y_w M_X3_next mc ms Q (33, lv, v :: .ref a :: r, ω, c, s) = y_pf P_X3_next false 85 (ω.2 a) v (fun ci fs => y_w M_X3_next mc ms Q (36, lv, r, y_hup ω a (.inr (ci, fs)), c, s)) := w_putfield dX3_next_33 rfl rfl rfl
theorem wX3_next_36 : y_w M_X3_next mc ms Q (36, lv, st, ω, c, s) = ∃ lv2, y_lsub lv2 lv ∧ y_w M_X3_next mc ms Q (0, lv2, st, ω, c, s) := w_back dX3_next_36 (tgt := 0) (by decide) rfl
theorem wX3_next_39 : y_w M_X3_next mc ms Q (39, lv, st, ω, c, s) = y_ldA lv 0 (fun v => y_w M_X3_next mc ms Q (40, lv, v :: st, ω, c, s)) := w_aload_n dX3_next_39 rfl rfl
theorem wX3_next_40 : y_w M_X3_next mc ms Q (40, lv, st, ω, c, s) = y_ldA lv 0 (fun v => y_w M_X3_next mc ms Q (41, lv, v :: st, ω, c, s)) := w_aload_n dX3_next_40 rfl rfl
theorem wX3_next_41 : y_w M_X3_next mc ms Q (41, lv, .ref a :: r, ω, c, s) = y_gf P_X3_next 85 (ω.2 a) (fun v => y_w M_X3_next mc ms Q (44, lv, v :: r, ω, c, s)) := w_getfield dX3_next_41 rfl rfl
theorem wX3_next_44 : y_w M_X3_next mc ms Q (44, lv, v :: .ref a :: r, ω, c, s) = y_pf P_X3_next false 91 (ω.2 a) v (fun ci fs => y_w M_X3_next mc ms Q (47, lv, r, y_hup ω a (.inr (ci, fs)), c, s)) := w_putfield dX3_next_44 rfl rfl rfl
theorem wX3_next_47 : y_w M_X3_next mc ms Q (47, lv, st, ω, c, s) = y_ldA lv 0 (fun v => y_w M_X3_next mc ms Q (48, lv, v :: st, ω, c, s)) := w_aload_n dX3_next_47 rfl rfl
theorem wX3_next_48 : y_w M_X3_next mc ms Q (48, lv, st, ω, c, s) = y_ldA lv 0 (fun v => y_w M_X3_next mc ms Q (49, lv, v :: st, ω, c, s)) := w_aload_n dX3_next_48 rfl rfl
theorem wX3_next_49 : y_w M_X3_next mc ms Q (49, lv, .ref a :: r, ω, c, s) = y_gf P_X3_next 85 (ω.2 a) (fun v => y_w M_X3_next mc ms Q (52, lv, v :: r, ω, c, s)) := w_getfield dX3_next_49 rfl rfl
theorem wX3_next_52 (hc : y_cls ω a = some 3) : y_w M_X3_next mc ms Q (52, lv, v1 :: .ref a :: r, ω, c, s) = (y_cat r ≤ 8 ∧ F_X3_byteAt mc ms [.ref a, v1] ω c s (y_aft M_X3_next 52 3 lv r (y_w M_X3_next mc ms Q) Q)) := w_call1 (av := [v1]) (Or.inl ⟨⟨rfl, rfl⟩, rfl⟩) dX3_next_52 rfl hc rfl (y_F_mono _) (y_dle rfl) (y_dle rfl) rfl rfl
theorem wX3_next_55 : y_w M_X3_next mc ms Q (55, lv, .int x :: r, ω, c, s) = y_w M_X3_next mc ms Q (56, (1, .int x) :: y_kill 1 lv, r, ω, c, s) := w_istore_n dX3_next_55 rfl (y_dle rfl) rfl
theorem wX3_next_56 : y_w M_X3_next mc ms Q (56, lv, st, ω, c, s) = y_ldI lv 1 (fun v => y_w M_X3_next mc ms Q (57, lv, v :: st, ω, c, s)) := w_iload_n dX3_next_56 rfl rfl
theorem wX3_next_57 : y_w M_X3_next mc ms Q (57, lv, st, ω, c, s) = y_w M_X3_next mc ms Q (59, lv, .int (-1000000) :: st, ω, c, s) := w_ldc dX3_next_57 rfl rfl rfl
theorem wX3_next_59 : y_w M_X3_next mc ms Q (59, lv, .int y :: .int x :: r, ω, c, s) = ((¬ x = y → y_w M_X3_next mc ms Q (70, lv, r, ω, c, s)) ∧ (¬ (¬ x = y) → y_w M_X3_next mc ms Q (62, lv, r, ω, c, s))) := w_icmp dX3_next_59 (tgt := 70) rfl rfl rfl
theorem wX3_next_62 : y_w M_X3_next mc ms Q (62, lv, st, ω, c, s) = y_ldA lv 0 (fun v => y_w M_X3_next mc ms Q (63, lv, v :: st, ω, c, s)) := w_aload_n dX3_next_62 rfl rfl
theorem wX3_next_63 : y_w M_X3_next mc ms Q (63, lv, st, ω, c, s) = y_w M_X3_next mc ms Q (64, lv, .int 1 :: st, ω, c, s) := w_iconst dX3_next_63 (v := 1) (by decide) rfl
theorem wX3_next_64 : y_w M_X3_next mc ms Q (64, lv, v :: .ref a :: r, ω, c, s) = y_pf P_X3_next false 94 (ω.2 a) v (fun ci fs => y_w M_X3_next mc ms Q (67, lv, r, y_hup ω a (.inr (ci, fs)), c, s)) := w_putfield dX3_next_64 rfl rfl rfl
theorem wX3_next_67 : y_w M_X3_next mc ms Q (67, lv, st, ω, c, s) = y_w M_X3_next mc ms Q (196, lv, st, ω, c, s) := w_goto dX3_next_67 (tgt := 196) (by decide) rfl
theorem wX3_next_70 : y_w M_X3_next mc ms Q (70, lv, st, ω, c, s) = y_ldI lv 1 (fun v => y_w M_X3_next mc ms Q (71, lv, v :: st, ω, c, s)) := w_iload_n dX3_next_70 rfl rfl
theorem wX3_next_71 : y_w M_X3_next mc ms Q (71, lv, v0 :: r, ω, c, s) = (y_cat r ≤ 8 ∧ F_X3_isLetter mc ms [v0] ω c s (y_aft M_X3_next 71 3 lv r (y_w M_X3_next mc ms Q) Q)) := w_call0 (av := [v0]) ⟨Or.inr ⟨rfl, rfl⟩, rfl⟩ dX3_next_71 rfl (y_F_mono _) (y_dle rfl) (y_dle rfl) rfl rfl
theorem wX3_next_74 : y_w M_X3_next mc ms Q (74, lv, .int x :: r, ω, c, s) = ((x = 0 → y_w M_X3_next mc ms Q (112, lv, r, ω, c, s)) ∧ (¬ (x = 0) → y_w M_X3_next mc ms Q (77, lv, r, ω, c, s))) := w_if dX3_next_74 (tgt := 112) rfl rfl rfl
theorem wX3_next_77 : y_w M_X3_next mc ms Q (77, lv, st, ω, c, s) = y_ldA lv 0 (fun v => y_w M_X3_next mc ms Q (78, lv, v :: st, ω, c, s)) := w_aload_n dX3_next_77 rfl rfl
theorem wX3_next_78 : y_w M_X3_next mc ms Q (78, lv, st, ω, c, s) = y_ldA lv 0 (fun v => y_w M_X3_next mc ms Q (79, lv, v :: st, ω, c, s)) := w_aload_n dX3_next_78 rfl rfl
theorem wX3_next_79 : y_w M_X3_next mc ms Q (79, lv, .ref a :: r, ω, c, s) = y_gf P_X3_next 85 (ω.2 a) (fun v => y_w M_X3_next mc ms Q (82, lv, v :: r, ω, c, s)) := w_getfield dX3_next_79 rfl rfl
theorem wX3_next_82 (hc : y_cls ω a = some 3) : y_w M_X3_next mc ms Q (82, lv, v1 :: .ref a :: r, ω, c, s) = (y_cat r ≤ 8 ∧ F_X3_byteAt mc ms [.ref a, v1] ω c s (y_aft M_X3_next 82 3 lv r (y_w M_X3_next mc ms Q) Q)) := w_call1 (av := [v1]) (Or.inl ⟨⟨rfl, rfl⟩, rfl⟩) dX3_next_82 rfl hc rfl (y_F_mono _) (y_dle rfl) (y_dle rfl) rfl rfl
theorem wX3_next_85 : y_w M_X3_next mc ms Q (85, lv, v0 :: r, ω, c, s) = (y_cat r ≤ 8 ∧ F_X3_isLetter mc ms [v0] ω c s (y_aft M_X3_next 85 3 lv r (y_w M_X3_next mc ms Q) Q)) := w_call0 (av := [v0]) ⟨Or.inr ⟨rfl, rfl⟩, rfl⟩ dX3_next_85 rfl (y_F_mono _) (y_dle rfl) (y_dle rfl) rfl rfl
theorem wX3_next_88 : y_w M_X3_next mc ms Q (88, lv, .int x :: r, ω, c, s) = ((x = 0 → y_w M_X3_next mc ms Q (104, lv, r, ω, c, s)) ∧ (¬ (x = 0) → y_w M_X3_next mc ms Q (91, lv, r, ω, c, s))) := w_if dX3_next_88 (tgt := 104) rfl rfl rfl
theorem wX3_next_91 : y_w M_X3_next mc ms Q (91, lv, st, ω, c, s) = y_ldA lv 0 (fun v => y_w M_X3_next mc ms Q (92, lv, v :: st, ω, c, s)) := w_aload_n dX3_next_91 rfl rfl
theorem wX3_next_92 : y_w M_X3_next mc ms Q (92, lv, v :: r, ω, c, s) = (v.category = 1 ∧ y_w M_X3_next mc ms Q (93, lv, v :: v :: r, ω, c, s)) := w_dup dX3_next_92 rfl
theorem wX3_next_93 : y_w M_X3_next mc ms Q (93, lv, .ref a :: r, ω, c, s) = y_gf P_X3_next 85 (ω.2 a) (fun v => y_w M_X3_next mc ms Q (96, lv, v :: r, ω, c, s)) := w_getfield dX3_next_93 rfl rfl
theorem wX3_next_96 : y_w M_X3_next mc ms Q (96, lv, st, ω, c, s) = y_w M_X3_next mc ms Q (97, lv, .int 1 :: st, ω, c, s) := w_iconst dX3_next_96 (v := 1) (by decide) rfl
theorem wX3_next_97 : y_w M_X3_next mc ms Q (97, lv, .int y :: .int x :: r, ω, c, s) = y_w M_X3_next mc ms Q (98, lv, .int (x + y) :: r, ω, c, s) := w_iadd dX3_next_97 rfl
theorem wX3_next_98 : y_w M_X3_next mc ms Q (98, lv, v :: .ref a :: r, ω, c, s) = y_pf P_X3_next false 85 (ω.2 a) v (fun ci fs => y_w M_X3_next mc ms Q (101, lv, r, y_hup ω a (.inr (ci, fs)), c, s)) := w_putfield dX3_next_98 rfl rfl rfl
theorem wX3_next_101 : y_w M_X3_next mc ms Q (101, lv, st, ω, c, s) = ∃ lv2, y_lsub lv2 lv ∧ y_w M_X3_next mc ms Q (77, lv2, st, ω, c, s) := w_back dX3_next_101 (tgt := 77) (by decide) rfl
theorem wX3_next_104 : y_w M_X3_next mc ms Q (104, lv, st, ω, c, s) = y_ldA lv 0 (fun v => y_w M_X3_next mc ms Q (105, lv, v :: st, ω, c, s)) := w_aload_n dX3_next_104 rfl rfl
theorem wX3_next_105 : y_w M_X3_next mc ms Q (105, lv, st, ω, c, s) = y_w M_X3_next mc ms Q (106, lv, .int (nI 2) :: st, ω, c, s) := w_iconst dX3_next_105 (v := (nI 2)) (by decide) rfl
theorem wX3_next_106 : y_w M_X3_next mc ms Q (106, lv, v :: .ref a :: r, ω, c, s) = y_pf P_X3_next false 94 (ω.2 a) v (fun ci fs => y_w M_X3_next mc ms Q (109, lv, r, y_hup ω a (.inr (ci, fs)), c, s)) := w_putfield dX3_next_106 rfl rfl rfl
theorem wX3_next_109 : y_w M_X3_next mc ms Q (109, lv, st, ω, c, s) = y_w M_X3_next mc ms Q (196, lv, st, ω, c, s) := w_goto dX3_next_109 (tgt := 196) (by decide) rfl
theorem wX3_next_112 : y_w M_X3_next mc ms Q (112, lv, st, ω, c, s) = y_ldI lv 1 (fun v => y_w M_X3_next mc ms Q (113, lv, v :: st, ω, c, s)) := w_iload_n dX3_next_112 rfl rfl
theorem wX3_next_113 : y_w M_X3_next mc ms Q (113, lv, v0 :: r, ω, c, s) = (y_cat r ≤ 8 ∧ F_X3_isFigure mc ms [v0] ω c s (y_aft M_X3_next 113 3 lv r (y_w M_X3_next mc ms Q) Q)) := w_call0 (av := [v0]) ⟨Or.inr ⟨rfl, rfl⟩, rfl⟩ dX3_next_113 rfl (y_F_mono _) (y_dle rfl) (y_dle rfl) rfl rfl
theorem wX3_next_116 : y_w M_X3_next mc ms Q (116, lv, .int x :: r, ω, c, s) = ((x = 0 → y_w M_X3_next mc ms Q (171, lv, r, ω, c, s)) ∧ (¬ (x = 0) → y_w M_X3_next mc ms Q (119, lv, r, ω, c, s))) := w_if dX3_next_116 (tgt := 171) rfl rfl rfl
theorem wX3_next_119 : y_w M_X3_next mc ms Q (119, lv, st, ω, c, s) = y_ldA lv 0 (fun v => y_w M_X3_next mc ms Q (120, lv, v :: st, ω, c, s)) := w_aload_n dX3_next_119 rfl rfl
theorem wX3_next_120 : y_w M_X3_next mc ms Q (120, lv, st, ω, c, s) = y_ldA lv 0 (fun v => y_w M_X3_next mc ms Q (121, lv, v :: st, ω, c, s)) := w_aload_n dX3_next_120 rfl rfl
theorem wX3_next_121 : y_w M_X3_next mc ms Q (121, lv, .ref a :: r, ω, c, s) = y_gf P_X3_next 85 (ω.2 a) (fun v => y_w M_X3_next mc ms Q (124, lv, v :: r, ω, c, s)) := w_getfield dX3_next_121 rfl rfl
theorem wX3_next_124 (hc : y_cls ω a = some 3) : y_w M_X3_next mc ms Q (124, lv, v1 :: .ref a :: r, ω, c, s) = (y_cat r ≤ 8 ∧ F_X3_byteAt mc ms [.ref a, v1] ω c s (y_aft M_X3_next 124 3 lv r (y_w M_X3_next mc ms Q) Q)) := w_call1 (av := [v1]) (Or.inl ⟨⟨rfl, rfl⟩, rfl⟩) dX3_next_124 rfl hc rfl (y_F_mono _) (y_dle rfl) (y_dle rfl) rfl rfl
theorem wX3_next_127 : y_w M_X3_next mc ms Q (127, lv, v0 :: r, ω, c, s) = (y_cat r ≤ 8 ∧ F_X3_isFigure mc ms [v0] ω c s (y_aft M_X3_next 127 3 lv r (y_w M_X3_next mc ms Q) Q)) := w_call0 (av := [v0]) ⟨Or.inr ⟨rfl, rfl⟩, rfl⟩ dX3_next_127 rfl (y_F_mono _) (y_dle rfl) (y_dle rfl) rfl rfl
theorem wX3_next_130 : y_w M_X3_next mc ms Q (130, lv, .int x :: r, ω, c, s) = ((x = 0 → y_w M_X3_next mc ms Q (146, lv, r, ω, c, s)) ∧ (¬ (x = 0) → y_w M_X3_next mc ms Q (133, lv, r, ω, c, s))) := w_if dX3_next_130 (tgt := 146) rfl rfl rfl
theorem wX3_next_133 : y_w M_X3_next mc ms Q (133, lv, st, ω, c, s) = y_ldA lv 0 (fun v => y_w M_X3_next mc ms Q (134, lv, v :: st, ω, c, s)) := w_aload_n dX3_next_133 rfl rfl
theorem wX3_next_134 : y_w M_X3_next mc ms Q (134, lv, v :: r, ω, c, s) = (v.category = 1 ∧ y_w M_X3_next mc ms Q (135, lv, v :: v :: r, ω, c, s)) := w_dup dX3_next_134 rfl
theorem wX3_next_135 : y_w M_X3_next mc ms Q (135, lv, .ref a :: r, ω, c, s) = y_gf P_X3_next 85 (ω.2 a) (fun v => y_w M_X3_next mc ms Q (138, lv, v :: r, ω, c, s)) := w_getfield dX3_next_135 rfl rfl
theorem wX3_next_138 : y_w M_X3_next mc ms Q (138, lv, st, ω, c, s) = y_w M_X3_next mc ms Q (139, lv, .int 1 :: st, ω, c, s) := w_iconst dX3_next_138 (v := 1) (by decide) rfl
theorem wX3_next_139 : y_w M_X3_next mc ms Q (139, lv, .int y :: .int x :: r, ω, c, s) = y_w M_X3_next mc ms Q (140, lv, .int (x + y) :: r, ω, c, s) := w_iadd dX3_next_139 rfl
theorem wX3_next_140 : y_w M_X3_next mc ms Q (140, lv, v :: .ref a :: r, ω, c, s) = y_pf P_X3_next false 85 (ω.2 a) v (fun ci fs => y_w M_X3_next mc ms Q (143, lv, r, y_hup ω a (.inr (ci, fs)), c, s)) := w_putfield dX3_next_140 rfl rfl rfl
theorem wX3_next_143 : y_w M_X3_next mc ms Q (143, lv, st, ω, c, s) = ∃ lv2, y_lsub lv2 lv ∧ y_w M_X3_next mc ms Q (119, lv2, st, ω, c, s) := w_back dX3_next_143 (tgt := 119) (by decide) rfl
theorem wX3_next_146 : y_w M_X3_next mc ms Q (146, lv, st, ω, c, s) = y_ldA lv 0 (fun v => y_w M_X3_next mc ms Q (147, lv, v :: st, ω, c, s)) := w_aload_n dX3_next_146 rfl rfl
theorem wX3_next_147 : y_w M_X3_next mc ms Q (147, lv, st, ω, c, s) = y_ldA lv 0 (fun v => y_w M_X3_next mc ms Q (148, lv, v :: st, ω, c, s)) := w_aload_n dX3_next_147 rfl rfl
theorem wX3_next_148 : y_w M_X3_next mc ms Q (148, lv, .ref a :: r, ω, c, s) = y_gf P_X3_next 85 (ω.2 a) (fun v => y_w M_X3_next mc ms Q (151, lv, v :: r, ω, c, s)) := w_getfield dX3_next_148 rfl rfl
theorem wX3_next_151 : y_w M_X3_next mc ms Q (151, lv, st, ω, c, s) = y_ldA lv 0 (fun v => y_w M_X3_next mc ms Q (152, lv, v :: st, ω, c, s)) := w_aload_n dX3_next_151 rfl rfl
theorem wX3_next_152 : y_w M_X3_next mc ms Q (152, lv, .ref a :: r, ω, c, s) = y_gf P_X3_next 91 (ω.2 a) (fun v => y_w M_X3_next mc ms Q (155, lv, v :: r, ω, c, s)) := w_getfield dX3_next_152 rfl rfl
theorem wX3_next_155 : y_w M_X3_next mc ms Q (155, lv, .int y :: .int x :: r, ω, c, s) = y_w M_X3_next mc ms Q (156, lv, .int (x - y) :: r, ω, c, s) := w_isub dX3_next_155 rfl
theorem wX3_next_156 : y_w M_X3_next mc ms Q (156, lv, st, ω, c, s) = y_w M_X3_next mc ms Q (157, lv, .int (nI 3) :: st, ω, c, s) := w_iconst dX3_next_156 (v := (nI 3)) (by decide) rfl
theorem wX3_next_157 : y_w M_X3_next mc ms Q (157, lv, .int y :: .int x :: r, ω, c, s) = ((x ≤ y → y_w M_X3_next mc ms Q (164, lv, r, ω, c, s)) ∧ (¬ (x ≤ y) → y_w M_X3_next mc ms Q (160, lv, r, ω, c, s))) := w_icmp dX3_next_157 (tgt := 164) rfl rfl rfl
theorem wX3_next_160 : y_w M_X3_next mc ms Q (160, lv, st, ω, c, s) = y_w M_X3_next mc ms Q (161, lv, .int 0 :: st, ω, c, s) := w_iconst dX3_next_160 (v := 0) (by decide) rfl
theorem wX3_next_161 : y_w M_X3_next mc ms Q (161, lv, st, ω, c, s) = y_w M_X3_next mc ms Q (165, lv, st, ω, c, s) := w_goto dX3_next_161 (tgt := 165) (by decide) rfl
theorem wX3_next_164 : y_w M_X3_next mc ms Q (164, lv, st, ω, c, s) = y_w M_X3_next mc ms Q (165, lv, .int (nI 3) :: st, ω, c, s) := w_iconst dX3_next_164 (v := (nI 3)) (by decide) rfl
theorem wX3_next_165 : y_w M_X3_next mc ms Q (165, lv, v :: .ref a :: r, ω, c, s) = y_pf P_X3_next false 94 (ω.2 a) v (fun ci fs => y_w M_X3_next mc ms Q (168, lv, r, y_hup ω a (.inr (ci, fs)), c, s)) := w_putfield dX3_next_165 rfl rfl rfl
theorem wX3_next_168 : y_w M_X3_next mc ms Q (168, lv, st, ω, c, s) = y_w M_X3_next mc ms Q (196, lv, st, ω, c, s) := w_goto dX3_next_168 (tgt := 196) (by decide) rfl
theorem wX3_next_171 : y_w M_X3_next mc ms Q (171, lv, st, ω, c, s) = y_ldA lv 0 (fun v => y_w M_X3_next mc ms Q (172, lv, v :: st, ω, c, s)) := w_aload_n dX3_next_171 rfl rfl
theorem wX3_next_172 : y_w M_X3_next mc ms Q (172, lv, v :: r, ω, c, s) = (v.category = 1 ∧ y_w M_X3_next mc ms Q (173, lv, v :: v :: r, ω, c, s)) := w_dup dX3_next_172 rfl
theorem wX3_next_173 : y_w M_X3_next mc ms Q (173, lv, .ref a :: r, ω, c, s) = y_gf P_X3_next 85 (ω.2 a) (fun v => y_w M_X3_next mc ms Q (176, lv, v :: r, ω, c, s)) := w_getfield dX3_next_173 rfl rfl
theorem wX3_next_176 : y_w M_X3_next mc ms Q (176, lv, st, ω, c, s) = y_w M_X3_next mc ms Q (177, lv, .int 1 :: st, ω, c, s) := w_iconst dX3_next_176 (v := 1) (by decide) rfl
theorem wX3_next_177 : y_w M_X3_next mc ms Q (177, lv, .int y :: .int x :: r, ω, c, s) = y_w M_X3_next mc ms Q (178, lv, .int (x + y) :: r, ω, c, s) := w_iadd dX3_next_177 rfl
theorem wX3_next_178 : y_w M_X3_next mc ms Q (178, lv, v :: .ref a :: r, ω, c, s) = y_pf P_X3_next false 85 (ω.2 a) v (fun ci fs => y_w M_X3_next mc ms Q (181, lv, r, y_hup ω a (.inr (ci, fs)), c, s)) := w_putfield dX3_next_178 rfl rfl rfl
theorem wX3_next_181 : y_w M_X3_next mc ms Q (181, lv, st, ω, c, s) = y_ldA lv 0 (fun v => y_w M_X3_next mc ms Q (182, lv, v :: st, ω, c, s)) := w_aload_n dX3_next_181 rfl rfl
theorem wX3_next_182 : y_w M_X3_next mc ms Q (182, lv, st, ω, c, s) = y_ldI lv 1 (fun v => y_w M_X3_next mc ms Q (183, lv, v :: st, ω, c, s)) := w_iload_n dX3_next_182 rfl rfl
theorem wX3_next_183 : y_w M_X3_next mc ms Q (183, lv, st, ω, c, s) = y_w M_X3_next mc ms Q (185, lv, .int (nI 59) :: st, ω, c, s) := w_bipush dX3_next_183 (v := (nI 59)) (by decide) rfl
theorem wX3_next_185 : y_w M_X3_next mc ms Q (185, lv, .int y :: .int x :: r, ω, c, s) = ((¬ x = y → y_w M_X3_next mc ms Q (192, lv, r, ω, c, s)) ∧ (¬ (¬ x = y) → y_w M_X3_next mc ms Q (188, lv, r, ω, c, s))) := w_icmp dX3_next_185 (tgt := 192) rfl rfl rfl
theorem wX3_next_188 : y_w M_X3_next mc ms Q (188, lv, st, ω, c, s) = y_w M_X3_next mc ms Q (189, lv, .int (nI 4) :: st, ω, c, s) := w_iconst dX3_next_188 (v := (nI 4)) (by decide) rfl
theorem wX3_next_189 : y_w M_X3_next mc ms Q (189, lv, st, ω, c, s) = y_w M_X3_next mc ms Q (193, lv, st, ω, c, s) := w_goto dX3_next_189 (tgt := 193) (by decide) rfl
theorem wX3_next_192 : y_w M_X3_next mc ms Q (192, lv, st, ω, c, s) = y_w M_X3_next mc ms Q (193, lv, .int 0 :: st, ω, c, s) := w_iconst dX3_next_192 (v := 0) (by decide) rfl
theorem wX3_next_193 : y_w M_X3_next mc ms Q (193, lv, v :: .ref a :: r, ω, c, s) = y_pf P_X3_next false 94 (ω.2 a) v (fun ci fs => y_w M_X3_next mc ms Q (196, lv, r, y_hup ω a (.inr (ci, fs)), c, s)) := w_putfield dX3_next_193 rfl rfl rfl
theorem wX3_next_196 : y_w M_X3_next mc ms Q (196, lv, st, ω, c, s) = y_ldA lv 0 (fun v => y_w M_X3_next mc ms Q (197, lv, v :: st, ω, c, s)) := w_aload_n dX3_next_196 rfl rfl
theorem wX3_next_197 : y_w M_X3_next mc ms Q (197, lv, st, ω, c, s) = y_ldA lv 0 (fun v => y_w M_X3_next mc ms Q (198, lv, v :: st, ω, c, s)) := w_aload_n dX3_next_197 rfl rfl
theorem wX3_next_198 : y_w M_X3_next mc ms Q (198, lv, .ref a :: r, ω, c, s) = y_gf P_X3_next 85 (ω.2 a) (fun v => y_w M_X3_next mc ms Q (201, lv, v :: r, ω, c, s)) := w_getfield dX3_next_198 rfl rfl
theorem wX3_next_201 : y_w M_X3_next mc ms Q (201, lv, v :: .ref a :: r, ω, c, s) = y_pf P_X3_next false 103 (ω.2 a) v (fun ci fs => y_w M_X3_next mc ms Q (204, lv, r, y_hup ω a (.inr (ci, fs)), c, s)) := w_putfield dX3_next_201 rfl rfl rfl
theorem wX3_next_204 : y_w M_X3_next mc ms Q (204, lv, [], ω, c, s) = Q (.returned none) ω c s := w_return dX3_next_204 rfl
def P_X3_begin : y_Pool := ([(75, 3, 10, .int, false), (81, 3, 12, .int, false), (85, 3, 13, .int, false), (106, 3, 17, .int, false)], [], [], [(109, 1, 3, 1, (2, 42), F_X3_next)], [], [], [])
def M_X3_begin : y_Md := (cX3_begin, "YoungerBackModel", (1, none), (2, 42), false, P_X3_begin, [])
def F_X3_begin : y_Tr := y_F M_X3_begin
theorem nX3_begin : y_nL M_X3_begin = 1 := rfl
theorem fX3_begin_75_3 : y_ffP P_X3_begin 75 3 = some (10, .int, false) := rfl
theorem fX3_begin_81_3 : y_ffP P_X3_begin 81 3 = some (12, .int, false) := rfl
theorem fX3_begin_85_3 : y_ffP P_X3_begin 85 3 = some (13, .int, false) := rfl
theorem fX3_begin_106_3 : y_ffP P_X3_begin 106 3 = some (17, .int, false) := rfl
theorem wX3_begin_0 : y_w M_X3_begin mc ms Q (0, lv, st, ω, c, s) = y_ldA lv 0 (fun v => y_w M_X3_begin mc ms Q (1, lv, v :: st, ω, c, s)) := w_aload_n dX3_begin_0 rfl rfl
theorem wX3_begin_1 : y_w M_X3_begin mc ms Q (1, lv, st, ω, c, s) = y_ldA lv 0 (fun v => y_w M_X3_begin mc ms Q (2, lv, v :: st, ω, c, s)) := w_aload_n dX3_begin_1 rfl rfl
theorem wX3_begin_2 : y_w M_X3_begin mc ms Q (2, lv, .ref a :: r, ω, c, s) = y_gf P_X3_begin 75 (ω.2 a) (fun v => y_w M_X3_begin mc ms Q (5, lv, v :: r, ω, c, s)) := w_getfield dX3_begin_2 rfl rfl
theorem wX3_begin_5 : y_w M_X3_begin mc ms Q (5, lv, v :: .ref a :: r, ω, c, s) = y_pf P_X3_begin false 81 (ω.2 a) v (fun ci fs => y_w M_X3_begin mc ms Q (8, lv, r, y_hup ω a (.inr (ci, fs)), c, s)) := w_putfield dX3_begin_5 rfl rfl rfl
theorem wX3_begin_8 : y_w M_X3_begin mc ms Q (8, lv, st, ω, c, s) = y_ldA lv 0 (fun v => y_w M_X3_begin mc ms Q (9, lv, v :: st, ω, c, s)) := w_aload_n dX3_begin_8 rfl rfl
theorem wX3_begin_9 : y_w M_X3_begin mc ms Q (9, lv, st, ω, c, s) = y_w M_X3_begin mc ms Q (10, lv, .int 0 :: st, ω, c, s) := w_iconst dX3_begin_9 (v := 0) (by decide) rfl
theorem wX3_begin_10 : y_w M_X3_begin mc ms Q (10, lv, v :: .ref a :: r, ω, c, s) = y_pf P_X3_begin false 75 (ω.2 a) v (fun ci fs => y_w M_X3_begin mc ms Q (13, lv, r, y_hup ω a (.inr (ci, fs)), c, s)) := w_putfield dX3_begin_10 rfl rfl rfl
theorem wX3_begin_13 : y_w M_X3_begin mc ms Q (13, lv, st, ω, c, s) = y_ldA lv 0 (fun v => y_w M_X3_begin mc ms Q (14, lv, v :: st, ω, c, s)) := w_aload_n dX3_begin_13 rfl rfl
theorem wX3_begin_14 : y_w M_X3_begin mc ms Q (14, lv, st, ω, c, s) = y_w M_X3_begin mc ms Q (15, lv, .int 0 :: st, ω, c, s) := w_iconst dX3_begin_14 (v := 0) (by decide) rfl
theorem wX3_begin_15 : y_w M_X3_begin mc ms Q (15, lv, v :: .ref a :: r, ω, c, s) = y_pf P_X3_begin false 85 (ω.2 a) v (fun ci fs => y_w M_X3_begin mc ms Q (18, lv, r, y_hup ω a (.inr (ci, fs)), c, s)) := w_putfield dX3_begin_15 rfl rfl rfl
theorem wX3_begin_18 : y_w M_X3_begin mc ms Q (18, lv, st, ω, c, s) = y_ldA lv 0 (fun v => y_w M_X3_begin mc ms Q (19, lv, v :: st, ω, c, s)) := w_aload_n dX3_begin_18 rfl rfl
theorem wX3_begin_19 : y_w M_X3_begin mc ms Q (19, lv, st, ω, c, s) = y_w M_X3_begin mc ms Q (20, lv, .int 0 :: st, ω, c, s) := w_iconst dX3_begin_19 (v := 0) (by decide) rfl
theorem wX3_begin_20 : y_w M_X3_begin mc ms Q (20, lv, v :: .ref a :: r, ω, c, s) = y_pf P_X3_begin false 106 (ω.2 a) v (fun ci fs => y_w M_X3_begin mc ms Q (23, lv, r, y_hup ω a (.inr (ci, fs)), c, s)) := w_putfield dX3_begin_20 rfl rfl rfl
theorem wX3_begin_23 : y_w M_X3_begin mc ms Q (23, lv, st, ω, c, s) = y_ldA lv 0 (fun v => y_w M_X3_begin mc ms Q (24, lv, v :: st, ω, c, s)) := w_aload_n dX3_begin_23 rfl rfl
theorem wX3_begin_24 (hc : y_cls ω a = some 3) : y_w M_X3_begin mc ms Q (24, lv, .ref a :: r, ω, c, s) = (y_cat r ≤ 8 ∧ F_X3_next mc ms [.ref a] ω c s (y_aft M_X3_begin 24 3 lv r (y_w M_X3_begin mc ms Q) Q)) := w_call1 (av := []) (Or.inl ⟨⟨rfl, rfl⟩, rfl⟩) dX3_begin_24 rfl hc rfl (y_F_mono _) (y_dle rfl) (y_dle rfl) rfl rfl
theorem wX3_begin_27 : y_w M_X3_begin mc ms Q (27, lv, [], ω, c, s) = Q (.returned none) ω c s := w_return dX3_begin_27 rfl
def P_X3_name : y_Pool := ([(91, 3, 15, .int, false), (103, 3, 16, .int, false), (94, 3, 14, .int, false), (28, 3, 9, (.array .int), true), (106, 3, 17, .int, false)], [], [], [], [], [], [])
def M_X3_name : y_Md := (cX3_name, "YoungerBackModel", (4, (some FieldType.long)), (0, 0), false, P_X3_name, [])
def F_X3_name : y_Tr := y_F M_X3_name
theorem nX3_name : y_nL M_X3_name = 4 := rfl
theorem fX3_name_91_3 : y_ffP P_X3_name 91 3 = some (15, .int, false) := rfl
theorem fX3_name_103_3 : y_ffP P_X3_name 103 3 = some (16, .int, false) := rfl
theorem fX3_name_94_3 : y_ffP P_X3_name 94 3 = some (14, .int, false) := rfl
theorem fX3_name_28_3 : y_ffP P_X3_name 28 3 = some (9, (.array .int), true) := rfl
theorem fX3_name_106_3 : y_ffP P_X3_name 106 3 = some (17, .int, false) := rfl
theorem wX3_name_0 : y_w M_X3_name mc ms Q (0, lv, st, ω, c, s) = y_w M_X3_name mc ms Q (1, lv, .long 0 :: st, ω, c, s) := w_lconst dX3_name_0 (v := 0) (by decide) rfl
theorem wX3_name_1 : y_w M_X3_name mc ms Q (1, lv, .long z :: r, ω, c, s) = y_w M_X3_name mc ms Q (2, (1, .long z) :: y_kill2 1 lv, r, ω, c, s) := w_lstore_n dX3_name_1 rfl (y_dle rfl) rfl
theorem wX3_name_2 : y_w M_X3_name mc ms Q (2, lv, st, ω, c, s) = y_ldA lv 0 (fun v => y_w M_X3_name mc ms Q (3, lv, v :: st, ω, c, s)) := w_aload_n dX3_name_2 rfl rfl
theorem wX3_name_3 : y_w M_X3_name mc ms Q (3, lv, .ref a :: r, ω, c, s) = y_gf P_X3_name 91 (ω.2 a) (fun v => y_w M_X3_name mc ms Q (6, lv, v :: r, ω, c, s)) := w_getfield dX3_name_3 rfl rfl
theorem wX3_name_6 : y_w M_X3_name mc ms Q (6, lv, .int x :: r, ω, c, s) = y_w M_X3_name mc ms Q (7, (3, .int x) :: y_kill 3 lv, r, ω, c, s) := w_istore_n dX3_name_6 rfl (y_dle rfl) rfl
theorem wX3_name_7 : y_w M_X3_name mc ms Q (7, lv, st, ω, c, s) = y_ldI lv 3 (fun v => y_w M_X3_name mc ms Q (8, lv, v :: st, ω, c, s)) := w_iload_n dX3_name_7 rfl rfl
theorem wX3_name_8 : y_w M_X3_name mc ms Q (8, lv, st, ω, c, s) = y_ldA lv 0 (fun v => y_w M_X3_name mc ms Q (9, lv, v :: st, ω, c, s)) := w_aload_n dX3_name_8 rfl rfl
theorem wX3_name_9 : y_w M_X3_name mc ms Q (9, lv, .ref a :: r, ω, c, s) = y_gf P_X3_name 103 (ω.2 a) (fun v => y_w M_X3_name mc ms Q (12, lv, v :: r, ω, c, s)) := w_getfield dX3_name_9 rfl rfl
theorem wX3_name_12 : y_w M_X3_name mc ms Q (12, lv, .int y :: .int x :: r, ω, c, s) = ((y ≤ x → y_w M_X3_name mc ms Q (56, lv, r, ω, c, s)) ∧ (¬ (y ≤ x) → y_w M_X3_name mc ms Q (15, lv, r, ω, c, s))) := w_icmp dX3_name_12 (tgt := 56) rfl rfl rfl
theorem wX3_name_15 : y_w M_X3_name mc ms Q (15, lv, st, ω, c, s) = y_ldA lv 0 (fun v => y_w M_X3_name mc ms Q (16, lv, v :: st, ω, c, s)) := w_aload_n dX3_name_15 rfl rfl
theorem wX3_name_16 : y_w M_X3_name mc ms Q (16, lv, .ref a :: r, ω, c, s) = y_gf P_X3_name 94 (ω.2 a) (fun v => y_w M_X3_name mc ms Q (19, lv, v :: r, ω, c, s)) := w_getfield dX3_name_16 rfl rfl
theorem wX3_name_19 : y_w M_X3_name mc ms Q (19, lv, st, ω, c, s) = y_w M_X3_name mc ms Q (20, lv, .int (nI 2) :: st, ω, c, s) := w_iconst dX3_name_19 (v := (nI 2)) (by decide) rfl
theorem wX3_name_20 : y_w M_X3_name mc ms Q (20, lv, .int y :: .int x :: r, ω, c, s) = ((¬ x = y → y_w M_X3_name mc ms Q (56, lv, r, ω, c, s)) ∧ (¬ (¬ x = y) → y_w M_X3_name mc ms Q (23, lv, r, ω, c, s))) := w_icmp dX3_name_20 (tgt := 56) rfl rfl rfl
theorem wX3_name_23 : y_w M_X3_name mc ms Q (23, lv, st, ω, c, s) = y_ldA lv 0 (fun v => y_w M_X3_name mc ms Q (24, lv, v :: st, ω, c, s)) := w_aload_n dX3_name_23 rfl rfl
theorem wX3_name_24 : y_w M_X3_name mc ms Q (24, lv, .ref a :: r, ω, c, s) = y_gf P_X3_name 103 (ω.2 a) (fun v => y_w M_X3_name mc ms Q (27, lv, v :: r, ω, c, s)) := w_getfield dX3_name_24 rfl rfl
theorem wX3_name_27 : y_w M_X3_name mc ms Q (27, lv, st, ω, c, s) = y_ldA lv 0 (fun v => y_w M_X3_name mc ms Q (28, lv, v :: st, ω, c, s)) := w_aload_n dX3_name_27 rfl rfl
theorem wX3_name_28 : y_w M_X3_name mc ms Q (28, lv, .ref a :: r, ω, c, s) = y_gf P_X3_name 91 (ω.2 a) (fun v => y_w M_X3_name mc ms Q (31, lv, v :: r, ω, c, s)) := w_getfield dX3_name_28 rfl rfl
theorem wX3_name_31 : y_w M_X3_name mc ms Q (31, lv, .int y :: .int x :: r, ω, c, s) = y_w M_X3_name mc ms Q (32, lv, .int (x - y) :: r, ω, c, s) := w_isub dX3_name_31 rfl
theorem wX3_name_32 : y_w M_X3_name mc ms Q (32, lv, st, ω, c, s) = y_w M_X3_name mc ms Q (34, lv, .int (nI 8) :: st, ω, c, s) := w_bipush dX3_name_32 (v := (nI 8)) (by decide) rfl
theorem wX3_name_34 : y_w M_X3_name mc ms Q (34, lv, .int y :: .int x :: r, ω, c, s) = ((y ≤ x → y_w M_X3_name mc ms Q (56, lv, r, ω, c, s)) ∧ (¬ (y ≤ x) → y_w M_X3_name mc ms Q (37, lv, r, ω, c, s))) := w_icmp dX3_name_34 (tgt := 56) rfl rfl rfl
theorem wX3_name_37 : y_w M_X3_name mc ms Q (37, lv, st, ω, c, s) = y_ldL lv 1 (fun v => y_w M_X3_name mc ms Q (38, lv, v :: st, ω, c, s)) := w_lload_n dX3_name_37 rfl rfl
theorem wX3_name_38 : y_w M_X3_name mc ms Q (38, lv, st, ω, c, s) = y_w M_X3_name mc ms Q (40, lv, .int (nI 8) :: st, ω, c, s) := w_bipush dX3_name_38 (v := (nI 8)) (by decide) rfl
theorem wX3_name_40 : y_w M_X3_name mc ms Q (40, lv, .int y :: .long z :: r, ω, c, s) = y_w M_X3_name mc ms Q (41, lv, .long (z <<< (y.toInt64 &&& 63)) :: r, ω, c, s) := w_lshl dX3_name_40 rfl
theorem wX3_name_41 : y_w M_X3_name mc ms Q (41, lv, st, ω, c, s) = y_ldA lv 0 (fun v => y_w M_X3_name mc ms Q (42, lv, v :: st, ω, c, s)) := w_aload_n dX3_name_41 rfl rfl
theorem wX3_name_42 : y_w M_X3_name mc ms Q (42, lv, .ref a :: r, ω, c, s) = y_gf P_X3_name 28 (ω.2 a) (fun v => y_w M_X3_name mc ms Q (45, lv, v :: r, ω, c, s)) := w_getfield dX3_name_42 rfl rfl
theorem wX3_name_45 : y_w M_X3_name mc ms Q (45, lv, st, ω, c, s) = y_ldI lv 3 (fun v => y_w M_X3_name mc ms Q (46, lv, v :: st, ω, c, s)) := w_iload_n dX3_name_45 rfl rfl
theorem wX3_name_46 : y_w M_X3_name mc ms Q (46, lv, .int j :: .ref a :: r, ω, c, s) = y_rI (ω.2 a) j (fun x => y_w M_X3_name mc ms Q (47, lv, .int x :: r, ω, c, s)) := w_iaload dX3_name_46 rfl
theorem wX3_name_47 : y_w M_X3_name mc ms Q (47, lv, .int x :: r, ω, c, s) = y_w M_X3_name mc ms Q (48, lv, .long x.toInt64 :: r, ω, c, s) := w_i2l dX3_name_47 rfl
theorem wX3_name_48 : y_w M_X3_name mc ms Q (48, lv, .long w :: .long z :: r, ω, c, s) = y_w M_X3_name mc ms Q (49, lv, .long (z ||| w) :: r, ω, c, s) := w_lor dX3_name_48 rfl
theorem wX3_name_49 : y_w M_X3_name mc ms Q (49, lv, .long z :: r, ω, c, s) = y_w M_X3_name mc ms Q (50, (1, .long z) :: y_kill2 1 lv, r, ω, c, s) := w_lstore_n dX3_name_49 rfl (y_dle rfl) rfl
theorem wX3_name_50 : y_w M_X3_name mc ms Q (50, lv, st, ω, c, s) = y_inc lv 3 (fun x => y_w M_X3_name mc ms Q (53, (3, .int (x + 1)) :: y_kill 3 lv, st, ω, c, s)) := w_iinc dX3_name_50 (d := 1) (by decide) (y_dle rfl) rfl
theorem wX3_name_53 : y_w M_X3_name mc ms Q (53, lv, st, ω, c, s) = ∃ lv2, y_lsub lv2 lv ∧ y_w M_X3_name mc ms Q (7, lv2, st, ω, c, s) := w_back dX3_name_53 (tgt := 7) (by decide) rfl
theorem wX3_name_56 : y_w M_X3_name mc ms Q (56, lv, st, ω, c, s) = y_ldA lv 0 (fun v => y_w M_X3_name mc ms Q (57, lv, v :: st, ω, c, s)) := w_aload_n dX3_name_56 rfl rfl
theorem wX3_name_57 : y_w M_X3_name mc ms Q (57, lv, .ref a :: r, ω, c, s) = y_gf P_X3_name 106 (ω.2 a) (fun v => y_w M_X3_name mc ms Q (60, lv, v :: r, ω, c, s)) := w_getfield dX3_name_57 rfl rfl
theorem wX3_name_60 : y_w M_X3_name mc ms Q (60, lv, .int x :: r, ω, c, s) = ((¬ x = 0 → y_w M_X3_name mc ms Q (67, lv, r, ω, c, s)) ∧ (¬ (¬ x = 0) → y_w M_X3_name mc ms Q (63, lv, r, ω, c, s))) := w_if dX3_name_60 (tgt := 67) rfl rfl rfl
theorem wX3_name_63 : y_w M_X3_name mc ms Q (63, lv, st, ω, c, s) = y_ldL lv 1 (fun v => y_w M_X3_name mc ms Q (64, lv, v :: st, ω, c, s)) := w_lload_n dX3_name_63 rfl rfl
theorem wX3_name_64 : y_w M_X3_name mc ms Q (64, lv, st, ω, c, s) = y_w M_X3_name mc ms Q (68, lv, st, ω, c, s) := w_goto dX3_name_64 (tgt := 68) (by decide) rfl
theorem wX3_name_67 : y_w M_X3_name mc ms Q (67, lv, st, ω, c, s) = y_w M_X3_name mc ms Q (68, lv, .long 0 :: st, ω, c, s) := w_lconst dX3_name_67 (v := 0) (by decide) rfl
theorem wX3_name_68 : y_w M_X3_name mc ms Q (68, lv, [.long z], ω, c, s) = Q (.returned (some (.long z))) ω c s := w_lreturn dX3_name_68 rfl
def P_X3_bad : y_Pool := ([(106, 3, 17, .int, false), (91, 3, 15, .int, false), (112, 3, 18, .int, false)], [], [], [], [], [], [])
def M_X3_bad : y_Md := (cX3_bad, "YoungerBackModel", (2, none), (0, 0), false, P_X3_bad, [])
def F_X3_bad : y_Tr := y_F M_X3_bad
theorem nX3_bad : y_nL M_X3_bad = 2 := rfl
theorem fX3_bad_106_3 : y_ffP P_X3_bad 106 3 = some (17, .int, false) := rfl
theorem fX3_bad_91_3 : y_ffP P_X3_bad 91 3 = some (15, .int, false) := rfl
theorem fX3_bad_112_3 : y_ffP P_X3_bad 112 3 = some (18, .int, false) := rfl
theorem wX3_bad_0 : y_w M_X3_bad mc ms Q (0, lv, st, ω, c, s) = y_ldA lv 0 (fun v => y_w M_X3_bad mc ms Q (1, lv, v :: st, ω, c, s)) := w_aload_n dX3_bad_0 rfl rfl
theorem wX3_bad_1 : y_w M_X3_bad mc ms Q (1, lv, .ref a :: r, ω, c, s) = y_gf P_X3_bad 106 (ω.2 a) (fun v => y_w M_X3_bad mc ms Q (4, lv, v :: r, ω, c, s)) := w_getfield dX3_bad_1 rfl rfl
theorem wX3_bad_4 : y_w M_X3_bad mc ms Q (4, lv, .int x :: r, ω, c, s) = ((¬ x = 0 → y_w M_X3_bad mc ms Q (20, lv, r, ω, c, s)) ∧ (¬ (¬ x = 0) → y_w M_X3_bad mc ms Q (7, lv, r, ω, c, s))) := w_if dX3_bad_4 (tgt := 20) rfl rfl rfl
theorem wX3_bad_7 : y_w M_X3_bad mc ms Q (7, lv, st, ω, c, s) = y_ldA lv 0 (fun v => y_w M_X3_bad mc ms Q (8, lv, v :: st, ω, c, s)) := w_aload_n dX3_bad_7 rfl rfl
theorem wX3_bad_8 : y_w M_X3_bad mc ms Q (8, lv, st, ω, c, s) = y_ldI lv 1 (fun v => y_w M_X3_bad mc ms Q (9, lv, v :: st, ω, c, s)) := w_iload_n dX3_bad_8 rfl rfl
theorem wX3_bad_9 : y_w M_X3_bad mc ms Q (9, lv, v :: .ref a :: r, ω, c, s) = y_pf P_X3_bad false 106 (ω.2 a) v (fun ci fs => y_w M_X3_bad mc ms Q (12, lv, r, y_hup ω a (.inr (ci, fs)), c, s)) := w_putfield dX3_bad_9 rfl rfl rfl
theorem wX3_bad_12 : y_w M_X3_bad mc ms Q (12, lv, st, ω, c, s) = y_ldA lv 0 (fun v => y_w M_X3_bad mc ms Q (13, lv, v :: st, ω, c, s)) := w_aload_n dX3_bad_12 rfl rfl
theorem wX3_bad_13 : y_w M_X3_bad mc ms Q (13, lv, st, ω, c, s) = y_ldA lv 0 (fun v => y_w M_X3_bad mc ms Q (14, lv, v :: st, ω, c, s)) := w_aload_n dX3_bad_13 rfl rfl
theorem wX3_bad_14 : y_w M_X3_bad mc ms Q (14, lv, .ref a :: r, ω, c, s) = y_gf P_X3_bad 91 (ω.2 a) (fun v => y_w M_X3_bad mc ms Q (17, lv, v :: r, ω, c, s)) := w_getfield dX3_bad_14 rfl rfl
theorem wX3_bad_17 : y_w M_X3_bad mc ms Q (17, lv, v :: .ref a :: r, ω, c, s) = y_pf P_X3_bad false 112 (ω.2 a) v (fun ci fs => y_w M_X3_bad mc ms Q (20, lv, r, y_hup ω a (.inr (ci, fs)), c, s)) := w_putfield dX3_bad_17 rfl rfl rfl
theorem wX3_bad_20 : y_w M_X3_bad mc ms Q (20, lv, [], ω, c, s) = Q (.returned none) ω c s := w_return dX3_bad_20 rfl
def P_X3_must : y_Pool := ([(106, 3, 17, .int, false)], [], [], [(115, 1, 3, 2, (1, 21), F_X3_bad), (109, 1, 3, 1, (2, 42), F_X3_next)], [], [], [])
def M_X3_must : y_Md := (cX3_must, "YoungerBackModel", (2, none), (2, 42), false, P_X3_must, [])
def F_X3_must : y_Tr := y_F M_X3_must
theorem nX3_must : y_nL M_X3_must = 2 := rfl
theorem fX3_must_106_3 : y_ffP P_X3_must 106 3 = some (17, .int, false) := rfl
theorem wX3_must_0 : y_w M_X3_must mc ms Q (0, lv, st, ω, c, s) = y_ldI lv 1 (fun v => y_w M_X3_must mc ms Q (1, lv, v :: st, ω, c, s)) := w_iload_n dX3_must_0 rfl rfl
theorem wX3_must_1 : y_w M_X3_must mc ms Q (1, lv, .int x :: r, ω, c, s) = ((¬ x = 0 → y_w M_X3_must mc ms Q (9, lv, r, ω, c, s)) ∧ (¬ (¬ x = 0) → y_w M_X3_must mc ms Q (4, lv, r, ω, c, s))) := w_if dX3_must_1 (tgt := 9) rfl rfl rfl
theorem wX3_must_4 : y_w M_X3_must mc ms Q (4, lv, st, ω, c, s) = y_ldA lv 0 (fun v => y_w M_X3_must mc ms Q (5, lv, v :: st, ω, c, s)) := w_aload_n dX3_must_4 rfl rfl
theorem wX3_must_5 : y_w M_X3_must mc ms Q (5, lv, st, ω, c, s) = y_w M_X3_must mc ms Q (6, lv, .int 1 :: st, ω, c, s) := w_iconst dX3_must_5 (v := 1) (by decide) rfl
theorem wX3_must_6 (hc : y_cls ω a = some 3) : y_w M_X3_must mc ms Q (6, lv, v1 :: .ref a :: r, ω, c, s) = (y_cat r ≤ 8 ∧ F_X3_bad mc ms [.ref a, v1] ω c s (y_aft M_X3_must 6 3 lv r (y_w M_X3_must mc ms Q) Q)) := w_call1 (av := [v1]) (Or.inl ⟨⟨rfl, rfl⟩, rfl⟩) dX3_must_6 rfl hc rfl (y_F_mono _) (y_dle rfl) (y_dle rfl) rfl rfl
theorem wX3_must_9 : y_w M_X3_must mc ms Q (9, lv, st, ω, c, s) = y_ldA lv 0 (fun v => y_w M_X3_must mc ms Q (10, lv, v :: st, ω, c, s)) := w_aload_n dX3_must_9 rfl rfl
theorem wX3_must_10 : y_w M_X3_must mc ms Q (10, lv, .ref a :: r, ω, c, s) = y_gf P_X3_must 106 (ω.2 a) (fun v => y_w M_X3_must mc ms Q (13, lv, v :: r, ω, c, s)) := w_getfield dX3_must_10 rfl rfl
theorem wX3_must_13 : y_w M_X3_must mc ms Q (13, lv, .int x :: r, ω, c, s) = ((¬ x = 0 → y_w M_X3_must mc ms Q (20, lv, r, ω, c, s)) ∧ (¬ (¬ x = 0) → y_w M_X3_must mc ms Q (16, lv, r, ω, c, s))) := w_if dX3_must_13 (tgt := 20) rfl rfl rfl
theorem wX3_must_16 : y_w M_X3_must mc ms Q (16, lv, st, ω, c, s) = y_ldA lv 0 (fun v => y_w M_X3_must mc ms Q (17, lv, v :: st, ω, c, s)) := w_aload_n dX3_must_16 rfl rfl
theorem wX3_must_17 (hc : y_cls ω a = some 3) : y_w M_X3_must mc ms Q (17, lv, .ref a :: r, ω, c, s) = (y_cat r ≤ 8 ∧ F_X3_next mc ms [.ref a] ω c s (y_aft M_X3_must 17 3 lv r (y_w M_X3_must mc ms Q) Q)) := w_call1 (av := []) (Or.inl ⟨⟨rfl, rfl⟩, rfl⟩) dX3_must_17 rfl hc rfl (y_F_mono _) (y_dle rfl) (y_dle rfl) rfl rfl
theorem wX3_must_20 : y_w M_X3_must mc ms Q (20, lv, [], ω, c, s) = Q (.returned none) ω c s := w_return dX3_must_20 rfl
def P_X3_figures : y_Pool := ([(91, 3, 15, .int, false), (103, 3, 16, .int, false), (94, 3, 14, .int, false), (28, 3, 9, (.array .int), true)], [], [], [], [], [], [])
def M_X3_figures : y_Md := (cX3_figures, "YoungerBackModel", (3, (some FieldType.int)), (0, 0), false, P_X3_figures, [])
def F_X3_figures : y_Tr := y_F M_X3_figures
theorem nX3_figures : y_nL M_X3_figures = 3 := rfl
theorem fX3_figures_91_3 : y_ffP P_X3_figures 91 3 = some (15, .int, false) := rfl
theorem fX3_figures_103_3 : y_ffP P_X3_figures 103 3 = some (16, .int, false) := rfl
theorem fX3_figures_94_3 : y_ffP P_X3_figures 94 3 = some (14, .int, false) := rfl
theorem fX3_figures_28_3 : y_ffP P_X3_figures 28 3 = some (9, (.array .int), true) := rfl
theorem wX3_figures_0 : y_w M_X3_figures mc ms Q (0, lv, st, ω, c, s) = y_w M_X3_figures mc ms Q (1, lv, .int 0 :: st, ω, c, s) := w_iconst dX3_figures_0 (v := 0) (by decide) rfl
theorem wX3_figures_1 : y_w M_X3_figures mc ms Q (1, lv, .int x :: r, ω, c, s) = y_w M_X3_figures mc ms Q (2, (1, .int x) :: y_kill 1 lv, r, ω, c, s) := w_istore_n dX3_figures_1 rfl (y_dle rfl) rfl
theorem wX3_figures_2 : y_w M_X3_figures mc ms Q (2, lv, st, ω, c, s) = y_ldA lv 0 (fun v => y_w M_X3_figures mc ms Q (3, lv, v :: st, ω, c, s)) := w_aload_n dX3_figures_2 rfl rfl
theorem wX3_figures_3 : y_w M_X3_figures mc ms Q (3, lv, .ref a :: r, ω, c, s) = y_gf P_X3_figures 91 (ω.2 a) (fun v => y_w M_X3_figures mc ms Q (6, lv, v :: r, ω, c, s)) := w_getfield dX3_figures_3 rfl rfl
theorem wX3_figures_6 : y_w M_X3_figures mc ms Q (6, lv, .int x :: r, ω, c, s) = y_w M_X3_figures mc ms Q (7, (2, .int x) :: y_kill 2 lv, r, ω, c, s) := w_istore_n dX3_figures_6 rfl (y_dle rfl) rfl
theorem wX3_figures_7 : y_w M_X3_figures mc ms Q (7, lv, st, ω, c, s) = y_ldI lv 2 (fun v => y_w M_X3_figures mc ms Q (8, lv, v :: st, ω, c, s)) := w_iload_n dX3_figures_7 rfl rfl
theorem wX3_figures_8 : y_w M_X3_figures mc ms Q (8, lv, st, ω, c, s) = y_ldA lv 0 (fun v => y_w M_X3_figures mc ms Q (9, lv, v :: st, ω, c, s)) := w_aload_n dX3_figures_8 rfl rfl
theorem wX3_figures_9 : y_w M_X3_figures mc ms Q (9, lv, .ref a :: r, ω, c, s) = y_gf P_X3_figures 103 (ω.2 a) (fun v => y_w M_X3_figures mc ms Q (12, lv, v :: r, ω, c, s)) := w_getfield dX3_figures_9 rfl rfl
theorem wX3_figures_12 : y_w M_X3_figures mc ms Q (12, lv, .int y :: .int x :: r, ω, c, s) = ((y ≤ x → y_w M_X3_figures mc ms Q (44, lv, r, ω, c, s)) ∧ (¬ (y ≤ x) → y_w M_X3_figures mc ms Q (15, lv, r, ω, c, s))) := w_icmp dX3_figures_12 (tgt := 44) rfl rfl rfl
theorem wX3_figures_15 : y_w M_X3_figures mc ms Q (15, lv, st, ω, c, s) = y_ldA lv 0 (fun v => y_w M_X3_figures mc ms Q (16, lv, v :: st, ω, c, s)) := w_aload_n dX3_figures_15 rfl rfl
theorem wX3_figures_16 : y_w M_X3_figures mc ms Q (16, lv, .ref a :: r, ω, c, s) = y_gf P_X3_figures 94 (ω.2 a) (fun v => y_w M_X3_figures mc ms Q (19, lv, v :: r, ω, c, s)) := w_getfield dX3_figures_16 rfl rfl
theorem wX3_figures_19 : y_w M_X3_figures mc ms Q (19, lv, st, ω, c, s) = y_w M_X3_figures mc ms Q (20, lv, .int (nI 3) :: st, ω, c, s) := w_iconst dX3_figures_19 (v := (nI 3)) (by decide) rfl
theorem wX3_figures_20 : y_w M_X3_figures mc ms Q (20, lv, .int y :: .int x :: r, ω, c, s) = ((¬ x = y → y_w M_X3_figures mc ms Q (44, lv, r, ω, c, s)) ∧ (¬ (¬ x = y) → y_w M_X3_figures mc ms Q (23, lv, r, ω, c, s))) := w_icmp dX3_figures_20 (tgt := 44) rfl rfl rfl
theorem wX3_figures_23 : y_w M_X3_figures mc ms Q (23, lv, st, ω, c, s) = y_w M_X3_figures mc ms Q (25, lv, .int (nI 10) :: st, ω, c, s) := w_bipush dX3_figures_23 (v := (nI 10)) (by decide) rfl
theorem wX3_figures_25 : y_w M_X3_figures mc ms Q (25, lv, st, ω, c, s) = y_ldI lv 1 (fun v => y_w M_X3_figures mc ms Q (26, lv, v :: st, ω, c, s)) := w_iload_n dX3_figures_25 rfl rfl
theorem wX3_figures_26 : y_w M_X3_figures mc ms Q (26, lv, .int y :: .int x :: r, ω, c, s) = y_w M_X3_figures mc ms Q (27, lv, .int (x * y) :: r, ω, c, s) := w_imul dX3_figures_26 rfl
theorem wX3_figures_27 : y_w M_X3_figures mc ms Q (27, lv, st, ω, c, s) = y_ldA lv 0 (fun v => y_w M_X3_figures mc ms Q (28, lv, v :: st, ω, c, s)) := w_aload_n dX3_figures_27 rfl rfl
theorem wX3_figures_28 : y_w M_X3_figures mc ms Q (28, lv, .ref a :: r, ω, c, s) = y_gf P_X3_figures 28 (ω.2 a) (fun v => y_w M_X3_figures mc ms Q (31, lv, v :: r, ω, c, s)) := w_getfield dX3_figures_28 rfl rfl
theorem wX3_figures_31 : y_w M_X3_figures mc ms Q (31, lv, st, ω, c, s) = y_ldI lv 2 (fun v => y_w M_X3_figures mc ms Q (32, lv, v :: st, ω, c, s)) := w_iload_n dX3_figures_31 rfl rfl
theorem wX3_figures_32 : y_w M_X3_figures mc ms Q (32, lv, .int j :: .ref a :: r, ω, c, s) = y_rI (ω.2 a) j (fun x => y_w M_X3_figures mc ms Q (33, lv, .int x :: r, ω, c, s)) := w_iaload dX3_figures_32 rfl
theorem wX3_figures_33 : y_w M_X3_figures mc ms Q (33, lv, .int y :: .int x :: r, ω, c, s) = y_w M_X3_figures mc ms Q (34, lv, .int (x + y) :: r, ω, c, s) := w_iadd dX3_figures_33 rfl
theorem wX3_figures_34 : y_w M_X3_figures mc ms Q (34, lv, st, ω, c, s) = y_w M_X3_figures mc ms Q (36, lv, .int (nI 48) :: st, ω, c, s) := w_bipush dX3_figures_34 (v := (nI 48)) (by decide) rfl
theorem wX3_figures_36 : y_w M_X3_figures mc ms Q (36, lv, .int y :: .int x :: r, ω, c, s) = y_w M_X3_figures mc ms Q (37, lv, .int (x - y) :: r, ω, c, s) := w_isub dX3_figures_36 rfl
theorem wX3_figures_37 : y_w M_X3_figures mc ms Q (37, lv, .int x :: r, ω, c, s) = y_w M_X3_figures mc ms Q (38, (1, .int x) :: y_kill 1 lv, r, ω, c, s) := w_istore_n dX3_figures_37 rfl (y_dle rfl) rfl
theorem wX3_figures_38 : y_w M_X3_figures mc ms Q (38, lv, st, ω, c, s) = y_inc lv 2 (fun x => y_w M_X3_figures mc ms Q (41, (2, .int (x + 1)) :: y_kill 2 lv, st, ω, c, s)) := w_iinc dX3_figures_38 (d := 1) (by decide) (y_dle rfl) rfl
theorem wX3_figures_41 : y_w M_X3_figures mc ms Q (41, lv, st, ω, c, s) = ∃ lv2, y_lsub lv2 lv ∧ y_w M_X3_figures mc ms Q (7, lv2, st, ω, c, s) := w_back dX3_figures_41 (tgt := 7) (by decide) rfl
theorem wX3_figures_44 : y_w M_X3_figures mc ms Q (44, lv, st, ω, c, s) = y_ldI lv 1 (fun v => y_w M_X3_figures mc ms Q (45, lv, v :: st, ω, c, s)) := w_iload_n dX3_figures_44 rfl rfl
theorem wX3_figures_45 : y_w M_X3_figures mc ms Q (45, lv, [.int x], ω, c, s) = Q (.returned (some (.int x))) ω c s := w_ireturnI dX3_figures_45 rfl
def P_X3_number : y_Pool := ([(106, 3, 17, .int, false), (94, 3, 14, .int, false)], [], [], [(119, 1, 3, 1, (1, 22), F_X3_figures), (58, 0, 0, 3, (1, 25), F_X3_in), (115, 1, 3, 2, (1, 21), F_X3_bad), (123, 1, 3, 2, (3, 63), F_X3_must)], [], [], [])
def M_X3_number : y_Md := (cX3_number, "YoungerBackModel", (4, (some FieldType.int)), (3, 63), false, P_X3_number, [])
def F_X3_number : y_Tr := y_F M_X3_number
theorem nX3_number : y_nL M_X3_number = 4 := rfl
theorem fX3_number_106_3 : y_ffP P_X3_number 106 3 = some (17, .int, false) := rfl
theorem fX3_number_94_3 : y_ffP P_X3_number 94 3 = some (14, .int, false) := rfl
theorem wX3_number_0 : y_w M_X3_number mc ms Q (0, lv, st, ω, c, s) = y_ldA lv 0 (fun v => y_w M_X3_number mc ms Q (1, lv, v :: st, ω, c, s)) := w_aload_n dX3_number_0 rfl rfl
theorem wX3_number_1 : y_w M_X3_number mc ms Q (1, lv, .ref a :: r, ω, c, s) = y_gf P_X3_number 106 (ω.2 a) (fun v => y_w M_X3_number mc ms Q (4, lv, v :: r, ω, c, s)) := w_getfield dX3_number_1 rfl rfl
theorem wX3_number_4 : y_w M_X3_number mc ms Q (4, lv, .int x :: r, ω, c, s) = ((x ≤ 0 → y_w M_X3_number mc ms Q (9, lv, r, ω, c, s)) ∧ (¬ (x ≤ 0) → y_w M_X3_number mc ms Q (7, lv, r, ω, c, s))) := w_if dX3_number_4 (tgt := 9) rfl rfl rfl
theorem wX3_number_7 : y_w M_X3_number mc ms Q (7, lv, st, ω, c, s) = y_w M_X3_number mc ms Q (8, lv, .int 0 :: st, ω, c, s) := w_iconst dX3_number_7 (v := 0) (by decide) rfl
theorem wX3_number_8 : y_w M_X3_number mc ms Q (8, lv, [.int x], ω, c, s) = Q (.returned (some (.int x))) ω c s := w_ireturnI dX3_number_8 rfl
theorem wX3_number_9 : y_w M_X3_number mc ms Q (9, lv, st, ω, c, s) = y_ldA lv 0 (fun v => y_w M_X3_number mc ms Q (10, lv, v :: st, ω, c, s)) := w_aload_n dX3_number_9 rfl rfl
theorem wX3_number_10 (hc : y_cls ω a = some 3) : y_w M_X3_number mc ms Q (10, lv, .ref a :: r, ω, c, s) = (y_cat r ≤ 8 ∧ F_X3_figures mc ms [.ref a] ω c s (y_aft M_X3_number 10 3 lv r (y_w M_X3_number mc ms Q) Q)) := w_call1 (av := []) (Or.inl ⟨⟨rfl, rfl⟩, rfl⟩) dX3_number_10 rfl hc rfl (y_F_mono _) (y_dle rfl) (y_dle rfl) rfl rfl
theorem wX3_number_13 : y_w M_X3_number mc ms Q (13, lv, .int x :: r, ω, c, s) = y_w M_X3_number mc ms Q (14, (3, .int x) :: y_kill 3 lv, r, ω, c, s) := w_istore_n dX3_number_13 rfl (y_dle rfl) rfl
theorem wX3_number_14 : y_w M_X3_number mc ms Q (14, lv, st, ω, c, s) = y_ldA lv 0 (fun v => y_w M_X3_number mc ms Q (15, lv, v :: st, ω, c, s)) := w_aload_n dX3_number_14 rfl rfl
theorem wX3_number_15 : y_w M_X3_number mc ms Q (15, lv, .ref a :: r, ω, c, s) = y_gf P_X3_number 94 (ω.2 a) (fun v => y_w M_X3_number mc ms Q (18, lv, v :: r, ω, c, s)) := w_getfield dX3_number_15 rfl rfl
theorem wX3_number_18 : y_w M_X3_number mc ms Q (18, lv, st, ω, c, s) = y_w M_X3_number mc ms Q (19, lv, .int (nI 3) :: st, ω, c, s) := w_iconst dX3_number_18 (v := (nI 3)) (by decide) rfl
theorem wX3_number_19 : y_w M_X3_number mc ms Q (19, lv, .int y :: .int x :: r, ω, c, s) = ((¬ x = y → y_w M_X3_number mc ms Q (39, lv, r, ω, c, s)) ∧ (¬ (¬ x = y) → y_w M_X3_number mc ms Q (22, lv, r, ω, c, s))) := w_icmp dX3_number_19 (tgt := 39) rfl rfl rfl
theorem wX3_number_22 : y_w M_X3_number mc ms Q (22, lv, st, ω, c, s) = y_ldI lv 3 (fun v => y_w M_X3_number mc ms Q (23, lv, v :: st, ω, c, s)) := w_iload_n dX3_number_22 rfl rfl
theorem wX3_number_23 : y_w M_X3_number mc ms Q (23, lv, .int x :: r, ω, c, s) = y_w M_X3_number mc ms Q (24, lv, .long x.toInt64 :: r, ω, c, s) := w_i2l dX3_number_23 rfl
theorem wX3_number_24 : y_w M_X3_number mc ms Q (24, lv, st, ω, c, s) = y_ldI lv 1 (fun v => y_w M_X3_number mc ms Q (25, lv, v :: st, ω, c, s)) := w_iload_n dX3_number_24 rfl rfl
theorem wX3_number_25 : y_w M_X3_number mc ms Q (25, lv, .int x :: r, ω, c, s) = y_w M_X3_number mc ms Q (26, lv, .long x.toInt64 :: r, ω, c, s) := w_i2l dX3_number_25 rfl
theorem wX3_number_26 : y_w M_X3_number mc ms Q (26, lv, st, ω, c, s) = y_ldI lv 2 (fun v => y_w M_X3_number mc ms Q (27, lv, v :: st, ω, c, s)) := w_iload_n dX3_number_26 rfl rfl
theorem wX3_number_27 : y_w M_X3_number mc ms Q (27, lv, .int x :: r, ω, c, s) = y_w M_X3_number mc ms Q (28, lv, .long x.toInt64 :: r, ω, c, s) := w_i2l dX3_number_27 rfl
theorem wX3_number_28 : y_w M_X3_number mc ms Q (28, lv, v2 :: v1 :: v0 :: r, ω, c, s) = (y_cat r ≤ 8 ∧ F_X3_in mc ms [v0, v1, v2] ω c s (y_aft M_X3_number 28 3 lv r (y_w M_X3_number mc ms Q) Q)) := w_call0 (av := [v0, v1, v2]) ⟨Or.inr ⟨rfl, rfl⟩, rfl⟩ dX3_number_28 rfl (y_F_mono _) (y_dle rfl) (y_dle rfl) rfl rfl
theorem wX3_number_31 : y_w M_X3_number mc ms Q (31, lv, .int x :: r, ω, c, s) = ((¬ x = 0 → y_w M_X3_number mc ms Q (39, lv, r, ω, c, s)) ∧ (¬ (¬ x = 0) → y_w M_X3_number mc ms Q (34, lv, r, ω, c, s))) := w_if dX3_number_31 (tgt := 39) rfl rfl rfl
theorem wX3_number_34 : y_w M_X3_number mc ms Q (34, lv, st, ω, c, s) = y_ldA lv 0 (fun v => y_w M_X3_number mc ms Q (35, lv, v :: st, ω, c, s)) := w_aload_n dX3_number_34 rfl rfl
theorem wX3_number_35 : y_w M_X3_number mc ms Q (35, lv, st, ω, c, s) = y_w M_X3_number mc ms Q (36, lv, .int (nI 2) :: st, ω, c, s) := w_iconst dX3_number_35 (v := (nI 2)) (by decide) rfl
theorem wX3_number_36 (hc : y_cls ω a = some 3) : y_w M_X3_number mc ms Q (36, lv, v1 :: .ref a :: r, ω, c, s) = (y_cat r ≤ 8 ∧ F_X3_bad mc ms [.ref a, v1] ω c s (y_aft M_X3_number 36 3 lv r (y_w M_X3_number mc ms Q) Q)) := w_call1 (av := [v1]) (Or.inl ⟨⟨rfl, rfl⟩, rfl⟩) dX3_number_36 rfl hc rfl (y_F_mono _) (y_dle rfl) (y_dle rfl) rfl rfl
theorem wX3_number_39 : y_w M_X3_number mc ms Q (39, lv, st, ω, c, s) = y_ldA lv 0 (fun v => y_w M_X3_number mc ms Q (40, lv, v :: st, ω, c, s)) := w_aload_n dX3_number_39 rfl rfl
theorem wX3_number_40 : y_w M_X3_number mc ms Q (40, lv, st, ω, c, s) = y_ldA lv 0 (fun v => y_w M_X3_number mc ms Q (41, lv, v :: st, ω, c, s)) := w_aload_n dX3_number_40 rfl rfl
theorem wX3_number_41 : y_w M_X3_number mc ms Q (41, lv, .ref a :: r, ω, c, s) = y_gf P_X3_number 94 (ω.2 a) (fun v => y_w M_X3_number mc ms Q (44, lv, v :: r, ω, c, s)) := w_getfield dX3_number_41 rfl rfl
theorem wX3_number_44 : y_w M_X3_number mc ms Q (44, lv, st, ω, c, s) = y_w M_X3_number mc ms Q (45, lv, .int (nI 3) :: st, ω, c, s) := w_iconst dX3_number_44 (v := (nI 3)) (by decide) rfl
theorem wX3_number_45 : y_w M_X3_number mc ms Q (45, lv, .int y :: .int x :: r, ω, c, s) = ((¬ x = y → y_w M_X3_number mc ms Q (52, lv, r, ω, c, s)) ∧ (¬ (¬ x = y) → y_w M_X3_number mc ms Q (48, lv, r, ω, c, s))) := w_icmp dX3_number_45 (tgt := 52) rfl rfl rfl
theorem wX3_number_48 : y_w M_X3_number mc ms Q (48, lv, st, ω, c, s) = y_w M_X3_number mc ms Q (49, lv, .int 1 :: st, ω, c, s) := w_iconst dX3_number_48 (v := 1) (by decide) rfl
theorem wX3_number_49 : y_w M_X3_number mc ms Q (49, lv, st, ω, c, s) = y_w M_X3_number mc ms Q (53, lv, st, ω, c, s) := w_goto dX3_number_49 (tgt := 53) (by decide) rfl
theorem wX3_number_52 : y_w M_X3_number mc ms Q (52, lv, st, ω, c, s) = y_w M_X3_number mc ms Q (53, lv, .int 0 :: st, ω, c, s) := w_iconst dX3_number_52 (v := 0) (by decide) rfl
theorem wX3_number_53 (hc : y_cls ω a = some 3) : y_w M_X3_number mc ms Q (53, lv, v1 :: .ref a :: r, ω, c, s) = (y_cat r ≤ 8 ∧ F_X3_must mc ms [.ref a, v1] ω c s (y_aft M_X3_number 53 3 lv r (y_w M_X3_number mc ms Q) Q)) := w_call1 (av := [v1]) (Or.inl ⟨⟨rfl, rfl⟩, rfl⟩) dX3_number_53 rfl hc rfl (y_F_mono _) (y_dle rfl) (y_dle rfl) rfl rfl
theorem wX3_number_56 : y_w M_X3_number mc ms Q (56, lv, st, ω, c, s) = y_ldI lv 3 (fun v => y_w M_X3_number mc ms Q (57, lv, v :: st, ω, c, s)) := w_iload_n dX3_number_56 rfl rfl
theorem wX3_number_57 : y_w M_X3_number mc ms Q (57, lv, [.int x], ω, c, s) = Q (.returned (some (.int x))) ω c s := w_ireturnI dX3_number_57 rfl
def P_X3_mustEnd : y_Pool := ([(106, 3, 17, .int, false), (94, 3, 14, .int, false)], [], [], [(123, 1, 3, 2, (3, 63), F_X3_must)], [], [], [])
def M_X3_mustEnd : y_Md := (cX3_mustEnd, "YoungerBackModel", (1, none), (3, 63), false, P_X3_mustEnd, [])
def F_X3_mustEnd : y_Tr := y_F M_X3_mustEnd
theorem nX3_mustEnd : y_nL M_X3_mustEnd = 1 := rfl
theorem fX3_mustEnd_106_3 : y_ffP P_X3_mustEnd 106 3 = some (17, .int, false) := rfl
theorem fX3_mustEnd_94_3 : y_ffP P_X3_mustEnd 94 3 = some (14, .int, false) := rfl
theorem wX3_mustEnd_0 : y_w M_X3_mustEnd mc ms Q (0, lv, st, ω, c, s) = y_ldA lv 0 (fun v => y_w M_X3_mustEnd mc ms Q (1, lv, v :: st, ω, c, s)) := w_aload_n dX3_mustEnd_0 rfl rfl
theorem wX3_mustEnd_1 : y_w M_X3_mustEnd mc ms Q (1, lv, .ref a :: r, ω, c, s) = y_gf P_X3_mustEnd 106 (ω.2 a) (fun v => y_w M_X3_mustEnd mc ms Q (4, lv, v :: r, ω, c, s)) := w_getfield dX3_mustEnd_1 rfl rfl
theorem wX3_mustEnd_4 : y_w M_X3_mustEnd mc ms Q (4, lv, .int x :: r, ω, c, s) = ((¬ x = 0 → y_w M_X3_mustEnd mc ms Q (24, lv, r, ω, c, s)) ∧ (¬ (¬ x = 0) → y_w M_X3_mustEnd mc ms Q (7, lv, r, ω, c, s))) := w_if dX3_mustEnd_4 (tgt := 24) rfl rfl rfl
theorem wX3_mustEnd_7 : y_w M_X3_mustEnd mc ms Q (7, lv, st, ω, c, s) = y_ldA lv 0 (fun v => y_w M_X3_mustEnd mc ms Q (8, lv, v :: st, ω, c, s)) := w_aload_n dX3_mustEnd_7 rfl rfl
theorem wX3_mustEnd_8 : y_w M_X3_mustEnd mc ms Q (8, lv, st, ω, c, s) = y_ldA lv 0 (fun v => y_w M_X3_mustEnd mc ms Q (9, lv, v :: st, ω, c, s)) := w_aload_n dX3_mustEnd_8 rfl rfl
theorem wX3_mustEnd_9 : y_w M_X3_mustEnd mc ms Q (9, lv, .ref a :: r, ω, c, s) = y_gf P_X3_mustEnd 94 (ω.2 a) (fun v => y_w M_X3_mustEnd mc ms Q (12, lv, v :: r, ω, c, s)) := w_getfield dX3_mustEnd_9 rfl rfl
theorem wX3_mustEnd_12 : y_w M_X3_mustEnd mc ms Q (12, lv, st, ω, c, s) = y_w M_X3_mustEnd mc ms Q (13, lv, .int (nI 4) :: st, ω, c, s) := w_iconst dX3_mustEnd_12 (v := (nI 4)) (by decide) rfl
theorem wX3_mustEnd_13 : y_w M_X3_mustEnd mc ms Q (13, lv, .int y :: .int x :: r, ω, c, s) = ((¬ x = y → y_w M_X3_mustEnd mc ms Q (20, lv, r, ω, c, s)) ∧ (¬ (¬ x = y) → y_w M_X3_mustEnd mc ms Q (16, lv, r, ω, c, s))) := w_icmp dX3_mustEnd_13 (tgt := 20) rfl rfl rfl
theorem wX3_mustEnd_16 : y_w M_X3_mustEnd mc ms Q (16, lv, st, ω, c, s) = y_w M_X3_mustEnd mc ms Q (17, lv, .int 1 :: st, ω, c, s) := w_iconst dX3_mustEnd_16 (v := 1) (by decide) rfl
theorem wX3_mustEnd_17 : y_w M_X3_mustEnd mc ms Q (17, lv, st, ω, c, s) = y_w M_X3_mustEnd mc ms Q (21, lv, st, ω, c, s) := w_goto dX3_mustEnd_17 (tgt := 21) (by decide) rfl
theorem wX3_mustEnd_20 : y_w M_X3_mustEnd mc ms Q (20, lv, st, ω, c, s) = y_w M_X3_mustEnd mc ms Q (21, lv, .int 0 :: st, ω, c, s) := w_iconst dX3_mustEnd_20 (v := 0) (by decide) rfl
theorem wX3_mustEnd_21 (hc : y_cls ω a = some 3) : y_w M_X3_mustEnd mc ms Q (21, lv, v1 :: .ref a :: r, ω, c, s) = (y_cat r ≤ 8 ∧ F_X3_must mc ms [.ref a, v1] ω c s (y_aft M_X3_mustEnd 21 3 lv r (y_w M_X3_mustEnd mc ms Q) Q)) := w_call1 (av := [v1]) (Or.inl ⟨⟨rfl, rfl⟩, rfl⟩) dX3_mustEnd_21 rfl hc rfl (y_F_mono _) (y_dle rfl) (y_dle rfl) rfl rfl
theorem wX3_mustEnd_24 : y_w M_X3_mustEnd mc ms Q (24, lv, [], ω, c, s) = Q (.returned none) ω c s := w_return dX3_mustEnd_24 rfl
def P_X3_begins : y_Pool := ([(22, 3, 6, (.array .int), true)], [], [], [(115, 1, 3, 2, (1, 21), F_X3_bad), (123, 1, 3, 2, (3, 63), F_X3_must)], [], [], [])
def M_X3_begins : y_Md := (cX3_begins, "YoungerBackModel", (3, none), (3, 63), false, P_X3_begins, [])
def F_X3_begins : y_Tr := y_F M_X3_begins
theorem nX3_begins : y_nL M_X3_begins = 3 := rfl
theorem fX3_begins_22_3 : y_ffP P_X3_begins 22 3 = some (6, (.array .int), true) := rfl
theorem wX3_begins_0 : y_w M_X3_begins mc ms Q (0, lv, st, ω, c, s) = y_ldA lv 0 (fun v => y_w M_X3_begins mc ms Q (1, lv, v :: st, ω, c, s)) := w_aload_n dX3_begins_0 rfl rfl
theorem wX3_begins_1 : y_w M_X3_begins mc ms Q (1, lv, .ref a :: r, ω, c, s) = y_gf P_X3_begins 22 (ω.2 a) (fun v => y_w M_X3_begins mc ms Q (4, lv, v :: r, ω, c, s)) := w_getfield dX3_begins_1 rfl rfl
theorem wX3_begins_4 : y_w M_X3_begins mc ms Q (4, lv, st, ω, c, s) = y_ldI lv 1 (fun v => y_w M_X3_begins mc ms Q (5, lv, v :: st, ω, c, s)) := w_iload_n dX3_begins_4 rfl rfl
theorem wX3_begins_5 : y_w M_X3_begins mc ms Q (5, lv, .int j :: .ref a :: r, ω, c, s) = y_rI (ω.2 a) j (fun x => y_w M_X3_begins mc ms Q (6, lv, .int x :: r, ω, c, s)) := w_iaload dX3_begins_5 rfl
theorem wX3_begins_6 : y_w M_X3_begins mc ms Q (6, lv, st, ω, c, s) = y_ldI lv 2 (fun v => y_w M_X3_begins mc ms Q (7, lv, v :: st, ω, c, s)) := w_iload_n dX3_begins_6 rfl rfl
theorem wX3_begins_7 : y_w M_X3_begins mc ms Q (7, lv, .int y :: .int x :: r, ω, c, s) = ((¬ x = y → y_w M_X3_begins mc ms Q (15, lv, r, ω, c, s)) ∧ (¬ (¬ x = y) → y_w M_X3_begins mc ms Q (10, lv, r, ω, c, s))) := w_icmp dX3_begins_7 (tgt := 15) rfl rfl rfl
theorem wX3_begins_10 : y_w M_X3_begins mc ms Q (10, lv, st, ω, c, s) = y_ldA lv 0 (fun v => y_w M_X3_begins mc ms Q (11, lv, v :: st, ω, c, s)) := w_aload_n dX3_begins_10 rfl rfl
theorem wX3_begins_11 : y_w M_X3_begins mc ms Q (11, lv, st, ω, c, s) = y_w M_X3_begins mc ms Q (12, lv, .int (nI 3) :: st, ω, c, s) := w_iconst dX3_begins_11 (v := (nI 3)) (by decide) rfl
theorem wX3_begins_12 (hc : y_cls ω a = some 3) : y_w M_X3_begins mc ms Q (12, lv, v1 :: .ref a :: r, ω, c, s) = (y_cat r ≤ 8 ∧ F_X3_bad mc ms [.ref a, v1] ω c s (y_aft M_X3_begins 12 3 lv r (y_w M_X3_begins mc ms Q) Q)) := w_call1 (av := [v1]) (Or.inl ⟨⟨rfl, rfl⟩, rfl⟩) dX3_begins_12 rfl hc rfl (y_F_mono _) (y_dle rfl) (y_dle rfl) rfl rfl
theorem wX3_begins_15 : y_w M_X3_begins mc ms Q (15, lv, st, ω, c, s) = y_ldA lv 0 (fun v => y_w M_X3_begins mc ms Q (16, lv, v :: st, ω, c, s)) := w_aload_n dX3_begins_15 rfl rfl
theorem wX3_begins_16 : y_w M_X3_begins mc ms Q (16, lv, st, ω, c, s) = y_w M_X3_begins mc ms Q (17, lv, .int 1 :: st, ω, c, s) := w_iconst dX3_begins_16 (v := 1) (by decide) rfl
theorem wX3_begins_17 (hc : y_cls ω a = some 3) : y_w M_X3_begins mc ms Q (17, lv, v1 :: .ref a :: r, ω, c, s) = (y_cat r ≤ 8 ∧ F_X3_must mc ms [.ref a, v1] ω c s (y_aft M_X3_begins 17 3 lv r (y_w M_X3_begins mc ms Q) Q)) := w_call1 (av := [v1]) (Or.inl ⟨⟨rfl, rfl⟩, rfl⟩) dX3_begins_17 rfl hc rfl (y_F_mono _) (y_dle rfl) (y_dle rfl) rfl rfl
theorem wX3_begins_20 : y_w M_X3_begins mc ms Q (20, lv, [], ω, c, s) = Q (.returned none) ω c s := w_return dX3_begins_20 rfl
def P_X3_readWay : y_Pool := ([(22, 3, 6, (.array .int), true), (106, 3, 17, .int, false), (94, 3, 14, .int, false)], [], [], [(137, 1, 3, 3, (4, 85), F_X3_begins), (141, 1, 3, 3, (4, 86), F_X3_number), (119, 1, 3, 1, (1, 22), F_X3_figures), (115, 1, 3, 2, (1, 21), F_X3_bad), (145, 1, 3, 1, (4, 83), F_X3_mustEnd)], [], [], [])
def M_X3_readWay : y_Md := (cX3_readWay, "YoungerBackModel", (6, none), (4, 86), false, P_X3_readWay, [])
def F_X3_readWay : y_Tr := y_F M_X3_readWay
theorem nX3_readWay : y_nL M_X3_readWay = 6 := rfl
theorem fX3_readWay_22_3 : y_ffP P_X3_readWay 22 3 = some (6, (.array .int), true) := rfl
theorem fX3_readWay_106_3 : y_ffP P_X3_readWay 106 3 = some (17, .int, false) := rfl
theorem fX3_readWay_94_3 : y_ffP P_X3_readWay 94 3 = some (14, .int, false) := rfl
theorem wX3_readWay_0 : y_w M_X3_readWay mc ms Q (0, lv, st, ω, c, s) = y_ldA lv 0 (fun v => y_w M_X3_readWay mc ms Q (1, lv, v :: st, ω, c, s)) := w_aload_n dX3_readWay_0 rfl rfl
theorem wX3_readWay_1 : y_w M_X3_readWay mc ms Q (1, lv, st, ω, c, s) = y_w M_X3_readWay mc ms Q (2, lv, .int (nI 2) :: st, ω, c, s) := w_iconst dX3_readWay_1 (v := (nI 2)) (by decide) rfl
theorem wX3_readWay_2 : y_w M_X3_readWay mc ms Q (2, lv, st, ω, c, s) = y_w M_X3_readWay mc ms Q (4, lv, .int (nI 8) :: st, ω, c, s) := w_bipush dX3_readWay_2 (v := (nI 8)) (by decide) rfl
theorem wX3_readWay_4 (hc : y_cls ω a = some 3) : y_w M_X3_readWay mc ms Q (4, lv, v2 :: v1 :: .ref a :: r, ω, c, s) = (y_cat r ≤ 8 ∧ F_X3_begins mc ms [.ref a, v1, v2] ω c s (y_aft M_X3_readWay 4 3 lv r (y_w M_X3_readWay mc ms Q) Q)) := w_call1 (av := [v1, v2]) (Or.inl ⟨⟨rfl, rfl⟩, rfl⟩) dX3_readWay_4 rfl hc rfl (y_F_mono _) (y_dle rfl) (y_dle rfl) rfl rfl
theorem wX3_readWay_7 : y_w M_X3_readWay mc ms Q (7, lv, st, ω, c, s) = y_ldA lv 0 (fun v => y_w M_X3_readWay mc ms Q (8, lv, v :: st, ω, c, s)) := w_aload_n dX3_readWay_7 rfl rfl
theorem wX3_readWay_8 : y_w M_X3_readWay mc ms Q (8, lv, st, ω, c, s) = y_w M_X3_readWay mc ms Q (9, lv, .int 0 :: st, ω, c, s) := w_iconst dX3_readWay_8 (v := 0) (by decide) rfl
theorem wX3_readWay_9 : y_w M_X3_readWay mc ms Q (9, lv, st, ω, c, s) = y_ldA lv 0 (fun v => y_w M_X3_readWay mc ms Q (10, lv, v :: st, ω, c, s)) := w_aload_n dX3_readWay_9 rfl rfl
theorem wX3_readWay_10 : y_w M_X3_readWay mc ms Q (10, lv, .ref a :: r, ω, c, s) = y_gf P_X3_readWay 22 (ω.2 a) (fun v => y_w M_X3_readWay mc ms Q (13, lv, v :: r, ω, c, s)) := w_getfield dX3_readWay_10 rfl rfl
theorem wX3_readWay_13 : y_w M_X3_readWay mc ms Q (13, lv, st, ω, c, s) = y_w M_X3_readWay mc ms Q (14, lv, .int 0 :: st, ω, c, s) := w_iconst dX3_readWay_13 (v := 0) (by decide) rfl
theorem wX3_readWay_14 : y_w M_X3_readWay mc ms Q (14, lv, .int j :: .ref a :: r, ω, c, s) = y_rI (ω.2 a) j (fun x => y_w M_X3_readWay mc ms Q (15, lv, .int x :: r, ω, c, s)) := w_iaload dX3_readWay_14 rfl
theorem wX3_readWay_15 : y_w M_X3_readWay mc ms Q (15, lv, st, ω, c, s) = y_w M_X3_readWay mc ms Q (16, lv, .int 1 :: st, ω, c, s) := w_iconst dX3_readWay_15 (v := 1) (by decide) rfl
theorem wX3_readWay_16 : y_w M_X3_readWay mc ms Q (16, lv, .int y :: .int x :: r, ω, c, s) = y_w M_X3_readWay mc ms Q (17, lv, .int (x - y) :: r, ω, c, s) := w_isub dX3_readWay_16 rfl
theorem wX3_readWay_17 (hc : y_cls ω a = some 3) : y_w M_X3_readWay mc ms Q (17, lv, v2 :: v1 :: .ref a :: r, ω, c, s) = (y_cat r ≤ 8 ∧ F_X3_number mc ms [.ref a, v1, v2] ω c s (y_aft M_X3_readWay 17 3 lv r (y_w M_X3_readWay mc ms Q) Q)) := w_call1 (av := [v1, v2]) (Or.inl ⟨⟨rfl, rfl⟩, rfl⟩) dX3_readWay_17 rfl hc rfl (y_F_mono _) (y_dle rfl) (y_dle rfl) rfl rfl
theorem wX3_readWay_20 : y_w M_X3_readWay mc ms Q (20, lv, .int x :: r, ω, c, s) = y_w M_X3_readWay mc ms Q (21, (1, .int x) :: y_kill 1 lv, r, ω, c, s) := w_istore_n dX3_readWay_20 rfl (y_dle rfl) rfl
theorem wX3_readWay_21 : y_w M_X3_readWay mc ms Q (21, lv, st, ω, c, s) = y_ldA lv 0 (fun v => y_w M_X3_readWay mc ms Q (22, lv, v :: st, ω, c, s)) := w_aload_n dX3_readWay_21 rfl rfl
theorem wX3_readWay_22 : y_w M_X3_readWay mc ms Q (22, lv, .ref a :: r, ω, c, s) = y_gf P_X3_readWay 106 (ω.2 a) (fun v => y_w M_X3_readWay mc ms Q (25, lv, v :: r, ω, c, s)) := w_getfield dX3_readWay_22 rfl rfl
theorem wX3_readWay_25 : y_w M_X3_readWay mc ms Q (25, lv, .int x :: r, ω, c, s) = ((¬ x = 0 → y_w M_X3_readWay mc ms Q (49, lv, r, ω, c, s)) ∧ (¬ (¬ x = 0) → y_w M_X3_readWay mc ms Q (28, lv, r, ω, c, s))) := w_if dX3_readWay_25 (tgt := 49) rfl rfl rfl
theorem wX3_readWay_28 : y_w M_X3_readWay mc ms Q (28, lv, st, ω, c, s) = y_ldA lv 0 (fun v => y_w M_X3_readWay mc ms Q (29, lv, v :: st, ω, c, s)) := w_aload_n dX3_readWay_28 rfl rfl
theorem wX3_readWay_29 : y_w M_X3_readWay mc ms Q (29, lv, .ref a :: r, ω, c, s) = y_gf P_X3_readWay 94 (ω.2 a) (fun v => y_w M_X3_readWay mc ms Q (32, lv, v :: r, ω, c, s)) := w_getfield dX3_readWay_29 rfl rfl
theorem wX3_readWay_32 : y_w M_X3_readWay mc ms Q (32, lv, st, ω, c, s) = y_w M_X3_readWay mc ms Q (33, lv, .int (nI 3) :: st, ω, c, s) := w_iconst dX3_readWay_32 (v := (nI 3)) (by decide) rfl
theorem wX3_readWay_33 : y_w M_X3_readWay mc ms Q (33, lv, .int y :: .int x :: r, ω, c, s) = ((¬ x = y → y_w M_X3_readWay mc ms Q (49, lv, r, ω, c, s)) ∧ (¬ (¬ x = y) → y_w M_X3_readWay mc ms Q (36, lv, r, ω, c, s))) := w_icmp dX3_readWay_33 (tgt := 49) rfl rfl rfl
theorem wX3_readWay_36 : y_w M_X3_readWay mc ms Q (36, lv, st, ω, c, s) = y_ldA lv 0 (fun v => y_w M_X3_readWay mc ms Q (37, lv, v :: st, ω, c, s)) := w_aload_n dX3_readWay_36 rfl rfl
theorem wX3_readWay_37 (hc : y_cls ω a = some 3) : y_w M_X3_readWay mc ms Q (37, lv, .ref a :: r, ω, c, s) = (y_cat r ≤ 8 ∧ F_X3_figures mc ms [.ref a] ω c s (y_aft M_X3_readWay 37 3 lv r (y_w M_X3_readWay mc ms Q) Q)) := w_call1 (av := []) (Or.inl ⟨⟨rfl, rfl⟩, rfl⟩) dX3_readWay_37 rfl hc rfl (y_F_mono _) (y_dle rfl) (y_dle rfl) rfl rfl
theorem wX3_readWay_40 : y_w M_X3_readWay mc ms Q (40, lv, st, ω, c, s) = y_ldI lv 1 (fun v => y_w M_X3_readWay mc ms Q (41, lv, v :: st, ω, c, s)) := w_iload_n dX3_readWay_40 rfl rfl
theorem wX3_readWay_41 : y_w M_X3_readWay mc ms Q (41, lv, .int y :: .int x :: r, ω, c, s) = ((¬ x = y → y_w M_X3_readWay mc ms Q (49, lv, r, ω, c, s)) ∧ (¬ (¬ x = y) → y_w M_X3_readWay mc ms Q (44, lv, r, ω, c, s))) := w_icmp dX3_readWay_41 (tgt := 49) rfl rfl rfl
theorem wX3_readWay_44 : y_w M_X3_readWay mc ms Q (44, lv, st, ω, c, s) = y_ldA lv 0 (fun v => y_w M_X3_readWay mc ms Q (45, lv, v :: st, ω, c, s)) := w_aload_n dX3_readWay_44 rfl rfl
theorem wX3_readWay_45 : y_w M_X3_readWay mc ms Q (45, lv, st, ω, c, s) = y_w M_X3_readWay mc ms Q (46, lv, .int (nI 2) :: st, ω, c, s) := w_iconst dX3_readWay_45 (v := (nI 2)) (by decide) rfl
theorem wX3_readWay_46 (hc : y_cls ω a = some 3) : y_w M_X3_readWay mc ms Q (46, lv, v1 :: .ref a :: r, ω, c, s) = (y_cat r ≤ 8 ∧ F_X3_bad mc ms [.ref a, v1] ω c s (y_aft M_X3_readWay 46 3 lv r (y_w M_X3_readWay mc ms Q) Q)) := w_call1 (av := [v1]) (Or.inl ⟨⟨rfl, rfl⟩, rfl⟩) dX3_readWay_46 rfl hc rfl (y_F_mono _) (y_dle rfl) (y_dle rfl) rfl rfl
theorem wX3_readWay_49 : y_w M_X3_readWay mc ms Q (49, lv, st, ω, c, s) = y_ldA lv 0 (fun v => y_w M_X3_readWay mc ms Q (50, lv, v :: st, ω, c, s)) := w_aload_n dX3_readWay_49 rfl rfl
theorem wX3_readWay_50 : y_w M_X3_readWay mc ms Q (50, lv, st, ω, c, s) = y_w M_X3_readWay mc ms Q (51, lv, .int 0 :: st, ω, c, s) := w_iconst dX3_readWay_50 (v := 0) (by decide) rfl
theorem wX3_readWay_51 : y_w M_X3_readWay mc ms Q (51, lv, st, ω, c, s) = y_ldA lv 0 (fun v => y_w M_X3_readWay mc ms Q (52, lv, v :: st, ω, c, s)) := w_aload_n dX3_readWay_51 rfl rfl
theorem wX3_readWay_52 : y_w M_X3_readWay mc ms Q (52, lv, .ref a :: r, ω, c, s) = y_gf P_X3_readWay 22 (ω.2 a) (fun v => y_w M_X3_readWay mc ms Q (55, lv, v :: r, ω, c, s)) := w_getfield dX3_readWay_52 rfl rfl
theorem wX3_readWay_55 : y_w M_X3_readWay mc ms Q (55, lv, st, ω, c, s) = y_w M_X3_readWay mc ms Q (56, lv, .int 0 :: st, ω, c, s) := w_iconst dX3_readWay_55 (v := 0) (by decide) rfl
theorem wX3_readWay_56 : y_w M_X3_readWay mc ms Q (56, lv, .int j :: .ref a :: r, ω, c, s) = y_rI (ω.2 a) j (fun x => y_w M_X3_readWay mc ms Q (57, lv, .int x :: r, ω, c, s)) := w_iaload dX3_readWay_56 rfl
theorem wX3_readWay_57 : y_w M_X3_readWay mc ms Q (57, lv, st, ω, c, s) = y_w M_X3_readWay mc ms Q (58, lv, .int 1 :: st, ω, c, s) := w_iconst dX3_readWay_57 (v := 1) (by decide) rfl
theorem wX3_readWay_58 : y_w M_X3_readWay mc ms Q (58, lv, .int y :: .int x :: r, ω, c, s) = y_w M_X3_readWay mc ms Q (59, lv, .int (x - y) :: r, ω, c, s) := w_isub dX3_readWay_58 rfl
theorem wX3_readWay_59 (hc : y_cls ω a = some 3) : y_w M_X3_readWay mc ms Q (59, lv, v2 :: v1 :: .ref a :: r, ω, c, s) = (y_cat r ≤ 8 ∧ F_X3_number mc ms [.ref a, v1, v2] ω c s (y_aft M_X3_readWay 59 3 lv r (y_w M_X3_readWay mc ms Q) Q)) := w_call1 (av := [v1, v2]) (Or.inl ⟨⟨rfl, rfl⟩, rfl⟩) dX3_readWay_59 rfl hc rfl (y_F_mono _) (y_dle rfl) (y_dle rfl) rfl rfl
theorem wX3_readWay_62 : y_w M_X3_readWay mc ms Q (62, lv, .int x :: r, ω, c, s) = y_w M_X3_readWay mc ms Q (63, (2, .int x) :: y_kill 2 lv, r, ω, c, s) := w_istore_n dX3_readWay_62 rfl (y_dle rfl) rfl
theorem wX3_readWay_63 : y_w M_X3_readWay mc ms Q (63, lv, st, ω, c, s) = y_ldA lv 0 (fun v => y_w M_X3_readWay mc ms Q (64, lv, v :: st, ω, c, s)) := w_aload_n dX3_readWay_63 rfl rfl
theorem wX3_readWay_64 : y_w M_X3_readWay mc ms Q (64, lv, st, ω, c, s) = y_w M_X3_readWay mc ms Q (65, lv, .int 1 :: st, ω, c, s) := w_iconst dX3_readWay_64 (v := 1) (by decide) rfl
theorem wX3_readWay_65 : y_w M_X3_readWay mc ms Q (65, lv, st, ω, c, s) = y_w M_X3_readWay mc ms Q (67, lv, .int (nI 20) :: st, ω, c, s) := w_bipush dX3_readWay_65 (v := (nI 20)) (by decide) rfl
theorem wX3_readWay_67 (hc : y_cls ω a = some 3) : y_w M_X3_readWay mc ms Q (67, lv, v2 :: v1 :: .ref a :: r, ω, c, s) = (y_cat r ≤ 8 ∧ F_X3_number mc ms [.ref a, v1, v2] ω c s (y_aft M_X3_readWay 67 3 lv r (y_w M_X3_readWay mc ms Q) Q)) := w_call1 (av := [v1, v2]) (Or.inl ⟨⟨rfl, rfl⟩, rfl⟩) dX3_readWay_67 rfl hc rfl (y_F_mono _) (y_dle rfl) (y_dle rfl) rfl rfl
theorem wX3_readWay_70 : y_w M_X3_readWay mc ms Q (70, lv, .int x :: r, ω, c, s) = y_w M_X3_readWay mc ms Q (71, (3, .int x) :: y_kill 3 lv, r, ω, c, s) := w_istore_n dX3_readWay_70 rfl (y_dle rfl) rfl
theorem wX3_readWay_71 : y_w M_X3_readWay mc ms Q (71, lv, st, ω, c, s) = y_ldA lv 0 (fun v => y_w M_X3_readWay mc ms Q (72, lv, v :: st, ω, c, s)) := w_aload_n dX3_readWay_71 rfl rfl
theorem wX3_readWay_72 : y_w M_X3_readWay mc ms Q (72, lv, st, ω, c, s) = y_w M_X3_readWay mc ms Q (73, lv, .int 0 :: st, ω, c, s) := w_iconst dX3_readWay_72 (v := 0) (by decide) rfl
theorem wX3_readWay_73 : y_w M_X3_readWay mc ms Q (73, lv, st, ω, c, s) = y_ldI lv 3 (fun v => y_w M_X3_readWay mc ms Q (74, lv, v :: st, ω, c, s)) := w_iload_n dX3_readWay_73 rfl rfl
theorem wX3_readWay_74 (hc : y_cls ω a = some 3) : y_w M_X3_readWay mc ms Q (74, lv, v2 :: v1 :: .ref a :: r, ω, c, s) = (y_cat r ≤ 8 ∧ F_X3_number mc ms [.ref a, v1, v2] ω c s (y_aft M_X3_readWay 74 3 lv r (y_w M_X3_readWay mc ms Q) Q)) := w_call1 (av := [v1, v2]) (Or.inl ⟨⟨rfl, rfl⟩, rfl⟩) dX3_readWay_74 rfl hc rfl (y_F_mono _) (y_dle rfl) (y_dle rfl) rfl rfl
theorem wX3_readWay_77 : y_w M_X3_readWay mc ms Q (77, lv, .int x :: r, ω, c, s) = y_w M_X3_readWay mc ms Q (79, (4, .int x) :: y_kill 4 lv, r, ω, c, s) := w_istore dX3_readWay_77 (y_dle rfl) rfl
theorem wX3_readWay_79 : y_w M_X3_readWay mc ms Q (79, lv, st, ω, c, s) = y_ldA lv 0 (fun v => y_w M_X3_readWay mc ms Q (80, lv, v :: st, ω, c, s)) := w_aload_n dX3_readWay_79 rfl rfl
theorem wX3_readWay_80 (hc : y_cls ω a = some 3) : y_w M_X3_readWay mc ms Q (80, lv, .ref a :: r, ω, c, s) = (y_cat r ≤ 8 ∧ F_X3_mustEnd mc ms [.ref a] ω c s (y_aft M_X3_readWay 80 3 lv r (y_w M_X3_readWay mc ms Q) Q)) := w_call1 (av := []) (Or.inl ⟨⟨rfl, rfl⟩, rfl⟩) dX3_readWay_80 rfl hc rfl (y_F_mono _) (y_dle rfl) (y_dle rfl) rfl rfl
theorem wX3_readWay_83 : y_w M_X3_readWay mc ms Q (83, lv, st, ω, c, s) = y_ldA lv 0 (fun v => y_w M_X3_readWay mc ms Q (84, lv, v :: st, ω, c, s)) := w_aload_n dX3_readWay_83 rfl rfl
theorem wX3_readWay_84 : y_w M_X3_readWay mc ms Q (84, lv, .ref a :: r, ω, c, s) = y_gf P_X3_readWay 106 (ω.2 a) (fun v => y_w M_X3_readWay mc ms Q (87, lv, v :: r, ω, c, s)) := w_getfield dX3_readWay_84 rfl rfl
theorem wX3_readWay_87 : y_w M_X3_readWay mc ms Q (87, lv, .int x :: r, ω, c, s) = ((¬ x = 0 → y_w M_X3_readWay mc ms Q (151, lv, r, ω, c, s)) ∧ (¬ (¬ x = 0) → y_w M_X3_readWay mc ms Q (90, lv, r, ω, c, s))) := w_if dX3_readWay_87 (tgt := 151) rfl rfl rfl
theorem wX3_readWay_90 : y_w M_X3_readWay mc ms Q (90, lv, st, ω, c, s) = y_w M_X3_readWay mc ms Q (91, lv, .int (nI 4) :: st, ω, c, s) := w_iconst dX3_readWay_90 (v := (nI 4)) (by decide) rfl
theorem wX3_readWay_91 : y_w M_X3_readWay mc ms Q (91, lv, st, ω, c, s) = y_w M_X3_readWay mc ms Q (92, lv, .int (nI 4) :: st, ω, c, s) := w_iconst dX3_readWay_91 (v := (nI 4)) (by decide) rfl
theorem wX3_readWay_92 : y_w M_X3_readWay mc ms Q (92, lv, st, ω, c, s) = y_ldA lv 0 (fun v => y_w M_X3_readWay mc ms Q (93, lv, v :: st, ω, c, s)) := w_aload_n dX3_readWay_92 rfl rfl
theorem wX3_readWay_93 : y_w M_X3_readWay mc ms Q (93, lv, .ref a :: r, ω, c, s) = y_gf P_X3_readWay 22 (ω.2 a) (fun v => y_w M_X3_readWay mc ms Q (96, lv, v :: r, ω, c, s)) := w_getfield dX3_readWay_93 rfl rfl
theorem wX3_readWay_96 : y_w M_X3_readWay mc ms Q (96, lv, st, ω, c, s) = y_w M_X3_readWay mc ms Q (97, lv, .int (nI 2) :: st, ω, c, s) := w_iconst dX3_readWay_96 (v := (nI 2)) (by decide) rfl
theorem wX3_readWay_97 : y_w M_X3_readWay mc ms Q (97, lv, .int j :: .ref a :: r, ω, c, s) = y_rI (ω.2 a) j (fun x => y_w M_X3_readWay mc ms Q (98, lv, .int x :: r, ω, c, s)) := w_iaload dX3_readWay_97 rfl
theorem wX3_readWay_98 : y_w M_X3_readWay mc ms Q (98, lv, .int y :: .int x :: r, ω, c, s) = y_w M_X3_readWay mc ms Q (99, lv, .int (x * y) :: r, ω, c, s) := w_imul dX3_readWay_98 rfl
theorem wX3_readWay_99 : y_w M_X3_readWay mc ms Q (99, lv, .int y :: .int x :: r, ω, c, s) = y_w M_X3_readWay mc ms Q (100, lv, .int (x + y) :: r, ω, c, s) := w_iadd dX3_readWay_99 rfl
theorem wX3_readWay_100 : y_w M_X3_readWay mc ms Q (100, lv, .int x :: r, ω, c, s) = y_w M_X3_readWay mc ms Q (102, (5, .int x) :: y_kill 5 lv, r, ω, c, s) := w_istore dX3_readWay_100 (y_dle rfl) rfl
theorem wX3_readWay_102 : y_w M_X3_readWay mc ms Q (102, lv, st, ω, c, s) = y_ldA lv 0 (fun v => y_w M_X3_readWay mc ms Q (103, lv, v :: st, ω, c, s)) := w_aload_n dX3_readWay_102 rfl rfl
theorem wX3_readWay_103 : y_w M_X3_readWay mc ms Q (103, lv, .ref a :: r, ω, c, s) = y_gf P_X3_readWay 22 (ω.2 a) (fun v => y_w M_X3_readWay mc ms Q (106, lv, v :: r, ω, c, s)) := w_getfield dX3_readWay_103 rfl rfl
theorem wX3_readWay_106 : y_w M_X3_readWay mc ms Q (106, lv, st, ω, c, s) = y_ldI lv 5 (fun v => y_w M_X3_readWay mc ms Q (108, lv, v :: st, ω, c, s)) := w_iload dX3_readWay_106 rfl
theorem wX3_readWay_108 : y_w M_X3_readWay mc ms Q (108, lv, st, ω, c, s) = y_ldI lv 1 (fun v => y_w M_X3_readWay mc ms Q (109, lv, v :: st, ω, c, s)) := w_iload_n dX3_readWay_108 rfl rfl
theorem wX3_readWay_109 : y_w M_X3_readWay mc ms Q (109, lv, .int x :: .int j :: .ref a :: r, ω, c, s) = y_wI (ω.2 a) j x (fun e => y_w M_X3_readWay mc ms Q (110, lv, r, y_hup ω a e, c, s)) := w_iastore dX3_readWay_109 rfl
theorem wX3_readWay_110 : y_w M_X3_readWay mc ms Q (110, lv, st, ω, c, s) = y_ldA lv 0 (fun v => y_w M_X3_readWay mc ms Q (111, lv, v :: st, ω, c, s)) := w_aload_n dX3_readWay_110 rfl rfl
theorem wX3_readWay_111 : y_w M_X3_readWay mc ms Q (111, lv, .ref a :: r, ω, c, s) = y_gf P_X3_readWay 22 (ω.2 a) (fun v => y_w M_X3_readWay mc ms Q (114, lv, v :: r, ω, c, s)) := w_getfield dX3_readWay_111 rfl rfl
theorem wX3_readWay_114 : y_w M_X3_readWay mc ms Q (114, lv, st, ω, c, s) = y_ldI lv 5 (fun v => y_w M_X3_readWay mc ms Q (116, lv, v :: st, ω, c, s)) := w_iload dX3_readWay_114 rfl
theorem wX3_readWay_116 : y_w M_X3_readWay mc ms Q (116, lv, st, ω, c, s) = y_w M_X3_readWay mc ms Q (117, lv, .int 1 :: st, ω, c, s) := w_iconst dX3_readWay_116 (v := 1) (by decide) rfl
theorem wX3_readWay_117 : y_w M_X3_readWay mc ms Q (117, lv, .int y :: .int x :: r, ω, c, s) = y_w M_X3_readWay mc ms Q (118, lv, .int (x + y) :: r, ω, c, s) := w_iadd dX3_readWay_117 rfl
theorem wX3_readWay_118 : y_w M_X3_readWay mc ms Q (118, lv, st, ω, c, s) = y_ldI lv 2 (fun v => y_w M_X3_readWay mc ms Q (119, lv, v :: st, ω, c, s)) := w_iload_n dX3_readWay_118 rfl rfl
theorem wX3_readWay_119 : y_w M_X3_readWay mc ms Q (119, lv, .int x :: .int j :: .ref a :: r, ω, c, s) = y_wI (ω.2 a) j x (fun e => y_w M_X3_readWay mc ms Q (120, lv, r, y_hup ω a e, c, s)) := w_iastore dX3_readWay_119 rfl
theorem wX3_readWay_120 : y_w M_X3_readWay mc ms Q (120, lv, st, ω, c, s) = y_ldA lv 0 (fun v => y_w M_X3_readWay mc ms Q (121, lv, v :: st, ω, c, s)) := w_aload_n dX3_readWay_120 rfl rfl
theorem wX3_readWay_121 : y_w M_X3_readWay mc ms Q (121, lv, .ref a :: r, ω, c, s) = y_gf P_X3_readWay 22 (ω.2 a) (fun v => y_w M_X3_readWay mc ms Q (124, lv, v :: r, ω, c, s)) := w_getfield dX3_readWay_121 rfl rfl
theorem wX3_readWay_124 : y_w M_X3_readWay mc ms Q (124, lv, st, ω, c, s) = y_ldI lv 5 (fun v => y_w M_X3_readWay mc ms Q (126, lv, v :: st, ω, c, s)) := w_iload dX3_readWay_124 rfl
theorem wX3_readWay_126 : y_w M_X3_readWay mc ms Q (126, lv, st, ω, c, s) = y_w M_X3_readWay mc ms Q (127, lv, .int (nI 2) :: st, ω, c, s) := w_iconst dX3_readWay_126 (v := (nI 2)) (by decide) rfl
theorem wX3_readWay_127 : y_w M_X3_readWay mc ms Q (127, lv, .int y :: .int x :: r, ω, c, s) = y_w M_X3_readWay mc ms Q (128, lv, .int (x + y) :: r, ω, c, s) := w_iadd dX3_readWay_127 rfl
theorem wX3_readWay_128 : y_w M_X3_readWay mc ms Q (128, lv, st, ω, c, s) = y_ldI lv 3 (fun v => y_w M_X3_readWay mc ms Q (129, lv, v :: st, ω, c, s)) := w_iload_n dX3_readWay_128 rfl rfl
theorem wX3_readWay_129 : y_w M_X3_readWay mc ms Q (129, lv, .int x :: .int j :: .ref a :: r, ω, c, s) = y_wI (ω.2 a) j x (fun e => y_w M_X3_readWay mc ms Q (130, lv, r, y_hup ω a e, c, s)) := w_iastore dX3_readWay_129 rfl
theorem wX3_readWay_130 : y_w M_X3_readWay mc ms Q (130, lv, st, ω, c, s) = y_ldA lv 0 (fun v => y_w M_X3_readWay mc ms Q (131, lv, v :: st, ω, c, s)) := w_aload_n dX3_readWay_130 rfl rfl
theorem wX3_readWay_131 : y_w M_X3_readWay mc ms Q (131, lv, .ref a :: r, ω, c, s) = y_gf P_X3_readWay 22 (ω.2 a) (fun v => y_w M_X3_readWay mc ms Q (134, lv, v :: r, ω, c, s)) := w_getfield dX3_readWay_131 rfl rfl
theorem wX3_readWay_134 : y_w M_X3_readWay mc ms Q (134, lv, st, ω, c, s) = y_ldI lv 5 (fun v => y_w M_X3_readWay mc ms Q (136, lv, v :: st, ω, c, s)) := w_iload dX3_readWay_134 rfl
theorem wX3_readWay_136 : y_w M_X3_readWay mc ms Q (136, lv, st, ω, c, s) = y_w M_X3_readWay mc ms Q (137, lv, .int (nI 3) :: st, ω, c, s) := w_iconst dX3_readWay_136 (v := (nI 3)) (by decide) rfl
theorem wX3_readWay_137 : y_w M_X3_readWay mc ms Q (137, lv, .int y :: .int x :: r, ω, c, s) = y_w M_X3_readWay mc ms Q (138, lv, .int (x + y) :: r, ω, c, s) := w_iadd dX3_readWay_137 rfl
theorem wX3_readWay_138 : y_w M_X3_readWay mc ms Q (138, lv, st, ω, c, s) = y_ldI lv 4 (fun v => y_w M_X3_readWay mc ms Q (140, lv, v :: st, ω, c, s)) := w_iload dX3_readWay_138 rfl
theorem wX3_readWay_140 : y_w M_X3_readWay mc ms Q (140, lv, .int x :: .int j :: .ref a :: r, ω, c, s) = y_wI (ω.2 a) j x (fun e => y_w M_X3_readWay mc ms Q (141, lv, r, y_hup ω a e, c, s)) := w_iastore dX3_readWay_140 rfl
theorem wX3_readWay_141 : y_w M_X3_readWay mc ms Q (141, lv, st, ω, c, s) = y_ldA lv 0 (fun v => y_w M_X3_readWay mc ms Q (142, lv, v :: st, ω, c, s)) := w_aload_n dX3_readWay_141 rfl rfl
theorem wX3_readWay_142 : y_w M_X3_readWay mc ms Q (142, lv, .ref a :: r, ω, c, s) = y_gf P_X3_readWay 22 (ω.2 a) (fun v => y_w M_X3_readWay mc ms Q (145, lv, v :: r, ω, c, s)) := w_getfield dX3_readWay_142 rfl rfl
theorem wX3_readWay_145 : y_w M_X3_readWay mc ms Q (145, lv, st, ω, c, s) = y_w M_X3_readWay mc ms Q (146, lv, .int (nI 2) :: st, ω, c, s) := w_iconst dX3_readWay_145 (v := (nI 2)) (by decide) rfl
theorem wX3_readWay_146 : y_w M_X3_readWay mc ms Q (146, lv, v :: v1 :: r, ω, c, s) = ((v.category = 1 ∧ v1.category = 1) ∧ y_w M_X3_readWay mc ms Q (147, lv, v :: v1 :: v :: v1 :: r, ω, c, s)) := w_dup2 dX3_readWay_146 rfl
theorem wX3_readWay_147 : y_w M_X3_readWay mc ms Q (147, lv, .int j :: .ref a :: r, ω, c, s) = y_rI (ω.2 a) j (fun x => y_w M_X3_readWay mc ms Q (148, lv, .int x :: r, ω, c, s)) := w_iaload dX3_readWay_147 rfl
theorem wX3_readWay_148 : y_w M_X3_readWay mc ms Q (148, lv, st, ω, c, s) = y_w M_X3_readWay mc ms Q (149, lv, .int 1 :: st, ω, c, s) := w_iconst dX3_readWay_148 (v := 1) (by decide) rfl
theorem wX3_readWay_149 : y_w M_X3_readWay mc ms Q (149, lv, .int y :: .int x :: r, ω, c, s) = y_w M_X3_readWay mc ms Q (150, lv, .int (x + y) :: r, ω, c, s) := w_iadd dX3_readWay_149 rfl
theorem wX3_readWay_150 : y_w M_X3_readWay mc ms Q (150, lv, .int x :: .int j :: .ref a :: r, ω, c, s) = y_wI (ω.2 a) j x (fun e => y_w M_X3_readWay mc ms Q (151, lv, r, y_hup ω a e, c, s)) := w_iastore dX3_readWay_150 rfl
theorem wX3_readWay_151 : y_w M_X3_readWay mc ms Q (151, lv, [], ω, c, s) = Q (.returned none) ω c s := w_return dX3_readWay_151 rfl
def P_X3_kindBy : y_Pool := ([], [], [(127, .long (lN 27973158311127406)), (129, .long (lN 482805051252)), (131, .long (lN 1836019307)), (133, .long (lN 427020350059)), (135, .long (lN 6451065)), (84, .int (-1000000))], [], [], [], [])
def M_X3_kindBy : y_Md := (cX3_kindBy, "YoungerBackModel", (2, (some FieldType.int)), (0, 0), false, P_X3_kindBy, [])
def F_X3_kindBy : y_Tr := y_F M_X3_kindBy
theorem nX3_kindBy : y_nL M_X3_kindBy = 2 := rfl
theorem wX3_kindBy_0 : y_w M_X3_kindBy mc ms Q (0, lv, st, ω, c, s) = y_ldL lv 0 (fun v => y_w M_X3_kindBy mc ms Q (1, lv, v :: st, ω, c, s)) := w_lload_n dX3_kindBy_0 rfl rfl
theorem wX3_kindBy_1 : y_w M_X3_kindBy mc ms Q (1, lv, st, ω, c, s) = y_w M_X3_kindBy mc ms Q (4, lv, .long (lN 27973158311127406) :: st, ω, c, s) := w_ldc2_w dX3_kindBy_1 rfl rfl rfl
theorem wX3_kindBy_4 : y_w M_X3_kindBy mc ms Q (4, lv, .long w :: .long z :: r, ω, c, s) = y_w M_X3_kindBy mc ms Q (5, lv, .int (lg_cmp z w) :: r, ω, c, s) := w_lcmp dX3_kindBy_4 rfl
theorem wX3_kindBy_5 : y_w M_X3_kindBy mc ms Q (5, lv, .int x :: r, ω, c, s) = ((¬ x = 0 → y_w M_X3_kindBy mc ms Q (12, lv, r, ω, c, s)) ∧ (¬ (¬ x = 0) → y_w M_X3_kindBy mc ms Q (8, lv, r, ω, c, s))) := w_if dX3_kindBy_5 (tgt := 12) rfl rfl rfl
theorem wX3_kindBy_8 : y_w M_X3_kindBy mc ms Q (8, lv, st, ω, c, s) = y_w M_X3_kindBy mc ms Q (9, lv, .int 1 :: st, ω, c, s) := w_iconst dX3_kindBy_8 (v := 1) (by decide) rfl
theorem wX3_kindBy_9 : y_w M_X3_kindBy mc ms Q (9, lv, st, ω, c, s) = y_w M_X3_kindBy mc ms Q (62, lv, st, ω, c, s) := w_goto dX3_kindBy_9 (tgt := 62) (by decide) rfl
theorem wX3_kindBy_12 : y_w M_X3_kindBy mc ms Q (12, lv, st, ω, c, s) = y_ldL lv 0 (fun v => y_w M_X3_kindBy mc ms Q (13, lv, v :: st, ω, c, s)) := w_lload_n dX3_kindBy_12 rfl rfl
theorem wX3_kindBy_13 : y_w M_X3_kindBy mc ms Q (13, lv, st, ω, c, s) = y_w M_X3_kindBy mc ms Q (16, lv, .long (lN 482805051252) :: st, ω, c, s) := w_ldc2_w dX3_kindBy_13 rfl rfl rfl
theorem wX3_kindBy_16 : y_w M_X3_kindBy mc ms Q (16, lv, .long w :: .long z :: r, ω, c, s) = y_w M_X3_kindBy mc ms Q (17, lv, .int (lg_cmp z w) :: r, ω, c, s) := w_lcmp dX3_kindBy_16 rfl
theorem wX3_kindBy_17 : y_w M_X3_kindBy mc ms Q (17, lv, .int x :: r, ω, c, s) = ((¬ x = 0 → y_w M_X3_kindBy mc ms Q (24, lv, r, ω, c, s)) ∧ (¬ (¬ x = 0) → y_w M_X3_kindBy mc ms Q (20, lv, r, ω, c, s))) := w_if dX3_kindBy_17 (tgt := 24) rfl rfl rfl
theorem wX3_kindBy_20 : y_w M_X3_kindBy mc ms Q (20, lv, st, ω, c, s) = y_w M_X3_kindBy mc ms Q (21, lv, .int (nI 2) :: st, ω, c, s) := w_iconst dX3_kindBy_20 (v := (nI 2)) (by decide) rfl
theorem wX3_kindBy_21 : y_w M_X3_kindBy mc ms Q (21, lv, st, ω, c, s) = y_w M_X3_kindBy mc ms Q (62, lv, st, ω, c, s) := w_goto dX3_kindBy_21 (tgt := 62) (by decide) rfl
theorem wX3_kindBy_24 : y_w M_X3_kindBy mc ms Q (24, lv, st, ω, c, s) = y_ldL lv 0 (fun v => y_w M_X3_kindBy mc ms Q (25, lv, v :: st, ω, c, s)) := w_lload_n dX3_kindBy_24 rfl rfl
theorem wX3_kindBy_25 : y_w M_X3_kindBy mc ms Q (25, lv, st, ω, c, s) = y_w M_X3_kindBy mc ms Q (28, lv, .long (lN 1836019307) :: st, ω, c, s) := w_ldc2_w dX3_kindBy_25 rfl rfl rfl
theorem wX3_kindBy_28 : y_w M_X3_kindBy mc ms Q (28, lv, .long w :: .long z :: r, ω, c, s) = y_w M_X3_kindBy mc ms Q (29, lv, .int (lg_cmp z w) :: r, ω, c, s) := w_lcmp dX3_kindBy_28 rfl
theorem wX3_kindBy_29 : y_w M_X3_kindBy mc ms Q (29, lv, .int x :: r, ω, c, s) = ((¬ x = 0 → y_w M_X3_kindBy mc ms Q (36, lv, r, ω, c, s)) ∧ (¬ (¬ x = 0) → y_w M_X3_kindBy mc ms Q (32, lv, r, ω, c, s))) := w_if dX3_kindBy_29 (tgt := 36) rfl rfl rfl
theorem wX3_kindBy_32 : y_w M_X3_kindBy mc ms Q (32, lv, st, ω, c, s) = y_w M_X3_kindBy mc ms Q (33, lv, .int (nI 3) :: st, ω, c, s) := w_iconst dX3_kindBy_32 (v := (nI 3)) (by decide) rfl
theorem wX3_kindBy_33 : y_w M_X3_kindBy mc ms Q (33, lv, st, ω, c, s) = y_w M_X3_kindBy mc ms Q (62, lv, st, ω, c, s) := w_goto dX3_kindBy_33 (tgt := 62) (by decide) rfl
theorem wX3_kindBy_36 : y_w M_X3_kindBy mc ms Q (36, lv, st, ω, c, s) = y_ldL lv 0 (fun v => y_w M_X3_kindBy mc ms Q (37, lv, v :: st, ω, c, s)) := w_lload_n dX3_kindBy_36 rfl rfl
theorem wX3_kindBy_37 : y_w M_X3_kindBy mc ms Q (37, lv, st, ω, c, s) = y_w M_X3_kindBy mc ms Q (40, lv, .long (lN 427020350059) :: st, ω, c, s) := w_ldc2_w dX3_kindBy_37 rfl rfl rfl
theorem wX3_kindBy_40 : y_w M_X3_kindBy mc ms Q (40, lv, .long w :: .long z :: r, ω, c, s) = y_w M_X3_kindBy mc ms Q (41, lv, .int (lg_cmp z w) :: r, ω, c, s) := w_lcmp dX3_kindBy_40 rfl
theorem wX3_kindBy_41 : y_w M_X3_kindBy mc ms Q (41, lv, .int x :: r, ω, c, s) = ((¬ x = 0 → y_w M_X3_kindBy mc ms Q (48, lv, r, ω, c, s)) ∧ (¬ (¬ x = 0) → y_w M_X3_kindBy mc ms Q (44, lv, r, ω, c, s))) := w_if dX3_kindBy_41 (tgt := 48) rfl rfl rfl
theorem wX3_kindBy_44 : y_w M_X3_kindBy mc ms Q (44, lv, st, ω, c, s) = y_w M_X3_kindBy mc ms Q (45, lv, .int (nI 4) :: st, ω, c, s) := w_iconst dX3_kindBy_44 (v := (nI 4)) (by decide) rfl
theorem wX3_kindBy_45 : y_w M_X3_kindBy mc ms Q (45, lv, st, ω, c, s) = y_w M_X3_kindBy mc ms Q (62, lv, st, ω, c, s) := w_goto dX3_kindBy_45 (tgt := 62) (by decide) rfl
theorem wX3_kindBy_48 : y_w M_X3_kindBy mc ms Q (48, lv, st, ω, c, s) = y_ldL lv 0 (fun v => y_w M_X3_kindBy mc ms Q (49, lv, v :: st, ω, c, s)) := w_lload_n dX3_kindBy_48 rfl rfl
theorem wX3_kindBy_49 : y_w M_X3_kindBy mc ms Q (49, lv, st, ω, c, s) = y_w M_X3_kindBy mc ms Q (52, lv, .long (lN 6451065) :: st, ω, c, s) := w_ldc2_w dX3_kindBy_49 rfl rfl rfl
theorem wX3_kindBy_52 : y_w M_X3_kindBy mc ms Q (52, lv, .long w :: .long z :: r, ω, c, s) = y_w M_X3_kindBy mc ms Q (53, lv, .int (lg_cmp z w) :: r, ω, c, s) := w_lcmp dX3_kindBy_52 rfl
theorem wX3_kindBy_53 : y_w M_X3_kindBy mc ms Q (53, lv, .int x :: r, ω, c, s) = ((¬ x = 0 → y_w M_X3_kindBy mc ms Q (60, lv, r, ω, c, s)) ∧ (¬ (¬ x = 0) → y_w M_X3_kindBy mc ms Q (56, lv, r, ω, c, s))) := w_if dX3_kindBy_53 (tgt := 60) rfl rfl rfl
theorem wX3_kindBy_56 : y_w M_X3_kindBy mc ms Q (56, lv, st, ω, c, s) = y_w M_X3_kindBy mc ms Q (57, lv, .int (nI 5) :: st, ω, c, s) := w_iconst dX3_kindBy_56 (v := (nI 5)) (by decide) rfl
theorem wX3_kindBy_57 : y_w M_X3_kindBy mc ms Q (57, lv, st, ω, c, s) = y_w M_X3_kindBy mc ms Q (62, lv, st, ω, c, s) := w_goto dX3_kindBy_57 (tgt := 62) (by decide) rfl
theorem wX3_kindBy_60 : y_w M_X3_kindBy mc ms Q (60, lv, st, ω, c, s) = y_w M_X3_kindBy mc ms Q (62, lv, .int (-1000000) :: st, ω, c, s) := w_ldc dX3_kindBy_60 rfl rfl rfl
theorem wX3_kindBy_62 : y_w M_X3_kindBy mc ms Q (62, lv, [.int x], ω, c, s) = Q (.returned (some (.int x))) ω c s := w_ireturnI dX3_kindBy_62 rfl
def P_X3_readPerson : y_Pool := ([(106, 3, 17, .int, false), (22, 3, 6, (.array .int), true)], [], [(84, .int (-1000000))], [(137, 1, 3, 3, (4, 85), F_X3_begins), (148, 1, 3, 1, (1, 23), F_X3_name), (152, 0, 0, 1, (1, 21), F_X3_kindBy), (123, 1, 3, 2, (3, 63), F_X3_must), (141, 1, 3, 3, (4, 86), F_X3_number), (145, 1, 3, 1, (4, 83), F_X3_mustEnd)], [], [], [])
def M_X3_readPerson : y_Md := (cX3_readPerson, "YoungerBackModel", (5, none), (4, 86), false, P_X3_readPerson, [])
def F_X3_readPerson : y_Tr := y_F M_X3_readPerson
theorem nX3_readPerson : y_nL M_X3_readPerson = 5 := rfl
theorem fX3_readPerson_106_3 : y_ffP P_X3_readPerson 106 3 = some (17, .int, false) := rfl
theorem fX3_readPerson_22_3 : y_ffP P_X3_readPerson 22 3 = some (6, (.array .int), true) := rfl
theorem wX3_readPerson_0 : y_w M_X3_readPerson mc ms Q (0, lv, st, ω, c, s) = y_ldA lv 0 (fun v => y_w M_X3_readPerson mc ms Q (1, lv, v :: st, ω, c, s)) := w_aload_n dX3_readPerson_0 rfl rfl
theorem wX3_readPerson_1 : y_w M_X3_readPerson mc ms Q (1, lv, st, ω, c, s) = y_w M_X3_readPerson mc ms Q (2, lv, .int (nI 3) :: st, ω, c, s) := w_iconst dX3_readPerson_1 (v := (nI 3)) (by decide) rfl
theorem wX3_readPerson_2 : y_w M_X3_readPerson mc ms Q (2, lv, st, ω, c, s) = y_w M_X3_readPerson mc ms Q (3, lv, .int (nI 4) :: st, ω, c, s) := w_iconst dX3_readPerson_2 (v := (nI 4)) (by decide) rfl
theorem wX3_readPerson_3 (hc : y_cls ω a = some 3) : y_w M_X3_readPerson mc ms Q (3, lv, v2 :: v1 :: .ref a :: r, ω, c, s) = (y_cat r ≤ 8 ∧ F_X3_begins mc ms [.ref a, v1, v2] ω c s (y_aft M_X3_readPerson 3 3 lv r (y_w M_X3_readPerson mc ms Q) Q)) := w_call1 (av := [v1, v2]) (Or.inl ⟨⟨rfl, rfl⟩, rfl⟩) dX3_readPerson_3 rfl hc rfl (y_F_mono _) (y_dle rfl) (y_dle rfl) rfl rfl
theorem wX3_readPerson_6 : y_w M_X3_readPerson mc ms Q (6, lv, st, ω, c, s) = y_ldA lv 0 (fun v => y_w M_X3_readPerson mc ms Q (7, lv, v :: st, ω, c, s)) := w_aload_n dX3_readPerson_6 rfl rfl
theorem wX3_readPerson_7 (hc : y_cls ω a = some 3) : y_w M_X3_readPerson mc ms Q (7, lv, .ref a :: r, ω, c, s) = (y_cat r ≤ 8 ∧ F_X3_name mc ms [.ref a] ω c s (y_aft M_X3_readPerson 7 3 lv r (y_w M_X3_readPerson mc ms Q) Q)) := w_call1 (av := []) (Or.inl ⟨⟨rfl, rfl⟩, rfl⟩) dX3_readPerson_7 rfl hc rfl (y_F_mono _) (y_dle rfl) (y_dle rfl) rfl rfl
theorem wX3_readPerson_10 : y_w M_X3_readPerson mc ms Q (10, lv, v0 :: r, ω, c, s) = (y_cat r ≤ 8 ∧ F_X3_kindBy mc ms [v0] ω c s (y_aft M_X3_readPerson 10 3 lv r (y_w M_X3_readPerson mc ms Q) Q)) := w_call0 (av := [v0]) ⟨Or.inr ⟨rfl, rfl⟩, rfl⟩ dX3_readPerson_10 rfl (y_F_mono _) (y_dle rfl) (y_dle rfl) rfl rfl
theorem wX3_readPerson_13 : y_w M_X3_readPerson mc ms Q (13, lv, .int x :: r, ω, c, s) = y_w M_X3_readPerson mc ms Q (14, (1, .int x) :: y_kill 1 lv, r, ω, c, s) := w_istore_n dX3_readPerson_13 rfl (y_dle rfl) rfl
theorem wX3_readPerson_14 : y_w M_X3_readPerson mc ms Q (14, lv, st, ω, c, s) = y_ldA lv 0 (fun v => y_w M_X3_readPerson mc ms Q (15, lv, v :: st, ω, c, s)) := w_aload_n dX3_readPerson_14 rfl rfl
theorem wX3_readPerson_15 : y_w M_X3_readPerson mc ms Q (15, lv, .ref a :: r, ω, c, s) = y_gf P_X3_readPerson 106 (ω.2 a) (fun v => y_w M_X3_readPerson mc ms Q (18, lv, v :: r, ω, c, s)) := w_getfield dX3_readPerson_15 rfl rfl
theorem wX3_readPerson_18 : y_w M_X3_readPerson mc ms Q (18, lv, .int x :: r, ω, c, s) = ((¬ x = 0 → y_w M_X3_readPerson mc ms Q (36, lv, r, ω, c, s)) ∧ (¬ (¬ x = 0) → y_w M_X3_readPerson mc ms Q (21, lv, r, ω, c, s))) := w_if dX3_readPerson_18 (tgt := 36) rfl rfl rfl
theorem wX3_readPerson_21 : y_w M_X3_readPerson mc ms Q (21, lv, st, ω, c, s) = y_ldA lv 0 (fun v => y_w M_X3_readPerson mc ms Q (22, lv, v :: st, ω, c, s)) := w_aload_n dX3_readPerson_21 rfl rfl
theorem wX3_readPerson_22 : y_w M_X3_readPerson mc ms Q (22, lv, st, ω, c, s) = y_ldI lv 1 (fun v => y_w M_X3_readPerson mc ms Q (23, lv, v :: st, ω, c, s)) := w_iload_n dX3_readPerson_22 rfl rfl
theorem wX3_readPerson_23 : y_w M_X3_readPerson mc ms Q (23, lv, st, ω, c, s) = y_w M_X3_readPerson mc ms Q (25, lv, .int (-1000000) :: st, ω, c, s) := w_ldc dX3_readPerson_23 rfl rfl rfl
theorem wX3_readPerson_25 : y_w M_X3_readPerson mc ms Q (25, lv, .int y :: .int x :: r, ω, c, s) = ((x = y → y_w M_X3_readPerson mc ms Q (32, lv, r, ω, c, s)) ∧ (¬ (x = y) → y_w M_X3_readPerson mc ms Q (28, lv, r, ω, c, s))) := w_icmp dX3_readPerson_25 (tgt := 32) rfl rfl rfl
theorem wX3_readPerson_28 : y_w M_X3_readPerson mc ms Q (28, lv, st, ω, c, s) = y_w M_X3_readPerson mc ms Q (29, lv, .int 1 :: st, ω, c, s) := w_iconst dX3_readPerson_28 (v := 1) (by decide) rfl
theorem wX3_readPerson_29 : y_w M_X3_readPerson mc ms Q (29, lv, st, ω, c, s) = y_w M_X3_readPerson mc ms Q (33, lv, st, ω, c, s) := w_goto dX3_readPerson_29 (tgt := 33) (by decide) rfl
theorem wX3_readPerson_32 : y_w M_X3_readPerson mc ms Q (32, lv, st, ω, c, s) = y_w M_X3_readPerson mc ms Q (33, lv, .int 0 :: st, ω, c, s) := w_iconst dX3_readPerson_32 (v := 0) (by decide) rfl
theorem wX3_readPerson_33 (hc : y_cls ω a = some 3) : y_w M_X3_readPerson mc ms Q (33, lv, v1 :: .ref a :: r, ω, c, s) = (y_cat r ≤ 8 ∧ F_X3_must mc ms [.ref a, v1] ω c s (y_aft M_X3_readPerson 33 3 lv r (y_w M_X3_readPerson mc ms Q) Q)) := w_call1 (av := [v1]) (Or.inl ⟨⟨rfl, rfl⟩, rfl⟩) dX3_readPerson_33 rfl hc rfl (y_F_mono _) (y_dle rfl) (y_dle rfl) rfl rfl
theorem wX3_readPerson_36 : y_w M_X3_readPerson mc ms Q (36, lv, st, ω, c, s) = y_ldA lv 0 (fun v => y_w M_X3_readPerson mc ms Q (37, lv, v :: st, ω, c, s)) := w_aload_n dX3_readPerson_36 rfl rfl
theorem wX3_readPerson_37 : y_w M_X3_readPerson mc ms Q (37, lv, st, ω, c, s) = y_w M_X3_readPerson mc ms Q (38, lv, .int 0 :: st, ω, c, s) := w_iconst dX3_readPerson_37 (v := 0) (by decide) rfl
theorem wX3_readPerson_38 : y_w M_X3_readPerson mc ms Q (38, lv, st, ω, c, s) = y_ldA lv 0 (fun v => y_w M_X3_readPerson mc ms Q (39, lv, v :: st, ω, c, s)) := w_aload_n dX3_readPerson_38 rfl rfl
theorem wX3_readPerson_39 : y_w M_X3_readPerson mc ms Q (39, lv, .ref a :: r, ω, c, s) = y_gf P_X3_readPerson 22 (ω.2 a) (fun v => y_w M_X3_readPerson mc ms Q (42, lv, v :: r, ω, c, s)) := w_getfield dX3_readPerson_39 rfl rfl
theorem wX3_readPerson_42 : y_w M_X3_readPerson mc ms Q (42, lv, st, ω, c, s) = y_w M_X3_readPerson mc ms Q (43, lv, .int 0 :: st, ω, c, s) := w_iconst dX3_readPerson_42 (v := 0) (by decide) rfl
theorem wX3_readPerson_43 : y_w M_X3_readPerson mc ms Q (43, lv, .int j :: .ref a :: r, ω, c, s) = y_rI (ω.2 a) j (fun x => y_w M_X3_readPerson mc ms Q (44, lv, .int x :: r, ω, c, s)) := w_iaload dX3_readPerson_43 rfl
theorem wX3_readPerson_44 : y_w M_X3_readPerson mc ms Q (44, lv, st, ω, c, s) = y_w M_X3_readPerson mc ms Q (45, lv, .int 1 :: st, ω, c, s) := w_iconst dX3_readPerson_44 (v := 1) (by decide) rfl
theorem wX3_readPerson_45 : y_w M_X3_readPerson mc ms Q (45, lv, .int y :: .int x :: r, ω, c, s) = y_w M_X3_readPerson mc ms Q (46, lv, .int (x - y) :: r, ω, c, s) := w_isub dX3_readPerson_45 rfl
theorem wX3_readPerson_46 (hc : y_cls ω a = some 3) : y_w M_X3_readPerson mc ms Q (46, lv, v2 :: v1 :: .ref a :: r, ω, c, s) = (y_cat r ≤ 8 ∧ F_X3_number mc ms [.ref a, v1, v2] ω c s (y_aft M_X3_readPerson 46 3 lv r (y_w M_X3_readPerson mc ms Q) Q)) := w_call1 (av := [v1, v2]) (Or.inl ⟨⟨rfl, rfl⟩, rfl⟩) dX3_readPerson_46 rfl hc rfl (y_F_mono _) (y_dle rfl) (y_dle rfl) rfl rfl
theorem wX3_readPerson_49 : y_w M_X3_readPerson mc ms Q (49, lv, .int x :: r, ω, c, s) = y_w M_X3_readPerson mc ms Q (50, (2, .int x) :: y_kill 2 lv, r, ω, c, s) := w_istore_n dX3_readPerson_49 rfl (y_dle rfl) rfl
theorem wX3_readPerson_50 : y_w M_X3_readPerson mc ms Q (50, lv, st, ω, c, s) = y_ldA lv 0 (fun v => y_w M_X3_readPerson mc ms Q (51, lv, v :: st, ω, c, s)) := w_aload_n dX3_readPerson_50 rfl rfl
theorem wX3_readPerson_51 : y_w M_X3_readPerson mc ms Q (51, lv, st, ω, c, s) = y_w M_X3_readPerson mc ms Q (52, lv, .int 0 :: st, ω, c, s) := w_iconst dX3_readPerson_51 (v := 0) (by decide) rfl
theorem wX3_readPerson_52 : y_w M_X3_readPerson mc ms Q (52, lv, st, ω, c, s) = y_w M_X3_readPerson mc ms Q (54, lv, .int (nI 99) :: st, ω, c, s) := w_bipush dX3_readPerson_52 (v := (nI 99)) (by decide) rfl
theorem wX3_readPerson_54 (hc : y_cls ω a = some 3) : y_w M_X3_readPerson mc ms Q (54, lv, v2 :: v1 :: .ref a :: r, ω, c, s) = (y_cat r ≤ 8 ∧ F_X3_number mc ms [.ref a, v1, v2] ω c s (y_aft M_X3_readPerson 54 3 lv r (y_w M_X3_readPerson mc ms Q) Q)) := w_call1 (av := [v1, v2]) (Or.inl ⟨⟨rfl, rfl⟩, rfl⟩) dX3_readPerson_54 rfl hc rfl (y_F_mono _) (y_dle rfl) (y_dle rfl) rfl rfl
theorem wX3_readPerson_57 : y_w M_X3_readPerson mc ms Q (57, lv, .int x :: r, ω, c, s) = y_w M_X3_readPerson mc ms Q (58, (3, .int x) :: y_kill 3 lv, r, ω, c, s) := w_istore_n dX3_readPerson_57 rfl (y_dle rfl) rfl
theorem wX3_readPerson_58 : y_w M_X3_readPerson mc ms Q (58, lv, st, ω, c, s) = y_ldA lv 0 (fun v => y_w M_X3_readPerson mc ms Q (59, lv, v :: st, ω, c, s)) := w_aload_n dX3_readPerson_58 rfl rfl
theorem wX3_readPerson_59 (hc : y_cls ω a = some 3) : y_w M_X3_readPerson mc ms Q (59, lv, .ref a :: r, ω, c, s) = (y_cat r ≤ 8 ∧ F_X3_mustEnd mc ms [.ref a] ω c s (y_aft M_X3_readPerson 59 3 lv r (y_w M_X3_readPerson mc ms Q) Q)) := w_call1 (av := []) (Or.inl ⟨⟨rfl, rfl⟩, rfl⟩) dX3_readPerson_59 rfl hc rfl (y_F_mono _) (y_dle rfl) (y_dle rfl) rfl rfl
theorem wX3_readPerson_62 : y_w M_X3_readPerson mc ms Q (62, lv, st, ω, c, s) = y_ldA lv 0 (fun v => y_w M_X3_readPerson mc ms Q (63, lv, v :: st, ω, c, s)) := w_aload_n dX3_readPerson_62 rfl rfl
theorem wX3_readPerson_63 : y_w M_X3_readPerson mc ms Q (63, lv, .ref a :: r, ω, c, s) = y_gf P_X3_readPerson 106 (ω.2 a) (fun v => y_w M_X3_readPerson mc ms Q (66, lv, v :: r, ω, c, s)) := w_getfield dX3_readPerson_63 rfl rfl
theorem wX3_readPerson_66 : y_w M_X3_readPerson mc ms Q (66, lv, .int x :: r, ω, c, s) = ((¬ x = 0 → y_w M_X3_readPerson mc ms Q (131, lv, r, ω, c, s)) ∧ (¬ (¬ x = 0) → y_w M_X3_readPerson mc ms Q (69, lv, r, ω, c, s))) := w_if dX3_readPerson_66 (tgt := 131) rfl rfl rfl
theorem wX3_readPerson_69 : y_w M_X3_readPerson mc ms Q (69, lv, st, ω, c, s) = y_w M_X3_readPerson mc ms Q (71, lv, .int (nI 36) :: st, ω, c, s) := w_bipush dX3_readPerson_69 (v := (nI 36)) (by decide) rfl
theorem wX3_readPerson_71 : y_w M_X3_readPerson mc ms Q (71, lv, st, ω, c, s) = y_w M_X3_readPerson mc ms Q (73, lv, .int (nI 8) :: st, ω, c, s) := w_bipush dX3_readPerson_71 (v := (nI 8)) (by decide) rfl
theorem wX3_readPerson_73 : y_w M_X3_readPerson mc ms Q (73, lv, st, ω, c, s) = y_ldA lv 0 (fun v => y_w M_X3_readPerson mc ms Q (74, lv, v :: st, ω, c, s)) := w_aload_n dX3_readPerson_73 rfl rfl
theorem wX3_readPerson_74 : y_w M_X3_readPerson mc ms Q (74, lv, .ref a :: r, ω, c, s) = y_gf P_X3_readPerson 22 (ω.2 a) (fun v => y_w M_X3_readPerson mc ms Q (77, lv, v :: r, ω, c, s)) := w_getfield dX3_readPerson_74 rfl rfl
theorem wX3_readPerson_77 : y_w M_X3_readPerson mc ms Q (77, lv, st, ω, c, s) = y_w M_X3_readPerson mc ms Q (78, lv, .int (nI 3) :: st, ω, c, s) := w_iconst dX3_readPerson_77 (v := (nI 3)) (by decide) rfl
theorem wX3_readPerson_78 : y_w M_X3_readPerson mc ms Q (78, lv, .int j :: .ref a :: r, ω, c, s) = y_rI (ω.2 a) j (fun x => y_w M_X3_readPerson mc ms Q (79, lv, .int x :: r, ω, c, s)) := w_iaload dX3_readPerson_78 rfl
theorem wX3_readPerson_79 : y_w M_X3_readPerson mc ms Q (79, lv, .int y :: .int x :: r, ω, c, s) = y_w M_X3_readPerson mc ms Q (80, lv, .int (x * y) :: r, ω, c, s) := w_imul dX3_readPerson_79 rfl
theorem wX3_readPerson_80 : y_w M_X3_readPerson mc ms Q (80, lv, .int y :: .int x :: r, ω, c, s) = y_w M_X3_readPerson mc ms Q (81, lv, .int (x + y) :: r, ω, c, s) := w_iadd dX3_readPerson_80 rfl
theorem wX3_readPerson_81 : y_w M_X3_readPerson mc ms Q (81, lv, .int x :: r, ω, c, s) = y_w M_X3_readPerson mc ms Q (83, (4, .int x) :: y_kill 4 lv, r, ω, c, s) := w_istore dX3_readPerson_81 (y_dle rfl) rfl
theorem wX3_readPerson_83 : y_w M_X3_readPerson mc ms Q (83, lv, st, ω, c, s) = y_ldA lv 0 (fun v => y_w M_X3_readPerson mc ms Q (84, lv, v :: st, ω, c, s)) := w_aload_n dX3_readPerson_83 rfl rfl
theorem wX3_readPerson_84 : y_w M_X3_readPerson mc ms Q (84, lv, .ref a :: r, ω, c, s) = y_gf P_X3_readPerson 22 (ω.2 a) (fun v => y_w M_X3_readPerson mc ms Q (87, lv, v :: r, ω, c, s)) := w_getfield dX3_readPerson_84 rfl rfl
theorem wX3_readPerson_87 : y_w M_X3_readPerson mc ms Q (87, lv, st, ω, c, s) = y_ldI lv 4 (fun v => y_w M_X3_readPerson mc ms Q (89, lv, v :: st, ω, c, s)) := w_iload dX3_readPerson_87 rfl
theorem wX3_readPerson_89 : y_w M_X3_readPerson mc ms Q (89, lv, st, ω, c, s) = y_ldI lv 1 (fun v => y_w M_X3_readPerson mc ms Q (90, lv, v :: st, ω, c, s)) := w_iload_n dX3_readPerson_89 rfl rfl
theorem wX3_readPerson_90 : y_w M_X3_readPerson mc ms Q (90, lv, .int x :: .int j :: .ref a :: r, ω, c, s) = y_wI (ω.2 a) j x (fun e => y_w M_X3_readPerson mc ms Q (91, lv, r, y_hup ω a e, c, s)) := w_iastore dX3_readPerson_90 rfl
theorem wX3_readPerson_91 : y_w M_X3_readPerson mc ms Q (91, lv, st, ω, c, s) = y_ldA lv 0 (fun v => y_w M_X3_readPerson mc ms Q (92, lv, v :: st, ω, c, s)) := w_aload_n dX3_readPerson_91 rfl rfl
theorem wX3_readPerson_92 : y_w M_X3_readPerson mc ms Q (92, lv, .ref a :: r, ω, c, s) = y_gf P_X3_readPerson 22 (ω.2 a) (fun v => y_w M_X3_readPerson mc ms Q (95, lv, v :: r, ω, c, s)) := w_getfield dX3_readPerson_92 rfl rfl
theorem wX3_readPerson_95 : y_w M_X3_readPerson mc ms Q (95, lv, st, ω, c, s) = y_ldI lv 4 (fun v => y_w M_X3_readPerson mc ms Q (97, lv, v :: st, ω, c, s)) := w_iload dX3_readPerson_95 rfl
theorem wX3_readPerson_97 : y_w M_X3_readPerson mc ms Q (97, lv, st, ω, c, s) = y_w M_X3_readPerson mc ms Q (98, lv, .int 1 :: st, ω, c, s) := w_iconst dX3_readPerson_97 (v := 1) (by decide) rfl
theorem wX3_readPerson_98 : y_w M_X3_readPerson mc ms Q (98, lv, .int y :: .int x :: r, ω, c, s) = y_w M_X3_readPerson mc ms Q (99, lv, .int (x + y) :: r, ω, c, s) := w_iadd dX3_readPerson_98 rfl
theorem wX3_readPerson_99 : y_w M_X3_readPerson mc ms Q (99, lv, st, ω, c, s) = y_ldI lv 2 (fun v => y_w M_X3_readPerson mc ms Q (100, lv, v :: st, ω, c, s)) := w_iload_n dX3_readPerson_99 rfl rfl
theorem wX3_readPerson_100 : y_w M_X3_readPerson mc ms Q (100, lv, .int x :: .int j :: .ref a :: r, ω, c, s) = y_wI (ω.2 a) j x (fun e => y_w M_X3_readPerson mc ms Q (101, lv, r, y_hup ω a e, c, s)) := w_iastore dX3_readPerson_100 rfl
theorem wX3_readPerson_101 : y_w M_X3_readPerson mc ms Q (101, lv, st, ω, c, s) = y_ldA lv 0 (fun v => y_w M_X3_readPerson mc ms Q (102, lv, v :: st, ω, c, s)) := w_aload_n dX3_readPerson_101 rfl rfl
theorem wX3_readPerson_102 : y_w M_X3_readPerson mc ms Q (102, lv, .ref a :: r, ω, c, s) = y_gf P_X3_readPerson 22 (ω.2 a) (fun v => y_w M_X3_readPerson mc ms Q (105, lv, v :: r, ω, c, s)) := w_getfield dX3_readPerson_102 rfl rfl
theorem wX3_readPerson_105 : y_w M_X3_readPerson mc ms Q (105, lv, st, ω, c, s) = y_ldI lv 4 (fun v => y_w M_X3_readPerson mc ms Q (107, lv, v :: st, ω, c, s)) := w_iload dX3_readPerson_105 rfl
theorem wX3_readPerson_107 : y_w M_X3_readPerson mc ms Q (107, lv, st, ω, c, s) = y_w M_X3_readPerson mc ms Q (108, lv, .int (nI 2) :: st, ω, c, s) := w_iconst dX3_readPerson_107 (v := (nI 2)) (by decide) rfl
theorem wX3_readPerson_108 : y_w M_X3_readPerson mc ms Q (108, lv, .int y :: .int x :: r, ω, c, s) = y_w M_X3_readPerson mc ms Q (109, lv, .int (x + y) :: r, ω, c, s) := w_iadd dX3_readPerson_108 rfl
theorem wX3_readPerson_109 : y_w M_X3_readPerson mc ms Q (109, lv, st, ω, c, s) = y_ldI lv 3 (fun v => y_w M_X3_readPerson mc ms Q (110, lv, v :: st, ω, c, s)) := w_iload_n dX3_readPerson_109 rfl rfl
theorem wX3_readPerson_110 : y_w M_X3_readPerson mc ms Q (110, lv, .int x :: .int j :: .ref a :: r, ω, c, s) = y_wI (ω.2 a) j x (fun e => y_w M_X3_readPerson mc ms Q (111, lv, r, y_hup ω a e, c, s)) := w_iastore dX3_readPerson_110 rfl
theorem wX3_readPerson_111 : y_w M_X3_readPerson mc ms Q (111, lv, st, ω, c, s) = y_ldA lv 0 (fun v => y_w M_X3_readPerson mc ms Q (112, lv, v :: st, ω, c, s)) := w_aload_n dX3_readPerson_111 rfl rfl
theorem wX3_readPerson_112 : y_w M_X3_readPerson mc ms Q (112, lv, .ref a :: r, ω, c, s) = y_gf P_X3_readPerson 22 (ω.2 a) (fun v => y_w M_X3_readPerson mc ms Q (115, lv, v :: r, ω, c, s)) := w_getfield dX3_readPerson_112 rfl rfl
theorem wX3_readPerson_115 : y_w M_X3_readPerson mc ms Q (115, lv, st, ω, c, s) = y_ldI lv 4 (fun v => y_w M_X3_readPerson mc ms Q (117, lv, v :: st, ω, c, s)) := w_iload dX3_readPerson_115 rfl
theorem wX3_readPerson_117 : y_w M_X3_readPerson mc ms Q (117, lv, st, ω, c, s) = y_w M_X3_readPerson mc ms Q (118, lv, .int (nI 4) :: st, ω, c, s) := w_iconst dX3_readPerson_117 (v := (nI 4)) (by decide) rfl
theorem wX3_readPerson_118 : y_w M_X3_readPerson mc ms Q (118, lv, .int y :: .int x :: r, ω, c, s) = y_w M_X3_readPerson mc ms Q (119, lv, .int (x + y) :: r, ω, c, s) := w_iadd dX3_readPerson_118 rfl
theorem wX3_readPerson_119 : y_w M_X3_readPerson mc ms Q (119, lv, st, ω, c, s) = y_ldI lv 3 (fun v => y_w M_X3_readPerson mc ms Q (120, lv, v :: st, ω, c, s)) := w_iload_n dX3_readPerson_119 rfl rfl
theorem wX3_readPerson_120 : y_w M_X3_readPerson mc ms Q (120, lv, .int x :: .int j :: .ref a :: r, ω, c, s) = y_wI (ω.2 a) j x (fun e => y_w M_X3_readPerson mc ms Q (121, lv, r, y_hup ω a e, c, s)) := w_iastore dX3_readPerson_120 rfl
theorem wX3_readPerson_121 : y_w M_X3_readPerson mc ms Q (121, lv, st, ω, c, s) = y_ldA lv 0 (fun v => y_w M_X3_readPerson mc ms Q (122, lv, v :: st, ω, c, s)) := w_aload_n dX3_readPerson_121 rfl rfl
theorem wX3_readPerson_122 : y_w M_X3_readPerson mc ms Q (122, lv, .ref a :: r, ω, c, s) = y_gf P_X3_readPerson 22 (ω.2 a) (fun v => y_w M_X3_readPerson mc ms Q (125, lv, v :: r, ω, c, s)) := w_getfield dX3_readPerson_122 rfl rfl
theorem wX3_readPerson_125 : y_w M_X3_readPerson mc ms Q (125, lv, st, ω, c, s) = y_w M_X3_readPerson mc ms Q (126, lv, .int (nI 3) :: st, ω, c, s) := w_iconst dX3_readPerson_125 (v := (nI 3)) (by decide) rfl
theorem wX3_readPerson_126 : y_w M_X3_readPerson mc ms Q (126, lv, v :: v1 :: r, ω, c, s) = ((v.category = 1 ∧ v1.category = 1) ∧ y_w M_X3_readPerson mc ms Q (127, lv, v :: v1 :: v :: v1 :: r, ω, c, s)) := w_dup2 dX3_readPerson_126 rfl
theorem wX3_readPerson_127 : y_w M_X3_readPerson mc ms Q (127, lv, .int j :: .ref a :: r, ω, c, s) = y_rI (ω.2 a) j (fun x => y_w M_X3_readPerson mc ms Q (128, lv, .int x :: r, ω, c, s)) := w_iaload dX3_readPerson_127 rfl
theorem wX3_readPerson_128 : y_w M_X3_readPerson mc ms Q (128, lv, st, ω, c, s) = y_w M_X3_readPerson mc ms Q (129, lv, .int 1 :: st, ω, c, s) := w_iconst dX3_readPerson_128 (v := 1) (by decide) rfl
theorem wX3_readPerson_129 : y_w M_X3_readPerson mc ms Q (129, lv, .int y :: .int x :: r, ω, c, s) = y_w M_X3_readPerson mc ms Q (130, lv, .int (x + y) :: r, ω, c, s) := w_iadd dX3_readPerson_129 rfl
theorem wX3_readPerson_130 : y_w M_X3_readPerson mc ms Q (130, lv, .int x :: .int j :: .ref a :: r, ω, c, s) = y_wI (ω.2 a) j x (fun e => y_w M_X3_readPerson mc ms Q (131, lv, r, y_hup ω a e, c, s)) := w_iastore dX3_readPerson_130 rfl
theorem wX3_readPerson_131 : y_w M_X3_readPerson mc ms Q (131, lv, [], ω, c, s) = Q (.returned none) ω c s := w_return dX3_readPerson_131 rfl
def P_X3_league : y_Pool := ([(48, 3, 0, .int, false), (22, 3, 6, (.array .int), true), (106, 3, 17, .int, false), (94, 3, 14, .int, false), (171, 3, 11, .int, false), (112, 3, 18, .int, false), (175, 3, 8, .int, false), (19, 3, 5, (.array .int), true)], [], [(159, .long (lN 7102839)), (161, .long (lN 7823737)), (166, .long (lN 123581014175598)), (174, .int (-1000100))], [(156, 1, 3, 1, (3, 62), F_X3_begin), (148, 1, 3, 1, (1, 23), F_X3_name), (123, 1, 3, 2, (3, 63), F_X3_must), (141, 1, 3, 3, (4, 86), F_X3_number), (145, 1, 3, 1, (4, 83), F_X3_mustEnd), (163, 1, 3, 1, (5, 111), F_X3_readWay), (168, 1, 3, 1, (5, 110), F_X3_readPerson), (115, 1, 3, 2, (1, 21), F_X3_bad)], [], [], [])
def M_X3_league : y_Md := (cX3_league, "YoungerBackModel", (2, (some FieldType.int)), (5, 111), false, P_X3_league, [])
def F_X3_league : y_Tr := y_F M_X3_league
theorem nX3_league : y_nL M_X3_league = 2 := rfl
theorem fX3_league_48_3 : y_ffP P_X3_league 48 3 = some (0, .int, false) := rfl
theorem fX3_league_22_3 : y_ffP P_X3_league 22 3 = some (6, (.array .int), true) := rfl
theorem fX3_league_106_3 : y_ffP P_X3_league 106 3 = some (17, .int, false) := rfl
theorem fX3_league_94_3 : y_ffP P_X3_league 94 3 = some (14, .int, false) := rfl
theorem fX3_league_171_3 : y_ffP P_X3_league 171 3 = some (11, .int, false) := rfl
theorem fX3_league_112_3 : y_ffP P_X3_league 112 3 = some (18, .int, false) := rfl
theorem fX3_league_175_3 : y_ffP P_X3_league 175 3 = some (8, .int, false) := rfl
theorem fX3_league_19_3 : y_ffP P_X3_league 19 3 = some (5, (.array .int), true) := rfl
theorem wX3_league_0 : y_w M_X3_league mc ms Q (0, lv, st, ω, c, s) = y_ldA lv 0 (fun v => y_w M_X3_league mc ms Q (1, lv, v :: st, ω, c, s)) := w_aload_n dX3_league_0 rfl rfl
theorem wX3_league_1 : y_w M_X3_league mc ms Q (1, lv, st, ω, c, s) = y_w M_X3_league mc ms Q (2, lv, .int 0 :: st, ω, c, s) := w_iconst dX3_league_1 (v := 0) (by decide) rfl
theorem wX3_league_2 : y_w M_X3_league mc ms Q (2, lv, v :: .ref a :: r, ω, c, s) = y_pf P_X3_league false 48 (ω.2 a) v (fun ci fs => y_w M_X3_league mc ms Q (5, lv, r, y_hup ω a (.inr (ci, fs)), c, s)) := w_putfield dX3_league_2 rfl rfl rfl
theorem wX3_league_5 : y_w M_X3_league mc ms Q (5, lv, st, ω, c, s) = y_ldA lv 0 (fun v => y_w M_X3_league mc ms Q (6, lv, v :: st, ω, c, s)) := w_aload_n dX3_league_5 rfl rfl
theorem wX3_league_6 (hc : y_cls ω a = some 3) : y_w M_X3_league mc ms Q (6, lv, .ref a :: r, ω, c, s) = (y_cat r ≤ 8 ∧ F_X3_begin mc ms [.ref a] ω c s (y_aft M_X3_league 6 3 lv r (y_w M_X3_league mc ms Q) Q)) := w_call1 (av := []) (Or.inl ⟨⟨rfl, rfl⟩, rfl⟩) dX3_league_6 rfl hc rfl (y_F_mono _) (y_dle rfl) (y_dle rfl) rfl rfl
theorem wX3_league_9 : y_w M_X3_league mc ms Q (9, lv, st, ω, c, s) = y_w M_X3_league mc ms Q (10, lv, .int 0 :: st, ω, c, s) := w_iconst dX3_league_9 (v := 0) (by decide) rfl
theorem wX3_league_10 : y_w M_X3_league mc ms Q (10, lv, .int x :: r, ω, c, s) = y_w M_X3_league mc ms Q (11, (1, .int x) :: y_kill 1 lv, r, ω, c, s) := w_istore_n dX3_league_10 rfl (y_dle rfl) rfl
theorem wX3_league_11 : y_w M_X3_league mc ms Q (11, lv, st, ω, c, s) = y_ldI lv 1 (fun v => y_w M_X3_league mc ms Q (12, lv, v :: st, ω, c, s)) := w_iload_n dX3_league_11 rfl rfl
theorem wX3_league_12 : y_w M_X3_league mc ms Q (12, lv, st, ω, c, s) = y_w M_X3_league mc ms Q (14, lv, .int (nI 68) :: st, ω, c, s) := w_bipush dX3_league_12 (v := (nI 68)) (by decide) rfl
theorem wX3_league_14 : y_w M_X3_league mc ms Q (14, lv, .int y :: .int x :: r, ω, c, s) = ((y ≤ x → y_w M_X3_league mc ms Q (30, lv, r, ω, c, s)) ∧ (¬ (y ≤ x) → y_w M_X3_league mc ms Q (17, lv, r, ω, c, s))) := w_icmp dX3_league_14 (tgt := 30) rfl rfl rfl
theorem wX3_league_17 : y_w M_X3_league mc ms Q (17, lv, st, ω, c, s) = y_ldA lv 0 (fun v => y_w M_X3_league mc ms Q (18, lv, v :: st, ω, c, s)) := w_aload_n dX3_league_17 rfl rfl
theorem wX3_league_18 : y_w M_X3_league mc ms Q (18, lv, .ref a :: r, ω, c, s) = y_gf P_X3_league 22 (ω.2 a) (fun v => y_w M_X3_league mc ms Q (21, lv, v :: r, ω, c, s)) := w_getfield dX3_league_18 rfl rfl
theorem wX3_league_21 : y_w M_X3_league mc ms Q (21, lv, st, ω, c, s) = y_ldI lv 1 (fun v => y_w M_X3_league mc ms Q (22, lv, v :: st, ω, c, s)) := w_iload_n dX3_league_21 rfl rfl
theorem wX3_league_22 : y_w M_X3_league mc ms Q (22, lv, st, ω, c, s) = y_w M_X3_league mc ms Q (23, lv, .int 0 :: st, ω, c, s) := w_iconst dX3_league_22 (v := 0) (by decide) rfl
theorem wX3_league_23 : y_w M_X3_league mc ms Q (23, lv, .int x :: .int j :: .ref a :: r, ω, c, s) = y_wI (ω.2 a) j x (fun e => y_w M_X3_league mc ms Q (24, lv, r, y_hup ω a e, c, s)) := w_iastore dX3_league_23 rfl
theorem wX3_league_24 : y_w M_X3_league mc ms Q (24, lv, st, ω, c, s) = y_inc lv 1 (fun x => y_w M_X3_league mc ms Q (27, (1, .int (x + 1)) :: y_kill 1 lv, st, ω, c, s)) := w_iinc dX3_league_24 (d := 1) (by decide) (y_dle rfl) rfl
theorem wX3_league_27 : y_w M_X3_league mc ms Q (27, lv, st, ω, c, s) = ∃ lv2, y_lsub lv2 lv ∧ y_w M_X3_league mc ms Q (11, lv2, st, ω, c, s) := w_back dX3_league_27 (tgt := 11) (by decide) rfl
theorem wX3_league_30 : y_w M_X3_league mc ms Q (30, lv, st, ω, c, s) = y_ldA lv 0 (fun v => y_w M_X3_league mc ms Q (31, lv, v :: st, ω, c, s)) := w_aload_n dX3_league_30 rfl rfl
theorem wX3_league_31 : y_w M_X3_league mc ms Q (31, lv, st, ω, c, s) = y_ldA lv 0 (fun v => y_w M_X3_league mc ms Q (32, lv, v :: st, ω, c, s)) := w_aload_n dX3_league_31 rfl rfl
theorem wX3_league_32 (hc : y_cls ω a = some 3) : y_w M_X3_league mc ms Q (32, lv, .ref a :: r, ω, c, s) = (y_cat r ≤ 8 ∧ F_X3_name mc ms [.ref a] ω c s (y_aft M_X3_league 32 3 lv r (y_w M_X3_league mc ms Q) Q)) := w_call1 (av := []) (Or.inl ⟨⟨rfl, rfl⟩, rfl⟩) dX3_league_32 rfl hc rfl (y_F_mono _) (y_dle rfl) (y_dle rfl) rfl rfl
theorem wX3_league_35 : y_w M_X3_league mc ms Q (35, lv, st, ω, c, s) = y_w M_X3_league mc ms Q (38, lv, .long (lN 7102839) :: st, ω, c, s) := w_ldc2_w dX3_league_35 rfl rfl rfl
theorem wX3_league_38 : y_w M_X3_league mc ms Q (38, lv, .long w :: .long z :: r, ω, c, s) = y_w M_X3_league mc ms Q (39, lv, .int (lg_cmp z w) :: r, ω, c, s) := w_lcmp dX3_league_38 rfl
theorem wX3_league_39 : y_w M_X3_league mc ms Q (39, lv, .int x :: r, ω, c, s) = ((¬ x = 0 → y_w M_X3_league mc ms Q (46, lv, r, ω, c, s)) ∧ (¬ (¬ x = 0) → y_w M_X3_league mc ms Q (42, lv, r, ω, c, s))) := w_if dX3_league_39 (tgt := 46) rfl rfl rfl
theorem wX3_league_42 : y_w M_X3_league mc ms Q (42, lv, st, ω, c, s) = y_w M_X3_league mc ms Q (43, lv, .int 1 :: st, ω, c, s) := w_iconst dX3_league_42 (v := 1) (by decide) rfl
theorem wX3_league_43 : y_w M_X3_league mc ms Q (43, lv, st, ω, c, s) = y_w M_X3_league mc ms Q (47, lv, st, ω, c, s) := w_goto dX3_league_43 (tgt := 47) (by decide) rfl
theorem wX3_league_46 : y_w M_X3_league mc ms Q (46, lv, st, ω, c, s) = y_w M_X3_league mc ms Q (47, lv, .int 0 :: st, ω, c, s) := w_iconst dX3_league_46 (v := 0) (by decide) rfl
theorem wX3_league_47 (hc : y_cls ω a = some 3) : y_w M_X3_league mc ms Q (47, lv, v1 :: .ref a :: r, ω, c, s) = (y_cat r ≤ 8 ∧ F_X3_must mc ms [.ref a, v1] ω c s (y_aft M_X3_league 47 3 lv r (y_w M_X3_league mc ms Q) Q)) := w_call1 (av := [v1]) (Or.inl ⟨⟨rfl, rfl⟩, rfl⟩) dX3_league_47 rfl hc rfl (y_F_mono _) (y_dle rfl) (y_dle rfl) rfl rfl
theorem wX3_league_50 : y_w M_X3_league mc ms Q (50, lv, st, ω, c, s) = y_ldA lv 0 (fun v => y_w M_X3_league mc ms Q (51, lv, v :: st, ω, c, s)) := w_aload_n dX3_league_50 rfl rfl
theorem wX3_league_51 : y_w M_X3_league mc ms Q (51, lv, .ref a :: r, ω, c, s) = y_gf P_X3_league 22 (ω.2 a) (fun v => y_w M_X3_league mc ms Q (54, lv, v :: r, ω, c, s)) := w_getfield dX3_league_51 rfl rfl
theorem wX3_league_54 : y_w M_X3_league mc ms Q (54, lv, st, ω, c, s) = y_w M_X3_league mc ms Q (55, lv, .int 0 :: st, ω, c, s) := w_iconst dX3_league_54 (v := 0) (by decide) rfl
theorem wX3_league_55 : y_w M_X3_league mc ms Q (55, lv, st, ω, c, s) = y_ldA lv 0 (fun v => y_w M_X3_league mc ms Q (56, lv, v :: st, ω, c, s)) := w_aload_n dX3_league_55 rfl rfl
theorem wX3_league_56 : y_w M_X3_league mc ms Q (56, lv, st, ω, c, s) = y_w M_X3_league mc ms Q (57, lv, .int 1 :: st, ω, c, s) := w_iconst dX3_league_56 (v := 1) (by decide) rfl
theorem wX3_league_57 : y_w M_X3_league mc ms Q (57, lv, st, ω, c, s) = y_w M_X3_league mc ms Q (58, lv, .int (nI 5) :: st, ω, c, s) := w_iconst dX3_league_57 (v := (nI 5)) (by decide) rfl
theorem wX3_league_58 (hc : y_cls ω a = some 3) : y_w M_X3_league mc ms Q (58, lv, v2 :: v1 :: .ref a :: r, ω, c, s) = (y_cat r ≤ 8 ∧ F_X3_number mc ms [.ref a, v1, v2] ω c s (y_aft M_X3_league 58 3 lv r (y_w M_X3_league mc ms Q) Q)) := w_call1 (av := [v1, v2]) (Or.inl ⟨⟨rfl, rfl⟩, rfl⟩) dX3_league_58 rfl hc rfl (y_F_mono _) (y_dle rfl) (y_dle rfl) rfl rfl
theorem wX3_league_61 : y_w M_X3_league mc ms Q (61, lv, .int x :: .int j :: .ref a :: r, ω, c, s) = y_wI (ω.2 a) j x (fun e => y_w M_X3_league mc ms Q (62, lv, r, y_hup ω a e, c, s)) := w_iastore dX3_league_61 rfl
theorem wX3_league_62 : y_w M_X3_league mc ms Q (62, lv, st, ω, c, s) = y_ldA lv 0 (fun v => y_w M_X3_league mc ms Q (63, lv, v :: st, ω, c, s)) := w_aload_n dX3_league_62 rfl rfl
theorem wX3_league_63 : y_w M_X3_league mc ms Q (63, lv, .ref a :: r, ω, c, s) = y_gf P_X3_league 22 (ω.2 a) (fun v => y_w M_X3_league mc ms Q (66, lv, v :: r, ω, c, s)) := w_getfield dX3_league_63 rfl rfl
theorem wX3_league_66 : y_w M_X3_league mc ms Q (66, lv, st, ω, c, s) = y_w M_X3_league mc ms Q (67, lv, .int 1 :: st, ω, c, s) := w_iconst dX3_league_66 (v := 1) (by decide) rfl
theorem wX3_league_67 : y_w M_X3_league mc ms Q (67, lv, st, ω, c, s) = y_ldA lv 0 (fun v => y_w M_X3_league mc ms Q (68, lv, v :: st, ω, c, s)) := w_aload_n dX3_league_67 rfl rfl
theorem wX3_league_68 : y_w M_X3_league mc ms Q (68, lv, st, ω, c, s) = y_w M_X3_league mc ms Q (69, lv, .int 0 :: st, ω, c, s) := w_iconst dX3_league_68 (v := 0) (by decide) rfl
theorem wX3_league_69 : y_w M_X3_league mc ms Q (69, lv, st, ω, c, s) = y_w M_X3_league mc ms Q (71, lv, .int (nI 20) :: st, ω, c, s) := w_bipush dX3_league_69 (v := (nI 20)) (by decide) rfl
theorem wX3_league_71 (hc : y_cls ω a = some 3) : y_w M_X3_league mc ms Q (71, lv, v2 :: v1 :: .ref a :: r, ω, c, s) = (y_cat r ≤ 8 ∧ F_X3_number mc ms [.ref a, v1, v2] ω c s (y_aft M_X3_league 71 3 lv r (y_w M_X3_league mc ms Q) Q)) := w_call1 (av := [v1, v2]) (Or.inl ⟨⟨rfl, rfl⟩, rfl⟩) dX3_league_71 rfl hc rfl (y_F_mono _) (y_dle rfl) (y_dle rfl) rfl rfl
theorem wX3_league_74 : y_w M_X3_league mc ms Q (74, lv, .int x :: .int j :: .ref a :: r, ω, c, s) = y_wI (ω.2 a) j x (fun e => y_w M_X3_league mc ms Q (75, lv, r, y_hup ω a e, c, s)) := w_iastore dX3_league_74 rfl
theorem wX3_league_75 : y_w M_X3_league mc ms Q (75, lv, st, ω, c, s) = y_ldA lv 0 (fun v => y_w M_X3_league mc ms Q (76, lv, v :: st, ω, c, s)) := w_aload_n dX3_league_75 rfl rfl
theorem wX3_league_76 (hc : y_cls ω a = some 3) : y_w M_X3_league mc ms Q (76, lv, .ref a :: r, ω, c, s) = (y_cat r ≤ 8 ∧ F_X3_mustEnd mc ms [.ref a] ω c s (y_aft M_X3_league 76 3 lv r (y_w M_X3_league mc ms Q) Q)) := w_call1 (av := []) (Or.inl ⟨⟨rfl, rfl⟩, rfl⟩) dX3_league_76 rfl hc rfl (y_F_mono _) (y_dle rfl) (y_dle rfl) rfl rfl
theorem wX3_league_79 : y_w M_X3_league mc ms Q (79, lv, st, ω, c, s) = y_ldA lv 0 (fun v => y_w M_X3_league mc ms Q (80, lv, v :: st, ω, c, s)) := w_aload_n dX3_league_79 rfl rfl
theorem wX3_league_80 (hc : y_cls ω a = some 3) : y_w M_X3_league mc ms Q (80, lv, .ref a :: r, ω, c, s) = (y_cat r ≤ 8 ∧ F_X3_name mc ms [.ref a] ω c s (y_aft M_X3_league 80 3 lv r (y_w M_X3_league mc ms Q) Q)) := w_call1 (av := []) (Or.inl ⟨⟨rfl, rfl⟩, rfl⟩) dX3_league_80 rfl hc rfl (y_F_mono _) (y_dle rfl) (y_dle rfl) rfl rfl
theorem wX3_league_83 : y_w M_X3_league mc ms Q (83, lv, st, ω, c, s) = y_w M_X3_league mc ms Q (86, lv, .long (lN 7823737) :: st, ω, c, s) := w_ldc2_w dX3_league_83 rfl rfl rfl
theorem wX3_league_86 : y_w M_X3_league mc ms Q (86, lv, .long w :: .long z :: r, ω, c, s) = y_w M_X3_league mc ms Q (87, lv, .int (lg_cmp z w) :: r, ω, c, s) := w_lcmp dX3_league_86 rfl
theorem wX3_league_87 : y_w M_X3_league mc ms Q (87, lv, .int x :: r, ω, c, s) = ((¬ x = 0 → y_w M_X3_league mc ms Q (97, lv, r, ω, c, s)) ∧ (¬ (¬ x = 0) → y_w M_X3_league mc ms Q (90, lv, r, ω, c, s))) := w_if dX3_league_87 (tgt := 97) rfl rfl rfl
theorem wX3_league_90 : y_w M_X3_league mc ms Q (90, lv, st, ω, c, s) = y_ldA lv 0 (fun v => y_w M_X3_league mc ms Q (91, lv, v :: st, ω, c, s)) := w_aload_n dX3_league_90 rfl rfl
theorem wX3_league_91 (hc : y_cls ω a = some 3) : y_w M_X3_league mc ms Q (91, lv, .ref a :: r, ω, c, s) = (y_cat r ≤ 8 ∧ F_X3_readWay mc ms [.ref a] ω c s (y_aft M_X3_league 91 3 lv r (y_w M_X3_league mc ms Q) Q)) := w_call1 (av := []) (Or.inl ⟨⟨rfl, rfl⟩, rfl⟩) dX3_league_91 rfl hc rfl (y_F_mono _) (y_dle rfl) (y_dle rfl) rfl rfl
theorem wX3_league_94 : y_w M_X3_league mc ms Q (94, lv, st, ω, c, s) = ∃ lv2, y_lsub lv2 lv ∧ y_w M_X3_league mc ms Q (79, lv2, st, ω, c, s) := w_back dX3_league_94 (tgt := 79) (by decide) rfl
theorem wX3_league_97 : y_w M_X3_league mc ms Q (97, lv, st, ω, c, s) = y_ldA lv 0 (fun v => y_w M_X3_league mc ms Q (98, lv, v :: st, ω, c, s)) := w_aload_n dX3_league_97 rfl rfl
theorem wX3_league_98 (hc : y_cls ω a = some 3) : y_w M_X3_league mc ms Q (98, lv, .ref a :: r, ω, c, s) = (y_cat r ≤ 8 ∧ F_X3_name mc ms [.ref a] ω c s (y_aft M_X3_league 98 3 lv r (y_w M_X3_league mc ms Q) Q)) := w_call1 (av := []) (Or.inl ⟨⟨rfl, rfl⟩, rfl⟩) dX3_league_98 rfl hc rfl (y_F_mono _) (y_dle rfl) (y_dle rfl) rfl rfl
theorem wX3_league_101 : y_w M_X3_league mc ms Q (101, lv, st, ω, c, s) = y_w M_X3_league mc ms Q (104, lv, .long (lN 123581014175598) :: st, ω, c, s) := w_ldc2_w dX3_league_101 rfl rfl rfl
theorem wX3_league_104 : y_w M_X3_league mc ms Q (104, lv, .long w :: .long z :: r, ω, c, s) = y_w M_X3_league mc ms Q (105, lv, .int (lg_cmp z w) :: r, ω, c, s) := w_lcmp dX3_league_104 rfl
theorem wX3_league_105 : y_w M_X3_league mc ms Q (105, lv, .int x :: r, ω, c, s) = ((¬ x = 0 → y_w M_X3_league mc ms Q (115, lv, r, ω, c, s)) ∧ (¬ (¬ x = 0) → y_w M_X3_league mc ms Q (108, lv, r, ω, c, s))) := w_if dX3_league_105 (tgt := 115) rfl rfl rfl
theorem wX3_league_108 : y_w M_X3_league mc ms Q (108, lv, st, ω, c, s) = y_ldA lv 0 (fun v => y_w M_X3_league mc ms Q (109, lv, v :: st, ω, c, s)) := w_aload_n dX3_league_108 rfl rfl
theorem wX3_league_109 (hc : y_cls ω a = some 3) : y_w M_X3_league mc ms Q (109, lv, .ref a :: r, ω, c, s) = (y_cat r ≤ 8 ∧ F_X3_readPerson mc ms [.ref a] ω c s (y_aft M_X3_league 109 3 lv r (y_w M_X3_league mc ms Q) Q)) := w_call1 (av := []) (Or.inl ⟨⟨rfl, rfl⟩, rfl⟩) dX3_league_109 rfl hc rfl (y_F_mono _) (y_dle rfl) (y_dle rfl) rfl rfl
theorem wX3_league_112 : y_w M_X3_league mc ms Q (112, lv, st, ω, c, s) = ∃ lv2, y_lsub lv2 lv ∧ y_w M_X3_league mc ms Q (97, lv2, st, ω, c, s) := w_back dX3_league_112 (tgt := 97) (by decide) rfl
theorem wX3_league_115 : y_w M_X3_league mc ms Q (115, lv, st, ω, c, s) = y_ldA lv 0 (fun v => y_w M_X3_league mc ms Q (116, lv, v :: st, ω, c, s)) := w_aload_n dX3_league_115 rfl rfl
theorem wX3_league_116 : y_w M_X3_league mc ms Q (116, lv, .ref a :: r, ω, c, s) = y_gf P_X3_league 106 (ω.2 a) (fun v => y_w M_X3_league mc ms Q (119, lv, v :: r, ω, c, s)) := w_getfield dX3_league_116 rfl rfl
theorem wX3_league_119 : y_w M_X3_league mc ms Q (119, lv, .int x :: r, ω, c, s) = ((¬ x = 0 → y_w M_X3_league mc ms Q (135, lv, r, ω, c, s)) ∧ (¬ (¬ x = 0) → y_w M_X3_league mc ms Q (122, lv, r, ω, c, s))) := w_if dX3_league_119 (tgt := 135) rfl rfl rfl
theorem wX3_league_122 : y_w M_X3_league mc ms Q (122, lv, st, ω, c, s) = y_ldA lv 0 (fun v => y_w M_X3_league mc ms Q (123, lv, v :: st, ω, c, s)) := w_aload_n dX3_league_122 rfl rfl
theorem wX3_league_123 : y_w M_X3_league mc ms Q (123, lv, .ref a :: r, ω, c, s) = y_gf P_X3_league 94 (ω.2 a) (fun v => y_w M_X3_league mc ms Q (126, lv, v :: r, ω, c, s)) := w_getfield dX3_league_123 rfl rfl
theorem wX3_league_126 : y_w M_X3_league mc ms Q (126, lv, st, ω, c, s) = y_w M_X3_league mc ms Q (127, lv, .int 1 :: st, ω, c, s) := w_iconst dX3_league_126 (v := 1) (by decide) rfl
theorem wX3_league_127 : y_w M_X3_league mc ms Q (127, lv, .int y :: .int x :: r, ω, c, s) = ((x = y → y_w M_X3_league mc ms Q (135, lv, r, ω, c, s)) ∧ (¬ (x = y) → y_w M_X3_league mc ms Q (130, lv, r, ω, c, s))) := w_icmp dX3_league_127 (tgt := 135) rfl rfl rfl
theorem wX3_league_130 : y_w M_X3_league mc ms Q (130, lv, st, ω, c, s) = y_ldA lv 0 (fun v => y_w M_X3_league mc ms Q (131, lv, v :: st, ω, c, s)) := w_aload_n dX3_league_130 rfl rfl
theorem wX3_league_131 : y_w M_X3_league mc ms Q (131, lv, st, ω, c, s) = y_w M_X3_league mc ms Q (132, lv, .int 1 :: st, ω, c, s) := w_iconst dX3_league_131 (v := 1) (by decide) rfl
theorem wX3_league_132 (hc : y_cls ω a = some 3) : y_w M_X3_league mc ms Q (132, lv, v1 :: .ref a :: r, ω, c, s) = (y_cat r ≤ 8 ∧ F_X3_bad mc ms [.ref a, v1] ω c s (y_aft M_X3_league 132 3 lv r (y_w M_X3_league mc ms Q) Q)) := w_call1 (av := [v1]) (Or.inl ⟨⟨rfl, rfl⟩, rfl⟩) dX3_league_132 rfl hc rfl (y_F_mono _) (y_dle rfl) (y_dle rfl) rfl rfl
theorem wX3_league_135 : y_w M_X3_league mc ms Q (135, lv, st, ω, c, s) = y_ldA lv 0 (fun v => y_w M_X3_league mc ms Q (136, lv, v :: st, ω, c, s)) := w_aload_n dX3_league_135 rfl rfl
theorem wX3_league_136 : y_w M_X3_league mc ms Q (136, lv, .ref a :: r, ω, c, s) = y_gf P_X3_league 106 (ω.2 a) (fun v => y_w M_X3_league mc ms Q (139, lv, v :: r, ω, c, s)) := w_getfield dX3_league_136 rfl rfl
theorem wX3_league_139 : y_w M_X3_league mc ms Q (139, lv, .int x :: r, ω, c, s) = ((x ≤ 0 → y_w M_X3_league mc ms Q (158, lv, r, ω, c, s)) ∧ (¬ (x ≤ 0) → y_w M_X3_league mc ms Q (142, lv, r, ω, c, s))) := w_if dX3_league_139 (tgt := 158) rfl rfl rfl
theorem wX3_league_142 : y_w M_X3_league mc ms Q (142, lv, st, ω, c, s) = y_ldA lv 0 (fun v => y_w M_X3_league mc ms Q (143, lv, v :: st, ω, c, s)) := w_aload_n dX3_league_142 rfl rfl
theorem wX3_league_143 : y_w M_X3_league mc ms Q (143, lv, st, ω, c, s) = y_ldA lv 0 (fun v => y_w M_X3_league mc ms Q (144, lv, v :: st, ω, c, s)) := w_aload_n dX3_league_143 rfl rfl
theorem wX3_league_144 : y_w M_X3_league mc ms Q (144, lv, .ref a :: r, ω, c, s) = y_gf P_X3_league 106 (ω.2 a) (fun v => y_w M_X3_league mc ms Q (147, lv, v :: r, ω, c, s)) := w_getfield dX3_league_144 rfl rfl
theorem wX3_league_147 : y_w M_X3_league mc ms Q (147, lv, v :: .ref a :: r, ω, c, s) = y_pf P_X3_league false 171 (ω.2 a) v (fun ci fs => y_w M_X3_league mc ms Q (150, lv, r, y_hup ω a (.inr (ci, fs)), c, s)) := w_putfield dX3_league_147 rfl rfl rfl
theorem wX3_league_150 : y_w M_X3_league mc ms Q (150, lv, st, ω, c, s) = y_w M_X3_league mc ms Q (152, lv, .int (-1000100) :: st, ω, c, s) := w_ldc dX3_league_150 rfl rfl rfl
theorem wX3_league_152 : y_w M_X3_league mc ms Q (152, lv, st, ω, c, s) = y_ldA lv 0 (fun v => y_w M_X3_league mc ms Q (153, lv, v :: st, ω, c, s)) := w_aload_n dX3_league_152 rfl rfl
theorem wX3_league_153 : y_w M_X3_league mc ms Q (153, lv, .ref a :: r, ω, c, s) = y_gf P_X3_league 112 (ω.2 a) (fun v => y_w M_X3_league mc ms Q (156, lv, v :: r, ω, c, s)) := w_getfield dX3_league_153 rfl rfl
theorem wX3_league_156 : y_w M_X3_league mc ms Q (156, lv, .int y :: .int x :: r, ω, c, s) = y_w M_X3_league mc ms Q (157, lv, .int (x - y) :: r, ω, c, s) := w_isub dX3_league_156 rfl
theorem wX3_league_157 : y_w M_X3_league mc ms Q (157, lv, [.int x], ω, c, s) = Q (.returned (some (.int x))) ω c s := w_ireturnI dX3_league_157 rfl
theorem wX3_league_158 : y_w M_X3_league mc ms Q (158, lv, st, ω, c, s) = y_ldA lv 0 (fun v => y_w M_X3_league mc ms Q (159, lv, v :: st, ω, c, s)) := w_aload_n dX3_league_158 rfl rfl
theorem wX3_league_159 : y_w M_X3_league mc ms Q (159, lv, st, ω, c, s) = y_w M_X3_league mc ms Q (160, lv, .int 0 :: st, ω, c, s) := w_iconst dX3_league_159 (v := 0) (by decide) rfl
theorem wX3_league_160 : y_w M_X3_league mc ms Q (160, lv, v :: .ref a :: r, ω, c, s) = y_pf P_X3_league false 175 (ω.2 a) v (fun ci fs => y_w M_X3_league mc ms Q (163, lv, r, y_hup ω a (.inr (ci, fs)), c, s)) := w_putfield dX3_league_160 rfl rfl rfl
theorem wX3_league_163 : y_w M_X3_league mc ms Q (163, lv, st, ω, c, s) = y_w M_X3_league mc ms Q (164, lv, .int 0 :: st, ω, c, s) := w_iconst dX3_league_163 (v := 0) (by decide) rfl
theorem wX3_league_164 : y_w M_X3_league mc ms Q (164, lv, .int x :: r, ω, c, s) = y_w M_X3_league mc ms Q (165, (1, .int x) :: y_kill 1 lv, r, ω, c, s) := w_istore_n dX3_league_164 rfl (y_dle rfl) rfl
theorem wX3_league_165 : y_w M_X3_league mc ms Q (165, lv, st, ω, c, s) = y_ldI lv 1 (fun v => y_w M_X3_league mc ms Q (166, lv, v :: st, ω, c, s)) := w_iload_n dX3_league_165 rfl rfl
theorem wX3_league_166 : y_w M_X3_league mc ms Q (166, lv, st, ω, c, s) = y_w M_X3_league mc ms Q (168, lv, .int (nI 68) :: st, ω, c, s) := w_bipush dX3_league_166 (v := (nI 68)) (by decide) rfl
theorem wX3_league_168 : y_w M_X3_league mc ms Q (168, lv, .int y :: .int x :: r, ω, c, s) = ((y ≤ x → y_w M_X3_league mc ms Q (189, lv, r, ω, c, s)) ∧ (¬ (y ≤ x) → y_w M_X3_league mc ms Q (171, lv, r, ω, c, s))) := w_icmp dX3_league_168 (tgt := 189) rfl rfl rfl
theorem wX3_league_171 : y_w M_X3_league mc ms Q (171, lv, st, ω, c, s) = y_ldA lv 0 (fun v => y_w M_X3_league mc ms Q (172, lv, v :: st, ω, c, s)) := w_aload_n dX3_league_171 rfl rfl
theorem wX3_league_172 : y_w M_X3_league mc ms Q (172, lv, .ref a :: r, ω, c, s) = y_gf P_X3_league 19 (ω.2 a) (fun v => y_w M_X3_league mc ms Q (175, lv, v :: r, ω, c, s)) := w_getfield dX3_league_172 rfl rfl
theorem wX3_league_175 : y_w M_X3_league mc ms Q (175, lv, st, ω, c, s) = y_ldI lv 1 (fun v => y_w M_X3_league mc ms Q (176, lv, v :: st, ω, c, s)) := w_iload_n dX3_league_175 rfl rfl
theorem wX3_league_176 : y_w M_X3_league mc ms Q (176, lv, st, ω, c, s) = y_ldA lv 0 (fun v => y_w M_X3_league mc ms Q (177, lv, v :: st, ω, c, s)) := w_aload_n dX3_league_176 rfl rfl
theorem wX3_league_177 : y_w M_X3_league mc ms Q (177, lv, .ref a :: r, ω, c, s) = y_gf P_X3_league 22 (ω.2 a) (fun v => y_w M_X3_league mc ms Q (180, lv, v :: r, ω, c, s)) := w_getfield dX3_league_177 rfl rfl
theorem wX3_league_180 : y_w M_X3_league mc ms Q (180, lv, st, ω, c, s) = y_ldI lv 1 (fun v => y_w M_X3_league mc ms Q (181, lv, v :: st, ω, c, s)) := w_iload_n dX3_league_180 rfl rfl
theorem wX3_league_181 : y_w M_X3_league mc ms Q (181, lv, .int j :: .ref a :: r, ω, c, s) = y_rI (ω.2 a) j (fun x => y_w M_X3_league mc ms Q (182, lv, .int x :: r, ω, c, s)) := w_iaload dX3_league_181 rfl
theorem wX3_league_182 : y_w M_X3_league mc ms Q (182, lv, .int x :: .int j :: .ref a :: r, ω, c, s) = y_wI (ω.2 a) j x (fun e => y_w M_X3_league mc ms Q (183, lv, r, y_hup ω a e, c, s)) := w_iastore dX3_league_182 rfl
theorem wX3_league_183 : y_w M_X3_league mc ms Q (183, lv, st, ω, c, s) = y_inc lv 1 (fun x => y_w M_X3_league mc ms Q (186, (1, .int (x + 1)) :: y_kill 1 lv, st, ω, c, s)) := w_iinc dX3_league_183 (d := 1) (by decide) (y_dle rfl) rfl
theorem wX3_league_186 : y_w M_X3_league mc ms Q (186, lv, st, ω, c, s) = ∃ lv2, y_lsub lv2 lv ∧ y_w M_X3_league mc ms Q (165, lv2, st, ω, c, s) := w_back dX3_league_186 (tgt := 165) (by decide) rfl
theorem wX3_league_189 : y_w M_X3_league mc ms Q (189, lv, st, ω, c, s) = y_ldA lv 0 (fun v => y_w M_X3_league mc ms Q (190, lv, v :: st, ω, c, s)) := w_aload_n dX3_league_189 rfl rfl
theorem wX3_league_190 : y_w M_X3_league mc ms Q (190, lv, .ref a :: r, ω, c, s) = y_gf P_X3_league 19 (ω.2 a) (fun v => y_w M_X3_league mc ms Q (193, lv, v :: r, ω, c, s)) := w_getfield dX3_league_190 rfl rfl
theorem wX3_league_193 : y_w M_X3_league mc ms Q (193, lv, st, ω, c, s) = y_w M_X3_league mc ms Q (194, lv, .int (nI 3) :: st, ω, c, s) := w_iconst dX3_league_193 (v := (nI 3)) (by decide) rfl
theorem wX3_league_194 : y_w M_X3_league mc ms Q (194, lv, .int j :: .ref a :: r, ω, c, s) = y_rI (ω.2 a) j (fun x => y_w M_X3_league mc ms Q (195, lv, .int x :: r, ω, c, s)) := w_iaload dX3_league_194 rfl
theorem wX3_league_195 : y_w M_X3_league mc ms Q (195, lv, [.int x], ω, c, s) = Q (.returned (some (.int x))) ω c s := w_ireturnI dX3_league_195 rfl
def P_X3_fault : y_Pool := ([(48, 3, 0, .int, false), (171, 3, 11, .int, false)], [], [], [], [], [], [])
def M_X3_fault : y_Md := (cX3_fault, "YoungerBackModel", (1, (some FieldType.int)), (0, 0), false, P_X3_fault, [])
def F_X3_fault : y_Tr := y_F M_X3_fault
theorem nX3_fault : y_nL M_X3_fault = 1 := rfl
theorem fX3_fault_48_3 : y_ffP P_X3_fault 48 3 = some (0, .int, false) := rfl
theorem fX3_fault_171_3 : y_ffP P_X3_fault 171 3 = some (11, .int, false) := rfl
theorem wX3_fault_0 : y_w M_X3_fault mc ms Q (0, lv, st, ω, c, s) = y_ldA lv 0 (fun v => y_w M_X3_fault mc ms Q (1, lv, v :: st, ω, c, s)) := w_aload_n dX3_fault_0 rfl rfl
theorem wX3_fault_1 : y_w M_X3_fault mc ms Q (1, lv, st, ω, c, s) = y_w M_X3_fault mc ms Q (2, lv, .int 0 :: st, ω, c, s) := w_iconst dX3_fault_1 (v := 0) (by decide) rfl
theorem wX3_fault_2 : y_w M_X3_fault mc ms Q (2, lv, v :: .ref a :: r, ω, c, s) = y_pf P_X3_fault false 48 (ω.2 a) v (fun ci fs => y_w M_X3_fault mc ms Q (5, lv, r, y_hup ω a (.inr (ci, fs)), c, s)) := w_putfield dX3_fault_2 rfl rfl rfl
theorem wX3_fault_5 : y_w M_X3_fault mc ms Q (5, lv, st, ω, c, s) = y_ldA lv 0 (fun v => y_w M_X3_fault mc ms Q (6, lv, v :: st, ω, c, s)) := w_aload_n dX3_fault_5 rfl rfl
theorem wX3_fault_6 : y_w M_X3_fault mc ms Q (6, lv, .ref a :: r, ω, c, s) = y_gf P_X3_fault 171 (ω.2 a) (fun v => y_w M_X3_fault mc ms Q (9, lv, v :: r, ω, c, s)) := w_getfield dX3_fault_6 rfl rfl
theorem wX3_fault_9 : y_w M_X3_fault mc ms Q (9, lv, [.int x], ω, c, s) = Q (.returned (some (.int x))) ω c s := w_ireturnI dX3_fault_9 rfl
def P_X3_isPerson : y_Pool := ([(19, 3, 5, (.array .int), true)], [], [], [(58, 0, 0, 3, (1, 25), F_X3_in)], [], [], [])
def M_X3_isPerson : y_Md := (cX3_isPerson, "YoungerBackModel", (2, (some FieldType.boolean)), (1, 25), false, P_X3_isPerson, [])
def F_X3_isPerson : y_Tr := y_F M_X3_isPerson
theorem nX3_isPerson : y_nL M_X3_isPerson = 2 := rfl
theorem fX3_isPerson_19_3 : y_ffP P_X3_isPerson 19 3 = some (5, (.array .int), true) := rfl
theorem wX3_isPerson_0 : y_w M_X3_isPerson mc ms Q (0, lv, st, ω, c, s) = y_ldI lv 1 (fun v => y_w M_X3_isPerson mc ms Q (1, lv, v :: st, ω, c, s)) := w_iload_n dX3_isPerson_0 rfl rfl
theorem wX3_isPerson_1 : y_w M_X3_isPerson mc ms Q (1, lv, .int x :: r, ω, c, s) = y_w M_X3_isPerson mc ms Q (2, lv, .long x.toInt64 :: r, ω, c, s) := w_i2l dX3_isPerson_1 rfl
theorem wX3_isPerson_2 : y_w M_X3_isPerson mc ms Q (2, lv, st, ω, c, s) = y_w M_X3_isPerson mc ms Q (3, lv, .long 0 :: st, ω, c, s) := w_lconst dX3_isPerson_2 (v := 0) (by decide) rfl
theorem wX3_isPerson_3 : y_w M_X3_isPerson mc ms Q (3, lv, st, ω, c, s) = y_ldA lv 0 (fun v => y_w M_X3_isPerson mc ms Q (4, lv, v :: st, ω, c, s)) := w_aload_n dX3_isPerson_3 rfl rfl
theorem wX3_isPerson_4 : y_w M_X3_isPerson mc ms Q (4, lv, .ref a :: r, ω, c, s) = y_gf P_X3_isPerson 19 (ω.2 a) (fun v => y_w M_X3_isPerson mc ms Q (7, lv, v :: r, ω, c, s)) := w_getfield dX3_isPerson_4 rfl rfl
theorem wX3_isPerson_7 : y_w M_X3_isPerson mc ms Q (7, lv, st, ω, c, s) = y_w M_X3_isPerson mc ms Q (8, lv, .int (nI 3) :: st, ω, c, s) := w_iconst dX3_isPerson_7 (v := (nI 3)) (by decide) rfl
theorem wX3_isPerson_8 : y_w M_X3_isPerson mc ms Q (8, lv, .int j :: .ref a :: r, ω, c, s) = y_rI (ω.2 a) j (fun x => y_w M_X3_isPerson mc ms Q (9, lv, .int x :: r, ω, c, s)) := w_iaload dX3_isPerson_8 rfl
theorem wX3_isPerson_9 : y_w M_X3_isPerson mc ms Q (9, lv, st, ω, c, s) = y_w M_X3_isPerson mc ms Q (10, lv, .int 1 :: st, ω, c, s) := w_iconst dX3_isPerson_9 (v := 1) (by decide) rfl
theorem wX3_isPerson_10 : y_w M_X3_isPerson mc ms Q (10, lv, .int y :: .int x :: r, ω, c, s) = y_w M_X3_isPerson mc ms Q (11, lv, .int (x - y) :: r, ω, c, s) := w_isub dX3_isPerson_10 rfl
theorem wX3_isPerson_11 : y_w M_X3_isPerson mc ms Q (11, lv, .int x :: r, ω, c, s) = y_w M_X3_isPerson mc ms Q (12, lv, .long x.toInt64 :: r, ω, c, s) := w_i2l dX3_isPerson_11 rfl
theorem wX3_isPerson_12 : y_w M_X3_isPerson mc ms Q (12, lv, v2 :: v1 :: v0 :: r, ω, c, s) = (y_cat r ≤ 8 ∧ F_X3_in mc ms [v0, v1, v2] ω c s (y_aft M_X3_isPerson 12 3 lv r (y_w M_X3_isPerson mc ms Q) Q)) := w_call0 (av := [v0, v1, v2]) ⟨Or.inr ⟨rfl, rfl⟩, rfl⟩ dX3_isPerson_12 rfl (y_F_mono _) (y_dle rfl) (y_dle rfl) rfl rfl
theorem wX3_isPerson_15 : y_w M_X3_isPerson mc ms Q (15, lv, [.int x], ω, c, s) = (narrow FieldType.boolean (.int x) = .int x ∧ Q (.returned (some (.int x))) ω c s) := w_ireturn dX3_isPerson_15 rfl
def P_X3_isWay : y_Pool := ([(19, 3, 5, (.array .int), true)], [], [], [(58, 0, 0, 3, (1, 25), F_X3_in)], [], [], [])
def M_X3_isWay : y_Md := (cX3_isWay, "YoungerBackModel", (2, (some FieldType.boolean)), (1, 25), false, P_X3_isWay, [])
def F_X3_isWay : y_Tr := y_F M_X3_isWay
theorem nX3_isWay : y_nL M_X3_isWay = 2 := rfl
theorem fX3_isWay_19_3 : y_ffP P_X3_isWay 19 3 = some (5, (.array .int), true) := rfl
theorem wX3_isWay_0 : y_w M_X3_isWay mc ms Q (0, lv, st, ω, c, s) = y_ldI lv 1 (fun v => y_w M_X3_isWay mc ms Q (1, lv, v :: st, ω, c, s)) := w_iload_n dX3_isWay_0 rfl rfl
theorem wX3_isWay_1 : y_w M_X3_isWay mc ms Q (1, lv, .int x :: r, ω, c, s) = y_w M_X3_isWay mc ms Q (2, lv, .long x.toInt64 :: r, ω, c, s) := w_i2l dX3_isWay_1 rfl
theorem wX3_isWay_2 : y_w M_X3_isWay mc ms Q (2, lv, st, ω, c, s) = y_w M_X3_isWay mc ms Q (3, lv, .long 0 :: st, ω, c, s) := w_lconst dX3_isWay_2 (v := 0) (by decide) rfl
theorem wX3_isWay_3 : y_w M_X3_isWay mc ms Q (3, lv, st, ω, c, s) = y_ldA lv 0 (fun v => y_w M_X3_isWay mc ms Q (4, lv, v :: st, ω, c, s)) := w_aload_n dX3_isWay_3 rfl rfl
theorem wX3_isWay_4 : y_w M_X3_isWay mc ms Q (4, lv, .ref a :: r, ω, c, s) = y_gf P_X3_isWay 19 (ω.2 a) (fun v => y_w M_X3_isWay mc ms Q (7, lv, v :: r, ω, c, s)) := w_getfield dX3_isWay_4 rfl rfl
theorem wX3_isWay_7 : y_w M_X3_isWay mc ms Q (7, lv, st, ω, c, s) = y_w M_X3_isWay mc ms Q (8, lv, .int (nI 2) :: st, ω, c, s) := w_iconst dX3_isWay_7 (v := (nI 2)) (by decide) rfl
theorem wX3_isWay_8 : y_w M_X3_isWay mc ms Q (8, lv, .int j :: .ref a :: r, ω, c, s) = y_rI (ω.2 a) j (fun x => y_w M_X3_isWay mc ms Q (9, lv, .int x :: r, ω, c, s)) := w_iaload dX3_isWay_8 rfl
theorem wX3_isWay_9 : y_w M_X3_isWay mc ms Q (9, lv, st, ω, c, s) = y_w M_X3_isWay mc ms Q (10, lv, .int 1 :: st, ω, c, s) := w_iconst dX3_isWay_9 (v := 1) (by decide) rfl
theorem wX3_isWay_10 : y_w M_X3_isWay mc ms Q (10, lv, .int y :: .int x :: r, ω, c, s) = y_w M_X3_isWay mc ms Q (11, lv, .int (x - y) :: r, ω, c, s) := w_isub dX3_isWay_10 rfl
theorem wX3_isWay_11 : y_w M_X3_isWay mc ms Q (11, lv, .int x :: r, ω, c, s) = y_w M_X3_isWay mc ms Q (12, lv, .long x.toInt64 :: r, ω, c, s) := w_i2l dX3_isWay_11 rfl
theorem wX3_isWay_12 : y_w M_X3_isWay mc ms Q (12, lv, v2 :: v1 :: v0 :: r, ω, c, s) = (y_cat r ≤ 8 ∧ F_X3_in mc ms [v0, v1, v2] ω c s (y_aft M_X3_isWay 12 3 lv r (y_w M_X3_isWay mc ms Q) Q)) := w_call0 (av := [v0, v1, v2]) ⟨Or.inr ⟨rfl, rfl⟩, rfl⟩ dX3_isWay_12 rfl (y_F_mono _) (y_dle rfl) (y_dle rfl) rfl rfl
theorem wX3_isWay_15 : y_w M_X3_isWay mc ms Q (15, lv, [.int x], ω, c, s) = (narrow FieldType.boolean (.int x) = .int x ∧ Q (.returned (some (.int x))) ω c s) := w_ireturn dX3_isWay_15 rfl
def P_X3_of : y_Pool := ([(19, 3, 5, (.array .int), true)], [], [], [], [], [], [])
def M_X3_of : y_Md := (cX3_of, "YoungerBackModel", (3, (some FieldType.int)), (0, 0), false, P_X3_of, [])
def F_X3_of : y_Tr := y_F M_X3_of
theorem nX3_of : y_nL M_X3_of = 3 := rfl
theorem fX3_of_19_3 : y_ffP P_X3_of 19 3 = some (5, (.array .int), true) := rfl
theorem wX3_of_0 : y_w M_X3_of mc ms Q (0, lv, st, ω, c, s) = y_ldA lv 0 (fun v => y_w M_X3_of mc ms Q (1, lv, v :: st, ω, c, s)) := w_aload_n dX3_of_0 rfl rfl
theorem wX3_of_1 : y_w M_X3_of mc ms Q (1, lv, .ref a :: r, ω, c, s) = y_gf P_X3_of 19 (ω.2 a) (fun v => y_w M_X3_of mc ms Q (4, lv, v :: r, ω, c, s)) := w_getfield dX3_of_1 rfl rfl
theorem wX3_of_4 : y_w M_X3_of mc ms Q (4, lv, st, ω, c, s) = y_w M_X3_of mc ms Q (6, lv, .int (nI 36) :: st, ω, c, s) := w_bipush dX3_of_4 (v := (nI 36)) (by decide) rfl
theorem wX3_of_6 : y_w M_X3_of mc ms Q (6, lv, st, ω, c, s) = y_w M_X3_of mc ms Q (8, lv, .int (nI 8) :: st, ω, c, s) := w_bipush dX3_of_6 (v := (nI 8)) (by decide) rfl
theorem wX3_of_8 : y_w M_X3_of mc ms Q (8, lv, st, ω, c, s) = y_ldI lv 1 (fun v => y_w M_X3_of mc ms Q (9, lv, v :: st, ω, c, s)) := w_iload_n dX3_of_8 rfl rfl
theorem wX3_of_9 : y_w M_X3_of mc ms Q (9, lv, .int y :: .int x :: r, ω, c, s) = y_w M_X3_of mc ms Q (10, lv, .int (x * y) :: r, ω, c, s) := w_imul dX3_of_9 rfl
theorem wX3_of_10 : y_w M_X3_of mc ms Q (10, lv, .int y :: .int x :: r, ω, c, s) = y_w M_X3_of mc ms Q (11, lv, .int (x + y) :: r, ω, c, s) := w_iadd dX3_of_10 rfl
theorem wX3_of_11 : y_w M_X3_of mc ms Q (11, lv, st, ω, c, s) = y_ldI lv 2 (fun v => y_w M_X3_of mc ms Q (12, lv, v :: st, ω, c, s)) := w_iload_n dX3_of_11 rfl rfl
theorem wX3_of_12 : y_w M_X3_of mc ms Q (12, lv, .int y :: .int x :: r, ω, c, s) = y_w M_X3_of mc ms Q (13, lv, .int (x + y) :: r, ω, c, s) := w_iadd dX3_of_12 rfl
theorem wX3_of_13 : y_w M_X3_of mc ms Q (13, lv, .int j :: .ref a :: r, ω, c, s) = y_rI (ω.2 a) j (fun x => y_w M_X3_of mc ms Q (14, lv, .int x :: r, ω, c, s)) := w_iaload dX3_of_13 rfl
theorem wX3_of_14 : y_w M_X3_of mc ms Q (14, lv, [.int x], ω, c, s) = Q (.returned (some (.int x))) ω c s := w_ireturnI dX3_of_14 rfl
def P_X3_wayOf : y_Pool := ([(19, 3, 5, (.array .int), true)], [], [], [], [], [], [])
def M_X3_wayOf : y_Md := (cX3_wayOf, "YoungerBackModel", (3, (some FieldType.int)), (0, 0), false, P_X3_wayOf, [])
def F_X3_wayOf : y_Tr := y_F M_X3_wayOf
theorem nX3_wayOf : y_nL M_X3_wayOf = 3 := rfl
theorem fX3_wayOf_19_3 : y_ffP P_X3_wayOf 19 3 = some (5, (.array .int), true) := rfl
theorem wX3_wayOf_0 : y_w M_X3_wayOf mc ms Q (0, lv, st, ω, c, s) = y_ldA lv 0 (fun v => y_w M_X3_wayOf mc ms Q (1, lv, v :: st, ω, c, s)) := w_aload_n dX3_wayOf_0 rfl rfl
theorem wX3_wayOf_1 : y_w M_X3_wayOf mc ms Q (1, lv, .ref a :: r, ω, c, s) = y_gf P_X3_wayOf 19 (ω.2 a) (fun v => y_w M_X3_wayOf mc ms Q (4, lv, v :: r, ω, c, s)) := w_getfield dX3_wayOf_1 rfl rfl
theorem wX3_wayOf_4 : y_w M_X3_wayOf mc ms Q (4, lv, st, ω, c, s) = y_w M_X3_wayOf mc ms Q (5, lv, .int (nI 4) :: st, ω, c, s) := w_iconst dX3_wayOf_4 (v := (nI 4)) (by decide) rfl
theorem wX3_wayOf_5 : y_w M_X3_wayOf mc ms Q (5, lv, st, ω, c, s) = y_w M_X3_wayOf mc ms Q (6, lv, .int (nI 4) :: st, ω, c, s) := w_iconst dX3_wayOf_5 (v := (nI 4)) (by decide) rfl
theorem wX3_wayOf_6 : y_w M_X3_wayOf mc ms Q (6, lv, st, ω, c, s) = y_ldI lv 1 (fun v => y_w M_X3_wayOf mc ms Q (7, lv, v :: st, ω, c, s)) := w_iload_n dX3_wayOf_6 rfl rfl
theorem wX3_wayOf_7 : y_w M_X3_wayOf mc ms Q (7, lv, .int y :: .int x :: r, ω, c, s) = y_w M_X3_wayOf mc ms Q (8, lv, .int (x * y) :: r, ω, c, s) := w_imul dX3_wayOf_7 rfl
theorem wX3_wayOf_8 : y_w M_X3_wayOf mc ms Q (8, lv, .int y :: .int x :: r, ω, c, s) = y_w M_X3_wayOf mc ms Q (9, lv, .int (x + y) :: r, ω, c, s) := w_iadd dX3_wayOf_8 rfl
theorem wX3_wayOf_9 : y_w M_X3_wayOf mc ms Q (9, lv, st, ω, c, s) = y_ldI lv 2 (fun v => y_w M_X3_wayOf mc ms Q (10, lv, v :: st, ω, c, s)) := w_iload_n dX3_wayOf_9 rfl rfl
theorem wX3_wayOf_10 : y_w M_X3_wayOf mc ms Q (10, lv, .int y :: .int x :: r, ω, c, s) = y_w M_X3_wayOf mc ms Q (11, lv, .int (x + y) :: r, ω, c, s) := w_iadd dX3_wayOf_10 rfl
theorem wX3_wayOf_11 : y_w M_X3_wayOf mc ms Q (11, lv, .int j :: .ref a :: r, ω, c, s) = y_rI (ω.2 a) j (fun x => y_w M_X3_wayOf mc ms Q (12, lv, .int x :: r, ω, c, s)) := w_iaload dX3_wayOf_11 rfl
theorem wX3_wayOf_12 : y_w M_X3_wayOf mc ms Q (12, lv, [.int x], ω, c, s) = Q (.returned (some (.int x))) ω c s := w_ireturnI dX3_wayOf_12 rfl
def P_X3_endOf : y_Pool := ([], [], [(84, .int (-1000000))], [(178, 1, 3, 3, (1, 22), F_X3_wayOf), (181, 1, 3, 3, (1, 22), F_X3_of)], [], [], [])
def M_X3_endOf : y_Md := (cX3_endOf, "YoungerBackModel", (5, (some FieldType.int)), (1, 22), false, P_X3_endOf, [])
def F_X3_endOf : y_Tr := y_F M_X3_endOf
theorem nX3_endOf : y_nL M_X3_endOf = 5 := rfl
theorem wX3_endOf_0 : y_w M_X3_endOf mc ms Q (0, lv, st, ω, c, s) = y_ldA lv 0 (fun v => y_w M_X3_endOf mc ms Q (1, lv, v :: st, ω, c, s)) := w_aload_n dX3_endOf_0 rfl rfl
theorem wX3_endOf_1 : y_w M_X3_endOf mc ms Q (1, lv, st, ω, c, s) = y_ldI lv 2 (fun v => y_w M_X3_endOf mc ms Q (2, lv, v :: st, ω, c, s)) := w_iload_n dX3_endOf_1 rfl rfl
theorem wX3_endOf_2 : y_w M_X3_endOf mc ms Q (2, lv, st, ω, c, s) = y_w M_X3_endOf mc ms Q (3, lv, .int 0 :: st, ω, c, s) := w_iconst dX3_endOf_2 (v := 0) (by decide) rfl
theorem wX3_endOf_3 (hc : y_cls ω a = some 3) : y_w M_X3_endOf mc ms Q (3, lv, v2 :: v1 :: .ref a :: r, ω, c, s) = (y_cat r ≤ 8 ∧ F_X3_wayOf mc ms [.ref a, v1, v2] ω c s (y_aft M_X3_endOf 3 3 lv r (y_w M_X3_endOf mc ms Q) Q)) := w_call1 (av := [v1, v2]) (Or.inl ⟨⟨rfl, rfl⟩, rfl⟩) dX3_endOf_3 rfl hc rfl (y_F_mono _) (y_dle rfl) (y_dle rfl) rfl rfl
theorem wX3_endOf_6 : y_w M_X3_endOf mc ms Q (6, lv, st, ω, c, s) = y_ldI lv 3 (fun v => y_w M_X3_endOf mc ms Q (7, lv, v :: st, ω, c, s)) := w_iload_n dX3_endOf_6 rfl rfl
theorem wX3_endOf_7 : y_w M_X3_endOf mc ms Q (7, lv, .int y :: .int x :: r, ω, c, s) = ((¬ x = y → y_w M_X3_endOf mc ms Q (19, lv, r, ω, c, s)) ∧ (¬ (¬ x = y) → y_w M_X3_endOf mc ms Q (10, lv, r, ω, c, s))) := w_icmp dX3_endOf_7 (tgt := 19) rfl rfl rfl
theorem wX3_endOf_10 : y_w M_X3_endOf mc ms Q (10, lv, st, ω, c, s) = y_ldA lv 0 (fun v => y_w M_X3_endOf mc ms Q (11, lv, v :: st, ω, c, s)) := w_aload_n dX3_endOf_10 rfl rfl
theorem wX3_endOf_11 : y_w M_X3_endOf mc ms Q (11, lv, st, ω, c, s) = y_ldI lv 2 (fun v => y_w M_X3_endOf mc ms Q (12, lv, v :: st, ω, c, s)) := w_iload_n dX3_endOf_11 rfl rfl
theorem wX3_endOf_12 : y_w M_X3_endOf mc ms Q (12, lv, st, ω, c, s) = y_w M_X3_endOf mc ms Q (13, lv, .int 1 :: st, ω, c, s) := w_iconst dX3_endOf_12 (v := 1) (by decide) rfl
theorem wX3_endOf_13 (hc : y_cls ω a = some 3) : y_w M_X3_endOf mc ms Q (13, lv, v2 :: v1 :: .ref a :: r, ω, c, s) = (y_cat r ≤ 8 ∧ F_X3_wayOf mc ms [.ref a, v1, v2] ω c s (y_aft M_X3_endOf 13 3 lv r (y_w M_X3_endOf mc ms Q) Q)) := w_call1 (av := [v1, v2]) (Or.inl ⟨⟨rfl, rfl⟩, rfl⟩) dX3_endOf_13 rfl hc rfl (y_F_mono _) (y_dle rfl) (y_dle rfl) rfl rfl
theorem wX3_endOf_16 : y_w M_X3_endOf mc ms Q (16, lv, st, ω, c, s) = y_w M_X3_endOf mc ms Q (40, lv, st, ω, c, s) := w_goto dX3_endOf_16 (tgt := 40) (by decide) rfl
theorem wX3_endOf_19 : y_w M_X3_endOf mc ms Q (19, lv, st, ω, c, s) = y_ldA lv 0 (fun v => y_w M_X3_endOf mc ms Q (20, lv, v :: st, ω, c, s)) := w_aload_n dX3_endOf_19 rfl rfl
theorem wX3_endOf_20 : y_w M_X3_endOf mc ms Q (20, lv, st, ω, c, s) = y_ldI lv 2 (fun v => y_w M_X3_endOf mc ms Q (21, lv, v :: st, ω, c, s)) := w_iload_n dX3_endOf_20 rfl rfl
theorem wX3_endOf_21 : y_w M_X3_endOf mc ms Q (21, lv, st, ω, c, s) = y_w M_X3_endOf mc ms Q (22, lv, .int 1 :: st, ω, c, s) := w_iconst dX3_endOf_21 (v := 1) (by decide) rfl
theorem wX3_endOf_22 (hc : y_cls ω a = some 3) : y_w M_X3_endOf mc ms Q (22, lv, v2 :: v1 :: .ref a :: r, ω, c, s) = (y_cat r ≤ 8 ∧ F_X3_wayOf mc ms [.ref a, v1, v2] ω c s (y_aft M_X3_endOf 22 3 lv r (y_w M_X3_endOf mc ms Q) Q)) := w_call1 (av := [v1, v2]) (Or.inl ⟨⟨rfl, rfl⟩, rfl⟩) dX3_endOf_22 rfl hc rfl (y_F_mono _) (y_dle rfl) (y_dle rfl) rfl rfl
theorem wX3_endOf_25 : y_w M_X3_endOf mc ms Q (25, lv, st, ω, c, s) = y_ldI lv 3 (fun v => y_w M_X3_endOf mc ms Q (26, lv, v :: st, ω, c, s)) := w_iload_n dX3_endOf_25 rfl rfl
theorem wX3_endOf_26 : y_w M_X3_endOf mc ms Q (26, lv, .int y :: .int x :: r, ω, c, s) = ((¬ x = y → y_w M_X3_endOf mc ms Q (38, lv, r, ω, c, s)) ∧ (¬ (¬ x = y) → y_w M_X3_endOf mc ms Q (29, lv, r, ω, c, s))) := w_icmp dX3_endOf_26 (tgt := 38) rfl rfl rfl
theorem wX3_endOf_29 : y_w M_X3_endOf mc ms Q (29, lv, st, ω, c, s) = y_ldA lv 0 (fun v => y_w M_X3_endOf mc ms Q (30, lv, v :: st, ω, c, s)) := w_aload_n dX3_endOf_29 rfl rfl
theorem wX3_endOf_30 : y_w M_X3_endOf mc ms Q (30, lv, st, ω, c, s) = y_ldI lv 2 (fun v => y_w M_X3_endOf mc ms Q (31, lv, v :: st, ω, c, s)) := w_iload_n dX3_endOf_30 rfl rfl
theorem wX3_endOf_31 : y_w M_X3_endOf mc ms Q (31, lv, st, ω, c, s) = y_w M_X3_endOf mc ms Q (32, lv, .int 0 :: st, ω, c, s) := w_iconst dX3_endOf_31 (v := 0) (by decide) rfl
theorem wX3_endOf_32 (hc : y_cls ω a = some 3) : y_w M_X3_endOf mc ms Q (32, lv, v2 :: v1 :: .ref a :: r, ω, c, s) = (y_cat r ≤ 8 ∧ F_X3_wayOf mc ms [.ref a, v1, v2] ω c s (y_aft M_X3_endOf 32 3 lv r (y_w M_X3_endOf mc ms Q) Q)) := w_call1 (av := [v1, v2]) (Or.inl ⟨⟨rfl, rfl⟩, rfl⟩) dX3_endOf_32 rfl hc rfl (y_F_mono _) (y_dle rfl) (y_dle rfl) rfl rfl
theorem wX3_endOf_35 : y_w M_X3_endOf mc ms Q (35, lv, st, ω, c, s) = y_w M_X3_endOf mc ms Q (40, lv, st, ω, c, s) := w_goto dX3_endOf_35 (tgt := 40) (by decide) rfl
theorem wX3_endOf_38 : y_w M_X3_endOf mc ms Q (38, lv, st, ω, c, s) = y_w M_X3_endOf mc ms Q (40, lv, .int (-1000000) :: st, ω, c, s) := w_ldc dX3_endOf_38 rfl rfl rfl
theorem wX3_endOf_40 : y_w M_X3_endOf mc ms Q (40, lv, .int x :: r, ω, c, s) = y_w M_X3_endOf mc ms Q (42, (4, .int x) :: y_kill 4 lv, r, ω, c, s) := w_istore dX3_endOf_40 (y_dle rfl) rfl
theorem wX3_endOf_42 : y_w M_X3_endOf mc ms Q (42, lv, st, ω, c, s) = y_ldA lv 0 (fun v => y_w M_X3_endOf mc ms Q (43, lv, v :: st, ω, c, s)) := w_aload_n dX3_endOf_42 rfl rfl
theorem wX3_endOf_43 : y_w M_X3_endOf mc ms Q (43, lv, st, ω, c, s) = y_ldI lv 1 (fun v => y_w M_X3_endOf mc ms Q (44, lv, v :: st, ω, c, s)) := w_iload_n dX3_endOf_43 rfl rfl
theorem wX3_endOf_44 : y_w M_X3_endOf mc ms Q (44, lv, st, ω, c, s) = y_w M_X3_endOf mc ms Q (45, lv, .int 0 :: st, ω, c, s) := w_iconst dX3_endOf_44 (v := 0) (by decide) rfl
theorem wX3_endOf_45 (hc : y_cls ω a = some 3) : y_w M_X3_endOf mc ms Q (45, lv, v2 :: v1 :: .ref a :: r, ω, c, s) = (y_cat r ≤ 8 ∧ F_X3_of mc ms [.ref a, v1, v2] ω c s (y_aft M_X3_endOf 45 3 lv r (y_w M_X3_endOf mc ms Q) Q)) := w_call1 (av := [v1, v2]) (Or.inl ⟨⟨rfl, rfl⟩, rfl⟩) dX3_endOf_45 rfl hc rfl (y_F_mono _) (y_dle rfl) (y_dle rfl) rfl rfl
theorem wX3_endOf_48 : y_w M_X3_endOf mc ms Q (48, lv, st, ω, c, s) = y_w M_X3_endOf mc ms Q (49, lv, .int (nI 5) :: st, ω, c, s) := w_iconst dX3_endOf_48 (v := (nI 5)) (by decide) rfl
theorem wX3_endOf_49 : y_w M_X3_endOf mc ms Q (49, lv, .int y :: .int x :: r, ω, c, s) = ((¬ x = y → y_w M_X3_endOf mc ms Q (68, lv, r, ω, c, s)) ∧ (¬ (¬ x = y) → y_w M_X3_endOf mc ms Q (52, lv, r, ω, c, s))) := w_icmp dX3_endOf_49 (tgt := 68) rfl rfl rfl
theorem wX3_endOf_52 : y_w M_X3_endOf mc ms Q (52, lv, st, ω, c, s) = y_ldA lv 0 (fun v => y_w M_X3_endOf mc ms Q (53, lv, v :: st, ω, c, s)) := w_aload_n dX3_endOf_52 rfl rfl
theorem wX3_endOf_53 : y_w M_X3_endOf mc ms Q (53, lv, st, ω, c, s) = y_ldI lv 2 (fun v => y_w M_X3_endOf mc ms Q (54, lv, v :: st, ω, c, s)) := w_iload_n dX3_endOf_53 rfl rfl
theorem wX3_endOf_54 : y_w M_X3_endOf mc ms Q (54, lv, st, ω, c, s) = y_w M_X3_endOf mc ms Q (55, lv, .int (nI 2) :: st, ω, c, s) := w_iconst dX3_endOf_54 (v := (nI 2)) (by decide) rfl
theorem wX3_endOf_55 (hc : y_cls ω a = some 3) : y_w M_X3_endOf mc ms Q (55, lv, v2 :: v1 :: .ref a :: r, ω, c, s) = (y_cat r ≤ 8 ∧ F_X3_wayOf mc ms [.ref a, v1, v2] ω c s (y_aft M_X3_endOf 55 3 lv r (y_w M_X3_endOf mc ms Q) Q)) := w_call1 (av := [v1, v2]) (Or.inl ⟨⟨rfl, rfl⟩, rfl⟩) dX3_endOf_55 rfl hc rfl (y_F_mono _) (y_dle rfl) (y_dle rfl) rfl rfl
theorem wX3_endOf_58 : y_w M_X3_endOf mc ms Q (58, lv, st, ω, c, s) = y_w M_X3_endOf mc ms Q (60, lv, .int (nI 10) :: st, ω, c, s) := w_bipush dX3_endOf_58 (v := (nI 10)) (by decide) rfl
theorem wX3_endOf_60 : y_w M_X3_endOf mc ms Q (60, lv, .int y :: .int x :: r, ω, c, s) = ((x ≤ y → y_w M_X3_endOf mc ms Q (68, lv, r, ω, c, s)) ∧ (¬ (x ≤ y) → y_w M_X3_endOf mc ms Q (63, lv, r, ω, c, s))) := w_icmp dX3_endOf_60 (tgt := 68) rfl rfl rfl
theorem wX3_endOf_63 : y_w M_X3_endOf mc ms Q (63, lv, st, ω, c, s) = y_w M_X3_endOf mc ms Q (65, lv, .int (-1000000) :: st, ω, c, s) := w_ldc dX3_endOf_63 rfl rfl rfl
theorem wX3_endOf_65 : y_w M_X3_endOf mc ms Q (65, lv, st, ω, c, s) = y_w M_X3_endOf mc ms Q (70, lv, st, ω, c, s) := w_goto dX3_endOf_65 (tgt := 70) (by decide) rfl
theorem wX3_endOf_68 : y_w M_X3_endOf mc ms Q (68, lv, st, ω, c, s) = y_ldI lv 4 (fun v => y_w M_X3_endOf mc ms Q (70, lv, v :: st, ω, c, s)) := w_iload dX3_endOf_68 rfl
theorem wX3_endOf_70 : y_w M_X3_endOf mc ms Q (70, lv, [.int x], ω, c, s) = Q (.returned (some (.int x))) ω c s := w_ireturnI dX3_endOf_70 rfl
def P_X3_keep : y_Pool := ([(175, 3, 8, .int, false), (25, 3, 7, (.array .int), true), (19, 3, 5, (.array .int), true)], [], [], [], [], [], [])
def M_X3_keep : y_Md := (cX3_keep, "YoungerBackModel", (2, none), (0, 0), false, P_X3_keep, [])
def F_X3_keep : y_Tr := y_F M_X3_keep
theorem nX3_keep : y_nL M_X3_keep = 2 := rfl
theorem fX3_keep_175_3 : y_ffP P_X3_keep 175 3 = some (8, .int, false) := rfl
theorem fX3_keep_25_3 : y_ffP P_X3_keep 25 3 = some (7, (.array .int), true) := rfl
theorem fX3_keep_19_3 : y_ffP P_X3_keep 19 3 = some (5, (.array .int), true) := rfl
theorem wX3_keep_0 : y_w M_X3_keep mc ms Q (0, lv, st, ω, c, s) = y_ldA lv 0 (fun v => y_w M_X3_keep mc ms Q (1, lv, v :: st, ω, c, s)) := w_aload_n dX3_keep_0 rfl rfl
theorem wX3_keep_1 : y_w M_X3_keep mc ms Q (1, lv, .ref a :: r, ω, c, s) = y_gf P_X3_keep 175 (ω.2 a) (fun v => y_w M_X3_keep mc ms Q (4, lv, v :: r, ω, c, s)) := w_getfield dX3_keep_1 rfl rfl
theorem wX3_keep_4 : y_w M_X3_keep mc ms Q (4, lv, st, ω, c, s) = y_w M_X3_keep mc ms Q (6, lv, .int (nI 24) :: st, ω, c, s) := w_bipush dX3_keep_4 (v := (nI 24)) (by decide) rfl
theorem wX3_keep_6 : y_w M_X3_keep mc ms Q (6, lv, .int y :: .int x :: r, ω, c, s) = ((¬ x = y → y_w M_X3_keep mc ms Q (49, lv, r, ω, c, s)) ∧ (¬ (¬ x = y) → y_w M_X3_keep mc ms Q (9, lv, r, ω, c, s))) := w_icmp dX3_keep_6 (tgt := 49) rfl rfl rfl
theorem wX3_keep_9 : y_w M_X3_keep mc ms Q (9, lv, st, ω, c, s) = y_w M_X3_keep mc ms Q (10, lv, .int 0 :: st, ω, c, s) := w_iconst dX3_keep_9 (v := 0) (by decide) rfl
theorem wX3_keep_10 : y_w M_X3_keep mc ms Q (10, lv, .int x :: r, ω, c, s) = y_w M_X3_keep mc ms Q (11, (1, .int x) :: y_kill 1 lv, r, ω, c, s) := w_istore_n dX3_keep_10 rfl (y_dle rfl) rfl
theorem wX3_keep_11 : y_w M_X3_keep mc ms Q (11, lv, st, ω, c, s) = y_ldI lv 1 (fun v => y_w M_X3_keep mc ms Q (12, lv, v :: st, ω, c, s)) := w_iload_n dX3_keep_11 rfl rfl
theorem wX3_keep_12 : y_w M_X3_keep mc ms Q (12, lv, st, ω, c, s) = y_w M_X3_keep mc ms Q (15, lv, .int (nI 1564) :: st, ω, c, s) := w_sipush dX3_keep_12 (v := (nI 1564)) (by decide) rfl
theorem wX3_keep_15 : y_w M_X3_keep mc ms Q (15, lv, .int y :: .int x :: r, ω, c, s) = ((y ≤ x → y_w M_X3_keep mc ms Q (39, lv, r, ω, c, s)) ∧ (¬ (y ≤ x) → y_w M_X3_keep mc ms Q (18, lv, r, ω, c, s))) := w_icmp dX3_keep_15 (tgt := 39) rfl rfl rfl
theorem wX3_keep_18 : y_w M_X3_keep mc ms Q (18, lv, st, ω, c, s) = y_ldA lv 0 (fun v => y_w M_X3_keep mc ms Q (19, lv, v :: st, ω, c, s)) := w_aload_n dX3_keep_18 rfl rfl
theorem wX3_keep_19 : y_w M_X3_keep mc ms Q (19, lv, .ref a :: r, ω, c, s) = y_gf P_X3_keep 25 (ω.2 a) (fun v => y_w M_X3_keep mc ms Q (22, lv, v :: r, ω, c, s)) := w_getfield dX3_keep_19 rfl rfl
theorem wX3_keep_22 : y_w M_X3_keep mc ms Q (22, lv, st, ω, c, s) = y_ldI lv 1 (fun v => y_w M_X3_keep mc ms Q (23, lv, v :: st, ω, c, s)) := w_iload_n dX3_keep_22 rfl rfl
theorem wX3_keep_23 : y_w M_X3_keep mc ms Q (23, lv, st, ω, c, s) = y_ldA lv 0 (fun v => y_w M_X3_keep mc ms Q (24, lv, v :: st, ω, c, s)) := w_aload_n dX3_keep_23 rfl rfl
theorem wX3_keep_24 : y_w M_X3_keep mc ms Q (24, lv, .ref a :: r, ω, c, s) = y_gf P_X3_keep 25 (ω.2 a) (fun v => y_w M_X3_keep mc ms Q (27, lv, v :: r, ω, c, s)) := w_getfield dX3_keep_24 rfl rfl
theorem wX3_keep_27 : y_w M_X3_keep mc ms Q (27, lv, st, ω, c, s) = y_ldI lv 1 (fun v => y_w M_X3_keep mc ms Q (28, lv, v :: st, ω, c, s)) := w_iload_n dX3_keep_27 rfl rfl
theorem wX3_keep_28 : y_w M_X3_keep mc ms Q (28, lv, st, ω, c, s) = y_w M_X3_keep mc ms Q (30, lv, .int (nI 68) :: st, ω, c, s) := w_bipush dX3_keep_28 (v := (nI 68)) (by decide) rfl
theorem wX3_keep_30 : y_w M_X3_keep mc ms Q (30, lv, .int y :: .int x :: r, ω, c, s) = y_w M_X3_keep mc ms Q (31, lv, .int (x + y) :: r, ω, c, s) := w_iadd dX3_keep_30 rfl
theorem wX3_keep_31 : y_w M_X3_keep mc ms Q (31, lv, .int j :: .ref a :: r, ω, c, s) = y_rI (ω.2 a) j (fun x => y_w M_X3_keep mc ms Q (32, lv, .int x :: r, ω, c, s)) := w_iaload dX3_keep_31 rfl
theorem wX3_keep_32 : y_w M_X3_keep mc ms Q (32, lv, .int x :: .int j :: .ref a :: r, ω, c, s) = y_wI (ω.2 a) j x (fun e => y_w M_X3_keep mc ms Q (33, lv, r, y_hup ω a e, c, s)) := w_iastore dX3_keep_32 rfl
theorem wX3_keep_33 : y_w M_X3_keep mc ms Q (33, lv, st, ω, c, s) = y_inc lv 1 (fun x => y_w M_X3_keep mc ms Q (36, (1, .int (x + 1)) :: y_kill 1 lv, st, ω, c, s)) := w_iinc dX3_keep_33 (d := 1) (by decide) (y_dle rfl) rfl
theorem wX3_keep_36 : y_w M_X3_keep mc ms Q (36, lv, st, ω, c, s) = ∃ lv2, y_lsub lv2 lv ∧ y_w M_X3_keep mc ms Q (11, lv2, st, ω, c, s) := w_back dX3_keep_36 (tgt := 11) (by decide) rfl
theorem wX3_keep_39 : y_w M_X3_keep mc ms Q (39, lv, st, ω, c, s) = y_ldA lv 0 (fun v => y_w M_X3_keep mc ms Q (40, lv, v :: st, ω, c, s)) := w_aload_n dX3_keep_39 rfl rfl
theorem wX3_keep_40 : y_w M_X3_keep mc ms Q (40, lv, v :: r, ω, c, s) = (v.category = 1 ∧ y_w M_X3_keep mc ms Q (41, lv, v :: v :: r, ω, c, s)) := w_dup dX3_keep_40 rfl
theorem wX3_keep_41 : y_w M_X3_keep mc ms Q (41, lv, .ref a :: r, ω, c, s) = y_gf P_X3_keep 175 (ω.2 a) (fun v => y_w M_X3_keep mc ms Q (44, lv, v :: r, ω, c, s)) := w_getfield dX3_keep_41 rfl rfl
theorem wX3_keep_44 : y_w M_X3_keep mc ms Q (44, lv, st, ω, c, s) = y_w M_X3_keep mc ms Q (45, lv, .int 1 :: st, ω, c, s) := w_iconst dX3_keep_44 (v := 1) (by decide) rfl
theorem wX3_keep_45 : y_w M_X3_keep mc ms Q (45, lv, .int y :: .int x :: r, ω, c, s) = y_w M_X3_keep mc ms Q (46, lv, .int (x - y) :: r, ω, c, s) := w_isub dX3_keep_45 rfl
theorem wX3_keep_46 : y_w M_X3_keep mc ms Q (46, lv, v :: .ref a :: r, ω, c, s) = y_pf P_X3_keep false 175 (ω.2 a) v (fun ci fs => y_w M_X3_keep mc ms Q (49, lv, r, y_hup ω a (.inr (ci, fs)), c, s)) := w_putfield dX3_keep_46 rfl rfl rfl
theorem wX3_keep_49 : y_w M_X3_keep mc ms Q (49, lv, st, ω, c, s) = y_w M_X3_keep mc ms Q (50, lv, .int 0 :: st, ω, c, s) := w_iconst dX3_keep_49 (v := 0) (by decide) rfl
theorem wX3_keep_50 : y_w M_X3_keep mc ms Q (50, lv, .int x :: r, ω, c, s) = y_w M_X3_keep mc ms Q (51, (1, .int x) :: y_kill 1 lv, r, ω, c, s) := w_istore_n dX3_keep_50 rfl (y_dle rfl) rfl
theorem wX3_keep_51 : y_w M_X3_keep mc ms Q (51, lv, st, ω, c, s) = y_ldI lv 1 (fun v => y_w M_X3_keep mc ms Q (52, lv, v :: st, ω, c, s)) := w_iload_n dX3_keep_51 rfl rfl
theorem wX3_keep_52 : y_w M_X3_keep mc ms Q (52, lv, st, ω, c, s) = y_w M_X3_keep mc ms Q (54, lv, .int (nI 68) :: st, ω, c, s) := w_bipush dX3_keep_52 (v := (nI 68)) (by decide) rfl
theorem wX3_keep_54 : y_w M_X3_keep mc ms Q (54, lv, .int y :: .int x :: r, ω, c, s) = ((y ≤ x → y_w M_X3_keep mc ms Q (83, lv, r, ω, c, s)) ∧ (¬ (y ≤ x) → y_w M_X3_keep mc ms Q (57, lv, r, ω, c, s))) := w_icmp dX3_keep_54 (tgt := 83) rfl rfl rfl
theorem wX3_keep_57 : y_w M_X3_keep mc ms Q (57, lv, st, ω, c, s) = y_ldA lv 0 (fun v => y_w M_X3_keep mc ms Q (58, lv, v :: st, ω, c, s)) := w_aload_n dX3_keep_57 rfl rfl
theorem wX3_keep_58 : y_w M_X3_keep mc ms Q (58, lv, .ref a :: r, ω, c, s) = y_gf P_X3_keep 25 (ω.2 a) (fun v => y_w M_X3_keep mc ms Q (61, lv, v :: r, ω, c, s)) := w_getfield dX3_keep_58 rfl rfl
theorem wX3_keep_61 : y_w M_X3_keep mc ms Q (61, lv, st, ω, c, s) = y_w M_X3_keep mc ms Q (63, lv, .int (nI 68) :: st, ω, c, s) := w_bipush dX3_keep_61 (v := (nI 68)) (by decide) rfl
theorem wX3_keep_63 : y_w M_X3_keep mc ms Q (63, lv, st, ω, c, s) = y_ldA lv 0 (fun v => y_w M_X3_keep mc ms Q (64, lv, v :: st, ω, c, s)) := w_aload_n dX3_keep_63 rfl rfl
theorem wX3_keep_64 : y_w M_X3_keep mc ms Q (64, lv, .ref a :: r, ω, c, s) = y_gf P_X3_keep 175 (ω.2 a) (fun v => y_w M_X3_keep mc ms Q (67, lv, v :: r, ω, c, s)) := w_getfield dX3_keep_64 rfl rfl
theorem wX3_keep_67 : y_w M_X3_keep mc ms Q (67, lv, .int y :: .int x :: r, ω, c, s) = y_w M_X3_keep mc ms Q (68, lv, .int (x * y) :: r, ω, c, s) := w_imul dX3_keep_67 rfl
theorem wX3_keep_68 : y_w M_X3_keep mc ms Q (68, lv, st, ω, c, s) = y_ldI lv 1 (fun v => y_w M_X3_keep mc ms Q (69, lv, v :: st, ω, c, s)) := w_iload_n dX3_keep_68 rfl rfl
theorem wX3_keep_69 : y_w M_X3_keep mc ms Q (69, lv, .int y :: .int x :: r, ω, c, s) = y_w M_X3_keep mc ms Q (70, lv, .int (x + y) :: r, ω, c, s) := w_iadd dX3_keep_69 rfl
theorem wX3_keep_70 : y_w M_X3_keep mc ms Q (70, lv, st, ω, c, s) = y_ldA lv 0 (fun v => y_w M_X3_keep mc ms Q (71, lv, v :: st, ω, c, s)) := w_aload_n dX3_keep_70 rfl rfl
theorem wX3_keep_71 : y_w M_X3_keep mc ms Q (71, lv, .ref a :: r, ω, c, s) = y_gf P_X3_keep 19 (ω.2 a) (fun v => y_w M_X3_keep mc ms Q (74, lv, v :: r, ω, c, s)) := w_getfield dX3_keep_71 rfl rfl
theorem wX3_keep_74 : y_w M_X3_keep mc ms Q (74, lv, st, ω, c, s) = y_ldI lv 1 (fun v => y_w M_X3_keep mc ms Q (75, lv, v :: st, ω, c, s)) := w_iload_n dX3_keep_74 rfl rfl
theorem wX3_keep_75 : y_w M_X3_keep mc ms Q (75, lv, .int j :: .ref a :: r, ω, c, s) = y_rI (ω.2 a) j (fun x => y_w M_X3_keep mc ms Q (76, lv, .int x :: r, ω, c, s)) := w_iaload dX3_keep_75 rfl
theorem wX3_keep_76 : y_w M_X3_keep mc ms Q (76, lv, .int x :: .int j :: .ref a :: r, ω, c, s) = y_wI (ω.2 a) j x (fun e => y_w M_X3_keep mc ms Q (77, lv, r, y_hup ω a e, c, s)) := w_iastore dX3_keep_76 rfl
theorem wX3_keep_77 : y_w M_X3_keep mc ms Q (77, lv, st, ω, c, s) = y_inc lv 1 (fun x => y_w M_X3_keep mc ms Q (80, (1, .int (x + 1)) :: y_kill 1 lv, st, ω, c, s)) := w_iinc dX3_keep_77 (d := 1) (by decide) (y_dle rfl) rfl
theorem wX3_keep_80 : y_w M_X3_keep mc ms Q (80, lv, st, ω, c, s) = ∃ lv2, y_lsub lv2 lv ∧ y_w M_X3_keep mc ms Q (51, lv2, st, ω, c, s) := w_back dX3_keep_80 (tgt := 51) (by decide) rfl
theorem wX3_keep_83 : y_w M_X3_keep mc ms Q (83, lv, st, ω, c, s) = y_ldA lv 0 (fun v => y_w M_X3_keep mc ms Q (84, lv, v :: st, ω, c, s)) := w_aload_n dX3_keep_83 rfl rfl
theorem wX3_keep_84 : y_w M_X3_keep mc ms Q (84, lv, v :: r, ω, c, s) = (v.category = 1 ∧ y_w M_X3_keep mc ms Q (85, lv, v :: v :: r, ω, c, s)) := w_dup dX3_keep_84 rfl
theorem wX3_keep_85 : y_w M_X3_keep mc ms Q (85, lv, .ref a :: r, ω, c, s) = y_gf P_X3_keep 175 (ω.2 a) (fun v => y_w M_X3_keep mc ms Q (88, lv, v :: r, ω, c, s)) := w_getfield dX3_keep_85 rfl rfl
theorem wX3_keep_88 : y_w M_X3_keep mc ms Q (88, lv, st, ω, c, s) = y_w M_X3_keep mc ms Q (89, lv, .int 1 :: st, ω, c, s) := w_iconst dX3_keep_88 (v := 1) (by decide) rfl
theorem wX3_keep_89 : y_w M_X3_keep mc ms Q (89, lv, .int y :: .int x :: r, ω, c, s) = y_w M_X3_keep mc ms Q (90, lv, .int (x + y) :: r, ω, c, s) := w_iadd dX3_keep_89 rfl
theorem wX3_keep_90 : y_w M_X3_keep mc ms Q (90, lv, v :: .ref a :: r, ω, c, s) = y_pf P_X3_keep false 175 (ω.2 a) v (fun ci fs => y_w M_X3_keep mc ms Q (93, lv, r, y_hup ω a (.inr (ci, fs)), c, s)) := w_putfield dX3_keep_90 rfl rfl rfl
theorem wX3_keep_93 : y_w M_X3_keep mc ms Q (93, lv, [], ω, c, s) = Q (.returned none) ω c s := w_return dX3_keep_93 rfl
def P_X3_agesBy : y_Pool := ([], [], [], [(178, 1, 3, 3, (1, 22), F_X3_wayOf), (181, 1, 3, 3, (1, 22), F_X3_of)], [], [], [])
def M_X3_agesBy : y_Md := (cX3_agesBy, "YoungerBackModel", (4, (some FieldType.int)), (1, 22), false, P_X3_agesBy, [])
def F_X3_agesBy : y_Tr := y_F M_X3_agesBy
theorem nX3_agesBy : y_nL M_X3_agesBy = 4 := rfl
theorem wX3_agesBy_0 : y_w M_X3_agesBy mc ms Q (0, lv, st, ω, c, s) = y_ldA lv 0 (fun v => y_w M_X3_agesBy mc ms Q (1, lv, v :: st, ω, c, s)) := w_aload_n dX3_agesBy_0 rfl rfl
theorem wX3_agesBy_1 : y_w M_X3_agesBy mc ms Q (1, lv, st, ω, c, s) = y_ldI lv 2 (fun v => y_w M_X3_agesBy mc ms Q (2, lv, v :: st, ω, c, s)) := w_iload_n dX3_agesBy_1 rfl rfl
theorem wX3_agesBy_2 : y_w M_X3_agesBy mc ms Q (2, lv, st, ω, c, s) = y_w M_X3_agesBy mc ms Q (3, lv, .int (nI 3) :: st, ω, c, s) := w_iconst dX3_agesBy_2 (v := (nI 3)) (by decide) rfl
theorem wX3_agesBy_3 (hc : y_cls ω a = some 3) : y_w M_X3_agesBy mc ms Q (3, lv, v2 :: v1 :: .ref a :: r, ω, c, s) = (y_cat r ≤ 8 ∧ F_X3_wayOf mc ms [.ref a, v1, v2] ω c s (y_aft M_X3_agesBy 3 3 lv r (y_w M_X3_agesBy mc ms Q) Q)) := w_call1 (av := [v1, v2]) (Or.inl ⟨⟨rfl, rfl⟩, rfl⟩) dX3_agesBy_3 rfl hc rfl (y_F_mono _) (y_dle rfl) (y_dle rfl) rfl rfl
theorem wX3_agesBy_6 : y_w M_X3_agesBy mc ms Q (6, lv, .int x :: r, ω, c, s) = y_w M_X3_agesBy mc ms Q (7, (3, .int x) :: y_kill 3 lv, r, ω, c, s) := w_istore_n dX3_agesBy_6 rfl (y_dle rfl) rfl
theorem wX3_agesBy_7 : y_w M_X3_agesBy mc ms Q (7, lv, st, ω, c, s) = y_ldA lv 0 (fun v => y_w M_X3_agesBy mc ms Q (8, lv, v :: st, ω, c, s)) := w_aload_n dX3_agesBy_7 rfl rfl
theorem wX3_agesBy_8 : y_w M_X3_agesBy mc ms Q (8, lv, st, ω, c, s) = y_ldI lv 1 (fun v => y_w M_X3_agesBy mc ms Q (9, lv, v :: st, ω, c, s)) := w_iload_n dX3_agesBy_8 rfl rfl
theorem wX3_agesBy_9 : y_w M_X3_agesBy mc ms Q (9, lv, st, ω, c, s) = y_w M_X3_agesBy mc ms Q (10, lv, .int 0 :: st, ω, c, s) := w_iconst dX3_agesBy_9 (v := 0) (by decide) rfl
theorem wX3_agesBy_10 (hc : y_cls ω a = some 3) : y_w M_X3_agesBy mc ms Q (10, lv, v2 :: v1 :: .ref a :: r, ω, c, s) = (y_cat r ≤ 8 ∧ F_X3_of mc ms [.ref a, v1, v2] ω c s (y_aft M_X3_agesBy 10 3 lv r (y_w M_X3_agesBy mc ms Q) Q)) := w_call1 (av := [v1, v2]) (Or.inl ⟨⟨rfl, rfl⟩, rfl⟩) dX3_agesBy_10 rfl hc rfl (y_F_mono _) (y_dle rfl) (y_dle rfl) rfl rfl
theorem wX3_agesBy_13 : y_w M_X3_agesBy mc ms Q (13, lv, .int x :: r, ω, c, s) = y_sw x 2 [40, 52, 54] 61 (fun t => y_w M_X3_agesBy mc ms Q (t, lv, r, ω, c, s)) := w_tsw dX3_agesBy_13 (dt := 61) (ts := [40, 52, 54]) rfl (by decide) (by decide)
theorem wX3_agesBy_40 : y_w M_X3_agesBy mc ms Q (40, lv, st, ω, c, s) = y_ldI lv 3 (fun v => y_w M_X3_agesBy mc ms Q (41, lv, v :: st, ω, c, s)) := w_iload_n dX3_agesBy_40 rfl rfl
theorem wX3_agesBy_41 : y_w M_X3_agesBy mc ms Q (41, lv, .int x :: r, ω, c, s) = ((x ≤ 0 → y_w M_X3_agesBy mc ms Q (50, lv, r, ω, c, s)) ∧ (¬ (x ≤ 0) → y_w M_X3_agesBy mc ms Q (44, lv, r, ω, c, s))) := w_if dX3_agesBy_41 (tgt := 50) rfl rfl rfl
theorem wX3_agesBy_44 : y_w M_X3_agesBy mc ms Q (44, lv, st, ω, c, s) = y_ldI lv 3 (fun v => y_w M_X3_agesBy mc ms Q (45, lv, v :: st, ω, c, s)) := w_iload_n dX3_agesBy_44 rfl rfl
theorem wX3_agesBy_45 : y_w M_X3_agesBy mc ms Q (45, lv, st, ω, c, s) = y_w M_X3_agesBy mc ms Q (46, lv, .int 1 :: st, ω, c, s) := w_iconst dX3_agesBy_45 (v := 1) (by decide) rfl
theorem wX3_agesBy_46 : y_w M_X3_agesBy mc ms Q (46, lv, .int y :: .int x :: r, ω, c, s) = y_w M_X3_agesBy mc ms Q (47, lv, .int (x - y) :: r, ω, c, s) := w_isub dX3_agesBy_46 rfl
theorem wX3_agesBy_47 : y_w M_X3_agesBy mc ms Q (47, lv, st, ω, c, s) = y_w M_X3_agesBy mc ms Q (51, lv, st, ω, c, s) := w_goto dX3_agesBy_47 (tgt := 51) (by decide) rfl
theorem wX3_agesBy_50 : y_w M_X3_agesBy mc ms Q (50, lv, st, ω, c, s) = y_w M_X3_agesBy mc ms Q (51, lv, .int 0 :: st, ω, c, s) := w_iconst dX3_agesBy_50 (v := 0) (by decide) rfl
theorem wX3_agesBy_51 : y_w M_X3_agesBy mc ms Q (51, lv, [.int x], ω, c, s) = Q (.returned (some (.int x))) ω c s := w_ireturnI dX3_agesBy_51 rfl
theorem wX3_agesBy_52 : y_w M_X3_agesBy mc ms Q (52, lv, st, ω, c, s) = y_w M_X3_agesBy mc ms Q (53, lv, .int 0 :: st, ω, c, s) := w_iconst dX3_agesBy_52 (v := 0) (by decide) rfl
theorem wX3_agesBy_53 : y_w M_X3_agesBy mc ms Q (53, lv, [.int x], ω, c, s) = Q (.returned (some (.int x))) ω c s := w_ireturnI dX3_agesBy_53 rfl
theorem wX3_agesBy_54 : y_w M_X3_agesBy mc ms Q (54, lv, st, ω, c, s) = y_ldA lv 0 (fun v => y_w M_X3_agesBy mc ms Q (55, lv, v :: st, ω, c, s)) := w_aload_n dX3_agesBy_54 rfl rfl
theorem wX3_agesBy_55 : y_w M_X3_agesBy mc ms Q (55, lv, st, ω, c, s) = y_ldI lv 2 (fun v => y_w M_X3_agesBy mc ms Q (56, lv, v :: st, ω, c, s)) := w_iload_n dX3_agesBy_55 rfl rfl
theorem wX3_agesBy_56 : y_w M_X3_agesBy mc ms Q (56, lv, st, ω, c, s) = y_w M_X3_agesBy mc ms Q (57, lv, .int (nI 2) :: st, ω, c, s) := w_iconst dX3_agesBy_56 (v := (nI 2)) (by decide) rfl
theorem wX3_agesBy_57 (hc : y_cls ω a = some 3) : y_w M_X3_agesBy mc ms Q (57, lv, v2 :: v1 :: .ref a :: r, ω, c, s) = (y_cat r ≤ 8 ∧ F_X3_wayOf mc ms [.ref a, v1, v2] ω c s (y_aft M_X3_agesBy 57 3 lv r (y_w M_X3_agesBy mc ms Q) Q)) := w_call1 (av := [v1, v2]) (Or.inl ⟨⟨rfl, rfl⟩, rfl⟩) dX3_agesBy_57 rfl hc rfl (y_F_mono _) (y_dle rfl) (y_dle rfl) rfl rfl
theorem wX3_agesBy_60 : y_w M_X3_agesBy mc ms Q (60, lv, [.int x], ω, c, s) = Q (.returned (some (.int x))) ω c s := w_ireturnI dX3_agesBy_60 rfl
theorem wX3_agesBy_61 : y_w M_X3_agesBy mc ms Q (61, lv, st, ω, c, s) = y_ldI lv 3 (fun v => y_w M_X3_agesBy mc ms Q (62, lv, v :: st, ω, c, s)) := w_iload_n dX3_agesBy_61 rfl rfl
theorem wX3_agesBy_62 : y_w M_X3_agesBy mc ms Q (62, lv, [.int x], ω, c, s) = Q (.returned (some (.int x))) ω c s := w_ireturnI dX3_agesBy_62 rfl
def P_X3_ages : y_Pool := ([(19, 3, 5, (.array .int), true)], [], [], [], [], [], [])
def M_X3_ages : y_Md := (cX3_ages, "YoungerBackModel", (4, none), (0, 0), false, P_X3_ages, [])
def F_X3_ages : y_Tr := y_F M_X3_ages
theorem nX3_ages : y_nL M_X3_ages = 4 := rfl
theorem fX3_ages_19_3 : y_ffP P_X3_ages 19 3 = some (5, (.array .int), true) := rfl
theorem wX3_ages_0 : y_w M_X3_ages mc ms Q (0, lv, st, ω, c, s) = y_ldA lv 0 (fun v => y_w M_X3_ages mc ms Q (1, lv, v :: st, ω, c, s)) := w_aload_n dX3_ages_0 rfl rfl
theorem wX3_ages_1 : y_w M_X3_ages mc ms Q (1, lv, .ref a :: r, ω, c, s) = y_gf P_X3_ages 19 (ω.2 a) (fun v => y_w M_X3_ages mc ms Q (4, lv, v :: r, ω, c, s)) := w_getfield dX3_ages_1 rfl rfl
theorem wX3_ages_4 : y_w M_X3_ages mc ms Q (4, lv, st, ω, c, s) = y_w M_X3_ages mc ms Q (6, lv, .int (nI 36) :: st, ω, c, s) := w_bipush dX3_ages_4 (v := (nI 36)) (by decide) rfl
theorem wX3_ages_6 : y_w M_X3_ages mc ms Q (6, lv, st, ω, c, s) = y_w M_X3_ages mc ms Q (8, lv, .int (nI 8) :: st, ω, c, s) := w_bipush dX3_ages_6 (v := (nI 8)) (by decide) rfl
theorem wX3_ages_8 : y_w M_X3_ages mc ms Q (8, lv, st, ω, c, s) = y_ldI lv 1 (fun v => y_w M_X3_ages mc ms Q (9, lv, v :: st, ω, c, s)) := w_iload_n dX3_ages_8 rfl rfl
theorem wX3_ages_9 : y_w M_X3_ages mc ms Q (9, lv, .int y :: .int x :: r, ω, c, s) = y_w M_X3_ages mc ms Q (10, lv, .int (x * y) :: r, ω, c, s) := w_imul dX3_ages_9 rfl
theorem wX3_ages_10 : y_w M_X3_ages mc ms Q (10, lv, .int y :: .int x :: r, ω, c, s) = y_w M_X3_ages mc ms Q (11, lv, .int (x + y) :: r, ω, c, s) := w_iadd dX3_ages_10 rfl
theorem wX3_ages_11 : y_w M_X3_ages mc ms Q (11, lv, st, ω, c, s) = y_w M_X3_ages mc ms Q (12, lv, .int (nI 3) :: st, ω, c, s) := w_iconst dX3_ages_11 (v := (nI 3)) (by decide) rfl
theorem wX3_ages_12 : y_w M_X3_ages mc ms Q (12, lv, .int y :: .int x :: r, ω, c, s) = y_w M_X3_ages mc ms Q (13, lv, .int (x + y) :: r, ω, c, s) := w_iadd dX3_ages_12 rfl
theorem wX3_ages_13 : y_w M_X3_ages mc ms Q (13, lv, v :: v1 :: r, ω, c, s) = ((v.category = 1 ∧ v1.category = 1) ∧ y_w M_X3_ages mc ms Q (14, lv, v :: v1 :: v :: v1 :: r, ω, c, s)) := w_dup2 dX3_ages_13 rfl
theorem wX3_ages_14 : y_w M_X3_ages mc ms Q (14, lv, .int j :: .ref a :: r, ω, c, s) = y_rI (ω.2 a) j (fun x => y_w M_X3_ages mc ms Q (15, lv, .int x :: r, ω, c, s)) := w_iaload dX3_ages_14 rfl
theorem wX3_ages_15 : y_w M_X3_ages mc ms Q (15, lv, st, ω, c, s) = y_ldI lv 2 (fun v => y_w M_X3_ages mc ms Q (16, lv, v :: st, ω, c, s)) := w_iload_n dX3_ages_15 rfl rfl
theorem wX3_ages_16 : y_w M_X3_ages mc ms Q (16, lv, .int y :: .int x :: r, ω, c, s) = y_w M_X3_ages mc ms Q (17, lv, .int (x + y) :: r, ω, c, s) := w_iadd dX3_ages_16 rfl
theorem wX3_ages_17 : y_w M_X3_ages mc ms Q (17, lv, .int x :: .int j :: .ref a :: r, ω, c, s) = y_wI (ω.2 a) j x (fun e => y_w M_X3_ages mc ms Q (18, lv, r, y_hup ω a e, c, s)) := w_iastore dX3_ages_17 rfl
theorem wX3_ages_18 : y_w M_X3_ages mc ms Q (18, lv, st, ω, c, s) = y_ldA lv 0 (fun v => y_w M_X3_ages mc ms Q (19, lv, v :: st, ω, c, s)) := w_aload_n dX3_ages_18 rfl rfl
theorem wX3_ages_19 : y_w M_X3_ages mc ms Q (19, lv, .ref a :: r, ω, c, s) = y_gf P_X3_ages 19 (ω.2 a) (fun v => y_w M_X3_ages mc ms Q (22, lv, v :: r, ω, c, s)) := w_getfield dX3_ages_19 rfl rfl
theorem wX3_ages_22 : y_w M_X3_ages mc ms Q (22, lv, st, ω, c, s) = y_w M_X3_ages mc ms Q (24, lv, .int (nI 36) :: st, ω, c, s) := w_bipush dX3_ages_22 (v := (nI 36)) (by decide) rfl
theorem wX3_ages_24 : y_w M_X3_ages mc ms Q (24, lv, st, ω, c, s) = y_w M_X3_ages mc ms Q (26, lv, .int (nI 8) :: st, ω, c, s) := w_bipush dX3_ages_24 (v := (nI 8)) (by decide) rfl
theorem wX3_ages_26 : y_w M_X3_ages mc ms Q (26, lv, st, ω, c, s) = y_ldI lv 1 (fun v => y_w M_X3_ages mc ms Q (27, lv, v :: st, ω, c, s)) := w_iload_n dX3_ages_26 rfl rfl
theorem wX3_ages_27 : y_w M_X3_ages mc ms Q (27, lv, .int y :: .int x :: r, ω, c, s) = y_w M_X3_ages mc ms Q (28, lv, .int (x * y) :: r, ω, c, s) := w_imul dX3_ages_27 rfl
theorem wX3_ages_28 : y_w M_X3_ages mc ms Q (28, lv, .int y :: .int x :: r, ω, c, s) = y_w M_X3_ages mc ms Q (29, lv, .int (x + y) :: r, ω, c, s) := w_iadd dX3_ages_28 rfl
theorem wX3_ages_29 : y_w M_X3_ages mc ms Q (29, lv, st, ω, c, s) = y_w M_X3_ages mc ms Q (30, lv, .int (nI 4) :: st, ω, c, s) := w_iconst dX3_ages_29 (v := (nI 4)) (by decide) rfl
theorem wX3_ages_30 : y_w M_X3_ages mc ms Q (30, lv, .int y :: .int x :: r, ω, c, s) = y_w M_X3_ages mc ms Q (31, lv, .int (x + y) :: r, ω, c, s) := w_iadd dX3_ages_30 rfl
theorem wX3_ages_31 : y_w M_X3_ages mc ms Q (31, lv, v :: v1 :: r, ω, c, s) = ((v.category = 1 ∧ v1.category = 1) ∧ y_w M_X3_ages mc ms Q (32, lv, v :: v1 :: v :: v1 :: r, ω, c, s)) := w_dup2 dX3_ages_31 rfl
theorem wX3_ages_32 : y_w M_X3_ages mc ms Q (32, lv, .int j :: .ref a :: r, ω, c, s) = y_rI (ω.2 a) j (fun x => y_w M_X3_ages mc ms Q (33, lv, .int x :: r, ω, c, s)) := w_iaload dX3_ages_32 rfl
theorem wX3_ages_33 : y_w M_X3_ages mc ms Q (33, lv, st, ω, c, s) = y_ldI lv 3 (fun v => y_w M_X3_ages mc ms Q (34, lv, v :: st, ω, c, s)) := w_iload_n dX3_ages_33 rfl rfl
theorem wX3_ages_34 : y_w M_X3_ages mc ms Q (34, lv, .int y :: .int x :: r, ω, c, s) = y_w M_X3_ages mc ms Q (35, lv, .int (x + y) :: r, ω, c, s) := w_iadd dX3_ages_34 rfl
theorem wX3_ages_35 : y_w M_X3_ages mc ms Q (35, lv, .int x :: .int j :: .ref a :: r, ω, c, s) = y_wI (ω.2 a) j x (fun e => y_w M_X3_ages mc ms Q (36, lv, r, y_hup ω a e, c, s)) := w_iastore dX3_ages_35 rfl
theorem wX3_ages_36 : y_w M_X3_ages mc ms Q (36, lv, [], ω, c, s) = Q (.returned none) ω c s := w_return dX3_ages_36 rfl
def P_X3_goes : y_Pool := ([(19, 3, 5, (.array .int), true)], [], [(84, .int (-1000000)), (188, .int (-1000002)), (78, .int (-1000003))], [(181, 1, 3, 3, (1, 22), F_X3_of), (184, 1, 3, 4, (2, 46), F_X3_endOf), (178, 1, 3, 3, (1, 22), F_X3_wayOf), (189, 1, 3, 1, (1, 21), F_X3_keep), (192, 1, 3, 3, (2, 45), F_X3_agesBy), (195, 1, 3, 4, (1, 23), F_X3_ages)], [], [], [])
def M_X3_goes : y_Md := (cX3_goes, "YoungerBackModel", (4, (some FieldType.int)), (2, 46), false, P_X3_goes, [])
def F_X3_goes : y_Tr := y_F M_X3_goes
theorem nX3_goes : y_nL M_X3_goes = 4 := rfl
theorem fX3_goes_19_3 : y_ffP P_X3_goes 19 3 = some (5, (.array .int), true) := rfl
theorem wX3_goes_0 : y_w M_X3_goes mc ms Q (0, lv, st, ω, c, s) = y_ldA lv 0 (fun v => y_w M_X3_goes mc ms Q (1, lv, v :: st, ω, c, s)) := w_aload_n dX3_goes_0 rfl rfl
theorem wX3_goes_1 : y_w M_X3_goes mc ms Q (1, lv, st, ω, c, s) = y_ldI lv 1 (fun v => y_w M_X3_goes mc ms Q (2, lv, v :: st, ω, c, s)) := w_iload_n dX3_goes_1 rfl rfl
theorem wX3_goes_2 : y_w M_X3_goes mc ms Q (2, lv, st, ω, c, s) = y_ldI lv 2 (fun v => y_w M_X3_goes mc ms Q (3, lv, v :: st, ω, c, s)) := w_iload_n dX3_goes_2 rfl rfl
theorem wX3_goes_3 : y_w M_X3_goes mc ms Q (3, lv, st, ω, c, s) = y_ldA lv 0 (fun v => y_w M_X3_goes mc ms Q (4, lv, v :: st, ω, c, s)) := w_aload_n dX3_goes_3 rfl rfl
theorem wX3_goes_4 : y_w M_X3_goes mc ms Q (4, lv, st, ω, c, s) = y_ldI lv 1 (fun v => y_w M_X3_goes mc ms Q (5, lv, v :: st, ω, c, s)) := w_iload_n dX3_goes_4 rfl rfl
theorem wX3_goes_5 : y_w M_X3_goes mc ms Q (5, lv, st, ω, c, s) = y_w M_X3_goes mc ms Q (6, lv, .int 1 :: st, ω, c, s) := w_iconst dX3_goes_5 (v := 1) (by decide) rfl
theorem wX3_goes_6 (hc : y_cls ω a = some 3) : y_w M_X3_goes mc ms Q (6, lv, v2 :: v1 :: .ref a :: r, ω, c, s) = (y_cat r ≤ 8 ∧ F_X3_of mc ms [.ref a, v1, v2] ω c s (y_aft M_X3_goes 6 3 lv r (y_w M_X3_goes mc ms Q) Q)) := w_call1 (av := [v1, v2]) (Or.inl ⟨⟨rfl, rfl⟩, rfl⟩) dX3_goes_6 rfl hc rfl (y_F_mono _) (y_dle rfl) (y_dle rfl) rfl rfl
theorem wX3_goes_9 (hc : y_cls ω a = some 3) : y_w M_X3_goes mc ms Q (9, lv, v3 :: v2 :: v1 :: .ref a :: r, ω, c, s) = (y_cat r ≤ 8 ∧ F_X3_endOf mc ms [.ref a, v1, v2, v3] ω c s (y_aft M_X3_goes 9 3 lv r (y_w M_X3_goes mc ms Q) Q)) := w_call1 (av := [v1, v2, v3]) (Or.inl ⟨⟨rfl, rfl⟩, rfl⟩) dX3_goes_9 rfl hc rfl (y_F_mono _) (y_dle rfl) (y_dle rfl) rfl rfl
theorem wX3_goes_12 : y_w M_X3_goes mc ms Q (12, lv, .int x :: r, ω, c, s) = y_w M_X3_goes mc ms Q (13, (3, .int x) :: y_kill 3 lv, r, ω, c, s) := w_istore_n dX3_goes_12 rfl (y_dle rfl) rfl
theorem wX3_goes_13 : y_w M_X3_goes mc ms Q (13, lv, st, ω, c, s) = y_ldI lv 3 (fun v => y_w M_X3_goes mc ms Q (14, lv, v :: st, ω, c, s)) := w_iload_n dX3_goes_13 rfl rfl
theorem wX3_goes_14 : y_w M_X3_goes mc ms Q (14, lv, st, ω, c, s) = y_w M_X3_goes mc ms Q (16, lv, .int (-1000000) :: st, ω, c, s) := w_ldc dX3_goes_14 rfl rfl rfl
theorem wX3_goes_16 : y_w M_X3_goes mc ms Q (16, lv, .int y :: .int x :: r, ω, c, s) = ((¬ x = y → y_w M_X3_goes mc ms Q (22, lv, r, ω, c, s)) ∧ (¬ (¬ x = y) → y_w M_X3_goes mc ms Q (19, lv, r, ω, c, s))) := w_icmp dX3_goes_16 (tgt := 22) rfl rfl rfl
theorem wX3_goes_19 : y_w M_X3_goes mc ms Q (19, lv, st, ω, c, s) = y_w M_X3_goes mc ms Q (21, lv, .int (-1000002) :: st, ω, c, s) := w_ldc dX3_goes_19 rfl rfl rfl
theorem wX3_goes_21 : y_w M_X3_goes mc ms Q (21, lv, [.int x], ω, c, s) = Q (.returned (some (.int x))) ω c s := w_ireturnI dX3_goes_21 rfl
theorem wX3_goes_22 : y_w M_X3_goes mc ms Q (22, lv, st, ω, c, s) = y_ldA lv 0 (fun v => y_w M_X3_goes mc ms Q (23, lv, v :: st, ω, c, s)) := w_aload_n dX3_goes_22 rfl rfl
theorem wX3_goes_23 : y_w M_X3_goes mc ms Q (23, lv, st, ω, c, s) = y_ldI lv 1 (fun v => y_w M_X3_goes mc ms Q (24, lv, v :: st, ω, c, s)) := w_iload_n dX3_goes_23 rfl rfl
theorem wX3_goes_24 : y_w M_X3_goes mc ms Q (24, lv, st, ω, c, s) = y_w M_X3_goes mc ms Q (25, lv, .int (nI 3) :: st, ω, c, s) := w_iconst dX3_goes_24 (v := (nI 3)) (by decide) rfl
theorem wX3_goes_25 (hc : y_cls ω a = some 3) : y_w M_X3_goes mc ms Q (25, lv, v2 :: v1 :: .ref a :: r, ω, c, s) = (y_cat r ≤ 8 ∧ F_X3_of mc ms [.ref a, v1, v2] ω c s (y_aft M_X3_goes 25 3 lv r (y_w M_X3_goes mc ms Q) Q)) := w_call1 (av := [v1, v2]) (Or.inl ⟨⟨rfl, rfl⟩, rfl⟩) dX3_goes_25 rfl hc rfl (y_F_mono _) (y_dle rfl) (y_dle rfl) rfl rfl
theorem wX3_goes_28 : y_w M_X3_goes mc ms Q (28, lv, st, ω, c, s) = y_ldA lv 0 (fun v => y_w M_X3_goes mc ms Q (29, lv, v :: st, ω, c, s)) := w_aload_n dX3_goes_28 rfl rfl
theorem wX3_goes_29 : y_w M_X3_goes mc ms Q (29, lv, st, ω, c, s) = y_ldI lv 2 (fun v => y_w M_X3_goes mc ms Q (30, lv, v :: st, ω, c, s)) := w_iload_n dX3_goes_29 rfl rfl
theorem wX3_goes_30 : y_w M_X3_goes mc ms Q (30, lv, st, ω, c, s) = y_w M_X3_goes mc ms Q (31, lv, .int (nI 2) :: st, ω, c, s) := w_iconst dX3_goes_30 (v := (nI 2)) (by decide) rfl
theorem wX3_goes_31 (hc : y_cls ω a = some 3) : y_w M_X3_goes mc ms Q (31, lv, v2 :: v1 :: .ref a :: r, ω, c, s) = (y_cat r ≤ 8 ∧ F_X3_wayOf mc ms [.ref a, v1, v2] ω c s (y_aft M_X3_goes 31 3 lv r (y_w M_X3_goes mc ms Q) Q)) := w_call1 (av := [v1, v2]) (Or.inl ⟨⟨rfl, rfl⟩, rfl⟩) dX3_goes_31 rfl hc rfl (y_F_mono _) (y_dle rfl) (y_dle rfl) rfl rfl
theorem wX3_goes_34 : y_w M_X3_goes mc ms Q (34, lv, .int y :: .int x :: r, ω, c, s) = y_w M_X3_goes mc ms Q (35, lv, .int (x + y) :: r, ω, c, s) := w_iadd dX3_goes_34 rfl
theorem wX3_goes_35 : y_w M_X3_goes mc ms Q (35, lv, st, ω, c, s) = y_w M_X3_goes mc ms Q (38, lv, .int (nI 200) :: st, ω, c, s) := w_sipush dX3_goes_35 (v := (nI 200)) (by decide) rfl
theorem wX3_goes_38 : y_w M_X3_goes mc ms Q (38, lv, .int y :: .int x :: r, ω, c, s) = ((x ≤ y → y_w M_X3_goes mc ms Q (44, lv, r, ω, c, s)) ∧ (¬ (x ≤ y) → y_w M_X3_goes mc ms Q (41, lv, r, ω, c, s))) := w_icmp dX3_goes_38 (tgt := 44) rfl rfl rfl
theorem wX3_goes_41 : y_w M_X3_goes mc ms Q (41, lv, st, ω, c, s) = y_w M_X3_goes mc ms Q (43, lv, .int (-1000003) :: st, ω, c, s) := w_ldc dX3_goes_41 rfl rfl rfl
theorem wX3_goes_43 : y_w M_X3_goes mc ms Q (43, lv, [.int x], ω, c, s) = Q (.returned (some (.int x))) ω c s := w_ireturnI dX3_goes_43 rfl
theorem wX3_goes_44 : y_w M_X3_goes mc ms Q (44, lv, st, ω, c, s) = y_ldA lv 0 (fun v => y_w M_X3_goes mc ms Q (45, lv, v :: st, ω, c, s)) := w_aload_n dX3_goes_44 rfl rfl
theorem wX3_goes_45 (hc : y_cls ω a = some 3) : y_w M_X3_goes mc ms Q (45, lv, .ref a :: r, ω, c, s) = (y_cat r ≤ 8 ∧ F_X3_keep mc ms [.ref a] ω c s (y_aft M_X3_goes 45 3 lv r (y_w M_X3_goes mc ms Q) Q)) := w_call1 (av := []) (Or.inl ⟨⟨rfl, rfl⟩, rfl⟩) dX3_goes_45 rfl hc rfl (y_F_mono _) (y_dle rfl) (y_dle rfl) rfl rfl
theorem wX3_goes_48 : y_w M_X3_goes mc ms Q (48, lv, st, ω, c, s) = y_ldA lv 0 (fun v => y_w M_X3_goes mc ms Q (49, lv, v :: st, ω, c, s)) := w_aload_n dX3_goes_48 rfl rfl
theorem wX3_goes_49 : y_w M_X3_goes mc ms Q (49, lv, st, ω, c, s) = y_ldI lv 1 (fun v => y_w M_X3_goes mc ms Q (50, lv, v :: st, ω, c, s)) := w_iload_n dX3_goes_49 rfl rfl
theorem wX3_goes_50 : y_w M_X3_goes mc ms Q (50, lv, st, ω, c, s) = y_ldA lv 0 (fun v => y_w M_X3_goes mc ms Q (51, lv, v :: st, ω, c, s)) := w_aload_n dX3_goes_50 rfl rfl
theorem wX3_goes_51 : y_w M_X3_goes mc ms Q (51, lv, st, ω, c, s) = y_ldI lv 2 (fun v => y_w M_X3_goes mc ms Q (52, lv, v :: st, ω, c, s)) := w_iload_n dX3_goes_51 rfl rfl
theorem wX3_goes_52 : y_w M_X3_goes mc ms Q (52, lv, st, ω, c, s) = y_w M_X3_goes mc ms Q (53, lv, .int (nI 2) :: st, ω, c, s) := w_iconst dX3_goes_52 (v := (nI 2)) (by decide) rfl
theorem wX3_goes_53 (hc : y_cls ω a = some 3) : y_w M_X3_goes mc ms Q (53, lv, v2 :: v1 :: .ref a :: r, ω, c, s) = (y_cat r ≤ 8 ∧ F_X3_wayOf mc ms [.ref a, v1, v2] ω c s (y_aft M_X3_goes 53 3 lv r (y_w M_X3_goes mc ms Q) Q)) := w_call1 (av := [v1, v2]) (Or.inl ⟨⟨rfl, rfl⟩, rfl⟩) dX3_goes_53 rfl hc rfl (y_F_mono _) (y_dle rfl) (y_dle rfl) rfl rfl
theorem wX3_goes_56 : y_w M_X3_goes mc ms Q (56, lv, st, ω, c, s) = y_ldA lv 0 (fun v => y_w M_X3_goes mc ms Q (57, lv, v :: st, ω, c, s)) := w_aload_n dX3_goes_56 rfl rfl
theorem wX3_goes_57 : y_w M_X3_goes mc ms Q (57, lv, st, ω, c, s) = y_ldI lv 1 (fun v => y_w M_X3_goes mc ms Q (58, lv, v :: st, ω, c, s)) := w_iload_n dX3_goes_57 rfl rfl
theorem wX3_goes_58 : y_w M_X3_goes mc ms Q (58, lv, st, ω, c, s) = y_ldI lv 2 (fun v => y_w M_X3_goes mc ms Q (59, lv, v :: st, ω, c, s)) := w_iload_n dX3_goes_58 rfl rfl
theorem wX3_goes_59 (hc : y_cls ω a = some 3) : y_w M_X3_goes mc ms Q (59, lv, v2 :: v1 :: .ref a :: r, ω, c, s) = (y_cat r ≤ 8 ∧ F_X3_agesBy mc ms [.ref a, v1, v2] ω c s (y_aft M_X3_goes 59 3 lv r (y_w M_X3_goes mc ms Q) Q)) := w_call1 (av := [v1, v2]) (Or.inl ⟨⟨rfl, rfl⟩, rfl⟩) dX3_goes_59 rfl hc rfl (y_F_mono _) (y_dle rfl) (y_dle rfl) rfl rfl
theorem wX3_goes_62 (hc : y_cls ω a = some 3) : y_w M_X3_goes mc ms Q (62, lv, v3 :: v2 :: v1 :: .ref a :: r, ω, c, s) = (y_cat r ≤ 8 ∧ F_X3_ages mc ms [.ref a, v1, v2, v3] ω c s (y_aft M_X3_goes 62 3 lv r (y_w M_X3_goes mc ms Q) Q)) := w_call1 (av := [v1, v2, v3]) (Or.inl ⟨⟨rfl, rfl⟩, rfl⟩) dX3_goes_62 rfl hc rfl (y_F_mono _) (y_dle rfl) (y_dle rfl) rfl rfl
theorem wX3_goes_65 : y_w M_X3_goes mc ms Q (65, lv, st, ω, c, s) = y_ldA lv 0 (fun v => y_w M_X3_goes mc ms Q (66, lv, v :: st, ω, c, s)) := w_aload_n dX3_goes_65 rfl rfl
theorem wX3_goes_66 : y_w M_X3_goes mc ms Q (66, lv, .ref a :: r, ω, c, s) = y_gf P_X3_goes 19 (ω.2 a) (fun v => y_w M_X3_goes mc ms Q (69, lv, v :: r, ω, c, s)) := w_getfield dX3_goes_66 rfl rfl
theorem wX3_goes_69 : y_w M_X3_goes mc ms Q (69, lv, st, ω, c, s) = y_w M_X3_goes mc ms Q (71, lv, .int (nI 36) :: st, ω, c, s) := w_bipush dX3_goes_69 (v := (nI 36)) (by decide) rfl
theorem wX3_goes_71 : y_w M_X3_goes mc ms Q (71, lv, st, ω, c, s) = y_w M_X3_goes mc ms Q (73, lv, .int (nI 8) :: st, ω, c, s) := w_bipush dX3_goes_71 (v := (nI 8)) (by decide) rfl
theorem wX3_goes_73 : y_w M_X3_goes mc ms Q (73, lv, st, ω, c, s) = y_ldI lv 1 (fun v => y_w M_X3_goes mc ms Q (74, lv, v :: st, ω, c, s)) := w_iload_n dX3_goes_73 rfl rfl
theorem wX3_goes_74 : y_w M_X3_goes mc ms Q (74, lv, .int y :: .int x :: r, ω, c, s) = y_w M_X3_goes mc ms Q (75, lv, .int (x * y) :: r, ω, c, s) := w_imul dX3_goes_74 rfl
theorem wX3_goes_75 : y_w M_X3_goes mc ms Q (75, lv, .int y :: .int x :: r, ω, c, s) = y_w M_X3_goes mc ms Q (76, lv, .int (x + y) :: r, ω, c, s) := w_iadd dX3_goes_75 rfl
theorem wX3_goes_76 : y_w M_X3_goes mc ms Q (76, lv, st, ω, c, s) = y_w M_X3_goes mc ms Q (77, lv, .int 1 :: st, ω, c, s) := w_iconst dX3_goes_76 (v := 1) (by decide) rfl
theorem wX3_goes_77 : y_w M_X3_goes mc ms Q (77, lv, .int y :: .int x :: r, ω, c, s) = y_w M_X3_goes mc ms Q (78, lv, .int (x + y) :: r, ω, c, s) := w_iadd dX3_goes_77 rfl
theorem wX3_goes_78 : y_w M_X3_goes mc ms Q (78, lv, st, ω, c, s) = y_ldI lv 3 (fun v => y_w M_X3_goes mc ms Q (79, lv, v :: st, ω, c, s)) := w_iload_n dX3_goes_78 rfl rfl
theorem wX3_goes_79 : y_w M_X3_goes mc ms Q (79, lv, .int x :: .int j :: .ref a :: r, ω, c, s) = y_wI (ω.2 a) j x (fun e => y_w M_X3_goes mc ms Q (80, lv, r, y_hup ω a e, c, s)) := w_iastore dX3_goes_79 rfl
theorem wX3_goes_80 : y_w M_X3_goes mc ms Q (80, lv, st, ω, c, s) = y_ldI lv 3 (fun v => y_w M_X3_goes mc ms Q (81, lv, v :: st, ω, c, s)) := w_iload_n dX3_goes_80 rfl rfl
theorem wX3_goes_81 : y_w M_X3_goes mc ms Q (81, lv, [.int x], ω, c, s) = Q (.returned (some (.int x))) ω c s := w_ireturnI dX3_goes_81 rfl
def P_X3_sail : y_Pool := ([(48, 3, 0, .int, false)], [], [(68, .int (-1000001))], [(199, 1, 3, 2, (2, 46), F_X3_isPerson), (202, 1, 3, 2, (2, 46), F_X3_isWay), (205, 1, 3, 3, (3, 69), F_X3_goes)], [], [], [])
def M_X3_sail : y_Md := (cX3_sail, "YoungerBackModel", (3, (some FieldType.int)), (3, 69), false, P_X3_sail, [])
def F_X3_sail : y_Tr := y_F M_X3_sail
theorem nX3_sail : y_nL M_X3_sail = 3 := rfl
theorem fX3_sail_48_3 : y_ffP P_X3_sail 48 3 = some (0, .int, false) := rfl
theorem wX3_sail_0 : y_w M_X3_sail mc ms Q (0, lv, st, ω, c, s) = y_ldA lv 0 (fun v => y_w M_X3_sail mc ms Q (1, lv, v :: st, ω, c, s)) := w_aload_n dX3_sail_0 rfl rfl
theorem wX3_sail_1 : y_w M_X3_sail mc ms Q (1, lv, st, ω, c, s) = y_w M_X3_sail mc ms Q (2, lv, .int 0 :: st, ω, c, s) := w_iconst dX3_sail_1 (v := 0) (by decide) rfl
theorem wX3_sail_2 : y_w M_X3_sail mc ms Q (2, lv, v :: .ref a :: r, ω, c, s) = y_pf P_X3_sail false 48 (ω.2 a) v (fun ci fs => y_w M_X3_sail mc ms Q (5, lv, r, y_hup ω a (.inr (ci, fs)), c, s)) := w_putfield dX3_sail_2 rfl rfl rfl
theorem wX3_sail_5 : y_w M_X3_sail mc ms Q (5, lv, st, ω, c, s) = y_ldA lv 0 (fun v => y_w M_X3_sail mc ms Q (6, lv, v :: st, ω, c, s)) := w_aload_n dX3_sail_5 rfl rfl
theorem wX3_sail_6 : y_w M_X3_sail mc ms Q (6, lv, st, ω, c, s) = y_ldI lv 1 (fun v => y_w M_X3_sail mc ms Q (7, lv, v :: st, ω, c, s)) := w_iload_n dX3_sail_6 rfl rfl
theorem wX3_sail_7 (hc : y_cls ω a = some 3) : y_w M_X3_sail mc ms Q (7, lv, v1 :: .ref a :: r, ω, c, s) = (y_cat r ≤ 8 ∧ F_X3_isPerson mc ms [.ref a, v1] ω c s (y_aft M_X3_sail 7 3 lv r (y_w M_X3_sail mc ms Q) Q)) := w_call1 (av := [v1]) (Or.inl ⟨⟨rfl, rfl⟩, rfl⟩) dX3_sail_7 rfl hc rfl (y_F_mono _) (y_dle rfl) (y_dle rfl) rfl rfl
theorem wX3_sail_10 : y_w M_X3_sail mc ms Q (10, lv, .int x :: r, ω, c, s) = ((x = 0 → y_w M_X3_sail mc ms Q (30, lv, r, ω, c, s)) ∧ (¬ (x = 0) → y_w M_X3_sail mc ms Q (13, lv, r, ω, c, s))) := w_if dX3_sail_10 (tgt := 30) rfl rfl rfl
theorem wX3_sail_13 : y_w M_X3_sail mc ms Q (13, lv, st, ω, c, s) = y_ldA lv 0 (fun v => y_w M_X3_sail mc ms Q (14, lv, v :: st, ω, c, s)) := w_aload_n dX3_sail_13 rfl rfl
theorem wX3_sail_14 : y_w M_X3_sail mc ms Q (14, lv, st, ω, c, s) = y_ldI lv 2 (fun v => y_w M_X3_sail mc ms Q (15, lv, v :: st, ω, c, s)) := w_iload_n dX3_sail_14 rfl rfl
theorem wX3_sail_15 (hc : y_cls ω a = some 3) : y_w M_X3_sail mc ms Q (15, lv, v1 :: .ref a :: r, ω, c, s) = (y_cat r ≤ 8 ∧ F_X3_isWay mc ms [.ref a, v1] ω c s (y_aft M_X3_sail 15 3 lv r (y_w M_X3_sail mc ms Q) Q)) := w_call1 (av := [v1]) (Or.inl ⟨⟨rfl, rfl⟩, rfl⟩) dX3_sail_15 rfl hc rfl (y_F_mono _) (y_dle rfl) (y_dle rfl) rfl rfl
theorem wX3_sail_18 : y_w M_X3_sail mc ms Q (18, lv, .int x :: r, ω, c, s) = ((x = 0 → y_w M_X3_sail mc ms Q (30, lv, r, ω, c, s)) ∧ (¬ (x = 0) → y_w M_X3_sail mc ms Q (21, lv, r, ω, c, s))) := w_if dX3_sail_18 (tgt := 30) rfl rfl rfl
theorem wX3_sail_21 : y_w M_X3_sail mc ms Q (21, lv, st, ω, c, s) = y_ldA lv 0 (fun v => y_w M_X3_sail mc ms Q (22, lv, v :: st, ω, c, s)) := w_aload_n dX3_sail_21 rfl rfl
theorem wX3_sail_22 : y_w M_X3_sail mc ms Q (22, lv, st, ω, c, s) = y_ldI lv 1 (fun v => y_w M_X3_sail mc ms Q (23, lv, v :: st, ω, c, s)) := w_iload_n dX3_sail_22 rfl rfl
theorem wX3_sail_23 : y_w M_X3_sail mc ms Q (23, lv, st, ω, c, s) = y_ldI lv 2 (fun v => y_w M_X3_sail mc ms Q (24, lv, v :: st, ω, c, s)) := w_iload_n dX3_sail_23 rfl rfl
theorem wX3_sail_24 (hc : y_cls ω a = some 3) : y_w M_X3_sail mc ms Q (24, lv, v2 :: v1 :: .ref a :: r, ω, c, s) = (y_cat r ≤ 8 ∧ F_X3_goes mc ms [.ref a, v1, v2] ω c s (y_aft M_X3_sail 24 3 lv r (y_w M_X3_sail mc ms Q) Q)) := w_call1 (av := [v1, v2]) (Or.inl ⟨⟨rfl, rfl⟩, rfl⟩) dX3_sail_24 rfl hc rfl (y_F_mono _) (y_dle rfl) (y_dle rfl) rfl rfl
theorem wX3_sail_27 : y_w M_X3_sail mc ms Q (27, lv, st, ω, c, s) = y_w M_X3_sail mc ms Q (32, lv, st, ω, c, s) := w_goto dX3_sail_27 (tgt := 32) (by decide) rfl
theorem wX3_sail_30 : y_w M_X3_sail mc ms Q (30, lv, st, ω, c, s) = y_w M_X3_sail mc ms Q (32, lv, .int (-1000001) :: st, ω, c, s) := w_ldc dX3_sail_30 rfl rfl rfl
theorem wX3_sail_32 : y_w M_X3_sail mc ms Q (32, lv, [.int x], ω, c, s) = Q (.returned (some (.int x))) ω c s := w_ireturnI dX3_sail_32 rfl
def P_X3_sails : y_Pool := ([(48, 3, 0, .int, false), (7, 3, 2, (.array .int), true), (13, 3, 3, (.array .int), true), (16, 3, 4, (.array .int), true), (52, 3, 1, .int, false)], [], [(208, .long (lN 24)), (68, .int (-1000001))], [(199, 1, 3, 2, (2, 46), F_X3_isPerson), (62, 0, 0, 1, (2, 45), F_X3_isRow), (58, 0, 0, 3, (1, 25), F_X3_in), (69, 1, 3, 2, (1, 21), F_X3_finding), (202, 1, 3, 2, (2, 46), F_X3_isWay), (205, 1, 3, 3, (3, 69), F_X3_goes)], [], [], [])
def M_X3_sails : y_Md := (cX3_sails, "YoungerBackModel", (6, (some FieldType.int)), (3, 69), false, P_X3_sails, [])
def F_X3_sails : y_Tr := y_F M_X3_sails
theorem nX3_sails : y_nL M_X3_sails = 6 := rfl
theorem fX3_sails_48_3 : y_ffP P_X3_sails 48 3 = some (0, .int, false) := rfl
theorem fX3_sails_7_3 : y_ffP P_X3_sails 7 3 = some (2, (.array .int), true) := rfl
theorem fX3_sails_13_3 : y_ffP P_X3_sails 13 3 = some (3, (.array .int), true) := rfl
theorem fX3_sails_16_3 : y_ffP P_X3_sails 16 3 = some (4, (.array .int), true) := rfl
theorem fX3_sails_52_3 : y_ffP P_X3_sails 52 3 = some (1, .int, false) := rfl
theorem wX3_sails_0 : y_w M_X3_sails mc ms Q (0, lv, st, ω, c, s) = y_ldA lv 0 (fun v => y_w M_X3_sails mc ms Q (1, lv, v :: st, ω, c, s)) := w_aload_n dX3_sails_0 rfl rfl
theorem wX3_sails_1 : y_w M_X3_sails mc ms Q (1, lv, st, ω, c, s) = y_w M_X3_sails mc ms Q (2, lv, .int 0 :: st, ω, c, s) := w_iconst dX3_sails_1 (v := 0) (by decide) rfl
theorem wX3_sails_2 : y_w M_X3_sails mc ms Q (2, lv, v :: .ref a :: r, ω, c, s) = y_pf P_X3_sails false 48 (ω.2 a) v (fun ci fs => y_w M_X3_sails mc ms Q (5, lv, r, y_hup ω a (.inr (ci, fs)), c, s)) := w_putfield dX3_sails_2 rfl rfl rfl
theorem wX3_sails_5 : y_w M_X3_sails mc ms Q (5, lv, st, ω, c, s) = y_ldA lv 0 (fun v => y_w M_X3_sails mc ms Q (6, lv, v :: st, ω, c, s)) := w_aload_n dX3_sails_5 rfl rfl
theorem wX3_sails_6 : y_w M_X3_sails mc ms Q (6, lv, st, ω, c, s) = y_ldI lv 1 (fun v => y_w M_X3_sails mc ms Q (7, lv, v :: st, ω, c, s)) := w_iload_n dX3_sails_6 rfl rfl
theorem wX3_sails_7 (hc : y_cls ω a = some 3) : y_w M_X3_sails mc ms Q (7, lv, v1 :: .ref a :: r, ω, c, s) = (y_cat r ≤ 8 ∧ F_X3_isPerson mc ms [.ref a, v1] ω c s (y_aft M_X3_sails 7 3 lv r (y_w M_X3_sails mc ms Q) Q)) := w_call1 (av := [v1]) (Or.inl ⟨⟨rfl, rfl⟩, rfl⟩) dX3_sails_7 rfl hc rfl (y_F_mono _) (y_dle rfl) (y_dle rfl) rfl rfl
theorem wX3_sails_10 : y_w M_X3_sails mc ms Q (10, lv, .int x :: r, ω, c, s) = ((x = 0 → y_w M_X3_sails mc ms Q (33, lv, r, ω, c, s)) ∧ (¬ (x = 0) → y_w M_X3_sails mc ms Q (13, lv, r, ω, c, s))) := w_if dX3_sails_10 (tgt := 33) rfl rfl rfl
theorem wX3_sails_13 : y_w M_X3_sails mc ms Q (13, lv, st, ω, c, s) = y_ldI lv 2 (fun v => y_w M_X3_sails mc ms Q (14, lv, v :: st, ω, c, s)) := w_iload_n dX3_sails_13 rfl rfl
theorem wX3_sails_14 : y_w M_X3_sails mc ms Q (14, lv, v0 :: r, ω, c, s) = (y_cat r ≤ 8 ∧ F_X3_isRow mc ms [v0] ω c s (y_aft M_X3_sails 14 3 lv r (y_w M_X3_sails mc ms Q) Q)) := w_call0 (av := [v0]) ⟨Or.inr ⟨rfl, rfl⟩, rfl⟩ dX3_sails_14 rfl (y_F_mono _) (y_dle rfl) (y_dle rfl) rfl rfl
theorem wX3_sails_17 : y_w M_X3_sails mc ms Q (17, lv, .int x :: r, ω, c, s) = ((x = 0 → y_w M_X3_sails mc ms Q (33, lv, r, ω, c, s)) ∧ (¬ (x = 0) → y_w M_X3_sails mc ms Q (20, lv, r, ω, c, s))) := w_if dX3_sails_17 (tgt := 33) rfl rfl rfl
theorem wX3_sails_20 : y_w M_X3_sails mc ms Q (20, lv, st, ω, c, s) = y_ldI lv 4 (fun v => y_w M_X3_sails mc ms Q (22, lv, v :: st, ω, c, s)) := w_iload dX3_sails_20 rfl
theorem wX3_sails_22 : y_w M_X3_sails mc ms Q (22, lv, .int x :: r, ω, c, s) = y_w M_X3_sails mc ms Q (23, lv, .long x.toInt64 :: r, ω, c, s) := w_i2l dX3_sails_22 rfl
theorem wX3_sails_23 : y_w M_X3_sails mc ms Q (23, lv, st, ω, c, s) = y_w M_X3_sails mc ms Q (24, lv, .long 1 :: st, ω, c, s) := w_lconst dX3_sails_23 (v := 1) (by decide) rfl
theorem wX3_sails_24 : y_w M_X3_sails mc ms Q (24, lv, st, ω, c, s) = y_w M_X3_sails mc ms Q (27, lv, .long (lN 24) :: st, ω, c, s) := w_ldc2_w dX3_sails_24 rfl rfl rfl
theorem wX3_sails_27 : y_w M_X3_sails mc ms Q (27, lv, v2 :: v1 :: v0 :: r, ω, c, s) = (y_cat r ≤ 8 ∧ F_X3_in mc ms [v0, v1, v2] ω c s (y_aft M_X3_sails 27 3 lv r (y_w M_X3_sails mc ms Q) Q)) := w_call0 (av := [v0, v1, v2]) ⟨Or.inr ⟨rfl, rfl⟩, rfl⟩ dX3_sails_27 rfl (y_F_mono _) (y_dle rfl) (y_dle rfl) rfl rfl
theorem wX3_sails_30 : y_w M_X3_sails mc ms Q (30, lv, .int x :: r, ω, c, s) = ((¬ x = 0 → y_w M_X3_sails mc ms Q (36, lv, r, ω, c, s)) ∧ (¬ (¬ x = 0) → y_w M_X3_sails mc ms Q (33, lv, r, ω, c, s))) := w_if dX3_sails_30 (tgt := 36) rfl rfl rfl
theorem wX3_sails_33 : y_w M_X3_sails mc ms Q (33, lv, st, ω, c, s) = y_w M_X3_sails mc ms Q (35, lv, .int (-1000001) :: st, ω, c, s) := w_ldc dX3_sails_33 rfl rfl rfl
theorem wX3_sails_35 : y_w M_X3_sails mc ms Q (35, lv, [.int x], ω, c, s) = Q (.returned (some (.int x))) ω c s := w_ireturnI dX3_sails_35 rfl
theorem wX3_sails_36 : y_w M_X3_sails mc ms Q (36, lv, st, ω, c, s) = y_ldA lv 0 (fun v => y_w M_X3_sails mc ms Q (37, lv, v :: st, ω, c, s)) := w_aload_n dX3_sails_36 rfl rfl
theorem wX3_sails_37 : y_w M_X3_sails mc ms Q (37, lv, .ref a :: r, ω, c, s) = y_gf P_X3_sails 7 (ω.2 a) (fun v => y_w M_X3_sails mc ms Q (40, lv, v :: r, ω, c, s)) := w_getfield dX3_sails_37 rfl rfl
theorem wX3_sails_40 : y_w M_X3_sails mc ms Q (40, lv, st, ω, c, s) = y_ldI lv 2 (fun v => y_w M_X3_sails mc ms Q (41, lv, v :: st, ω, c, s)) := w_iload_n dX3_sails_40 rfl rfl
theorem wX3_sails_41 : y_w M_X3_sails mc ms Q (41, lv, .int j :: .ref a :: r, ω, c, s) = y_rI (ω.2 a) j (fun x => y_w M_X3_sails mc ms Q (42, lv, .int x :: r, ω, c, s)) := w_iaload dX3_sails_41 rfl
theorem wX3_sails_42 : y_w M_X3_sails mc ms Q (42, lv, .int x :: r, ω, c, s) = ((0 ≤ x → y_w M_X3_sails mc ms Q (51, lv, r, ω, c, s)) ∧ (¬ (0 ≤ x) → y_w M_X3_sails mc ms Q (45, lv, r, ω, c, s))) := w_if dX3_sails_42 (tgt := 51) rfl rfl rfl
theorem wX3_sails_45 : y_w M_X3_sails mc ms Q (45, lv, st, ω, c, s) = y_ldA lv 0 (fun v => y_w M_X3_sails mc ms Q (46, lv, v :: st, ω, c, s)) := w_aload_n dX3_sails_45 rfl rfl
theorem wX3_sails_46 : y_w M_X3_sails mc ms Q (46, lv, st, ω, c, s) = y_w M_X3_sails mc ms Q (47, lv, .int 1 :: st, ω, c, s) := w_iconst dX3_sails_46 (v := 1) (by decide) rfl
theorem wX3_sails_47 (hc : y_cls ω a = some 3) : y_w M_X3_sails mc ms Q (47, lv, v1 :: .ref a :: r, ω, c, s) = (y_cat r ≤ 8 ∧ F_X3_finding mc ms [.ref a, v1] ω c s (y_aft M_X3_sails 47 3 lv r (y_w M_X3_sails mc ms Q) Q)) := w_call1 (av := [v1]) (Or.inl ⟨⟨rfl, rfl⟩, rfl⟩) dX3_sails_47 rfl hc rfl (y_F_mono _) (y_dle rfl) (y_dle rfl) rfl rfl
theorem wX3_sails_50 : y_w M_X3_sails mc ms Q (50, lv, [.int x], ω, c, s) = Q (.returned (some (.int x))) ω c s := w_ireturnI dX3_sails_50 rfl
theorem wX3_sails_51 : y_w M_X3_sails mc ms Q (51, lv, st, ω, c, s) = y_ldI lv 3 (fun v => y_w M_X3_sails mc ms Q (52, lv, v :: st, ω, c, s)) := w_iload_n dX3_sails_51 rfl rfl
theorem wX3_sails_52 : y_w M_X3_sails mc ms Q (52, lv, .int x :: r, ω, c, s) = ((x < 0 → y_w M_X3_sails mc ms Q (72, lv, r, ω, c, s)) ∧ (¬ (x < 0) → y_w M_X3_sails mc ms Q (55, lv, r, ω, c, s))) := w_if dX3_sails_52 (tgt := 72) rfl rfl rfl
theorem wX3_sails_55 : y_w M_X3_sails mc ms Q (55, lv, st, ω, c, s) = y_ldI lv 3 (fun v => y_w M_X3_sails mc ms Q (56, lv, v :: st, ω, c, s)) := w_iload_n dX3_sails_55 rfl rfl
theorem wX3_sails_56 : y_w M_X3_sails mc ms Q (56, lv, .int x :: r, ω, c, s) = y_w M_X3_sails mc ms Q (57, lv, .long x.toInt64 :: r, ω, c, s) := w_i2l dX3_sails_56 rfl
theorem wX3_sails_57 : y_w M_X3_sails mc ms Q (57, lv, st, ω, c, s) = y_ldI lv 4 (fun v => y_w M_X3_sails mc ms Q (59, lv, v :: st, ω, c, s)) := w_iload dX3_sails_57 rfl
theorem wX3_sails_59 : y_w M_X3_sails mc ms Q (59, lv, .int x :: r, ω, c, s) = y_w M_X3_sails mc ms Q (60, lv, .long x.toInt64 :: r, ω, c, s) := w_i2l dX3_sails_59 rfl
theorem wX3_sails_60 : y_w M_X3_sails mc ms Q (60, lv, .long w :: .long z :: r, ω, c, s) = y_w M_X3_sails mc ms Q (61, lv, .long (z + w) :: r, ω, c, s) := w_ladd dX3_sails_60 rfl
theorem wX3_sails_61 : y_w M_X3_sails mc ms Q (61, lv, st, ω, c, s) = y_ldA lv 0 (fun v => y_w M_X3_sails mc ms Q (62, lv, v :: st, ω, c, s)) := w_aload_n dX3_sails_61 rfl rfl
theorem wX3_sails_62 : y_w M_X3_sails mc ms Q (62, lv, .ref a :: r, ω, c, s) = y_gf P_X3_sails 13 (ω.2 a) (fun v => y_w M_X3_sails mc ms Q (65, lv, v :: r, ω, c, s)) := w_getfield dX3_sails_62 rfl rfl
theorem wX3_sails_65 : y_w M_X3_sails mc ms Q (65, lv, st, ω, c, s) = y_ldI lv 2 (fun v => y_w M_X3_sails mc ms Q (66, lv, v :: st, ω, c, s)) := w_iload_n dX3_sails_65 rfl rfl
theorem wX3_sails_66 : y_w M_X3_sails mc ms Q (66, lv, .int j :: .ref a :: r, ω, c, s) = y_rI (ω.2 a) j (fun x => y_w M_X3_sails mc ms Q (67, lv, .int x :: r, ω, c, s)) := w_iaload dX3_sails_66 rfl
theorem wX3_sails_67 : y_w M_X3_sails mc ms Q (67, lv, .int x :: r, ω, c, s) = y_w M_X3_sails mc ms Q (68, lv, .long x.toInt64 :: r, ω, c, s) := w_i2l dX3_sails_67 rfl
theorem wX3_sails_68 : y_w M_X3_sails mc ms Q (68, lv, .long w :: .long z :: r, ω, c, s) = y_w M_X3_sails mc ms Q (69, lv, .int (lg_cmp z w) :: r, ω, c, s) := w_lcmp dX3_sails_68 rfl
theorem wX3_sails_69 : y_w M_X3_sails mc ms Q (69, lv, .int x :: r, ω, c, s) = ((x ≤ 0 → y_w M_X3_sails mc ms Q (78, lv, r, ω, c, s)) ∧ (¬ (x ≤ 0) → y_w M_X3_sails mc ms Q (72, lv, r, ω, c, s))) := w_if dX3_sails_69 (tgt := 78) rfl rfl rfl
theorem wX3_sails_72 : y_w M_X3_sails mc ms Q (72, lv, st, ω, c, s) = y_ldA lv 0 (fun v => y_w M_X3_sails mc ms Q (73, lv, v :: st, ω, c, s)) := w_aload_n dX3_sails_72 rfl rfl
theorem wX3_sails_73 : y_w M_X3_sails mc ms Q (73, lv, st, ω, c, s) = y_w M_X3_sails mc ms Q (74, lv, .int (nI 2) :: st, ω, c, s) := w_iconst dX3_sails_73 (v := (nI 2)) (by decide) rfl
theorem wX3_sails_74 (hc : y_cls ω a = some 3) : y_w M_X3_sails mc ms Q (74, lv, v1 :: .ref a :: r, ω, c, s) = (y_cat r ≤ 8 ∧ F_X3_finding mc ms [.ref a, v1] ω c s (y_aft M_X3_sails 74 3 lv r (y_w M_X3_sails mc ms Q) Q)) := w_call1 (av := [v1]) (Or.inl ⟨⟨rfl, rfl⟩, rfl⟩) dX3_sails_74 rfl hc rfl (y_F_mono _) (y_dle rfl) (y_dle rfl) rfl rfl
theorem wX3_sails_77 : y_w M_X3_sails mc ms Q (77, lv, [.int x], ω, c, s) = Q (.returned (some (.int x))) ω c s := w_ireturnI dX3_sails_77 rfl
theorem wX3_sails_78 : y_w M_X3_sails mc ms Q (78, lv, st, ω, c, s) = y_w M_X3_sails mc ms Q (79, lv, .int 0 :: st, ω, c, s) := w_iconst dX3_sails_78 (v := 0) (by decide) rfl
theorem wX3_sails_79 : y_w M_X3_sails mc ms Q (79, lv, .int x :: r, ω, c, s) = y_w M_X3_sails mc ms Q (81, (5, .int x) :: y_kill 5 lv, r, ω, c, s) := w_istore dX3_sails_79 (y_dle rfl) rfl
theorem wX3_sails_81 : y_w M_X3_sails mc ms Q (81, lv, st, ω, c, s) = y_ldI lv 5 (fun v => y_w M_X3_sails mc ms Q (83, lv, v :: st, ω, c, s)) := w_iload dX3_sails_81 rfl
theorem wX3_sails_83 : y_w M_X3_sails mc ms Q (83, lv, st, ω, c, s) = y_ldI lv 4 (fun v => y_w M_X3_sails mc ms Q (85, lv, v :: st, ω, c, s)) := w_iload dX3_sails_83 rfl
theorem wX3_sails_85 : y_w M_X3_sails mc ms Q (85, lv, .int y :: .int x :: r, ω, c, s) = ((y ≤ x → y_w M_X3_sails mc ms Q (118, lv, r, ω, c, s)) ∧ (¬ (y ≤ x) → y_w M_X3_sails mc ms Q (88, lv, r, ω, c, s))) := w_icmp dX3_sails_85 (tgt := 118) rfl rfl rfl
theorem wX3_sails_88 : y_w M_X3_sails mc ms Q (88, lv, st, ω, c, s) = y_ldA lv 0 (fun v => y_w M_X3_sails mc ms Q (89, lv, v :: st, ω, c, s)) := w_aload_n dX3_sails_88 rfl rfl
theorem wX3_sails_89 : y_w M_X3_sails mc ms Q (89, lv, st, ω, c, s) = y_ldA lv 0 (fun v => y_w M_X3_sails mc ms Q (90, lv, v :: st, ω, c, s)) := w_aload_n dX3_sails_89 rfl rfl
theorem wX3_sails_90 : y_w M_X3_sails mc ms Q (90, lv, .ref a :: r, ω, c, s) = y_gf P_X3_sails 16 (ω.2 a) (fun v => y_w M_X3_sails mc ms Q (93, lv, v :: r, ω, c, s)) := w_getfield dX3_sails_90 rfl rfl
theorem wX3_sails_93 : y_w M_X3_sails mc ms Q (93, lv, st, ω, c, s) = y_w M_X3_sails mc ms Q (95, lv, .int (nI 40) :: st, ω, c, s) := w_bipush dX3_sails_93 (v := (nI 40)) (by decide) rfl
theorem wX3_sails_95 : y_w M_X3_sails mc ms Q (95, lv, st, ω, c, s) = y_ldI lv 2 (fun v => y_w M_X3_sails mc ms Q (96, lv, v :: st, ω, c, s)) := w_iload_n dX3_sails_95 rfl rfl
theorem wX3_sails_96 : y_w M_X3_sails mc ms Q (96, lv, .int y :: .int x :: r, ω, c, s) = y_w M_X3_sails mc ms Q (97, lv, .int (x * y) :: r, ω, c, s) := w_imul dX3_sails_96 rfl
theorem wX3_sails_97 : y_w M_X3_sails mc ms Q (97, lv, st, ω, c, s) = y_ldI lv 3 (fun v => y_w M_X3_sails mc ms Q (98, lv, v :: st, ω, c, s)) := w_iload_n dX3_sails_97 rfl rfl
theorem wX3_sails_98 : y_w M_X3_sails mc ms Q (98, lv, .int y :: .int x :: r, ω, c, s) = y_w M_X3_sails mc ms Q (99, lv, .int (x + y) :: r, ω, c, s) := w_iadd dX3_sails_98 rfl
theorem wX3_sails_99 : y_w M_X3_sails mc ms Q (99, lv, st, ω, c, s) = y_ldI lv 5 (fun v => y_w M_X3_sails mc ms Q (101, lv, v :: st, ω, c, s)) := w_iload dX3_sails_99 rfl
theorem wX3_sails_101 : y_w M_X3_sails mc ms Q (101, lv, .int y :: .int x :: r, ω, c, s) = y_w M_X3_sails mc ms Q (102, lv, .int (x + y) :: r, ω, c, s) := w_iadd dX3_sails_101 rfl
theorem wX3_sails_102 : y_w M_X3_sails mc ms Q (102, lv, .int j :: .ref a :: r, ω, c, s) = y_rI (ω.2 a) j (fun x => y_w M_X3_sails mc ms Q (103, lv, .int x :: r, ω, c, s)) := w_iaload dX3_sails_102 rfl
theorem wX3_sails_103 (hc : y_cls ω a = some 3) : y_w M_X3_sails mc ms Q (103, lv, v1 :: .ref a :: r, ω, c, s) = (y_cat r ≤ 8 ∧ F_X3_isWay mc ms [.ref a, v1] ω c s (y_aft M_X3_sails 103 3 lv r (y_w M_X3_sails mc ms Q) Q)) := w_call1 (av := [v1]) (Or.inl ⟨⟨rfl, rfl⟩, rfl⟩) dX3_sails_103 rfl hc rfl (y_F_mono _) (y_dle rfl) (y_dle rfl) rfl rfl
theorem wX3_sails_106 : y_w M_X3_sails mc ms Q (106, lv, .int x :: r, ω, c, s) = ((¬ x = 0 → y_w M_X3_sails mc ms Q (112, lv, r, ω, c, s)) ∧ (¬ (¬ x = 0) → y_w M_X3_sails mc ms Q (109, lv, r, ω, c, s))) := w_if dX3_sails_106 (tgt := 112) rfl rfl rfl
theorem wX3_sails_109 : y_w M_X3_sails mc ms Q (109, lv, st, ω, c, s) = y_w M_X3_sails mc ms Q (111, lv, .int (-1000001) :: st, ω, c, s) := w_ldc dX3_sails_109 rfl rfl rfl
theorem wX3_sails_111 : y_w M_X3_sails mc ms Q (111, lv, [.int x], ω, c, s) = Q (.returned (some (.int x))) ω c s := w_ireturnI dX3_sails_111 rfl
theorem wX3_sails_112 : y_w M_X3_sails mc ms Q (112, lv, st, ω, c, s) = y_inc lv 5 (fun x => y_w M_X3_sails mc ms Q (115, (5, .int (x + 1)) :: y_kill 5 lv, st, ω, c, s)) := w_iinc dX3_sails_112 (d := 1) (by decide) (y_dle rfl) rfl
theorem wX3_sails_115 : y_w M_X3_sails mc ms Q (115, lv, st, ω, c, s) = ∃ lv2, y_lsub lv2 lv ∧ y_w M_X3_sails mc ms Q (81, lv2, st, ω, c, s) := w_back dX3_sails_115 (tgt := 81) (by decide) rfl
theorem wX3_sails_118 : y_w M_X3_sails mc ms Q (118, lv, st, ω, c, s) = y_ldA lv 0 (fun v => y_w M_X3_sails mc ms Q (119, lv, v :: st, ω, c, s)) := w_aload_n dX3_sails_118 rfl rfl
theorem wX3_sails_119 : y_w M_X3_sails mc ms Q (119, lv, st, ω, c, s) = y_w M_X3_sails mc ms Q (120, lv, .int 0 :: st, ω, c, s) := w_iconst dX3_sails_119 (v := 0) (by decide) rfl
theorem wX3_sails_120 : y_w M_X3_sails mc ms Q (120, lv, v :: .ref a :: r, ω, c, s) = y_pf P_X3_sails false 52 (ω.2 a) v (fun ci fs => y_w M_X3_sails mc ms Q (123, lv, r, y_hup ω a (.inr (ci, fs)), c, s)) := w_putfield dX3_sails_120 rfl rfl rfl
theorem wX3_sails_123 : y_w M_X3_sails mc ms Q (123, lv, st, ω, c, s) = y_w M_X3_sails mc ms Q (124, lv, .int 0 :: st, ω, c, s) := w_iconst dX3_sails_123 (v := 0) (by decide) rfl
theorem wX3_sails_124 : y_w M_X3_sails mc ms Q (124, lv, .int x :: r, ω, c, s) = y_w M_X3_sails mc ms Q (126, (5, .int x) :: y_kill 5 lv, r, ω, c, s) := w_istore dX3_sails_124 (y_dle rfl) rfl
theorem wX3_sails_126 : y_w M_X3_sails mc ms Q (126, lv, st, ω, c, s) = y_ldI lv 5 (fun v => y_w M_X3_sails mc ms Q (128, lv, v :: st, ω, c, s)) := w_iload dX3_sails_126 rfl
theorem wX3_sails_128 : y_w M_X3_sails mc ms Q (128, lv, st, ω, c, s) = y_ldI lv 4 (fun v => y_w M_X3_sails mc ms Q (130, lv, v :: st, ω, c, s)) := w_iload dX3_sails_128 rfl
theorem wX3_sails_130 : y_w M_X3_sails mc ms Q (130, lv, .int y :: .int x :: r, ω, c, s) = ((y ≤ x → y_w M_X3_sails mc ms Q (161, lv, r, ω, c, s)) ∧ (¬ (y ≤ x) → y_w M_X3_sails mc ms Q (133, lv, r, ω, c, s))) := w_icmp dX3_sails_130 (tgt := 161) rfl rfl rfl
theorem wX3_sails_133 : y_w M_X3_sails mc ms Q (133, lv, st, ω, c, s) = y_ldA lv 0 (fun v => y_w M_X3_sails mc ms Q (134, lv, v :: st, ω, c, s)) := w_aload_n dX3_sails_133 rfl rfl
theorem wX3_sails_134 : y_w M_X3_sails mc ms Q (134, lv, st, ω, c, s) = y_ldI lv 1 (fun v => y_w M_X3_sails mc ms Q (135, lv, v :: st, ω, c, s)) := w_iload_n dX3_sails_134 rfl rfl
theorem wX3_sails_135 : y_w M_X3_sails mc ms Q (135, lv, st, ω, c, s) = y_ldA lv 0 (fun v => y_w M_X3_sails mc ms Q (136, lv, v :: st, ω, c, s)) := w_aload_n dX3_sails_135 rfl rfl
theorem wX3_sails_136 : y_w M_X3_sails mc ms Q (136, lv, .ref a :: r, ω, c, s) = y_gf P_X3_sails 16 (ω.2 a) (fun v => y_w M_X3_sails mc ms Q (139, lv, v :: r, ω, c, s)) := w_getfield dX3_sails_136 rfl rfl
theorem wX3_sails_139 : y_w M_X3_sails mc ms Q (139, lv, st, ω, c, s) = y_w M_X3_sails mc ms Q (141, lv, .int (nI 40) :: st, ω, c, s) := w_bipush dX3_sails_139 (v := (nI 40)) (by decide) rfl
theorem wX3_sails_141 : y_w M_X3_sails mc ms Q (141, lv, st, ω, c, s) = y_ldI lv 2 (fun v => y_w M_X3_sails mc ms Q (142, lv, v :: st, ω, c, s)) := w_iload_n dX3_sails_141 rfl rfl
theorem wX3_sails_142 : y_w M_X3_sails mc ms Q (142, lv, .int y :: .int x :: r, ω, c, s) = y_w M_X3_sails mc ms Q (143, lv, .int (x * y) :: r, ω, c, s) := w_imul dX3_sails_142 rfl
theorem wX3_sails_143 : y_w M_X3_sails mc ms Q (143, lv, st, ω, c, s) = y_ldI lv 3 (fun v => y_w M_X3_sails mc ms Q (144, lv, v :: st, ω, c, s)) := w_iload_n dX3_sails_143 rfl rfl
theorem wX3_sails_144 : y_w M_X3_sails mc ms Q (144, lv, .int y :: .int x :: r, ω, c, s) = y_w M_X3_sails mc ms Q (145, lv, .int (x + y) :: r, ω, c, s) := w_iadd dX3_sails_144 rfl
theorem wX3_sails_145 : y_w M_X3_sails mc ms Q (145, lv, st, ω, c, s) = y_ldI lv 5 (fun v => y_w M_X3_sails mc ms Q (147, lv, v :: st, ω, c, s)) := w_iload dX3_sails_145 rfl
theorem wX3_sails_147 : y_w M_X3_sails mc ms Q (147, lv, .int y :: .int x :: r, ω, c, s) = y_w M_X3_sails mc ms Q (148, lv, .int (x + y) :: r, ω, c, s) := w_iadd dX3_sails_147 rfl
theorem wX3_sails_148 : y_w M_X3_sails mc ms Q (148, lv, .int j :: .ref a :: r, ω, c, s) = y_rI (ω.2 a) j (fun x => y_w M_X3_sails mc ms Q (149, lv, .int x :: r, ω, c, s)) := w_iaload dX3_sails_148 rfl
theorem wX3_sails_149 (hc : y_cls ω a = some 3) : y_w M_X3_sails mc ms Q (149, lv, v2 :: v1 :: .ref a :: r, ω, c, s) = (y_cat r ≤ 8 ∧ F_X3_goes mc ms [.ref a, v1, v2] ω c s (y_aft M_X3_sails 149 3 lv r (y_w M_X3_sails mc ms Q) Q)) := w_call1 (av := [v1, v2]) (Or.inl ⟨⟨rfl, rfl⟩, rfl⟩) dX3_sails_149 rfl hc rfl (y_F_mono _) (y_dle rfl) (y_dle rfl) rfl rfl
theorem wX3_sails_152 : y_w M_X3_sails mc ms Q (152, lv, .int x :: r, ω, c, s) = ((x < 0 → y_w M_X3_sails mc ms Q (161, lv, r, ω, c, s)) ∧ (¬ (x < 0) → y_w M_X3_sails mc ms Q (155, lv, r, ω, c, s))) := w_if dX3_sails_152 (tgt := 161) rfl rfl rfl
theorem wX3_sails_155 : y_w M_X3_sails mc ms Q (155, lv, st, ω, c, s) = y_inc lv 5 (fun x => y_w M_X3_sails mc ms Q (158, (5, .int (x + 1)) :: y_kill 5 lv, st, ω, c, s)) := w_iinc dX3_sails_155 (d := 1) (by decide) (y_dle rfl) rfl
theorem wX3_sails_158 : y_w M_X3_sails mc ms Q (158, lv, st, ω, c, s) = ∃ lv2, y_lsub lv2 lv ∧ y_w M_X3_sails mc ms Q (126, lv2, st, ω, c, s) := w_back dX3_sails_158 (tgt := 126) (by decide) rfl
theorem wX3_sails_161 : y_w M_X3_sails mc ms Q (161, lv, st, ω, c, s) = y_ldI lv 5 (fun v => y_w M_X3_sails mc ms Q (163, lv, v :: st, ω, c, s)) := w_iload dX3_sails_161 rfl
theorem wX3_sails_163 : y_w M_X3_sails mc ms Q (163, lv, [.int x], ω, c, s) = Q (.returned (some (.int x))) ω c s := w_ireturnI dX3_sails_163 rfl
def P_X3_stay : y_Pool := ([(48, 3, 0, .int, false)], [], [(210, .long (lN 99)), (68, .int (-1000001)), (78, .int (-1000003))], [(199, 1, 3, 2, (2, 46), F_X3_isPerson), (58, 0, 0, 3, (1, 25), F_X3_in), (181, 1, 3, 3, (1, 22), F_X3_of), (189, 1, 3, 1, (1, 21), F_X3_keep), (195, 1, 3, 4, (1, 23), F_X3_ages)], [], [], [])
def M_X3_stay : y_Md := (cX3_stay, "YoungerBackModel", (3, (some FieldType.int)), (2, 46), false, P_X3_stay, [])
def F_X3_stay : y_Tr := y_F M_X3_stay
theorem nX3_stay : y_nL M_X3_stay = 3 := rfl
theorem fX3_stay_48_3 : y_ffP P_X3_stay 48 3 = some (0, .int, false) := rfl
theorem wX3_stay_0 : y_w M_X3_stay mc ms Q (0, lv, st, ω, c, s) = y_ldA lv 0 (fun v => y_w M_X3_stay mc ms Q (1, lv, v :: st, ω, c, s)) := w_aload_n dX3_stay_0 rfl rfl
theorem wX3_stay_1 : y_w M_X3_stay mc ms Q (1, lv, st, ω, c, s) = y_w M_X3_stay mc ms Q (2, lv, .int 0 :: st, ω, c, s) := w_iconst dX3_stay_1 (v := 0) (by decide) rfl
theorem wX3_stay_2 : y_w M_X3_stay mc ms Q (2, lv, v :: .ref a :: r, ω, c, s) = y_pf P_X3_stay false 48 (ω.2 a) v (fun ci fs => y_w M_X3_stay mc ms Q (5, lv, r, y_hup ω a (.inr (ci, fs)), c, s)) := w_putfield dX3_stay_2 rfl rfl rfl
theorem wX3_stay_5 : y_w M_X3_stay mc ms Q (5, lv, st, ω, c, s) = y_ldA lv 0 (fun v => y_w M_X3_stay mc ms Q (6, lv, v :: st, ω, c, s)) := w_aload_n dX3_stay_5 rfl rfl
theorem wX3_stay_6 : y_w M_X3_stay mc ms Q (6, lv, st, ω, c, s) = y_ldI lv 1 (fun v => y_w M_X3_stay mc ms Q (7, lv, v :: st, ω, c, s)) := w_iload_n dX3_stay_6 rfl rfl
theorem wX3_stay_7 (hc : y_cls ω a = some 3) : y_w M_X3_stay mc ms Q (7, lv, v1 :: .ref a :: r, ω, c, s) = (y_cat r ≤ 8 ∧ F_X3_isPerson mc ms [.ref a, v1] ω c s (y_aft M_X3_stay 7 3 lv r (y_w M_X3_stay mc ms Q) Q)) := w_call1 (av := [v1]) (Or.inl ⟨⟨rfl, rfl⟩, rfl⟩) dX3_stay_7 rfl hc rfl (y_F_mono _) (y_dle rfl) (y_dle rfl) rfl rfl
theorem wX3_stay_10 : y_w M_X3_stay mc ms Q (10, lv, .int x :: r, ω, c, s) = ((x = 0 → y_w M_X3_stay mc ms Q (25, lv, r, ω, c, s)) ∧ (¬ (x = 0) → y_w M_X3_stay mc ms Q (13, lv, r, ω, c, s))) := w_if dX3_stay_10 (tgt := 25) rfl rfl rfl
theorem wX3_stay_13 : y_w M_X3_stay mc ms Q (13, lv, st, ω, c, s) = y_ldI lv 2 (fun v => y_w M_X3_stay mc ms Q (14, lv, v :: st, ω, c, s)) := w_iload_n dX3_stay_13 rfl rfl
theorem wX3_stay_14 : y_w M_X3_stay mc ms Q (14, lv, .int x :: r, ω, c, s) = y_w M_X3_stay mc ms Q (15, lv, .long x.toInt64 :: r, ω, c, s) := w_i2l dX3_stay_14 rfl
theorem wX3_stay_15 : y_w M_X3_stay mc ms Q (15, lv, st, ω, c, s) = y_w M_X3_stay mc ms Q (16, lv, .long 1 :: st, ω, c, s) := w_lconst dX3_stay_15 (v := 1) (by decide) rfl
theorem wX3_stay_16 : y_w M_X3_stay mc ms Q (16, lv, st, ω, c, s) = y_w M_X3_stay mc ms Q (19, lv, .long (lN 99) :: st, ω, c, s) := w_ldc2_w dX3_stay_16 rfl rfl rfl
theorem wX3_stay_19 : y_w M_X3_stay mc ms Q (19, lv, v2 :: v1 :: v0 :: r, ω, c, s) = (y_cat r ≤ 8 ∧ F_X3_in mc ms [v0, v1, v2] ω c s (y_aft M_X3_stay 19 3 lv r (y_w M_X3_stay mc ms Q) Q)) := w_call0 (av := [v0, v1, v2]) ⟨Or.inr ⟨rfl, rfl⟩, rfl⟩ dX3_stay_19 rfl (y_F_mono _) (y_dle rfl) (y_dle rfl) rfl rfl
theorem wX3_stay_22 : y_w M_X3_stay mc ms Q (22, lv, .int x :: r, ω, c, s) = ((¬ x = 0 → y_w M_X3_stay mc ms Q (28, lv, r, ω, c, s)) ∧ (¬ (¬ x = 0) → y_w M_X3_stay mc ms Q (25, lv, r, ω, c, s))) := w_if dX3_stay_22 (tgt := 28) rfl rfl rfl
theorem wX3_stay_25 : y_w M_X3_stay mc ms Q (25, lv, st, ω, c, s) = y_w M_X3_stay mc ms Q (27, lv, .int (-1000001) :: st, ω, c, s) := w_ldc dX3_stay_25 rfl rfl rfl
theorem wX3_stay_27 : y_w M_X3_stay mc ms Q (27, lv, [.int x], ω, c, s) = Q (.returned (some (.int x))) ω c s := w_ireturnI dX3_stay_27 rfl
theorem wX3_stay_28 : y_w M_X3_stay mc ms Q (28, lv, st, ω, c, s) = y_ldA lv 0 (fun v => y_w M_X3_stay mc ms Q (29, lv, v :: st, ω, c, s)) := w_aload_n dX3_stay_28 rfl rfl
theorem wX3_stay_29 : y_w M_X3_stay mc ms Q (29, lv, st, ω, c, s) = y_ldI lv 1 (fun v => y_w M_X3_stay mc ms Q (30, lv, v :: st, ω, c, s)) := w_iload_n dX3_stay_29 rfl rfl
theorem wX3_stay_30 : y_w M_X3_stay mc ms Q (30, lv, st, ω, c, s) = y_w M_X3_stay mc ms Q (31, lv, .int (nI 3) :: st, ω, c, s) := w_iconst dX3_stay_30 (v := (nI 3)) (by decide) rfl
theorem wX3_stay_31 (hc : y_cls ω a = some 3) : y_w M_X3_stay mc ms Q (31, lv, v2 :: v1 :: .ref a :: r, ω, c, s) = (y_cat r ≤ 8 ∧ F_X3_of mc ms [.ref a, v1, v2] ω c s (y_aft M_X3_stay 31 3 lv r (y_w M_X3_stay mc ms Q) Q)) := w_call1 (av := [v1, v2]) (Or.inl ⟨⟨rfl, rfl⟩, rfl⟩) dX3_stay_31 rfl hc rfl (y_F_mono _) (y_dle rfl) (y_dle rfl) rfl rfl
theorem wX3_stay_34 : y_w M_X3_stay mc ms Q (34, lv, st, ω, c, s) = y_ldI lv 2 (fun v => y_w M_X3_stay mc ms Q (35, lv, v :: st, ω, c, s)) := w_iload_n dX3_stay_34 rfl rfl
theorem wX3_stay_35 : y_w M_X3_stay mc ms Q (35, lv, .int y :: .int x :: r, ω, c, s) = y_w M_X3_stay mc ms Q (36, lv, .int (x + y) :: r, ω, c, s) := w_iadd dX3_stay_35 rfl
theorem wX3_stay_36 : y_w M_X3_stay mc ms Q (36, lv, st, ω, c, s) = y_w M_X3_stay mc ms Q (39, lv, .int (nI 200) :: st, ω, c, s) := w_sipush dX3_stay_36 (v := (nI 200)) (by decide) rfl
theorem wX3_stay_39 : y_w M_X3_stay mc ms Q (39, lv, .int y :: .int x :: r, ω, c, s) = ((x ≤ y → y_w M_X3_stay mc ms Q (45, lv, r, ω, c, s)) ∧ (¬ (x ≤ y) → y_w M_X3_stay mc ms Q (42, lv, r, ω, c, s))) := w_icmp dX3_stay_39 (tgt := 45) rfl rfl rfl
theorem wX3_stay_42 : y_w M_X3_stay mc ms Q (42, lv, st, ω, c, s) = y_w M_X3_stay mc ms Q (44, lv, .int (-1000003) :: st, ω, c, s) := w_ldc dX3_stay_42 rfl rfl rfl
theorem wX3_stay_44 : y_w M_X3_stay mc ms Q (44, lv, [.int x], ω, c, s) = Q (.returned (some (.int x))) ω c s := w_ireturnI dX3_stay_44 rfl
theorem wX3_stay_45 : y_w M_X3_stay mc ms Q (45, lv, st, ω, c, s) = y_ldA lv 0 (fun v => y_w M_X3_stay mc ms Q (46, lv, v :: st, ω, c, s)) := w_aload_n dX3_stay_45 rfl rfl
theorem wX3_stay_46 (hc : y_cls ω a = some 3) : y_w M_X3_stay mc ms Q (46, lv, .ref a :: r, ω, c, s) = (y_cat r ≤ 8 ∧ F_X3_keep mc ms [.ref a] ω c s (y_aft M_X3_stay 46 3 lv r (y_w M_X3_stay mc ms Q) Q)) := w_call1 (av := []) (Or.inl ⟨⟨rfl, rfl⟩, rfl⟩) dX3_stay_46 rfl hc rfl (y_F_mono _) (y_dle rfl) (y_dle rfl) rfl rfl
theorem wX3_stay_49 : y_w M_X3_stay mc ms Q (49, lv, st, ω, c, s) = y_ldA lv 0 (fun v => y_w M_X3_stay mc ms Q (50, lv, v :: st, ω, c, s)) := w_aload_n dX3_stay_49 rfl rfl
theorem wX3_stay_50 : y_w M_X3_stay mc ms Q (50, lv, st, ω, c, s) = y_ldI lv 1 (fun v => y_w M_X3_stay mc ms Q (51, lv, v :: st, ω, c, s)) := w_iload_n dX3_stay_50 rfl rfl
theorem wX3_stay_51 : y_w M_X3_stay mc ms Q (51, lv, st, ω, c, s) = y_ldI lv 2 (fun v => y_w M_X3_stay mc ms Q (52, lv, v :: st, ω, c, s)) := w_iload_n dX3_stay_51 rfl rfl
theorem wX3_stay_52 : y_w M_X3_stay mc ms Q (52, lv, st, ω, c, s) = y_ldI lv 2 (fun v => y_w M_X3_stay mc ms Q (53, lv, v :: st, ω, c, s)) := w_iload_n dX3_stay_52 rfl rfl
theorem wX3_stay_53 (hc : y_cls ω a = some 3) : y_w M_X3_stay mc ms Q (53, lv, v3 :: v2 :: v1 :: .ref a :: r, ω, c, s) = (y_cat r ≤ 8 ∧ F_X3_ages mc ms [.ref a, v1, v2, v3] ω c s (y_aft M_X3_stay 53 3 lv r (y_w M_X3_stay mc ms Q) Q)) := w_call1 (av := [v1, v2, v3]) (Or.inl ⟨⟨rfl, rfl⟩, rfl⟩) dX3_stay_53 rfl hc rfl (y_F_mono _) (y_dle rfl) (y_dle rfl) rfl rfl
theorem wX3_stay_56 : y_w M_X3_stay mc ms Q (56, lv, st, ω, c, s) = y_ldA lv 0 (fun v => y_w M_X3_stay mc ms Q (57, lv, v :: st, ω, c, s)) := w_aload_n dX3_stay_56 rfl rfl
theorem wX3_stay_57 : y_w M_X3_stay mc ms Q (57, lv, st, ω, c, s) = y_ldI lv 1 (fun v => y_w M_X3_stay mc ms Q (58, lv, v :: st, ω, c, s)) := w_iload_n dX3_stay_57 rfl rfl
theorem wX3_stay_58 : y_w M_X3_stay mc ms Q (58, lv, st, ω, c, s) = y_w M_X3_stay mc ms Q (59, lv, .int (nI 4) :: st, ω, c, s) := w_iconst dX3_stay_58 (v := (nI 4)) (by decide) rfl
theorem wX3_stay_59 (hc : y_cls ω a = some 3) : y_w M_X3_stay mc ms Q (59, lv, v2 :: v1 :: .ref a :: r, ω, c, s) = (y_cat r ≤ 8 ∧ F_X3_of mc ms [.ref a, v1, v2] ω c s (y_aft M_X3_stay 59 3 lv r (y_w M_X3_stay mc ms Q) Q)) := w_call1 (av := [v1, v2]) (Or.inl ⟨⟨rfl, rfl⟩, rfl⟩) dX3_stay_59 rfl hc rfl (y_F_mono _) (y_dle rfl) (y_dle rfl) rfl rfl
theorem wX3_stay_62 : y_w M_X3_stay mc ms Q (62, lv, [.int x], ω, c, s) = Q (.returned (some (.int x))) ω c s := w_ireturnI dX3_stay_62 rfl
def P_X3_meet : y_Pool := ([(48, 3, 0, .int, false)], [], [(68, .int (-1000001)), (188, .int (-1000002))], [(199, 1, 3, 2, (2, 46), F_X3_isPerson), (181, 1, 3, 3, (1, 22), F_X3_of), (189, 1, 3, 1, (1, 21), F_X3_keep), (195, 1, 3, 4, (1, 23), F_X3_ages)], [], [], [])
def M_X3_meet : y_Md := (cX3_meet, "YoungerBackModel", (4, (some FieldType.int)), (2, 46), false, P_X3_meet, [])
def F_X3_meet : y_Tr := y_F M_X3_meet
theorem nX3_meet : y_nL M_X3_meet = 4 := rfl
theorem fX3_meet_48_3 : y_ffP P_X3_meet 48 3 = some (0, .int, false) := rfl
theorem wX3_meet_0 : y_w M_X3_meet mc ms Q (0, lv, st, ω, c, s) = y_ldA lv 0 (fun v => y_w M_X3_meet mc ms Q (1, lv, v :: st, ω, c, s)) := w_aload_n dX3_meet_0 rfl rfl
theorem wX3_meet_1 : y_w M_X3_meet mc ms Q (1, lv, st, ω, c, s) = y_w M_X3_meet mc ms Q (2, lv, .int 0 :: st, ω, c, s) := w_iconst dX3_meet_1 (v := 0) (by decide) rfl
theorem wX3_meet_2 : y_w M_X3_meet mc ms Q (2, lv, v :: .ref a :: r, ω, c, s) = y_pf P_X3_meet false 48 (ω.2 a) v (fun ci fs => y_w M_X3_meet mc ms Q (5, lv, r, y_hup ω a (.inr (ci, fs)), c, s)) := w_putfield dX3_meet_2 rfl rfl rfl
theorem wX3_meet_5 : y_w M_X3_meet mc ms Q (5, lv, st, ω, c, s) = y_ldA lv 0 (fun v => y_w M_X3_meet mc ms Q (6, lv, v :: st, ω, c, s)) := w_aload_n dX3_meet_5 rfl rfl
theorem wX3_meet_6 : y_w M_X3_meet mc ms Q (6, lv, st, ω, c, s) = y_ldI lv 1 (fun v => y_w M_X3_meet mc ms Q (7, lv, v :: st, ω, c, s)) := w_iload_n dX3_meet_6 rfl rfl
theorem wX3_meet_7 (hc : y_cls ω a = some 3) : y_w M_X3_meet mc ms Q (7, lv, v1 :: .ref a :: r, ω, c, s) = (y_cat r ≤ 8 ∧ F_X3_isPerson mc ms [.ref a, v1] ω c s (y_aft M_X3_meet 7 3 lv r (y_w M_X3_meet mc ms Q) Q)) := w_call1 (av := [v1]) (Or.inl ⟨⟨rfl, rfl⟩, rfl⟩) dX3_meet_7 rfl hc rfl (y_F_mono _) (y_dle rfl) (y_dle rfl) rfl rfl
theorem wX3_meet_10 : y_w M_X3_meet mc ms Q (10, lv, .int x :: r, ω, c, s) = ((x = 0 → y_w M_X3_meet mc ms Q (26, lv, r, ω, c, s)) ∧ (¬ (x = 0) → y_w M_X3_meet mc ms Q (13, lv, r, ω, c, s))) := w_if dX3_meet_10 (tgt := 26) rfl rfl rfl
theorem wX3_meet_13 : y_w M_X3_meet mc ms Q (13, lv, st, ω, c, s) = y_ldA lv 0 (fun v => y_w M_X3_meet mc ms Q (14, lv, v :: st, ω, c, s)) := w_aload_n dX3_meet_13 rfl rfl
theorem wX3_meet_14 : y_w M_X3_meet mc ms Q (14, lv, st, ω, c, s) = y_ldI lv 2 (fun v => y_w M_X3_meet mc ms Q (15, lv, v :: st, ω, c, s)) := w_iload_n dX3_meet_14 rfl rfl
theorem wX3_meet_15 (hc : y_cls ω a = some 3) : y_w M_X3_meet mc ms Q (15, lv, v1 :: .ref a :: r, ω, c, s) = (y_cat r ≤ 8 ∧ F_X3_isPerson mc ms [.ref a, v1] ω c s (y_aft M_X3_meet 15 3 lv r (y_w M_X3_meet mc ms Q) Q)) := w_call1 (av := [v1]) (Or.inl ⟨⟨rfl, rfl⟩, rfl⟩) dX3_meet_15 rfl hc rfl (y_F_mono _) (y_dle rfl) (y_dle rfl) rfl rfl
theorem wX3_meet_18 : y_w M_X3_meet mc ms Q (18, lv, .int x :: r, ω, c, s) = ((x = 0 → y_w M_X3_meet mc ms Q (26, lv, r, ω, c, s)) ∧ (¬ (x = 0) → y_w M_X3_meet mc ms Q (21, lv, r, ω, c, s))) := w_if dX3_meet_18 (tgt := 26) rfl rfl rfl
theorem wX3_meet_21 : y_w M_X3_meet mc ms Q (21, lv, st, ω, c, s) = y_ldI lv 1 (fun v => y_w M_X3_meet mc ms Q (22, lv, v :: st, ω, c, s)) := w_iload_n dX3_meet_21 rfl rfl
theorem wX3_meet_22 : y_w M_X3_meet mc ms Q (22, lv, st, ω, c, s) = y_ldI lv 2 (fun v => y_w M_X3_meet mc ms Q (23, lv, v :: st, ω, c, s)) := w_iload_n dX3_meet_22 rfl rfl
theorem wX3_meet_23 : y_w M_X3_meet mc ms Q (23, lv, .int y :: .int x :: r, ω, c, s) = ((¬ x = y → y_w M_X3_meet mc ms Q (29, lv, r, ω, c, s)) ∧ (¬ (¬ x = y) → y_w M_X3_meet mc ms Q (26, lv, r, ω, c, s))) := w_icmp dX3_meet_23 (tgt := 29) rfl rfl rfl
theorem wX3_meet_26 : y_w M_X3_meet mc ms Q (26, lv, st, ω, c, s) = y_w M_X3_meet mc ms Q (28, lv, .int (-1000001) :: st, ω, c, s) := w_ldc dX3_meet_26 rfl rfl rfl
theorem wX3_meet_28 : y_w M_X3_meet mc ms Q (28, lv, [.int x], ω, c, s) = Q (.returned (some (.int x))) ω c s := w_ireturnI dX3_meet_28 rfl
theorem wX3_meet_29 : y_w M_X3_meet mc ms Q (29, lv, st, ω, c, s) = y_ldA lv 0 (fun v => y_w M_X3_meet mc ms Q (30, lv, v :: st, ω, c, s)) := w_aload_n dX3_meet_29 rfl rfl
theorem wX3_meet_30 : y_w M_X3_meet mc ms Q (30, lv, st, ω, c, s) = y_ldI lv 1 (fun v => y_w M_X3_meet mc ms Q (31, lv, v :: st, ω, c, s)) := w_iload_n dX3_meet_30 rfl rfl
theorem wX3_meet_31 : y_w M_X3_meet mc ms Q (31, lv, st, ω, c, s) = y_w M_X3_meet mc ms Q (32, lv, .int 1 :: st, ω, c, s) := w_iconst dX3_meet_31 (v := 1) (by decide) rfl
theorem wX3_meet_32 (hc : y_cls ω a = some 3) : y_w M_X3_meet mc ms Q (32, lv, v2 :: v1 :: .ref a :: r, ω, c, s) = (y_cat r ≤ 8 ∧ F_X3_of mc ms [.ref a, v1, v2] ω c s (y_aft M_X3_meet 32 3 lv r (y_w M_X3_meet mc ms Q) Q)) := w_call1 (av := [v1, v2]) (Or.inl ⟨⟨rfl, rfl⟩, rfl⟩) dX3_meet_32 rfl hc rfl (y_F_mono _) (y_dle rfl) (y_dle rfl) rfl rfl
theorem wX3_meet_35 : y_w M_X3_meet mc ms Q (35, lv, st, ω, c, s) = y_ldA lv 0 (fun v => y_w M_X3_meet mc ms Q (36, lv, v :: st, ω, c, s)) := w_aload_n dX3_meet_35 rfl rfl
theorem wX3_meet_36 : y_w M_X3_meet mc ms Q (36, lv, st, ω, c, s) = y_ldI lv 2 (fun v => y_w M_X3_meet mc ms Q (37, lv, v :: st, ω, c, s)) := w_iload_n dX3_meet_36 rfl rfl
theorem wX3_meet_37 : y_w M_X3_meet mc ms Q (37, lv, st, ω, c, s) = y_w M_X3_meet mc ms Q (38, lv, .int 1 :: st, ω, c, s) := w_iconst dX3_meet_37 (v := 1) (by decide) rfl
theorem wX3_meet_38 (hc : y_cls ω a = some 3) : y_w M_X3_meet mc ms Q (38, lv, v2 :: v1 :: .ref a :: r, ω, c, s) = (y_cat r ≤ 8 ∧ F_X3_of mc ms [.ref a, v1, v2] ω c s (y_aft M_X3_meet 38 3 lv r (y_w M_X3_meet mc ms Q) Q)) := w_call1 (av := [v1, v2]) (Or.inl ⟨⟨rfl, rfl⟩, rfl⟩) dX3_meet_38 rfl hc rfl (y_F_mono _) (y_dle rfl) (y_dle rfl) rfl rfl
theorem wX3_meet_41 : y_w M_X3_meet mc ms Q (41, lv, .int y :: .int x :: r, ω, c, s) = ((x = y → y_w M_X3_meet mc ms Q (47, lv, r, ω, c, s)) ∧ (¬ (x = y) → y_w M_X3_meet mc ms Q (44, lv, r, ω, c, s))) := w_icmp dX3_meet_41 (tgt := 47) rfl rfl rfl
theorem wX3_meet_44 : y_w M_X3_meet mc ms Q (44, lv, st, ω, c, s) = y_w M_X3_meet mc ms Q (46, lv, .int (-1000002) :: st, ω, c, s) := w_ldc dX3_meet_44 rfl rfl rfl
theorem wX3_meet_46 : y_w M_X3_meet mc ms Q (46, lv, [.int x], ω, c, s) = Q (.returned (some (.int x))) ω c s := w_ireturnI dX3_meet_46 rfl
theorem wX3_meet_47 : y_w M_X3_meet mc ms Q (47, lv, st, ω, c, s) = y_ldA lv 0 (fun v => y_w M_X3_meet mc ms Q (48, lv, v :: st, ω, c, s)) := w_aload_n dX3_meet_47 rfl rfl
theorem wX3_meet_48 (hc : y_cls ω a = some 3) : y_w M_X3_meet mc ms Q (48, lv, .ref a :: r, ω, c, s) = (y_cat r ≤ 8 ∧ F_X3_keep mc ms [.ref a] ω c s (y_aft M_X3_meet 48 3 lv r (y_w M_X3_meet mc ms Q) Q)) := w_call1 (av := []) (Or.inl ⟨⟨rfl, rfl⟩, rfl⟩) dX3_meet_48 rfl hc rfl (y_F_mono _) (y_dle rfl) (y_dle rfl) rfl rfl
theorem wX3_meet_51 : y_w M_X3_meet mc ms Q (51, lv, st, ω, c, s) = y_ldA lv 0 (fun v => y_w M_X3_meet mc ms Q (52, lv, v :: st, ω, c, s)) := w_aload_n dX3_meet_51 rfl rfl
theorem wX3_meet_52 : y_w M_X3_meet mc ms Q (52, lv, st, ω, c, s) = y_ldI lv 1 (fun v => y_w M_X3_meet mc ms Q (53, lv, v :: st, ω, c, s)) := w_iload_n dX3_meet_52 rfl rfl
theorem wX3_meet_53 : y_w M_X3_meet mc ms Q (53, lv, st, ω, c, s) = y_w M_X3_meet mc ms Q (54, lv, .int (nI 3) :: st, ω, c, s) := w_iconst dX3_meet_53 (v := (nI 3)) (by decide) rfl
theorem wX3_meet_54 (hc : y_cls ω a = some 3) : y_w M_X3_meet mc ms Q (54, lv, v2 :: v1 :: .ref a :: r, ω, c, s) = (y_cat r ≤ 8 ∧ F_X3_of mc ms [.ref a, v1, v2] ω c s (y_aft M_X3_meet 54 3 lv r (y_w M_X3_meet mc ms Q) Q)) := w_call1 (av := [v1, v2]) (Or.inl ⟨⟨rfl, rfl⟩, rfl⟩) dX3_meet_54 rfl hc rfl (y_F_mono _) (y_dle rfl) (y_dle rfl) rfl rfl
theorem wX3_meet_57 : y_w M_X3_meet mc ms Q (57, lv, st, ω, c, s) = y_ldA lv 0 (fun v => y_w M_X3_meet mc ms Q (58, lv, v :: st, ω, c, s)) := w_aload_n dX3_meet_57 rfl rfl
theorem wX3_meet_58 : y_w M_X3_meet mc ms Q (58, lv, st, ω, c, s) = y_ldI lv 2 (fun v => y_w M_X3_meet mc ms Q (59, lv, v :: st, ω, c, s)) := w_iload_n dX3_meet_58 rfl rfl
theorem wX3_meet_59 : y_w M_X3_meet mc ms Q (59, lv, st, ω, c, s) = y_w M_X3_meet mc ms Q (60, lv, .int (nI 3) :: st, ω, c, s) := w_iconst dX3_meet_59 (v := (nI 3)) (by decide) rfl
theorem wX3_meet_60 (hc : y_cls ω a = some 3) : y_w M_X3_meet mc ms Q (60, lv, v2 :: v1 :: .ref a :: r, ω, c, s) = (y_cat r ≤ 8 ∧ F_X3_of mc ms [.ref a, v1, v2] ω c s (y_aft M_X3_meet 60 3 lv r (y_w M_X3_meet mc ms Q) Q)) := w_call1 (av := [v1, v2]) (Or.inl ⟨⟨rfl, rfl⟩, rfl⟩) dX3_meet_60 rfl hc rfl (y_F_mono _) (y_dle rfl) (y_dle rfl) rfl rfl
theorem wX3_meet_63 : y_w M_X3_meet mc ms Q (63, lv, .int y :: .int x :: r, ω, c, s) = y_w M_X3_meet mc ms Q (64, lv, .int (x - y) :: r, ω, c, s) := w_isub dX3_meet_63 rfl
theorem wX3_meet_64 : y_w M_X3_meet mc ms Q (64, lv, .int x :: r, ω, c, s) = y_w M_X3_meet mc ms Q (65, (3, .int x) :: y_kill 3 lv, r, ω, c, s) := w_istore_n dX3_meet_64 rfl (y_dle rfl) rfl
theorem wX3_meet_65 : y_w M_X3_meet mc ms Q (65, lv, st, ω, c, s) = y_ldA lv 0 (fun v => y_w M_X3_meet mc ms Q (66, lv, v :: st, ω, c, s)) := w_aload_n dX3_meet_65 rfl rfl
theorem wX3_meet_66 : y_w M_X3_meet mc ms Q (66, lv, st, ω, c, s) = y_ldI lv 3 (fun v => y_w M_X3_meet mc ms Q (67, lv, v :: st, ω, c, s)) := w_iload_n dX3_meet_66 rfl rfl
theorem wX3_meet_67 : y_w M_X3_meet mc ms Q (67, lv, .int x :: r, ω, c, s) = ((0 ≤ x → y_w M_X3_meet mc ms Q (74, lv, r, ω, c, s)) ∧ (¬ (0 ≤ x) → y_w M_X3_meet mc ms Q (70, lv, r, ω, c, s))) := w_if dX3_meet_67 (tgt := 74) rfl rfl rfl
theorem wX3_meet_70 : y_w M_X3_meet mc ms Q (70, lv, st, ω, c, s) = y_ldI lv 1 (fun v => y_w M_X3_meet mc ms Q (71, lv, v :: st, ω, c, s)) := w_iload_n dX3_meet_70 rfl rfl
theorem wX3_meet_71 : y_w M_X3_meet mc ms Q (71, lv, st, ω, c, s) = y_w M_X3_meet mc ms Q (75, lv, st, ω, c, s) := w_goto dX3_meet_71 (tgt := 75) (by decide) rfl
theorem wX3_meet_74 : y_w M_X3_meet mc ms Q (74, lv, st, ω, c, s) = y_ldI lv 2 (fun v => y_w M_X3_meet mc ms Q (75, lv, v :: st, ω, c, s)) := w_iload_n dX3_meet_74 rfl rfl
theorem wX3_meet_75 : y_w M_X3_meet mc ms Q (75, lv, st, ω, c, s) = y_ldI lv 3 (fun v => y_w M_X3_meet mc ms Q (76, lv, v :: st, ω, c, s)) := w_iload_n dX3_meet_75 rfl rfl
theorem wX3_meet_76 : y_w M_X3_meet mc ms Q (76, lv, .int x :: r, ω, c, s) = ((0 ≤ x → y_w M_X3_meet mc ms Q (84, lv, r, ω, c, s)) ∧ (¬ (0 ≤ x) → y_w M_X3_meet mc ms Q (79, lv, r, ω, c, s))) := w_if dX3_meet_76 (tgt := 84) rfl rfl rfl
theorem wX3_meet_79 : y_w M_X3_meet mc ms Q (79, lv, st, ω, c, s) = y_ldI lv 3 (fun v => y_w M_X3_meet mc ms Q (80, lv, v :: st, ω, c, s)) := w_iload_n dX3_meet_79 rfl rfl
theorem wX3_meet_80 : y_w M_X3_meet mc ms Q (80, lv, .int x :: r, ω, c, s) = y_w M_X3_meet mc ms Q (81, lv, .int (-x) :: r, ω, c, s) := w_ineg dX3_meet_80 rfl
theorem wX3_meet_81 : y_w M_X3_meet mc ms Q (81, lv, st, ω, c, s) = y_w M_X3_meet mc ms Q (85, lv, st, ω, c, s) := w_goto dX3_meet_81 (tgt := 85) (by decide) rfl
theorem wX3_meet_84 : y_w M_X3_meet mc ms Q (84, lv, st, ω, c, s) = y_ldI lv 3 (fun v => y_w M_X3_meet mc ms Q (85, lv, v :: st, ω, c, s)) := w_iload_n dX3_meet_84 rfl rfl
theorem wX3_meet_85 : y_w M_X3_meet mc ms Q (85, lv, st, ω, c, s) = y_ldI lv 3 (fun v => y_w M_X3_meet mc ms Q (86, lv, v :: st, ω, c, s)) := w_iload_n dX3_meet_85 rfl rfl
theorem wX3_meet_86 : y_w M_X3_meet mc ms Q (86, lv, .int x :: r, ω, c, s) = ((0 ≤ x → y_w M_X3_meet mc ms Q (94, lv, r, ω, c, s)) ∧ (¬ (0 ≤ x) → y_w M_X3_meet mc ms Q (89, lv, r, ω, c, s))) := w_if dX3_meet_86 (tgt := 94) rfl rfl rfl
theorem wX3_meet_89 : y_w M_X3_meet mc ms Q (89, lv, st, ω, c, s) = y_ldI lv 3 (fun v => y_w M_X3_meet mc ms Q (90, lv, v :: st, ω, c, s)) := w_iload_n dX3_meet_89 rfl rfl
theorem wX3_meet_90 : y_w M_X3_meet mc ms Q (90, lv, .int x :: r, ω, c, s) = y_w M_X3_meet mc ms Q (91, lv, .int (-x) :: r, ω, c, s) := w_ineg dX3_meet_90 rfl
theorem wX3_meet_91 : y_w M_X3_meet mc ms Q (91, lv, st, ω, c, s) = y_w M_X3_meet mc ms Q (95, lv, st, ω, c, s) := w_goto dX3_meet_91 (tgt := 95) (by decide) rfl
theorem wX3_meet_94 : y_w M_X3_meet mc ms Q (94, lv, st, ω, c, s) = y_ldI lv 3 (fun v => y_w M_X3_meet mc ms Q (95, lv, v :: st, ω, c, s)) := w_iload_n dX3_meet_94 rfl rfl
theorem wX3_meet_95 (hc : y_cls ω a = some 3) : y_w M_X3_meet mc ms Q (95, lv, v3 :: v2 :: v1 :: .ref a :: r, ω, c, s) = (y_cat r ≤ 8 ∧ F_X3_ages mc ms [.ref a, v1, v2, v3] ω c s (y_aft M_X3_meet 95 3 lv r (y_w M_X3_meet mc ms Q) Q)) := w_call1 (av := [v1, v2, v3]) (Or.inl ⟨⟨rfl, rfl⟩, rfl⟩) dX3_meet_95 rfl hc rfl (y_F_mono _) (y_dle rfl) (y_dle rfl) rfl rfl
theorem wX3_meet_98 : y_w M_X3_meet mc ms Q (98, lv, st, ω, c, s) = y_ldA lv 0 (fun v => y_w M_X3_meet mc ms Q (99, lv, v :: st, ω, c, s)) := w_aload_n dX3_meet_98 rfl rfl
theorem wX3_meet_99 : y_w M_X3_meet mc ms Q (99, lv, st, ω, c, s) = y_ldI lv 1 (fun v => y_w M_X3_meet mc ms Q (100, lv, v :: st, ω, c, s)) := w_iload_n dX3_meet_99 rfl rfl
theorem wX3_meet_100 : y_w M_X3_meet mc ms Q (100, lv, st, ω, c, s) = y_w M_X3_meet mc ms Q (101, lv, .int (nI 4) :: st, ω, c, s) := w_iconst dX3_meet_100 (v := (nI 4)) (by decide) rfl
theorem wX3_meet_101 (hc : y_cls ω a = some 3) : y_w M_X3_meet mc ms Q (101, lv, v2 :: v1 :: .ref a :: r, ω, c, s) = (y_cat r ≤ 8 ∧ F_X3_of mc ms [.ref a, v1, v2] ω c s (y_aft M_X3_meet 101 3 lv r (y_w M_X3_meet mc ms Q) Q)) := w_call1 (av := [v1, v2]) (Or.inl ⟨⟨rfl, rfl⟩, rfl⟩) dX3_meet_101 rfl hc rfl (y_F_mono _) (y_dle rfl) (y_dle rfl) rfl rfl
theorem wX3_meet_104 : y_w M_X3_meet mc ms Q (104, lv, st, ω, c, s) = y_ldA lv 0 (fun v => y_w M_X3_meet mc ms Q (105, lv, v :: st, ω, c, s)) := w_aload_n dX3_meet_104 rfl rfl
theorem wX3_meet_105 : y_w M_X3_meet mc ms Q (105, lv, st, ω, c, s) = y_ldI lv 2 (fun v => y_w M_X3_meet mc ms Q (106, lv, v :: st, ω, c, s)) := w_iload_n dX3_meet_105 rfl rfl
theorem wX3_meet_106 : y_w M_X3_meet mc ms Q (106, lv, st, ω, c, s) = y_w M_X3_meet mc ms Q (107, lv, .int (nI 4) :: st, ω, c, s) := w_iconst dX3_meet_106 (v := (nI 4)) (by decide) rfl
theorem wX3_meet_107 (hc : y_cls ω a = some 3) : y_w M_X3_meet mc ms Q (107, lv, v2 :: v1 :: .ref a :: r, ω, c, s) = (y_cat r ≤ 8 ∧ F_X3_of mc ms [.ref a, v1, v2] ω c s (y_aft M_X3_meet 107 3 lv r (y_w M_X3_meet mc ms Q) Q)) := w_call1 (av := [v1, v2]) (Or.inl ⟨⟨rfl, rfl⟩, rfl⟩) dX3_meet_107 rfl hc rfl (y_F_mono _) (y_dle rfl) (y_dle rfl) rfl rfl
theorem wX3_meet_110 : y_w M_X3_meet mc ms Q (110, lv, .int y :: .int x :: r, ω, c, s) = y_w M_X3_meet mc ms Q (111, lv, .int (x - y) :: r, ω, c, s) := w_isub dX3_meet_110 rfl
theorem wX3_meet_111 : y_w M_X3_meet mc ms Q (111, lv, [.int x], ω, c, s) = Q (.returned (some (.int x))) ω c s := w_ireturnI dX3_meet_111 rfl
def P_X3_grown : y_Pool := ([(19, 3, 5, (.array .int), true)], [], [(212, .int (nI 99999999))], [], [], [], [])
def M_X3_grown : y_Md := (cX3_grown, "YoungerBackModel", (6, (some FieldType.int)), (0, 0), false, P_X3_grown, [])
def F_X3_grown : y_Tr := y_F M_X3_grown
theorem nX3_grown : y_nL M_X3_grown = 6 := rfl
theorem fX3_grown_19_3 : y_ffP P_X3_grown 19 3 = some (5, (.array .int), true) := rfl
theorem wX3_grown_0 : y_w M_X3_grown mc ms Q (0, lv, st, ω, c, s) = y_ldI lv 1 (fun v => y_w M_X3_grown mc ms Q (1, lv, v :: st, ω, c, s)) := w_iload_n dX3_grown_0 rfl rfl
theorem wX3_grown_1 : y_w M_X3_grown mc ms Q (1, lv, .int x :: r, ω, c, s) = y_w M_X3_grown mc ms Q (2, (3, .int x) :: y_kill 3 lv, r, ω, c, s) := w_istore_n dX3_grown_1 rfl (y_dle rfl) rfl
theorem wX3_grown_2 : y_w M_X3_grown mc ms Q (2, lv, st, ω, c, s) = y_w M_X3_grown mc ms Q (3, lv, .int 0 :: st, ω, c, s) := w_iconst dX3_grown_2 (v := 0) (by decide) rfl
theorem wX3_grown_3 : y_w M_X3_grown mc ms Q (3, lv, .int x :: r, ω, c, s) = y_w M_X3_grown mc ms Q (5, (4, .int x) :: y_kill 4 lv, r, ω, c, s) := w_istore dX3_grown_3 (y_dle rfl) rfl
theorem wX3_grown_5 : y_w M_X3_grown mc ms Q (5, lv, st, ω, c, s) = y_ldI lv 4 (fun v => y_w M_X3_grown mc ms Q (7, lv, v :: st, ω, c, s)) := w_iload dX3_grown_5 rfl
theorem wX3_grown_7 : y_w M_X3_grown mc ms Q (7, lv, st, ω, c, s) = y_ldI lv 2 (fun v => y_w M_X3_grown mc ms Q (8, lv, v :: st, ω, c, s)) := w_iload_n dX3_grown_7 rfl rfl
theorem wX3_grown_8 : y_w M_X3_grown mc ms Q (8, lv, .int y :: .int x :: r, ω, c, s) = ((y ≤ x → y_w M_X3_grown mc ms Q (47, lv, r, ω, c, s)) ∧ (¬ (y ≤ x) → y_w M_X3_grown mc ms Q (11, lv, r, ω, c, s))) := w_icmp dX3_grown_8 (tgt := 47) rfl rfl rfl
theorem wX3_grown_11 : y_w M_X3_grown mc ms Q (11, lv, st, ω, c, s) = y_ldI lv 3 (fun v => y_w M_X3_grown mc ms Q (12, lv, v :: st, ω, c, s)) := w_iload_n dX3_grown_11 rfl rfl
theorem wX3_grown_12 : y_w M_X3_grown mc ms Q (12, lv, st, ω, c, s) = y_ldI lv 3 (fun v => y_w M_X3_grown mc ms Q (13, lv, v :: st, ω, c, s)) := w_iload_n dX3_grown_12 rfl rfl
theorem wX3_grown_13 : y_w M_X3_grown mc ms Q (13, lv, st, ω, c, s) = y_ldA lv 0 (fun v => y_w M_X3_grown mc ms Q (14, lv, v :: st, ω, c, s)) := w_aload_n dX3_grown_13 rfl rfl
theorem wX3_grown_14 : y_w M_X3_grown mc ms Q (14, lv, .ref a :: r, ω, c, s) = y_gf P_X3_grown 19 (ω.2 a) (fun v => y_w M_X3_grown mc ms Q (17, lv, v :: r, ω, c, s)) := w_getfield dX3_grown_14 rfl rfl
theorem wX3_grown_17 : y_w M_X3_grown mc ms Q (17, lv, st, ω, c, s) = y_w M_X3_grown mc ms Q (18, lv, .int 1 :: st, ω, c, s) := w_iconst dX3_grown_17 (v := 1) (by decide) rfl
theorem wX3_grown_18 : y_w M_X3_grown mc ms Q (18, lv, .int j :: .ref a :: r, ω, c, s) = y_rI (ω.2 a) j (fun x => y_w M_X3_grown mc ms Q (19, lv, .int x :: r, ω, c, s)) := w_iaload dX3_grown_18 rfl
theorem wX3_grown_19 : y_w M_X3_grown mc ms Q (19, lv, .int y :: .int x :: r, ω, c, s) = y_w M_X3_grown mc ms Q (20, lv, .int (x * y) :: r, ω, c, s) := w_imul dX3_grown_19 rfl
theorem wX3_grown_20 : y_w M_X3_grown mc ms Q (20, lv, st, ω, c, s) = y_w M_X3_grown mc ms Q (22, lv, .int (nI 100) :: st, ω, c, s) := w_bipush dX3_grown_20 (v := (nI 100)) (by decide) rfl
theorem wX3_grown_22 : y_w M_X3_grown mc ms Q (22, lv, .int y :: .int x :: r, ω, c, s) = (¬ y = 0 ∧ y_w M_X3_grown mc ms Q (23, lv, .int (x / y) :: r, ω, c, s)) := w_idiv dX3_grown_22 rfl
theorem wX3_grown_23 : y_w M_X3_grown mc ms Q (23, lv, .int y :: .int x :: r, ω, c, s) = y_w M_X3_grown mc ms Q (24, lv, .int (x + y) :: r, ω, c, s) := w_iadd dX3_grown_23 rfl
theorem wX3_grown_24 : y_w M_X3_grown mc ms Q (24, lv, .int x :: r, ω, c, s) = y_w M_X3_grown mc ms Q (26, (5, .int x) :: y_kill 5 lv, r, ω, c, s) := w_istore dX3_grown_24 (y_dle rfl) rfl
theorem wX3_grown_26 : y_w M_X3_grown mc ms Q (26, lv, st, ω, c, s) = y_ldI lv 5 (fun v => y_w M_X3_grown mc ms Q (28, lv, v :: st, ω, c, s)) := w_iload dX3_grown_26 rfl
theorem wX3_grown_28 : y_w M_X3_grown mc ms Q (28, lv, st, ω, c, s) = y_w M_X3_grown mc ms Q (30, lv, .int (nI 99999999) :: st, ω, c, s) := w_ldc dX3_grown_28 rfl rfl rfl
theorem wX3_grown_30 : y_w M_X3_grown mc ms Q (30, lv, .int y :: .int x :: r, ω, c, s) = ((x ≤ y → y_w M_X3_grown mc ms Q (38, lv, r, ω, c, s)) ∧ (¬ (x ≤ y) → y_w M_X3_grown mc ms Q (33, lv, r, ω, c, s))) := w_icmp dX3_grown_30 (tgt := 38) rfl rfl rfl
theorem wX3_grown_33 : y_w M_X3_grown mc ms Q (33, lv, st, ω, c, s) = y_w M_X3_grown mc ms Q (35, lv, .int (nI 99999999) :: st, ω, c, s) := w_ldc dX3_grown_33 rfl rfl rfl
theorem wX3_grown_35 : y_w M_X3_grown mc ms Q (35, lv, st, ω, c, s) = y_w M_X3_grown mc ms Q (40, lv, st, ω, c, s) := w_goto dX3_grown_35 (tgt := 40) (by decide) rfl
theorem wX3_grown_38 : y_w M_X3_grown mc ms Q (38, lv, st, ω, c, s) = y_ldI lv 5 (fun v => y_w M_X3_grown mc ms Q (40, lv, v :: st, ω, c, s)) := w_iload dX3_grown_38 rfl
theorem wX3_grown_40 : y_w M_X3_grown mc ms Q (40, lv, .int x :: r, ω, c, s) = y_w M_X3_grown mc ms Q (41, (3, .int x) :: y_kill 3 lv, r, ω, c, s) := w_istore_n dX3_grown_40 rfl (y_dle rfl) rfl
theorem wX3_grown_41 : y_w M_X3_grown mc ms Q (41, lv, st, ω, c, s) = y_inc lv 4 (fun x => y_w M_X3_grown mc ms Q (44, (4, .int (x + 1)) :: y_kill 4 lv, st, ω, c, s)) := w_iinc dX3_grown_41 (d := 1) (by decide) (y_dle rfl) rfl
theorem wX3_grown_44 : y_w M_X3_grown mc ms Q (44, lv, st, ω, c, s) = ∃ lv2, y_lsub lv2 lv ∧ y_w M_X3_grown mc ms Q (5, lv2, st, ω, c, s) := w_back dX3_grown_44 (tgt := 5) (by decide) rfl
theorem wX3_grown_47 : y_w M_X3_grown mc ms Q (47, lv, st, ω, c, s) = y_ldI lv 3 (fun v => y_w M_X3_grown mc ms Q (48, lv, v :: st, ω, c, s)) := w_iload_n dX3_grown_47 rfl rfl
theorem wX3_grown_48 : y_w M_X3_grown mc ms Q (48, lv, [.int x], ω, c, s) = Q (.returned (some (.int x))) ω c s := w_ireturnI dX3_grown_48 rfl
def P_X3_owedBy : y_Pool := ([], [], [], [(181, 1, 3, 3, (1, 22), F_X3_of), (213, 1, 3, 3, (1, 25), F_X3_grown)], [], [], [])
def M_X3_owedBy : y_Md := (cX3_owedBy, "YoungerBackModel", (3, (some FieldType.int)), (1, 25), false, P_X3_owedBy, [])
def F_X3_owedBy : y_Tr := y_F M_X3_owedBy
theorem nX3_owedBy : y_nL M_X3_owedBy = 3 := rfl
theorem wX3_owedBy_0 : y_w M_X3_owedBy mc ms Q (0, lv, st, ω, c, s) = y_ldA lv 0 (fun v => y_w M_X3_owedBy mc ms Q (1, lv, v :: st, ω, c, s)) := w_aload_n dX3_owedBy_0 rfl rfl
theorem wX3_owedBy_1 : y_w M_X3_owedBy mc ms Q (1, lv, st, ω, c, s) = y_ldA lv 0 (fun v => y_w M_X3_owedBy mc ms Q (2, lv, v :: st, ω, c, s)) := w_aload_n dX3_owedBy_1 rfl rfl
theorem wX3_owedBy_2 : y_w M_X3_owedBy mc ms Q (2, lv, st, ω, c, s) = y_ldI lv 1 (fun v => y_w M_X3_owedBy mc ms Q (3, lv, v :: st, ω, c, s)) := w_iload_n dX3_owedBy_2 rfl rfl
theorem wX3_owedBy_3 : y_w M_X3_owedBy mc ms Q (3, lv, st, ω, c, s) = y_w M_X3_owedBy mc ms Q (4, lv, .int (nI 5) :: st, ω, c, s) := w_iconst dX3_owedBy_3 (v := (nI 5)) (by decide) rfl
theorem wX3_owedBy_4 (hc : y_cls ω a = some 3) : y_w M_X3_owedBy mc ms Q (4, lv, v2 :: v1 :: .ref a :: r, ω, c, s) = (y_cat r ≤ 8 ∧ F_X3_of mc ms [.ref a, v1, v2] ω c s (y_aft M_X3_owedBy 4 3 lv r (y_w M_X3_owedBy mc ms Q) Q)) := w_call1 (av := [v1, v2]) (Or.inl ⟨⟨rfl, rfl⟩, rfl⟩) dX3_owedBy_4 rfl hc rfl (y_F_mono _) (y_dle rfl) (y_dle rfl) rfl rfl
theorem wX3_owedBy_7 : y_w M_X3_owedBy mc ms Q (7, lv, st, ω, c, s) = y_ldI lv 2 (fun v => y_w M_X3_owedBy mc ms Q (8, lv, v :: st, ω, c, s)) := w_iload_n dX3_owedBy_7 rfl rfl
theorem wX3_owedBy_8 : y_w M_X3_owedBy mc ms Q (8, lv, .int x :: r, ω, c, s) = ((¬ x = 0 → y_w M_X3_owedBy mc ms Q (28, lv, r, ω, c, s)) ∧ (¬ (¬ x = 0) → y_w M_X3_owedBy mc ms Q (11, lv, r, ω, c, s))) := w_if dX3_owedBy_8 (tgt := 28) rfl rfl rfl
theorem wX3_owedBy_11 : y_w M_X3_owedBy mc ms Q (11, lv, st, ω, c, s) = y_ldA lv 0 (fun v => y_w M_X3_owedBy mc ms Q (12, lv, v :: st, ω, c, s)) := w_aload_n dX3_owedBy_11 rfl rfl
theorem wX3_owedBy_12 : y_w M_X3_owedBy mc ms Q (12, lv, st, ω, c, s) = y_ldI lv 1 (fun v => y_w M_X3_owedBy mc ms Q (13, lv, v :: st, ω, c, s)) := w_iload_n dX3_owedBy_12 rfl rfl
theorem wX3_owedBy_13 : y_w M_X3_owedBy mc ms Q (13, lv, st, ω, c, s) = y_w M_X3_owedBy mc ms Q (14, lv, .int (nI 3) :: st, ω, c, s) := w_iconst dX3_owedBy_13 (v := (nI 3)) (by decide) rfl
theorem wX3_owedBy_14 (hc : y_cls ω a = some 3) : y_w M_X3_owedBy mc ms Q (14, lv, v2 :: v1 :: .ref a :: r, ω, c, s) = (y_cat r ≤ 8 ∧ F_X3_of mc ms [.ref a, v1, v2] ω c s (y_aft M_X3_owedBy 14 3 lv r (y_w M_X3_owedBy mc ms Q) Q)) := w_call1 (av := [v1, v2]) (Or.inl ⟨⟨rfl, rfl⟩, rfl⟩) dX3_owedBy_14 rfl hc rfl (y_F_mono _) (y_dle rfl) (y_dle rfl) rfl rfl
theorem wX3_owedBy_17 : y_w M_X3_owedBy mc ms Q (17, lv, st, ω, c, s) = y_ldA lv 0 (fun v => y_w M_X3_owedBy mc ms Q (18, lv, v :: st, ω, c, s)) := w_aload_n dX3_owedBy_17 rfl rfl
theorem wX3_owedBy_18 : y_w M_X3_owedBy mc ms Q (18, lv, st, ω, c, s) = y_ldI lv 1 (fun v => y_w M_X3_owedBy mc ms Q (19, lv, v :: st, ω, c, s)) := w_iload_n dX3_owedBy_18 rfl rfl
theorem wX3_owedBy_19 : y_w M_X3_owedBy mc ms Q (19, lv, st, ω, c, s) = y_w M_X3_owedBy mc ms Q (21, lv, .int (nI 6) :: st, ω, c, s) := w_bipush dX3_owedBy_19 (v := (nI 6)) (by decide) rfl
theorem wX3_owedBy_21 (hc : y_cls ω a = some 3) : y_w M_X3_owedBy mc ms Q (21, lv, v2 :: v1 :: .ref a :: r, ω, c, s) = (y_cat r ≤ 8 ∧ F_X3_of mc ms [.ref a, v1, v2] ω c s (y_aft M_X3_owedBy 21 3 lv r (y_w M_X3_owedBy mc ms Q) Q)) := w_call1 (av := [v1, v2]) (Or.inl ⟨⟨rfl, rfl⟩, rfl⟩) dX3_owedBy_21 rfl hc rfl (y_F_mono _) (y_dle rfl) (y_dle rfl) rfl rfl
theorem wX3_owedBy_24 : y_w M_X3_owedBy mc ms Q (24, lv, .int y :: .int x :: r, ω, c, s) = y_w M_X3_owedBy mc ms Q (25, lv, .int (x - y) :: r, ω, c, s) := w_isub dX3_owedBy_24 rfl
theorem wX3_owedBy_25 : y_w M_X3_owedBy mc ms Q (25, lv, st, ω, c, s) = y_w M_X3_owedBy mc ms Q (42, lv, st, ω, c, s) := w_goto dX3_owedBy_25 (tgt := 42) (by decide) rfl
theorem wX3_owedBy_28 : y_w M_X3_owedBy mc ms Q (28, lv, st, ω, c, s) = y_ldA lv 0 (fun v => y_w M_X3_owedBy mc ms Q (29, lv, v :: st, ω, c, s)) := w_aload_n dX3_owedBy_28 rfl rfl
theorem wX3_owedBy_29 : y_w M_X3_owedBy mc ms Q (29, lv, st, ω, c, s) = y_ldI lv 1 (fun v => y_w M_X3_owedBy mc ms Q (30, lv, v :: st, ω, c, s)) := w_iload_n dX3_owedBy_29 rfl rfl
theorem wX3_owedBy_30 : y_w M_X3_owedBy mc ms Q (30, lv, st, ω, c, s) = y_w M_X3_owedBy mc ms Q (31, lv, .int (nI 4) :: st, ω, c, s) := w_iconst dX3_owedBy_30 (v := (nI 4)) (by decide) rfl
theorem wX3_owedBy_31 (hc : y_cls ω a = some 3) : y_w M_X3_owedBy mc ms Q (31, lv, v2 :: v1 :: .ref a :: r, ω, c, s) = (y_cat r ≤ 8 ∧ F_X3_of mc ms [.ref a, v1, v2] ω c s (y_aft M_X3_owedBy 31 3 lv r (y_w M_X3_owedBy mc ms Q) Q)) := w_call1 (av := [v1, v2]) (Or.inl ⟨⟨rfl, rfl⟩, rfl⟩) dX3_owedBy_31 rfl hc rfl (y_F_mono _) (y_dle rfl) (y_dle rfl) rfl rfl
theorem wX3_owedBy_34 : y_w M_X3_owedBy mc ms Q (34, lv, st, ω, c, s) = y_ldA lv 0 (fun v => y_w M_X3_owedBy mc ms Q (35, lv, v :: st, ω, c, s)) := w_aload_n dX3_owedBy_34 rfl rfl
theorem wX3_owedBy_35 : y_w M_X3_owedBy mc ms Q (35, lv, st, ω, c, s) = y_ldI lv 1 (fun v => y_w M_X3_owedBy mc ms Q (36, lv, v :: st, ω, c, s)) := w_iload_n dX3_owedBy_35 rfl rfl
theorem wX3_owedBy_36 : y_w M_X3_owedBy mc ms Q (36, lv, st, ω, c, s) = y_w M_X3_owedBy mc ms Q (38, lv, .int (nI 7) :: st, ω, c, s) := w_bipush dX3_owedBy_36 (v := (nI 7)) (by decide) rfl
theorem wX3_owedBy_38 (hc : y_cls ω a = some 3) : y_w M_X3_owedBy mc ms Q (38, lv, v2 :: v1 :: .ref a :: r, ω, c, s) = (y_cat r ≤ 8 ∧ F_X3_of mc ms [.ref a, v1, v2] ω c s (y_aft M_X3_owedBy 38 3 lv r (y_w M_X3_owedBy mc ms Q) Q)) := w_call1 (av := [v1, v2]) (Or.inl ⟨⟨rfl, rfl⟩, rfl⟩) dX3_owedBy_38 rfl hc rfl (y_F_mono _) (y_dle rfl) (y_dle rfl) rfl rfl
theorem wX3_owedBy_41 : y_w M_X3_owedBy mc ms Q (41, lv, .int y :: .int x :: r, ω, c, s) = y_w M_X3_owedBy mc ms Q (42, lv, .int (x - y) :: r, ω, c, s) := w_isub dX3_owedBy_41 rfl
theorem wX3_owedBy_42 (hc : y_cls ω a = some 3) : y_w M_X3_owedBy mc ms Q (42, lv, v2 :: v1 :: .ref a :: r, ω, c, s) = (y_cat r ≤ 8 ∧ F_X3_grown mc ms [.ref a, v1, v2] ω c s (y_aft M_X3_owedBy 42 3 lv r (y_w M_X3_owedBy mc ms Q) Q)) := w_call1 (av := [v1, v2]) (Or.inl ⟨⟨rfl, rfl⟩, rfl⟩) dX3_owedBy_42 rfl hc rfl (y_F_mono _) (y_dle rfl) (y_dle rfl) rfl rfl
theorem wX3_owedBy_45 : y_w M_X3_owedBy mc ms Q (45, lv, [.int x], ω, c, s) = Q (.returned (some (.int x))) ω c s := w_ireturnI dX3_owedBy_45 rfl
def P_X3_borrow : y_Pool := ([(48, 3, 0, .int, false), (19, 3, 5, (.array .int), true)], [], [(216, .long (lN 9999)), (68, .int (-1000001))], [(199, 1, 3, 2, (2, 46), F_X3_isPerson), (58, 0, 0, 3, (1, 25), F_X3_in), (189, 1, 3, 1, (1, 21), F_X3_keep), (218, 1, 3, 3, (2, 47), F_X3_owedBy), (181, 1, 3, 3, (1, 22), F_X3_of)], [], [], [])
def M_X3_borrow : y_Md := (cX3_borrow, "YoungerBackModel", (4, (some FieldType.int)), (2, 47), false, P_X3_borrow, [])
def F_X3_borrow : y_Tr := y_F M_X3_borrow
theorem nX3_borrow : y_nL M_X3_borrow = 4 := rfl
theorem fX3_borrow_48_3 : y_ffP P_X3_borrow 48 3 = some (0, .int, false) := rfl
theorem fX3_borrow_19_3 : y_ffP P_X3_borrow 19 3 = some (5, (.array .int), true) := rfl
theorem wX3_borrow_0 : y_w M_X3_borrow mc ms Q (0, lv, st, ω, c, s) = y_ldA lv 0 (fun v => y_w M_X3_borrow mc ms Q (1, lv, v :: st, ω, c, s)) := w_aload_n dX3_borrow_0 rfl rfl
theorem wX3_borrow_1 : y_w M_X3_borrow mc ms Q (1, lv, st, ω, c, s) = y_w M_X3_borrow mc ms Q (2, lv, .int 0 :: st, ω, c, s) := w_iconst dX3_borrow_1 (v := 0) (by decide) rfl
theorem wX3_borrow_2 : y_w M_X3_borrow mc ms Q (2, lv, v :: .ref a :: r, ω, c, s) = y_pf P_X3_borrow false 48 (ω.2 a) v (fun ci fs => y_w M_X3_borrow mc ms Q (5, lv, r, y_hup ω a (.inr (ci, fs)), c, s)) := w_putfield dX3_borrow_2 rfl rfl rfl
theorem wX3_borrow_5 : y_w M_X3_borrow mc ms Q (5, lv, st, ω, c, s) = y_ldA lv 0 (fun v => y_w M_X3_borrow mc ms Q (6, lv, v :: st, ω, c, s)) := w_aload_n dX3_borrow_5 rfl rfl
theorem wX3_borrow_6 : y_w M_X3_borrow mc ms Q (6, lv, st, ω, c, s) = y_ldI lv 1 (fun v => y_w M_X3_borrow mc ms Q (7, lv, v :: st, ω, c, s)) := w_iload_n dX3_borrow_6 rfl rfl
theorem wX3_borrow_7 (hc : y_cls ω a = some 3) : y_w M_X3_borrow mc ms Q (7, lv, v1 :: .ref a :: r, ω, c, s) = (y_cat r ≤ 8 ∧ F_X3_isPerson mc ms [.ref a, v1] ω c s (y_aft M_X3_borrow 7 3 lv r (y_w M_X3_borrow mc ms Q) Q)) := w_call1 (av := [v1]) (Or.inl ⟨⟨rfl, rfl⟩, rfl⟩) dX3_borrow_7 rfl hc rfl (y_F_mono _) (y_dle rfl) (y_dle rfl) rfl rfl
theorem wX3_borrow_10 : y_w M_X3_borrow mc ms Q (10, lv, .int x :: r, ω, c, s) = ((x = 0 → y_w M_X3_borrow mc ms Q (25, lv, r, ω, c, s)) ∧ (¬ (x = 0) → y_w M_X3_borrow mc ms Q (13, lv, r, ω, c, s))) := w_if dX3_borrow_10 (tgt := 25) rfl rfl rfl
theorem wX3_borrow_13 : y_w M_X3_borrow mc ms Q (13, lv, st, ω, c, s) = y_ldI lv 2 (fun v => y_w M_X3_borrow mc ms Q (14, lv, v :: st, ω, c, s)) := w_iload_n dX3_borrow_13 rfl rfl
theorem wX3_borrow_14 : y_w M_X3_borrow mc ms Q (14, lv, .int x :: r, ω, c, s) = y_w M_X3_borrow mc ms Q (15, lv, .long x.toInt64 :: r, ω, c, s) := w_i2l dX3_borrow_14 rfl
theorem wX3_borrow_15 : y_w M_X3_borrow mc ms Q (15, lv, st, ω, c, s) = y_w M_X3_borrow mc ms Q (16, lv, .long 1 :: st, ω, c, s) := w_lconst dX3_borrow_15 (v := 1) (by decide) rfl
theorem wX3_borrow_16 : y_w M_X3_borrow mc ms Q (16, lv, st, ω, c, s) = y_w M_X3_borrow mc ms Q (19, lv, .long (lN 9999) :: st, ω, c, s) := w_ldc2_w dX3_borrow_16 rfl rfl rfl
theorem wX3_borrow_19 : y_w M_X3_borrow mc ms Q (19, lv, v2 :: v1 :: v0 :: r, ω, c, s) = (y_cat r ≤ 8 ∧ F_X3_in mc ms [v0, v1, v2] ω c s (y_aft M_X3_borrow 19 3 lv r (y_w M_X3_borrow mc ms Q) Q)) := w_call0 (av := [v0, v1, v2]) ⟨Or.inr ⟨rfl, rfl⟩, rfl⟩ dX3_borrow_19 rfl (y_F_mono _) (y_dle rfl) (y_dle rfl) rfl rfl
theorem wX3_borrow_22 : y_w M_X3_borrow mc ms Q (22, lv, .int x :: r, ω, c, s) = ((¬ x = 0 → y_w M_X3_borrow mc ms Q (28, lv, r, ω, c, s)) ∧ (¬ (¬ x = 0) → y_w M_X3_borrow mc ms Q (25, lv, r, ω, c, s))) := w_if dX3_borrow_22 (tgt := 28) rfl rfl rfl
theorem wX3_borrow_25 : y_w M_X3_borrow mc ms Q (25, lv, st, ω, c, s) = y_w M_X3_borrow mc ms Q (27, lv, .int (-1000001) :: st, ω, c, s) := w_ldc dX3_borrow_25 rfl rfl rfl
theorem wX3_borrow_27 : y_w M_X3_borrow mc ms Q (27, lv, [.int x], ω, c, s) = Q (.returned (some (.int x))) ω c s := w_ireturnI dX3_borrow_27 rfl
theorem wX3_borrow_28 : y_w M_X3_borrow mc ms Q (28, lv, st, ω, c, s) = y_ldA lv 0 (fun v => y_w M_X3_borrow mc ms Q (29, lv, v :: st, ω, c, s)) := w_aload_n dX3_borrow_28 rfl rfl
theorem wX3_borrow_29 (hc : y_cls ω a = some 3) : y_w M_X3_borrow mc ms Q (29, lv, .ref a :: r, ω, c, s) = (y_cat r ≤ 8 ∧ F_X3_keep mc ms [.ref a] ω c s (y_aft M_X3_borrow 29 3 lv r (y_w M_X3_borrow mc ms Q) Q)) := w_call1 (av := []) (Or.inl ⟨⟨rfl, rfl⟩, rfl⟩) dX3_borrow_29 rfl hc rfl (y_F_mono _) (y_dle rfl) (y_dle rfl) rfl rfl
theorem wX3_borrow_32 : y_w M_X3_borrow mc ms Q (32, lv, st, ω, c, s) = y_ldA lv 0 (fun v => y_w M_X3_borrow mc ms Q (33, lv, v :: st, ω, c, s)) := w_aload_n dX3_borrow_32 rfl rfl
theorem wX3_borrow_33 : y_w M_X3_borrow mc ms Q (33, lv, st, ω, c, s) = y_ldI lv 1 (fun v => y_w M_X3_borrow mc ms Q (34, lv, v :: st, ω, c, s)) := w_iload_n dX3_borrow_33 rfl rfl
theorem wX3_borrow_34 : y_w M_X3_borrow mc ms Q (34, lv, st, ω, c, s) = y_w M_X3_borrow mc ms Q (35, lv, .int 0 :: st, ω, c, s) := w_iconst dX3_borrow_34 (v := 0) (by decide) rfl
theorem wX3_borrow_35 (hc : y_cls ω a = some 3) : y_w M_X3_borrow mc ms Q (35, lv, v2 :: v1 :: .ref a :: r, ω, c, s) = (y_cat r ≤ 8 ∧ F_X3_owedBy mc ms [.ref a, v1, v2] ω c s (y_aft M_X3_borrow 35 3 lv r (y_w M_X3_borrow mc ms Q) Q)) := w_call1 (av := [v1, v2]) (Or.inl ⟨⟨rfl, rfl⟩, rfl⟩) dX3_borrow_35 rfl hc rfl (y_F_mono _) (y_dle rfl) (y_dle rfl) rfl rfl
theorem wX3_borrow_38 : y_w M_X3_borrow mc ms Q (38, lv, .int x :: r, ω, c, s) = y_w M_X3_borrow mc ms Q (39, (3, .int x) :: y_kill 3 lv, r, ω, c, s) := w_istore_n dX3_borrow_38 rfl (y_dle rfl) rfl
theorem wX3_borrow_39 : y_w M_X3_borrow mc ms Q (39, lv, st, ω, c, s) = y_ldA lv 0 (fun v => y_w M_X3_borrow mc ms Q (40, lv, v :: st, ω, c, s)) := w_aload_n dX3_borrow_39 rfl rfl
theorem wX3_borrow_40 : y_w M_X3_borrow mc ms Q (40, lv, .ref a :: r, ω, c, s) = y_gf P_X3_borrow 19 (ω.2 a) (fun v => y_w M_X3_borrow mc ms Q (43, lv, v :: r, ω, c, s)) := w_getfield dX3_borrow_40 rfl rfl
theorem wX3_borrow_43 : y_w M_X3_borrow mc ms Q (43, lv, st, ω, c, s) = y_w M_X3_borrow mc ms Q (45, lv, .int (nI 36) :: st, ω, c, s) := w_bipush dX3_borrow_43 (v := (nI 36)) (by decide) rfl
theorem wX3_borrow_45 : y_w M_X3_borrow mc ms Q (45, lv, st, ω, c, s) = y_w M_X3_borrow mc ms Q (47, lv, .int (nI 8) :: st, ω, c, s) := w_bipush dX3_borrow_45 (v := (nI 8)) (by decide) rfl
theorem wX3_borrow_47 : y_w M_X3_borrow mc ms Q (47, lv, st, ω, c, s) = y_ldI lv 1 (fun v => y_w M_X3_borrow mc ms Q (48, lv, v :: st, ω, c, s)) := w_iload_n dX3_borrow_47 rfl rfl
theorem wX3_borrow_48 : y_w M_X3_borrow mc ms Q (48, lv, .int y :: .int x :: r, ω, c, s) = y_w M_X3_borrow mc ms Q (49, lv, .int (x * y) :: r, ω, c, s) := w_imul dX3_borrow_48 rfl
theorem wX3_borrow_49 : y_w M_X3_borrow mc ms Q (49, lv, .int y :: .int x :: r, ω, c, s) = y_w M_X3_borrow mc ms Q (50, lv, .int (x + y) :: r, ω, c, s) := w_iadd dX3_borrow_49 rfl
theorem wX3_borrow_50 : y_w M_X3_borrow mc ms Q (50, lv, st, ω, c, s) = y_w M_X3_borrow mc ms Q (51, lv, .int (nI 5) :: st, ω, c, s) := w_iconst dX3_borrow_50 (v := (nI 5)) (by decide) rfl
theorem wX3_borrow_51 : y_w M_X3_borrow mc ms Q (51, lv, .int y :: .int x :: r, ω, c, s) = y_w M_X3_borrow mc ms Q (52, lv, .int (x + y) :: r, ω, c, s) := w_iadd dX3_borrow_51 rfl
theorem wX3_borrow_52 : y_w M_X3_borrow mc ms Q (52, lv, st, ω, c, s) = y_ldI lv 2 (fun v => y_w M_X3_borrow mc ms Q (53, lv, v :: st, ω, c, s)) := w_iload_n dX3_borrow_52 rfl rfl
theorem wX3_borrow_53 : y_w M_X3_borrow mc ms Q (53, lv, .int x :: .int j :: .ref a :: r, ω, c, s) = y_wI (ω.2 a) j x (fun e => y_w M_X3_borrow mc ms Q (54, lv, r, y_hup ω a e, c, s)) := w_iastore dX3_borrow_53 rfl
theorem wX3_borrow_54 : y_w M_X3_borrow mc ms Q (54, lv, st, ω, c, s) = y_ldA lv 0 (fun v => y_w M_X3_borrow mc ms Q (55, lv, v :: st, ω, c, s)) := w_aload_n dX3_borrow_54 rfl rfl
theorem wX3_borrow_55 : y_w M_X3_borrow mc ms Q (55, lv, .ref a :: r, ω, c, s) = y_gf P_X3_borrow 19 (ω.2 a) (fun v => y_w M_X3_borrow mc ms Q (58, lv, v :: r, ω, c, s)) := w_getfield dX3_borrow_55 rfl rfl
theorem wX3_borrow_58 : y_w M_X3_borrow mc ms Q (58, lv, st, ω, c, s) = y_w M_X3_borrow mc ms Q (60, lv, .int (nI 36) :: st, ω, c, s) := w_bipush dX3_borrow_58 (v := (nI 36)) (by decide) rfl
theorem wX3_borrow_60 : y_w M_X3_borrow mc ms Q (60, lv, st, ω, c, s) = y_w M_X3_borrow mc ms Q (62, lv, .int (nI 8) :: st, ω, c, s) := w_bipush dX3_borrow_60 (v := (nI 8)) (by decide) rfl
theorem wX3_borrow_62 : y_w M_X3_borrow mc ms Q (62, lv, st, ω, c, s) = y_ldI lv 1 (fun v => y_w M_X3_borrow mc ms Q (63, lv, v :: st, ω, c, s)) := w_iload_n dX3_borrow_62 rfl rfl
theorem wX3_borrow_63 : y_w M_X3_borrow mc ms Q (63, lv, .int y :: .int x :: r, ω, c, s) = y_w M_X3_borrow mc ms Q (64, lv, .int (x * y) :: r, ω, c, s) := w_imul dX3_borrow_63 rfl
theorem wX3_borrow_64 : y_w M_X3_borrow mc ms Q (64, lv, .int y :: .int x :: r, ω, c, s) = y_w M_X3_borrow mc ms Q (65, lv, .int (x + y) :: r, ω, c, s) := w_iadd dX3_borrow_64 rfl
theorem wX3_borrow_65 : y_w M_X3_borrow mc ms Q (65, lv, st, ω, c, s) = y_w M_X3_borrow mc ms Q (67, lv, .int (nI 6) :: st, ω, c, s) := w_bipush dX3_borrow_65 (v := (nI 6)) (by decide) rfl
theorem wX3_borrow_67 : y_w M_X3_borrow mc ms Q (67, lv, .int y :: .int x :: r, ω, c, s) = y_w M_X3_borrow mc ms Q (68, lv, .int (x + y) :: r, ω, c, s) := w_iadd dX3_borrow_67 rfl
theorem wX3_borrow_68 : y_w M_X3_borrow mc ms Q (68, lv, st, ω, c, s) = y_ldA lv 0 (fun v => y_w M_X3_borrow mc ms Q (69, lv, v :: st, ω, c, s)) := w_aload_n dX3_borrow_68 rfl rfl
theorem wX3_borrow_69 : y_w M_X3_borrow mc ms Q (69, lv, st, ω, c, s) = y_ldI lv 1 (fun v => y_w M_X3_borrow mc ms Q (70, lv, v :: st, ω, c, s)) := w_iload_n dX3_borrow_69 rfl rfl
theorem wX3_borrow_70 : y_w M_X3_borrow mc ms Q (70, lv, st, ω, c, s) = y_w M_X3_borrow mc ms Q (71, lv, .int (nI 3) :: st, ω, c, s) := w_iconst dX3_borrow_70 (v := (nI 3)) (by decide) rfl
theorem wX3_borrow_71 (hc : y_cls ω a = some 3) : y_w M_X3_borrow mc ms Q (71, lv, v2 :: v1 :: .ref a :: r, ω, c, s) = (y_cat r ≤ 8 ∧ F_X3_of mc ms [.ref a, v1, v2] ω c s (y_aft M_X3_borrow 71 3 lv r (y_w M_X3_borrow mc ms Q) Q)) := w_call1 (av := [v1, v2]) (Or.inl ⟨⟨rfl, rfl⟩, rfl⟩) dX3_borrow_71 rfl hc rfl (y_F_mono _) (y_dle rfl) (y_dle rfl) rfl rfl
theorem wX3_borrow_74 : y_w M_X3_borrow mc ms Q (74, lv, .int x :: .int j :: .ref a :: r, ω, c, s) = y_wI (ω.2 a) j x (fun e => y_w M_X3_borrow mc ms Q (75, lv, r, y_hup ω a e, c, s)) := w_iastore dX3_borrow_74 rfl
theorem wX3_borrow_75 : y_w M_X3_borrow mc ms Q (75, lv, st, ω, c, s) = y_ldA lv 0 (fun v => y_w M_X3_borrow mc ms Q (76, lv, v :: st, ω, c, s)) := w_aload_n dX3_borrow_75 rfl rfl
theorem wX3_borrow_76 : y_w M_X3_borrow mc ms Q (76, lv, .ref a :: r, ω, c, s) = y_gf P_X3_borrow 19 (ω.2 a) (fun v => y_w M_X3_borrow mc ms Q (79, lv, v :: r, ω, c, s)) := w_getfield dX3_borrow_76 rfl rfl
theorem wX3_borrow_79 : y_w M_X3_borrow mc ms Q (79, lv, st, ω, c, s) = y_w M_X3_borrow mc ms Q (81, lv, .int (nI 36) :: st, ω, c, s) := w_bipush dX3_borrow_79 (v := (nI 36)) (by decide) rfl
theorem wX3_borrow_81 : y_w M_X3_borrow mc ms Q (81, lv, st, ω, c, s) = y_w M_X3_borrow mc ms Q (83, lv, .int (nI 8) :: st, ω, c, s) := w_bipush dX3_borrow_81 (v := (nI 8)) (by decide) rfl
theorem wX3_borrow_83 : y_w M_X3_borrow mc ms Q (83, lv, st, ω, c, s) = y_ldI lv 1 (fun v => y_w M_X3_borrow mc ms Q (84, lv, v :: st, ω, c, s)) := w_iload_n dX3_borrow_83 rfl rfl
theorem wX3_borrow_84 : y_w M_X3_borrow mc ms Q (84, lv, .int y :: .int x :: r, ω, c, s) = y_w M_X3_borrow mc ms Q (85, lv, .int (x * y) :: r, ω, c, s) := w_imul dX3_borrow_84 rfl
theorem wX3_borrow_85 : y_w M_X3_borrow mc ms Q (85, lv, .int y :: .int x :: r, ω, c, s) = y_w M_X3_borrow mc ms Q (86, lv, .int (x + y) :: r, ω, c, s) := w_iadd dX3_borrow_85 rfl
theorem wX3_borrow_86 : y_w M_X3_borrow mc ms Q (86, lv, st, ω, c, s) = y_w M_X3_borrow mc ms Q (88, lv, .int (nI 7) :: st, ω, c, s) := w_bipush dX3_borrow_86 (v := (nI 7)) (by decide) rfl
theorem wX3_borrow_88 : y_w M_X3_borrow mc ms Q (88, lv, .int y :: .int x :: r, ω, c, s) = y_w M_X3_borrow mc ms Q (89, lv, .int (x + y) :: r, ω, c, s) := w_iadd dX3_borrow_88 rfl
theorem wX3_borrow_89 : y_w M_X3_borrow mc ms Q (89, lv, st, ω, c, s) = y_ldA lv 0 (fun v => y_w M_X3_borrow mc ms Q (90, lv, v :: st, ω, c, s)) := w_aload_n dX3_borrow_89 rfl rfl
theorem wX3_borrow_90 : y_w M_X3_borrow mc ms Q (90, lv, st, ω, c, s) = y_ldI lv 1 (fun v => y_w M_X3_borrow mc ms Q (91, lv, v :: st, ω, c, s)) := w_iload_n dX3_borrow_90 rfl rfl
theorem wX3_borrow_91 : y_w M_X3_borrow mc ms Q (91, lv, st, ω, c, s) = y_w M_X3_borrow mc ms Q (92, lv, .int (nI 4) :: st, ω, c, s) := w_iconst dX3_borrow_91 (v := (nI 4)) (by decide) rfl
theorem wX3_borrow_92 (hc : y_cls ω a = some 3) : y_w M_X3_borrow mc ms Q (92, lv, v2 :: v1 :: .ref a :: r, ω, c, s) = (y_cat r ≤ 8 ∧ F_X3_of mc ms [.ref a, v1, v2] ω c s (y_aft M_X3_borrow 92 3 lv r (y_w M_X3_borrow mc ms Q) Q)) := w_call1 (av := [v1, v2]) (Or.inl ⟨⟨rfl, rfl⟩, rfl⟩) dX3_borrow_92 rfl hc rfl (y_F_mono _) (y_dle rfl) (y_dle rfl) rfl rfl
theorem wX3_borrow_95 : y_w M_X3_borrow mc ms Q (95, lv, .int x :: .int j :: .ref a :: r, ω, c, s) = y_wI (ω.2 a) j x (fun e => y_w M_X3_borrow mc ms Q (96, lv, r, y_hup ω a e, c, s)) := w_iastore dX3_borrow_95 rfl
theorem wX3_borrow_96 : y_w M_X3_borrow mc ms Q (96, lv, st, ω, c, s) = y_ldI lv 3 (fun v => y_w M_X3_borrow mc ms Q (97, lv, v :: st, ω, c, s)) := w_iload_n dX3_borrow_96 rfl rfl
theorem wX3_borrow_97 : y_w M_X3_borrow mc ms Q (97, lv, [.int x], ω, c, s) = Q (.returned (some (.int x))) ω c s := w_ireturnI dX3_borrow_97 rfl
def P_X3_undo : y_Pool := ([(48, 3, 0, .int, false), (175, 3, 8, .int, false), (19, 3, 5, (.array .int), true), (25, 3, 7, (.array .int), true)], [], [(188, .int (-1000002))], [], [], [], [])
def M_X3_undo : y_Md := (cX3_undo, "YoungerBackModel", (2, (some FieldType.int)), (0, 0), false, P_X3_undo, [])
def F_X3_undo : y_Tr := y_F M_X3_undo
theorem nX3_undo : y_nL M_X3_undo = 2 := rfl
theorem fX3_undo_48_3 : y_ffP P_X3_undo 48 3 = some (0, .int, false) := rfl
theorem fX3_undo_175_3 : y_ffP P_X3_undo 175 3 = some (8, .int, false) := rfl
theorem fX3_undo_19_3 : y_ffP P_X3_undo 19 3 = some (5, (.array .int), true) := rfl
theorem fX3_undo_25_3 : y_ffP P_X3_undo 25 3 = some (7, (.array .int), true) := rfl
theorem wX3_undo_0 : y_w M_X3_undo mc ms Q (0, lv, st, ω, c, s) = y_ldA lv 0 (fun v => y_w M_X3_undo mc ms Q (1, lv, v :: st, ω, c, s)) := w_aload_n dX3_undo_0 rfl rfl
theorem wX3_undo_1 : y_w M_X3_undo mc ms Q (1, lv, st, ω, c, s) = y_w M_X3_undo mc ms Q (2, lv, .int 0 :: st, ω, c, s) := w_iconst dX3_undo_1 (v := 0) (by decide) rfl
theorem wX3_undo_2 : y_w M_X3_undo mc ms Q (2, lv, v :: .ref a :: r, ω, c, s) = y_pf P_X3_undo false 48 (ω.2 a) v (fun ci fs => y_w M_X3_undo mc ms Q (5, lv, r, y_hup ω a (.inr (ci, fs)), c, s)) := w_putfield dX3_undo_2 rfl rfl rfl
theorem wX3_undo_5 : y_w M_X3_undo mc ms Q (5, lv, st, ω, c, s) = y_ldA lv 0 (fun v => y_w M_X3_undo mc ms Q (6, lv, v :: st, ω, c, s)) := w_aload_n dX3_undo_5 rfl rfl
theorem wX3_undo_6 : y_w M_X3_undo mc ms Q (6, lv, .ref a :: r, ω, c, s) = y_gf P_X3_undo 175 (ω.2 a) (fun v => y_w M_X3_undo mc ms Q (9, lv, v :: r, ω, c, s)) := w_getfield dX3_undo_6 rfl rfl
theorem wX3_undo_9 : y_w M_X3_undo mc ms Q (9, lv, .int x :: r, ω, c, s) = ((¬ x = 0 → y_w M_X3_undo mc ms Q (15, lv, r, ω, c, s)) ∧ (¬ (¬ x = 0) → y_w M_X3_undo mc ms Q (12, lv, r, ω, c, s))) := w_if dX3_undo_9 (tgt := 15) rfl rfl rfl
theorem wX3_undo_12 : y_w M_X3_undo mc ms Q (12, lv, st, ω, c, s) = y_w M_X3_undo mc ms Q (14, lv, .int (-1000002) :: st, ω, c, s) := w_ldc dX3_undo_12 rfl rfl rfl
theorem wX3_undo_14 : y_w M_X3_undo mc ms Q (14, lv, [.int x], ω, c, s) = Q (.returned (some (.int x))) ω c s := w_ireturnI dX3_undo_14 rfl
theorem wX3_undo_15 : y_w M_X3_undo mc ms Q (15, lv, st, ω, c, s) = y_ldA lv 0 (fun v => y_w M_X3_undo mc ms Q (16, lv, v :: st, ω, c, s)) := w_aload_n dX3_undo_15 rfl rfl
theorem wX3_undo_16 : y_w M_X3_undo mc ms Q (16, lv, v :: r, ω, c, s) = (v.category = 1 ∧ y_w M_X3_undo mc ms Q (17, lv, v :: v :: r, ω, c, s)) := w_dup dX3_undo_16 rfl
theorem wX3_undo_17 : y_w M_X3_undo mc ms Q (17, lv, .ref a :: r, ω, c, s) = y_gf P_X3_undo 175 (ω.2 a) (fun v => y_w M_X3_undo mc ms Q (20, lv, v :: r, ω, c, s)) := w_getfield dX3_undo_17 rfl rfl
theorem wX3_undo_20 : y_w M_X3_undo mc ms Q (20, lv, st, ω, c, s) = y_w M_X3_undo mc ms Q (21, lv, .int 1 :: st, ω, c, s) := w_iconst dX3_undo_20 (v := 1) (by decide) rfl
theorem wX3_undo_21 : y_w M_X3_undo mc ms Q (21, lv, .int y :: .int x :: r, ω, c, s) = y_w M_X3_undo mc ms Q (22, lv, .int (x - y) :: r, ω, c, s) := w_isub dX3_undo_21 rfl
theorem wX3_undo_22 : y_w M_X3_undo mc ms Q (22, lv, v :: .ref a :: r, ω, c, s) = y_pf P_X3_undo false 175 (ω.2 a) v (fun ci fs => y_w M_X3_undo mc ms Q (25, lv, r, y_hup ω a (.inr (ci, fs)), c, s)) := w_putfield dX3_undo_22 rfl rfl rfl
theorem wX3_undo_25 : y_w M_X3_undo mc ms Q (25, lv, st, ω, c, s) = y_w M_X3_undo mc ms Q (26, lv, .int 0 :: st, ω, c, s) := w_iconst dX3_undo_25 (v := 0) (by decide) rfl
theorem wX3_undo_26 : y_w M_X3_undo mc ms Q (26, lv, .int x :: r, ω, c, s) = y_w M_X3_undo mc ms Q (27, (1, .int x) :: y_kill 1 lv, r, ω, c, s) := w_istore_n dX3_undo_26 rfl (y_dle rfl) rfl
theorem wX3_undo_27 : y_w M_X3_undo mc ms Q (27, lv, st, ω, c, s) = y_ldI lv 1 (fun v => y_w M_X3_undo mc ms Q (28, lv, v :: st, ω, c, s)) := w_iload_n dX3_undo_27 rfl rfl
theorem wX3_undo_28 : y_w M_X3_undo mc ms Q (28, lv, st, ω, c, s) = y_w M_X3_undo mc ms Q (30, lv, .int (nI 68) :: st, ω, c, s) := w_bipush dX3_undo_28 (v := (nI 68)) (by decide) rfl
theorem wX3_undo_30 : y_w M_X3_undo mc ms Q (30, lv, .int y :: .int x :: r, ω, c, s) = ((y ≤ x → y_w M_X3_undo mc ms Q (59, lv, r, ω, c, s)) ∧ (¬ (y ≤ x) → y_w M_X3_undo mc ms Q (33, lv, r, ω, c, s))) := w_icmp dX3_undo_30 (tgt := 59) rfl rfl rfl
theorem wX3_undo_33 : y_w M_X3_undo mc ms Q (33, lv, st, ω, c, s) = y_ldA lv 0 (fun v => y_w M_X3_undo mc ms Q (34, lv, v :: st, ω, c, s)) := w_aload_n dX3_undo_33 rfl rfl
theorem wX3_undo_34 : y_w M_X3_undo mc ms Q (34, lv, .ref a :: r, ω, c, s) = y_gf P_X3_undo 19 (ω.2 a) (fun v => y_w M_X3_undo mc ms Q (37, lv, v :: r, ω, c, s)) := w_getfield dX3_undo_34 rfl rfl
theorem wX3_undo_37 : y_w M_X3_undo mc ms Q (37, lv, st, ω, c, s) = y_ldI lv 1 (fun v => y_w M_X3_undo mc ms Q (38, lv, v :: st, ω, c, s)) := w_iload_n dX3_undo_37 rfl rfl
theorem wX3_undo_38 : y_w M_X3_undo mc ms Q (38, lv, st, ω, c, s) = y_ldA lv 0 (fun v => y_w M_X3_undo mc ms Q (39, lv, v :: st, ω, c, s)) := w_aload_n dX3_undo_38 rfl rfl
theorem wX3_undo_39 : y_w M_X3_undo mc ms Q (39, lv, .ref a :: r, ω, c, s) = y_gf P_X3_undo 25 (ω.2 a) (fun v => y_w M_X3_undo mc ms Q (42, lv, v :: r, ω, c, s)) := w_getfield dX3_undo_39 rfl rfl
theorem wX3_undo_42 : y_w M_X3_undo mc ms Q (42, lv, st, ω, c, s) = y_w M_X3_undo mc ms Q (44, lv, .int (nI 68) :: st, ω, c, s) := w_bipush dX3_undo_42 (v := (nI 68)) (by decide) rfl
theorem wX3_undo_44 : y_w M_X3_undo mc ms Q (44, lv, st, ω, c, s) = y_ldA lv 0 (fun v => y_w M_X3_undo mc ms Q (45, lv, v :: st, ω, c, s)) := w_aload_n dX3_undo_44 rfl rfl
theorem wX3_undo_45 : y_w M_X3_undo mc ms Q (45, lv, .ref a :: r, ω, c, s) = y_gf P_X3_undo 175 (ω.2 a) (fun v => y_w M_X3_undo mc ms Q (48, lv, v :: r, ω, c, s)) := w_getfield dX3_undo_45 rfl rfl
theorem wX3_undo_48 : y_w M_X3_undo mc ms Q (48, lv, .int y :: .int x :: r, ω, c, s) = y_w M_X3_undo mc ms Q (49, lv, .int (x * y) :: r, ω, c, s) := w_imul dX3_undo_48 rfl
theorem wX3_undo_49 : y_w M_X3_undo mc ms Q (49, lv, st, ω, c, s) = y_ldI lv 1 (fun v => y_w M_X3_undo mc ms Q (50, lv, v :: st, ω, c, s)) := w_iload_n dX3_undo_49 rfl rfl
theorem wX3_undo_50 : y_w M_X3_undo mc ms Q (50, lv, .int y :: .int x :: r, ω, c, s) = y_w M_X3_undo mc ms Q (51, lv, .int (x + y) :: r, ω, c, s) := w_iadd dX3_undo_50 rfl
theorem wX3_undo_51 : y_w M_X3_undo mc ms Q (51, lv, .int j :: .ref a :: r, ω, c, s) = y_rI (ω.2 a) j (fun x => y_w M_X3_undo mc ms Q (52, lv, .int x :: r, ω, c, s)) := w_iaload dX3_undo_51 rfl
theorem wX3_undo_52 : y_w M_X3_undo mc ms Q (52, lv, .int x :: .int j :: .ref a :: r, ω, c, s) = y_wI (ω.2 a) j x (fun e => y_w M_X3_undo mc ms Q (53, lv, r, y_hup ω a e, c, s)) := w_iastore dX3_undo_52 rfl
theorem wX3_undo_53 : y_w M_X3_undo mc ms Q (53, lv, st, ω, c, s) = y_inc lv 1 (fun x => y_w M_X3_undo mc ms Q (56, (1, .int (x + 1)) :: y_kill 1 lv, st, ω, c, s)) := w_iinc dX3_undo_53 (d := 1) (by decide) (y_dle rfl) rfl
theorem wX3_undo_56 : y_w M_X3_undo mc ms Q (56, lv, st, ω, c, s) = ∃ lv2, y_lsub lv2 lv ∧ y_w M_X3_undo mc ms Q (27, lv2, st, ω, c, s) := w_back dX3_undo_56 (tgt := 27) (by decide) rfl
theorem wX3_undo_59 : y_w M_X3_undo mc ms Q (59, lv, st, ω, c, s) = y_ldA lv 0 (fun v => y_w M_X3_undo mc ms Q (60, lv, v :: st, ω, c, s)) := w_aload_n dX3_undo_59 rfl rfl
theorem wX3_undo_60 : y_w M_X3_undo mc ms Q (60, lv, .ref a :: r, ω, c, s) = y_gf P_X3_undo 175 (ω.2 a) (fun v => y_w M_X3_undo mc ms Q (63, lv, v :: r, ω, c, s)) := w_getfield dX3_undo_60 rfl rfl
theorem wX3_undo_63 : y_w M_X3_undo mc ms Q (63, lv, [.int x], ω, c, s) = Q (.returned (some (.int x))) ω c s := w_ireturnI dX3_undo_63 rfl
def P_X3_person : y_Pool := ([(48, 3, 0, .int, false)], [], [(221, .long (lN 5)), (68, .int (-1000001))], [(199, 1, 3, 2, (2, 46), F_X3_isPerson), (58, 0, 0, 3, (1, 25), F_X3_in), (181, 1, 3, 3, (1, 22), F_X3_of), (218, 1, 3, 3, (2, 47), F_X3_owedBy)], [], [], [])
def M_X3_person : y_Md := (cX3_person, "YoungerBackModel", (3, (some FieldType.int)), (2, 47), false, P_X3_person, [])
def F_X3_person : y_Tr := y_F M_X3_person
theorem nX3_person : y_nL M_X3_person = 3 := rfl
theorem fX3_person_48_3 : y_ffP P_X3_person 48 3 = some (0, .int, false) := rfl
theorem wX3_person_0 : y_w M_X3_person mc ms Q (0, lv, st, ω, c, s) = y_ldA lv 0 (fun v => y_w M_X3_person mc ms Q (1, lv, v :: st, ω, c, s)) := w_aload_n dX3_person_0 rfl rfl
theorem wX3_person_1 : y_w M_X3_person mc ms Q (1, lv, st, ω, c, s) = y_w M_X3_person mc ms Q (2, lv, .int 0 :: st, ω, c, s) := w_iconst dX3_person_1 (v := 0) (by decide) rfl
theorem wX3_person_2 : y_w M_X3_person mc ms Q (2, lv, v :: .ref a :: r, ω, c, s) = y_pf P_X3_person false 48 (ω.2 a) v (fun ci fs => y_w M_X3_person mc ms Q (5, lv, r, y_hup ω a (.inr (ci, fs)), c, s)) := w_putfield dX3_person_2 rfl rfl rfl
theorem wX3_person_5 : y_w M_X3_person mc ms Q (5, lv, st, ω, c, s) = y_ldA lv 0 (fun v => y_w M_X3_person mc ms Q (6, lv, v :: st, ω, c, s)) := w_aload_n dX3_person_5 rfl rfl
theorem wX3_person_6 : y_w M_X3_person mc ms Q (6, lv, st, ω, c, s) = y_ldI lv 1 (fun v => y_w M_X3_person mc ms Q (7, lv, v :: st, ω, c, s)) := w_iload_n dX3_person_6 rfl rfl
theorem wX3_person_7 (hc : y_cls ω a = some 3) : y_w M_X3_person mc ms Q (7, lv, v1 :: .ref a :: r, ω, c, s) = (y_cat r ≤ 8 ∧ F_X3_isPerson mc ms [.ref a, v1] ω c s (y_aft M_X3_person 7 3 lv r (y_w M_X3_person mc ms Q) Q)) := w_call1 (av := [v1]) (Or.inl ⟨⟨rfl, rfl⟩, rfl⟩) dX3_person_7 rfl hc rfl (y_F_mono _) (y_dle rfl) (y_dle rfl) rfl rfl
theorem wX3_person_10 : y_w M_X3_person mc ms Q (10, lv, .int x :: r, ω, c, s) = ((x = 0 → y_w M_X3_person mc ms Q (25, lv, r, ω, c, s)) ∧ (¬ (x = 0) → y_w M_X3_person mc ms Q (13, lv, r, ω, c, s))) := w_if dX3_person_10 (tgt := 25) rfl rfl rfl
theorem wX3_person_13 : y_w M_X3_person mc ms Q (13, lv, st, ω, c, s) = y_ldI lv 2 (fun v => y_w M_X3_person mc ms Q (14, lv, v :: st, ω, c, s)) := w_iload_n dX3_person_13 rfl rfl
theorem wX3_person_14 : y_w M_X3_person mc ms Q (14, lv, .int x :: r, ω, c, s) = y_w M_X3_person mc ms Q (15, lv, .long x.toInt64 :: r, ω, c, s) := w_i2l dX3_person_14 rfl
theorem wX3_person_15 : y_w M_X3_person mc ms Q (15, lv, st, ω, c, s) = y_w M_X3_person mc ms Q (16, lv, .long 0 :: st, ω, c, s) := w_lconst dX3_person_15 (v := 0) (by decide) rfl
theorem wX3_person_16 : y_w M_X3_person mc ms Q (16, lv, st, ω, c, s) = y_w M_X3_person mc ms Q (19, lv, .long (lN 5) :: st, ω, c, s) := w_ldc2_w dX3_person_16 rfl rfl rfl
theorem wX3_person_19 : y_w M_X3_person mc ms Q (19, lv, v2 :: v1 :: v0 :: r, ω, c, s) = (y_cat r ≤ 8 ∧ F_X3_in mc ms [v0, v1, v2] ω c s (y_aft M_X3_person 19 3 lv r (y_w M_X3_person mc ms Q) Q)) := w_call0 (av := [v0, v1, v2]) ⟨Or.inr ⟨rfl, rfl⟩, rfl⟩ dX3_person_19 rfl (y_F_mono _) (y_dle rfl) (y_dle rfl) rfl rfl
theorem wX3_person_22 : y_w M_X3_person mc ms Q (22, lv, .int x :: r, ω, c, s) = ((¬ x = 0 → y_w M_X3_person mc ms Q (28, lv, r, ω, c, s)) ∧ (¬ (¬ x = 0) → y_w M_X3_person mc ms Q (25, lv, r, ω, c, s))) := w_if dX3_person_22 (tgt := 28) rfl rfl rfl
theorem wX3_person_25 : y_w M_X3_person mc ms Q (25, lv, st, ω, c, s) = y_w M_X3_person mc ms Q (27, lv, .int (-1000001) :: st, ω, c, s) := w_ldc dX3_person_25 rfl rfl rfl
theorem wX3_person_27 : y_w M_X3_person mc ms Q (27, lv, [.int x], ω, c, s) = Q (.returned (some (.int x))) ω c s := w_ireturnI dX3_person_27 rfl
theorem wX3_person_28 : y_w M_X3_person mc ms Q (28, lv, st, ω, c, s) = y_ldI lv 2 (fun v => y_w M_X3_person mc ms Q (29, lv, v :: st, ω, c, s)) := w_iload_n dX3_person_28 rfl rfl
theorem wX3_person_29 : y_w M_X3_person mc ms Q (29, lv, .int x :: r, ω, c, s) = y_sw x 0 [60, 67, 74, 81] 102 (fun t => y_w M_X3_person mc ms Q (t, lv, r, ω, c, s)) := w_tsw dX3_person_29 (dt := 102) (ts := [60, 67, 74, 81]) rfl (by decide) (by decide)
theorem wX3_person_60 : y_w M_X3_person mc ms Q (60, lv, st, ω, c, s) = y_ldA lv 0 (fun v => y_w M_X3_person mc ms Q (61, lv, v :: st, ω, c, s)) := w_aload_n dX3_person_60 rfl rfl
theorem wX3_person_61 : y_w M_X3_person mc ms Q (61, lv, st, ω, c, s) = y_ldI lv 1 (fun v => y_w M_X3_person mc ms Q (62, lv, v :: st, ω, c, s)) := w_iload_n dX3_person_61 rfl rfl
theorem wX3_person_62 : y_w M_X3_person mc ms Q (62, lv, st, ω, c, s) = y_w M_X3_person mc ms Q (63, lv, .int 1 :: st, ω, c, s) := w_iconst dX3_person_62 (v := 1) (by decide) rfl
theorem wX3_person_63 (hc : y_cls ω a = some 3) : y_w M_X3_person mc ms Q (63, lv, v2 :: v1 :: .ref a :: r, ω, c, s) = (y_cat r ≤ 8 ∧ F_X3_of mc ms [.ref a, v1, v2] ω c s (y_aft M_X3_person 63 3 lv r (y_w M_X3_person mc ms Q) Q)) := w_call1 (av := [v1, v2]) (Or.inl ⟨⟨rfl, rfl⟩, rfl⟩) dX3_person_63 rfl hc rfl (y_F_mono _) (y_dle rfl) (y_dle rfl) rfl rfl
theorem wX3_person_66 : y_w M_X3_person mc ms Q (66, lv, [.int x], ω, c, s) = Q (.returned (some (.int x))) ω c s := w_ireturnI dX3_person_66 rfl
theorem wX3_person_67 : y_w M_X3_person mc ms Q (67, lv, st, ω, c, s) = y_ldA lv 0 (fun v => y_w M_X3_person mc ms Q (68, lv, v :: st, ω, c, s)) := w_aload_n dX3_person_67 rfl rfl
theorem wX3_person_68 : y_w M_X3_person mc ms Q (68, lv, st, ω, c, s) = y_ldI lv 1 (fun v => y_w M_X3_person mc ms Q (69, lv, v :: st, ω, c, s)) := w_iload_n dX3_person_68 rfl rfl
theorem wX3_person_69 : y_w M_X3_person mc ms Q (69, lv, st, ω, c, s) = y_w M_X3_person mc ms Q (70, lv, .int (nI 3) :: st, ω, c, s) := w_iconst dX3_person_69 (v := (nI 3)) (by decide) rfl
theorem wX3_person_70 (hc : y_cls ω a = some 3) : y_w M_X3_person mc ms Q (70, lv, v2 :: v1 :: .ref a :: r, ω, c, s) = (y_cat r ≤ 8 ∧ F_X3_of mc ms [.ref a, v1, v2] ω c s (y_aft M_X3_person 70 3 lv r (y_w M_X3_person mc ms Q) Q)) := w_call1 (av := [v1, v2]) (Or.inl ⟨⟨rfl, rfl⟩, rfl⟩) dX3_person_70 rfl hc rfl (y_F_mono _) (y_dle rfl) (y_dle rfl) rfl rfl
theorem wX3_person_73 : y_w M_X3_person mc ms Q (73, lv, [.int x], ω, c, s) = Q (.returned (some (.int x))) ω c s := w_ireturnI dX3_person_73 rfl
theorem wX3_person_74 : y_w M_X3_person mc ms Q (74, lv, st, ω, c, s) = y_ldA lv 0 (fun v => y_w M_X3_person mc ms Q (75, lv, v :: st, ω, c, s)) := w_aload_n dX3_person_74 rfl rfl
theorem wX3_person_75 : y_w M_X3_person mc ms Q (75, lv, st, ω, c, s) = y_ldI lv 1 (fun v => y_w M_X3_person mc ms Q (76, lv, v :: st, ω, c, s)) := w_iload_n dX3_person_75 rfl rfl
theorem wX3_person_76 : y_w M_X3_person mc ms Q (76, lv, st, ω, c, s) = y_w M_X3_person mc ms Q (77, lv, .int (nI 4) :: st, ω, c, s) := w_iconst dX3_person_76 (v := (nI 4)) (by decide) rfl
theorem wX3_person_77 (hc : y_cls ω a = some 3) : y_w M_X3_person mc ms Q (77, lv, v2 :: v1 :: .ref a :: r, ω, c, s) = (y_cat r ≤ 8 ∧ F_X3_of mc ms [.ref a, v1, v2] ω c s (y_aft M_X3_person 77 3 lv r (y_w M_X3_person mc ms Q) Q)) := w_call1 (av := [v1, v2]) (Or.inl ⟨⟨rfl, rfl⟩, rfl⟩) dX3_person_77 rfl hc rfl (y_F_mono _) (y_dle rfl) (y_dle rfl) rfl rfl
theorem wX3_person_80 : y_w M_X3_person mc ms Q (80, lv, [.int x], ω, c, s) = Q (.returned (some (.int x))) ω c s := w_ireturnI dX3_person_80 rfl
theorem wX3_person_81 : y_w M_X3_person mc ms Q (81, lv, st, ω, c, s) = y_ldA lv 0 (fun v => y_w M_X3_person mc ms Q (82, lv, v :: st, ω, c, s)) := w_aload_n dX3_person_81 rfl rfl
theorem wX3_person_82 : y_w M_X3_person mc ms Q (82, lv, st, ω, c, s) = y_ldI lv 1 (fun v => y_w M_X3_person mc ms Q (83, lv, v :: st, ω, c, s)) := w_iload_n dX3_person_82 rfl rfl
theorem wX3_person_83 : y_w M_X3_person mc ms Q (83, lv, st, ω, c, s) = y_w M_X3_person mc ms Q (84, lv, .int (nI 3) :: st, ω, c, s) := w_iconst dX3_person_83 (v := (nI 3)) (by decide) rfl
theorem wX3_person_84 (hc : y_cls ω a = some 3) : y_w M_X3_person mc ms Q (84, lv, v2 :: v1 :: .ref a :: r, ω, c, s) = (y_cat r ≤ 8 ∧ F_X3_of mc ms [.ref a, v1, v2] ω c s (y_aft M_X3_person 84 3 lv r (y_w M_X3_person mc ms Q) Q)) := w_call1 (av := [v1, v2]) (Or.inl ⟨⟨rfl, rfl⟩, rfl⟩) dX3_person_84 rfl hc rfl (y_F_mono _) (y_dle rfl) (y_dle rfl) rfl rfl
theorem wX3_person_87 : y_w M_X3_person mc ms Q (87, lv, st, ω, c, s) = y_ldA lv 0 (fun v => y_w M_X3_person mc ms Q (88, lv, v :: st, ω, c, s)) := w_aload_n dX3_person_87 rfl rfl
theorem wX3_person_88 : y_w M_X3_person mc ms Q (88, lv, st, ω, c, s) = y_ldI lv 1 (fun v => y_w M_X3_person mc ms Q (89, lv, v :: st, ω, c, s)) := w_iload_n dX3_person_88 rfl rfl
theorem wX3_person_89 : y_w M_X3_person mc ms Q (89, lv, st, ω, c, s) = y_w M_X3_person mc ms Q (90, lv, .int (nI 2) :: st, ω, c, s) := w_iconst dX3_person_89 (v := (nI 2)) (by decide) rfl
theorem wX3_person_90 (hc : y_cls ω a = some 3) : y_w M_X3_person mc ms Q (90, lv, v2 :: v1 :: .ref a :: r, ω, c, s) = (y_cat r ≤ 8 ∧ F_X3_of mc ms [.ref a, v1, v2] ω c s (y_aft M_X3_person 90 3 lv r (y_w M_X3_person mc ms Q) Q)) := w_call1 (av := [v1, v2]) (Or.inl ⟨⟨rfl, rfl⟩, rfl⟩) dX3_person_90 rfl hc rfl (y_F_mono _) (y_dle rfl) (y_dle rfl) rfl rfl
theorem wX3_person_93 : y_w M_X3_person mc ms Q (93, lv, .int y :: .int x :: r, ω, c, s) = y_w M_X3_person mc ms Q (94, lv, .int (x + y) :: r, ω, c, s) := w_iadd dX3_person_93 rfl
theorem wX3_person_94 : y_w M_X3_person mc ms Q (94, lv, st, ω, c, s) = y_ldA lv 0 (fun v => y_w M_X3_person mc ms Q (95, lv, v :: st, ω, c, s)) := w_aload_n dX3_person_94 rfl rfl
theorem wX3_person_95 : y_w M_X3_person mc ms Q (95, lv, st, ω, c, s) = y_ldI lv 1 (fun v => y_w M_X3_person mc ms Q (96, lv, v :: st, ω, c, s)) := w_iload_n dX3_person_95 rfl rfl
theorem wX3_person_96 : y_w M_X3_person mc ms Q (96, lv, st, ω, c, s) = y_w M_X3_person mc ms Q (97, lv, .int (nI 4) :: st, ω, c, s) := w_iconst dX3_person_96 (v := (nI 4)) (by decide) rfl
theorem wX3_person_97 (hc : y_cls ω a = some 3) : y_w M_X3_person mc ms Q (97, lv, v2 :: v1 :: .ref a :: r, ω, c, s) = (y_cat r ≤ 8 ∧ F_X3_of mc ms [.ref a, v1, v2] ω c s (y_aft M_X3_person 97 3 lv r (y_w M_X3_person mc ms Q) Q)) := w_call1 (av := [v1, v2]) (Or.inl ⟨⟨rfl, rfl⟩, rfl⟩) dX3_person_97 rfl hc rfl (y_F_mono _) (y_dle rfl) (y_dle rfl) rfl rfl
theorem wX3_person_100 : y_w M_X3_person mc ms Q (100, lv, .int y :: .int x :: r, ω, c, s) = y_w M_X3_person mc ms Q (101, lv, .int (x - y) :: r, ω, c, s) := w_isub dX3_person_100 rfl
theorem wX3_person_101 : y_w M_X3_person mc ms Q (101, lv, [.int x], ω, c, s) = Q (.returned (some (.int x))) ω c s := w_ireturnI dX3_person_101 rfl
theorem wX3_person_102 : y_w M_X3_person mc ms Q (102, lv, st, ω, c, s) = y_ldA lv 0 (fun v => y_w M_X3_person mc ms Q (103, lv, v :: st, ω, c, s)) := w_aload_n dX3_person_102 rfl rfl
theorem wX3_person_103 : y_w M_X3_person mc ms Q (103, lv, st, ω, c, s) = y_ldI lv 1 (fun v => y_w M_X3_person mc ms Q (104, lv, v :: st, ω, c, s)) := w_iload_n dX3_person_103 rfl rfl
theorem wX3_person_104 : y_w M_X3_person mc ms Q (104, lv, st, ω, c, s) = y_ldI lv 2 (fun v => y_w M_X3_person mc ms Q (105, lv, v :: st, ω, c, s)) := w_iload_n dX3_person_104 rfl rfl
theorem wX3_person_105 : y_w M_X3_person mc ms Q (105, lv, st, ω, c, s) = y_w M_X3_person mc ms Q (106, lv, .int (nI 4) :: st, ω, c, s) := w_iconst dX3_person_105 (v := (nI 4)) (by decide) rfl
theorem wX3_person_106 : y_w M_X3_person mc ms Q (106, lv, .int y :: .int x :: r, ω, c, s) = y_w M_X3_person mc ms Q (107, lv, .int (x - y) :: r, ω, c, s) := w_isub dX3_person_106 rfl
theorem wX3_person_107 (hc : y_cls ω a = some 3) : y_w M_X3_person mc ms Q (107, lv, v2 :: v1 :: .ref a :: r, ω, c, s) = (y_cat r ≤ 8 ∧ F_X3_owedBy mc ms [.ref a, v1, v2] ω c s (y_aft M_X3_person 107 3 lv r (y_w M_X3_person mc ms Q) Q)) := w_call1 (av := [v1, v2]) (Or.inl ⟨⟨rfl, rfl⟩, rfl⟩) dX3_person_107 rfl hc rfl (y_F_mono _) (y_dle rfl) (y_dle rfl) rfl rfl
theorem wX3_person_110 : y_w M_X3_person mc ms Q (110, lv, [.int x], ω, c, s) = Q (.returned (some (.int x))) ω c s := w_ireturnI dX3_person_110 rfl
def P_X3_isHarbour : y_Pool := ([(19, 3, 5, (.array .int), true)], [], [], [(58, 0, 0, 3, (1, 25), F_X3_in)], [], [], [])
def M_X3_isHarbour : y_Md := (cX3_isHarbour, "YoungerBackModel", (2, (some FieldType.boolean)), (1, 25), false, P_X3_isHarbour, [])
def F_X3_isHarbour : y_Tr := y_F M_X3_isHarbour
theorem nX3_isHarbour : y_nL M_X3_isHarbour = 2 := rfl
theorem fX3_isHarbour_19_3 : y_ffP P_X3_isHarbour 19 3 = some (5, (.array .int), true) := rfl
theorem wX3_isHarbour_0 : y_w M_X3_isHarbour mc ms Q (0, lv, st, ω, c, s) = y_ldI lv 1 (fun v => y_w M_X3_isHarbour mc ms Q (1, lv, v :: st, ω, c, s)) := w_iload_n dX3_isHarbour_0 rfl rfl
theorem wX3_isHarbour_1 : y_w M_X3_isHarbour mc ms Q (1, lv, .int x :: r, ω, c, s) = y_w M_X3_isHarbour mc ms Q (2, lv, .long x.toInt64 :: r, ω, c, s) := w_i2l dX3_isHarbour_1 rfl
theorem wX3_isHarbour_2 : y_w M_X3_isHarbour mc ms Q (2, lv, st, ω, c, s) = y_w M_X3_isHarbour mc ms Q (3, lv, .long 0 :: st, ω, c, s) := w_lconst dX3_isHarbour_2 (v := 0) (by decide) rfl
theorem wX3_isHarbour_3 : y_w M_X3_isHarbour mc ms Q (3, lv, st, ω, c, s) = y_ldA lv 0 (fun v => y_w M_X3_isHarbour mc ms Q (4, lv, v :: st, ω, c, s)) := w_aload_n dX3_isHarbour_3 rfl rfl
theorem wX3_isHarbour_4 : y_w M_X3_isHarbour mc ms Q (4, lv, .ref a :: r, ω, c, s) = y_gf P_X3_isHarbour 19 (ω.2 a) (fun v => y_w M_X3_isHarbour mc ms Q (7, lv, v :: r, ω, c, s)) := w_getfield dX3_isHarbour_4 rfl rfl
theorem wX3_isHarbour_7 : y_w M_X3_isHarbour mc ms Q (7, lv, st, ω, c, s) = y_w M_X3_isHarbour mc ms Q (8, lv, .int 0 :: st, ω, c, s) := w_iconst dX3_isHarbour_7 (v := 0) (by decide) rfl
theorem wX3_isHarbour_8 : y_w M_X3_isHarbour mc ms Q (8, lv, .int j :: .ref a :: r, ω, c, s) = y_rI (ω.2 a) j (fun x => y_w M_X3_isHarbour mc ms Q (9, lv, .int x :: r, ω, c, s)) := w_iaload dX3_isHarbour_8 rfl
theorem wX3_isHarbour_9 : y_w M_X3_isHarbour mc ms Q (9, lv, st, ω, c, s) = y_w M_X3_isHarbour mc ms Q (10, lv, .int 1 :: st, ω, c, s) := w_iconst dX3_isHarbour_9 (v := 1) (by decide) rfl
theorem wX3_isHarbour_10 : y_w M_X3_isHarbour mc ms Q (10, lv, .int y :: .int x :: r, ω, c, s) = y_w M_X3_isHarbour mc ms Q (11, lv, .int (x - y) :: r, ω, c, s) := w_isub dX3_isHarbour_10 rfl
theorem wX3_isHarbour_11 : y_w M_X3_isHarbour mc ms Q (11, lv, .int x :: r, ω, c, s) = y_w M_X3_isHarbour mc ms Q (12, lv, .long x.toInt64 :: r, ω, c, s) := w_i2l dX3_isHarbour_11 rfl
theorem wX3_isHarbour_12 : y_w M_X3_isHarbour mc ms Q (12, lv, v2 :: v1 :: v0 :: r, ω, c, s) = (y_cat r ≤ 8 ∧ F_X3_in mc ms [v0, v1, v2] ω c s (y_aft M_X3_isHarbour 12 3 lv r (y_w M_X3_isHarbour mc ms Q) Q)) := w_call0 (av := [v0, v1, v2]) ⟨Or.inr ⟨rfl, rfl⟩, rfl⟩ dX3_isHarbour_12 rfl (y_F_mono _) (y_dle rfl) (y_dle rfl) rfl rfl
theorem wX3_isHarbour_15 : y_w M_X3_isHarbour mc ms Q (15, lv, [.int x], ω, c, s) = (narrow FieldType.boolean (.int x) = .int x ∧ Q (.returned (some (.int x))) ω c s) := w_ireturn dX3_isHarbour_15 rfl
def P_X3_layGains : y_Pool := ([(31, 3, 19, (.array .long), true), (19, 3, 5, (.array .int), true)], [], [(84, .int (-1000000))], [(181, 1, 3, 3, (1, 22), F_X3_of), (184, 1, 3, 4, (2, 46), F_X3_endOf), (178, 1, 3, 3, (1, 22), F_X3_wayOf), (192, 1, 3, 3, (2, 45), F_X3_agesBy)], [], [], [])
def M_X3_layGains : y_Md := (cX3_layGains, "YoungerBackModel", (9, none), (2, 46), false, P_X3_layGains, [])
def F_X3_layGains : y_Tr := y_F M_X3_layGains
theorem nX3_layGains : y_nL M_X3_layGains = 9 := rfl
theorem fX3_layGains_31_3 : y_ffP P_X3_layGains 31 3 = some (19, (.array .long), true) := rfl
theorem fX3_layGains_19_3 : y_ffP P_X3_layGains 19 3 = some (5, (.array .int), true) := rfl
theorem wX3_layGains_0 : y_w M_X3_layGains mc ms Q (0, lv, st, ω, c, s) = y_w M_X3_layGains mc ms Q (1, lv, .int 0 :: st, ω, c, s) := w_iconst dX3_layGains_0 (v := 0) (by decide) rfl
theorem wX3_layGains_1 : y_w M_X3_layGains mc ms Q (1, lv, .int x :: r, ω, c, s) = y_w M_X3_layGains mc ms Q (2, (2, .int x) :: y_kill 2 lv, r, ω, c, s) := w_istore_n dX3_layGains_1 rfl (y_dle rfl) rfl
theorem wX3_layGains_2 : y_w M_X3_layGains mc ms Q (2, lv, st, ω, c, s) = y_ldI lv 2 (fun v => y_w M_X3_layGains mc ms Q (3, lv, v :: st, ω, c, s)) := w_iload_n dX3_layGains_2 rfl rfl
theorem wX3_layGains_3 : y_w M_X3_layGains mc ms Q (3, lv, st, ω, c, s) = y_w M_X3_layGains mc ms Q (6, lv, .int (nI 205) :: st, ω, c, s) := w_sipush dX3_layGains_3 (v := (nI 205)) (by decide) rfl
theorem wX3_layGains_6 : y_w M_X3_layGains mc ms Q (6, lv, .int y :: .int x :: r, ω, c, s) = ((y ≤ x → y_w M_X3_layGains mc ms Q (22, lv, r, ω, c, s)) ∧ (¬ (y ≤ x) → y_w M_X3_layGains mc ms Q (9, lv, r, ω, c, s))) := w_icmp dX3_layGains_6 (tgt := 22) rfl rfl rfl
theorem wX3_layGains_9 : y_w M_X3_layGains mc ms Q (9, lv, st, ω, c, s) = y_ldA lv 0 (fun v => y_w M_X3_layGains mc ms Q (10, lv, v :: st, ω, c, s)) := w_aload_n dX3_layGains_9 rfl rfl
theorem wX3_layGains_10 : y_w M_X3_layGains mc ms Q (10, lv, .ref a :: r, ω, c, s) = y_gf P_X3_layGains 31 (ω.2 a) (fun v => y_w M_X3_layGains mc ms Q (13, lv, v :: r, ω, c, s)) := w_getfield dX3_layGains_10 rfl rfl
theorem wX3_layGains_13 : y_w M_X3_layGains mc ms Q (13, lv, st, ω, c, s) = y_ldI lv 2 (fun v => y_w M_X3_layGains mc ms Q (14, lv, v :: st, ω, c, s)) := w_iload_n dX3_layGains_13 rfl rfl
theorem wX3_layGains_14 : y_w M_X3_layGains mc ms Q (14, lv, st, ω, c, s) = y_w M_X3_layGains mc ms Q (15, lv, .long 0 :: st, ω, c, s) := w_lconst dX3_layGains_14 (v := 0) (by decide) rfl
theorem wX3_layGains_15 : y_w M_X3_layGains mc ms Q (15, lv, .long z :: .int j :: .ref a :: r, ω, c, s) = y_wL (ω.2 a) j z (fun e => y_w M_X3_layGains mc ms Q (16, lv, r, y_hup ω a e, c, s)) := w_lastore dX3_layGains_15 rfl
theorem wX3_layGains_16 : y_w M_X3_layGains mc ms Q (16, lv, st, ω, c, s) = y_inc lv 2 (fun x => y_w M_X3_layGains mc ms Q (19, (2, .int (x + 1)) :: y_kill 2 lv, st, ω, c, s)) := w_iinc dX3_layGains_16 (d := 1) (by decide) (y_dle rfl) rfl
theorem wX3_layGains_19 : y_w M_X3_layGains mc ms Q (19, lv, st, ω, c, s) = ∃ lv2, y_lsub lv2 lv ∧ y_w M_X3_layGains mc ms Q (2, lv2, st, ω, c, s) := w_back dX3_layGains_19 (tgt := 2) (by decide) rfl
theorem wX3_layGains_22 : y_w M_X3_layGains mc ms Q (22, lv, st, ω, c, s) = y_ldA lv 0 (fun v => y_w M_X3_layGains mc ms Q (23, lv, v :: st, ω, c, s)) := w_aload_n dX3_layGains_22 rfl rfl
theorem wX3_layGains_23 : y_w M_X3_layGains mc ms Q (23, lv, .ref a :: r, ω, c, s) = y_gf P_X3_layGains 31 (ω.2 a) (fun v => y_w M_X3_layGains mc ms Q (26, lv, v :: r, ω, c, s)) := w_getfield dX3_layGains_23 rfl rfl
theorem wX3_layGains_26 : y_w M_X3_layGains mc ms Q (26, lv, st, ω, c, s) = y_ldA lv 0 (fun v => y_w M_X3_layGains mc ms Q (27, lv, v :: st, ω, c, s)) := w_aload_n dX3_layGains_26 rfl rfl
theorem wX3_layGains_27 : y_w M_X3_layGains mc ms Q (27, lv, st, ω, c, s) = y_ldI lv 1 (fun v => y_w M_X3_layGains mc ms Q (28, lv, v :: st, ω, c, s)) := w_iload_n dX3_layGains_27 rfl rfl
theorem wX3_layGains_28 : y_w M_X3_layGains mc ms Q (28, lv, st, ω, c, s) = y_w M_X3_layGains mc ms Q (29, lv, .int 1 :: st, ω, c, s) := w_iconst dX3_layGains_28 (v := 1) (by decide) rfl
theorem wX3_layGains_29 (hc : y_cls ω a = some 3) : y_w M_X3_layGains mc ms Q (29, lv, v2 :: v1 :: .ref a :: r, ω, c, s) = (y_cat r ≤ 8 ∧ F_X3_of mc ms [.ref a, v1, v2] ω c s (y_aft M_X3_layGains 29 3 lv r (y_w M_X3_layGains mc ms Q) Q)) := w_call1 (av := [v1, v2]) (Or.inl ⟨⟨rfl, rfl⟩, rfl⟩) dX3_layGains_29 rfl hc rfl (y_F_mono _) (y_dle rfl) (y_dle rfl) rfl rfl
theorem wX3_layGains_32 : y_w M_X3_layGains mc ms Q (32, lv, st, ω, c, s) = y_w M_X3_layGains mc ms Q (33, lv, .long 1 :: st, ω, c, s) := w_lconst dX3_layGains_32 (v := 1) (by decide) rfl
theorem wX3_layGains_33 : y_w M_X3_layGains mc ms Q (33, lv, .long z :: .int j :: .ref a :: r, ω, c, s) = y_wL (ω.2 a) j z (fun e => y_w M_X3_layGains mc ms Q (34, lv, r, y_hup ω a e, c, s)) := w_lastore dX3_layGains_33 rfl
theorem wX3_layGains_34 : y_w M_X3_layGains mc ms Q (34, lv, st, ω, c, s) = y_w M_X3_layGains mc ms Q (35, lv, .int 0 :: st, ω, c, s) := w_iconst dX3_layGains_34 (v := 0) (by decide) rfl
theorem wX3_layGains_35 : y_w M_X3_layGains mc ms Q (35, lv, .int x :: r, ω, c, s) = y_w M_X3_layGains mc ms Q (36, (2, .int x) :: y_kill 2 lv, r, ω, c, s) := w_istore_n dX3_layGains_35 rfl (y_dle rfl) rfl
theorem wX3_layGains_36 : y_w M_X3_layGains mc ms Q (36, lv, st, ω, c, s) = y_ldI lv 2 (fun v => y_w M_X3_layGains mc ms Q (37, lv, v :: st, ω, c, s)) := w_iload_n dX3_layGains_36 rfl rfl
theorem wX3_layGains_37 : y_w M_X3_layGains mc ms Q (37, lv, st, ω, c, s) = y_w M_X3_layGains mc ms Q (39, lv, .int (nI 40) :: st, ω, c, s) := w_bipush dX3_layGains_37 (v := (nI 40)) (by decide) rfl
theorem wX3_layGains_39 : y_w M_X3_layGains mc ms Q (39, lv, .int y :: .int x :: r, ω, c, s) = ((y ≤ x → y_w M_X3_layGains mc ms Q (183, lv, r, ω, c, s)) ∧ (¬ (y ≤ x) → y_w M_X3_layGains mc ms Q (42, lv, r, ω, c, s))) := w_icmp dX3_layGains_39 (tgt := 183) rfl rfl rfl
theorem wX3_layGains_42 : y_w M_X3_layGains mc ms Q (42, lv, st, ω, c, s) = y_w M_X3_layGains mc ms Q (43, lv, .int 0 :: st, ω, c, s) := w_iconst dX3_layGains_42 (v := 0) (by decide) rfl
theorem wX3_layGains_43 : y_w M_X3_layGains mc ms Q (43, lv, .int x :: r, ω, c, s) = y_w M_X3_layGains mc ms Q (44, (3, .int x) :: y_kill 3 lv, r, ω, c, s) := w_istore_n dX3_layGains_43 rfl (y_dle rfl) rfl
theorem wX3_layGains_44 : y_w M_X3_layGains mc ms Q (44, lv, st, ω, c, s) = y_ldI lv 3 (fun v => y_w M_X3_layGains mc ms Q (45, lv, v :: st, ω, c, s)) := w_iload_n dX3_layGains_44 rfl rfl
theorem wX3_layGains_45 : y_w M_X3_layGains mc ms Q (45, lv, st, ω, c, s) = y_ldA lv 0 (fun v => y_w M_X3_layGains mc ms Q (46, lv, v :: st, ω, c, s)) := w_aload_n dX3_layGains_45 rfl rfl
theorem wX3_layGains_46 : y_w M_X3_layGains mc ms Q (46, lv, .ref a :: r, ω, c, s) = y_gf P_X3_layGains 19 (ω.2 a) (fun v => y_w M_X3_layGains mc ms Q (49, lv, v :: r, ω, c, s)) := w_getfield dX3_layGains_46 rfl rfl
theorem wX3_layGains_49 : y_w M_X3_layGains mc ms Q (49, lv, st, ω, c, s) = y_w M_X3_layGains mc ms Q (50, lv, .int 0 :: st, ω, c, s) := w_iconst dX3_layGains_49 (v := 0) (by decide) rfl
theorem wX3_layGains_50 : y_w M_X3_layGains mc ms Q (50, lv, .int j :: .ref a :: r, ω, c, s) = y_rI (ω.2 a) j (fun x => y_w M_X3_layGains mc ms Q (51, lv, .int x :: r, ω, c, s)) := w_iaload dX3_layGains_50 rfl
theorem wX3_layGains_51 : y_w M_X3_layGains mc ms Q (51, lv, .int y :: .int x :: r, ω, c, s) = ((y ≤ x → y_w M_X3_layGains mc ms Q (177, lv, r, ω, c, s)) ∧ (¬ (y ≤ x) → y_w M_X3_layGains mc ms Q (54, lv, r, ω, c, s))) := w_icmp dX3_layGains_51 (tgt := 177) rfl rfl rfl
theorem wX3_layGains_54 : y_w M_X3_layGains mc ms Q (54, lv, st, ω, c, s) = y_ldA lv 0 (fun v => y_w M_X3_layGains mc ms Q (55, lv, v :: st, ω, c, s)) := w_aload_n dX3_layGains_54 rfl rfl
theorem wX3_layGains_55 : y_w M_X3_layGains mc ms Q (55, lv, .ref a :: r, ω, c, s) = y_gf P_X3_layGains 31 (ω.2 a) (fun v => y_w M_X3_layGains mc ms Q (58, lv, v :: r, ω, c, s)) := w_getfield dX3_layGains_55 rfl rfl
theorem wX3_layGains_58 : y_w M_X3_layGains mc ms Q (58, lv, st, ω, c, s) = y_w M_X3_layGains mc ms Q (59, lv, .int (nI 5) :: st, ω, c, s) := w_iconst dX3_layGains_58 (v := (nI 5)) (by decide) rfl
theorem wX3_layGains_59 : y_w M_X3_layGains mc ms Q (59, lv, st, ω, c, s) = y_ldI lv 2 (fun v => y_w M_X3_layGains mc ms Q (60, lv, v :: st, ω, c, s)) := w_iload_n dX3_layGains_59 rfl rfl
theorem wX3_layGains_60 : y_w M_X3_layGains mc ms Q (60, lv, .int y :: .int x :: r, ω, c, s) = y_w M_X3_layGains mc ms Q (61, lv, .int (x * y) :: r, ω, c, s) := w_imul dX3_layGains_60 rfl
theorem wX3_layGains_61 : y_w M_X3_layGains mc ms Q (61, lv, st, ω, c, s) = y_ldI lv 3 (fun v => y_w M_X3_layGains mc ms Q (62, lv, v :: st, ω, c, s)) := w_iload_n dX3_layGains_61 rfl rfl
theorem wX3_layGains_62 : y_w M_X3_layGains mc ms Q (62, lv, .int y :: .int x :: r, ω, c, s) = y_w M_X3_layGains mc ms Q (63, lv, .int (x + y) :: r, ω, c, s) := w_iadd dX3_layGains_62 rfl
theorem wX3_layGains_63 : y_w M_X3_layGains mc ms Q (63, lv, .int j :: .ref a :: r, ω, c, s) = y_rL (ω.2 a) j (fun x => y_w M_X3_layGains mc ms Q (64, lv, .long x :: r, ω, c, s)) := w_laload dX3_layGains_63 rfl
theorem wX3_layGains_64 : y_w M_X3_layGains mc ms Q (64, lv, .long z :: r, ω, c, s) = y_w M_X3_layGains mc ms Q (66, (4, .long z) :: y_kill2 4 lv, r, ω, c, s) := w_lstore dX3_layGains_64 (y_dle rfl) rfl
theorem wX3_layGains_66 : y_w M_X3_layGains mc ms Q (66, lv, st, ω, c, s) = y_ldA lv 0 (fun v => y_w M_X3_layGains mc ms Q (67, lv, v :: st, ω, c, s)) := w_aload_n dX3_layGains_66 rfl rfl
theorem wX3_layGains_67 : y_w M_X3_layGains mc ms Q (67, lv, .ref a :: r, ω, c, s) = y_gf P_X3_layGains 31 (ω.2 a) (fun v => y_w M_X3_layGains mc ms Q (70, lv, v :: r, ω, c, s)) := w_getfield dX3_layGains_67 rfl rfl
theorem wX3_layGains_70 : y_w M_X3_layGains mc ms Q (70, lv, st, ω, c, s) = y_w M_X3_layGains mc ms Q (71, lv, .int (nI 5) :: st, ω, c, s) := w_iconst dX3_layGains_70 (v := (nI 5)) (by decide) rfl
theorem wX3_layGains_71 : y_w M_X3_layGains mc ms Q (71, lv, st, ω, c, s) = y_ldI lv 2 (fun v => y_w M_X3_layGains mc ms Q (72, lv, v :: st, ω, c, s)) := w_iload_n dX3_layGains_71 rfl rfl
theorem wX3_layGains_72 : y_w M_X3_layGains mc ms Q (72, lv, .int y :: .int x :: r, ω, c, s) = y_w M_X3_layGains mc ms Q (73, lv, .int (x * y) :: r, ω, c, s) := w_imul dX3_layGains_72 rfl
theorem wX3_layGains_73 : y_w M_X3_layGains mc ms Q (73, lv, st, ω, c, s) = y_w M_X3_layGains mc ms Q (74, lv, .int (nI 5) :: st, ω, c, s) := w_iconst dX3_layGains_73 (v := (nI 5)) (by decide) rfl
theorem wX3_layGains_74 : y_w M_X3_layGains mc ms Q (74, lv, .int y :: .int x :: r, ω, c, s) = y_w M_X3_layGains mc ms Q (75, lv, .int (x + y) :: r, ω, c, s) := w_iadd dX3_layGains_74 rfl
theorem wX3_layGains_75 : y_w M_X3_layGains mc ms Q (75, lv, st, ω, c, s) = y_ldI lv 3 (fun v => y_w M_X3_layGains mc ms Q (76, lv, v :: st, ω, c, s)) := w_iload_n dX3_layGains_75 rfl rfl
theorem wX3_layGains_76 : y_w M_X3_layGains mc ms Q (76, lv, .int y :: .int x :: r, ω, c, s) = y_w M_X3_layGains mc ms Q (77, lv, .int (x + y) :: r, ω, c, s) := w_iadd dX3_layGains_76 rfl
theorem wX3_layGains_77 : y_w M_X3_layGains mc ms Q (77, lv, v :: v1 :: r, ω, c, s) = ((v.category = 1 ∧ v1.category = 1) ∧ y_w M_X3_layGains mc ms Q (78, lv, v :: v1 :: v :: v1 :: r, ω, c, s)) := w_dup2 dX3_layGains_77 rfl
theorem wX3_layGains_78 : y_w M_X3_layGains mc ms Q (78, lv, .int j :: .ref a :: r, ω, c, s) = y_rL (ω.2 a) j (fun x => y_w M_X3_layGains mc ms Q (79, lv, .long x :: r, ω, c, s)) := w_laload dX3_layGains_78 rfl
theorem wX3_layGains_79 : y_w M_X3_layGains mc ms Q (79, lv, st, ω, c, s) = y_ldL lv 4 (fun v => y_w M_X3_layGains mc ms Q (81, lv, v :: st, ω, c, s)) := w_lload dX3_layGains_79 rfl
theorem wX3_layGains_81 : y_w M_X3_layGains mc ms Q (81, lv, .long w :: .long z :: r, ω, c, s) = y_w M_X3_layGains mc ms Q (82, lv, .long (z ||| w) :: r, ω, c, s) := w_lor dX3_layGains_81 rfl
theorem wX3_layGains_82 : y_w M_X3_layGains mc ms Q (82, lv, .long z :: .int j :: .ref a :: r, ω, c, s) = y_wL (ω.2 a) j z (fun e => y_w M_X3_layGains mc ms Q (83, lv, r, y_hup ω a e, c, s)) := w_lastore dX3_layGains_82 rfl
theorem wX3_layGains_83 : y_w M_X3_layGains mc ms Q (83, lv, st, ω, c, s) = y_w M_X3_layGains mc ms Q (84, lv, .int 0 :: st, ω, c, s) := w_iconst dX3_layGains_83 (v := 0) (by decide) rfl
theorem wX3_layGains_84 : y_w M_X3_layGains mc ms Q (84, lv, .int x :: r, ω, c, s) = y_w M_X3_layGains mc ms Q (86, (6, .int x) :: y_kill 6 lv, r, ω, c, s) := w_istore dX3_layGains_84 (y_dle rfl) rfl
theorem wX3_layGains_86 : y_w M_X3_layGains mc ms Q (86, lv, st, ω, c, s) = y_ldI lv 6 (fun v => y_w M_X3_layGains mc ms Q (88, lv, v :: st, ω, c, s)) := w_iload dX3_layGains_86 rfl
theorem wX3_layGains_88 : y_w M_X3_layGains mc ms Q (88, lv, st, ω, c, s) = y_ldA lv 0 (fun v => y_w M_X3_layGains mc ms Q (89, lv, v :: st, ω, c, s)) := w_aload_n dX3_layGains_88 rfl rfl
theorem wX3_layGains_89 : y_w M_X3_layGains mc ms Q (89, lv, .ref a :: r, ω, c, s) = y_gf P_X3_layGains 19 (ω.2 a) (fun v => y_w M_X3_layGains mc ms Q (92, lv, v :: r, ω, c, s)) := w_getfield dX3_layGains_89 rfl rfl
theorem wX3_layGains_92 : y_w M_X3_layGains mc ms Q (92, lv, st, ω, c, s) = y_w M_X3_layGains mc ms Q (93, lv, .int (nI 2) :: st, ω, c, s) := w_iconst dX3_layGains_92 (v := (nI 2)) (by decide) rfl
theorem wX3_layGains_93 : y_w M_X3_layGains mc ms Q (93, lv, .int j :: .ref a :: r, ω, c, s) = y_rI (ω.2 a) j (fun x => y_w M_X3_layGains mc ms Q (94, lv, .int x :: r, ω, c, s)) := w_iaload dX3_layGains_93 rfl
theorem wX3_layGains_94 : y_w M_X3_layGains mc ms Q (94, lv, .int y :: .int x :: r, ω, c, s) = ((y ≤ x → y_w M_X3_layGains mc ms Q (171, lv, r, ω, c, s)) ∧ (¬ (y ≤ x) → y_w M_X3_layGains mc ms Q (97, lv, r, ω, c, s))) := w_icmp dX3_layGains_94 (tgt := 171) rfl rfl rfl
theorem wX3_layGains_97 : y_w M_X3_layGains mc ms Q (97, lv, st, ω, c, s) = y_ldA lv 0 (fun v => y_w M_X3_layGains mc ms Q (98, lv, v :: st, ω, c, s)) := w_aload_n dX3_layGains_97 rfl rfl
theorem wX3_layGains_98 : y_w M_X3_layGains mc ms Q (98, lv, st, ω, c, s) = y_ldI lv 1 (fun v => y_w M_X3_layGains mc ms Q (99, lv, v :: st, ω, c, s)) := w_iload_n dX3_layGains_98 rfl rfl
theorem wX3_layGains_99 : y_w M_X3_layGains mc ms Q (99, lv, st, ω, c, s) = y_ldI lv 6 (fun v => y_w M_X3_layGains mc ms Q (101, lv, v :: st, ω, c, s)) := w_iload dX3_layGains_99 rfl
theorem wX3_layGains_101 : y_w M_X3_layGains mc ms Q (101, lv, st, ω, c, s) = y_ldI lv 3 (fun v => y_w M_X3_layGains mc ms Q (102, lv, v :: st, ω, c, s)) := w_iload_n dX3_layGains_101 rfl rfl
theorem wX3_layGains_102 (hc : y_cls ω a = some 3) : y_w M_X3_layGains mc ms Q (102, lv, v3 :: v2 :: v1 :: .ref a :: r, ω, c, s) = (y_cat r ≤ 8 ∧ F_X3_endOf mc ms [.ref a, v1, v2, v3] ω c s (y_aft M_X3_layGains 102 3 lv r (y_w M_X3_layGains mc ms Q) Q)) := w_call1 (av := [v1, v2, v3]) (Or.inl ⟨⟨rfl, rfl⟩, rfl⟩) dX3_layGains_102 rfl hc rfl (y_F_mono _) (y_dle rfl) (y_dle rfl) rfl rfl
theorem wX3_layGains_105 : y_w M_X3_layGains mc ms Q (105, lv, .int x :: r, ω, c, s) = y_w M_X3_layGains mc ms Q (107, (7, .int x) :: y_kill 7 lv, r, ω, c, s) := w_istore dX3_layGains_105 (y_dle rfl) rfl
theorem wX3_layGains_107 : y_w M_X3_layGains mc ms Q (107, lv, st, ω, c, s) = y_ldI lv 2 (fun v => y_w M_X3_layGains mc ms Q (108, lv, v :: st, ω, c, s)) := w_iload_n dX3_layGains_107 rfl rfl
theorem wX3_layGains_108 : y_w M_X3_layGains mc ms Q (108, lv, st, ω, c, s) = y_ldA lv 0 (fun v => y_w M_X3_layGains mc ms Q (109, lv, v :: st, ω, c, s)) := w_aload_n dX3_layGains_108 rfl rfl
theorem wX3_layGains_109 : y_w M_X3_layGains mc ms Q (109, lv, st, ω, c, s) = y_ldI lv 6 (fun v => y_w M_X3_layGains mc ms Q (111, lv, v :: st, ω, c, s)) := w_iload dX3_layGains_109 rfl
theorem wX3_layGains_111 : y_w M_X3_layGains mc ms Q (111, lv, st, ω, c, s) = y_w M_X3_layGains mc ms Q (112, lv, .int (nI 2) :: st, ω, c, s) := w_iconst dX3_layGains_111 (v := (nI 2)) (by decide) rfl
theorem wX3_layGains_112 (hc : y_cls ω a = some 3) : y_w M_X3_layGains mc ms Q (112, lv, v2 :: v1 :: .ref a :: r, ω, c, s) = (y_cat r ≤ 8 ∧ F_X3_wayOf mc ms [.ref a, v1, v2] ω c s (y_aft M_X3_layGains 112 3 lv r (y_w M_X3_layGains mc ms Q) Q)) := w_call1 (av := [v1, v2]) (Or.inl ⟨⟨rfl, rfl⟩, rfl⟩) dX3_layGains_112 rfl hc rfl (y_F_mono _) (y_dle rfl) (y_dle rfl) rfl rfl
theorem wX3_layGains_115 : y_w M_X3_layGains mc ms Q (115, lv, .int y :: .int x :: r, ω, c, s) = y_w M_X3_layGains mc ms Q (116, lv, .int (x + y) :: r, ω, c, s) := w_iadd dX3_layGains_115 rfl
theorem wX3_layGains_116 : y_w M_X3_layGains mc ms Q (116, lv, .int x :: r, ω, c, s) = y_w M_X3_layGains mc ms Q (118, (8, .int x) :: y_kill 8 lv, r, ω, c, s) := w_istore dX3_layGains_116 (y_dle rfl) rfl
theorem wX3_layGains_118 : y_w M_X3_layGains mc ms Q (118, lv, st, ω, c, s) = y_ldI lv 7 (fun v => y_w M_X3_layGains mc ms Q (120, lv, v :: st, ω, c, s)) := w_iload dX3_layGains_118 rfl
theorem wX3_layGains_120 : y_w M_X3_layGains mc ms Q (120, lv, st, ω, c, s) = y_w M_X3_layGains mc ms Q (122, lv, .int (-1000000) :: st, ω, c, s) := w_ldc dX3_layGains_120 rfl rfl rfl
theorem wX3_layGains_122 : y_w M_X3_layGains mc ms Q (122, lv, .int y :: .int x :: r, ω, c, s) = ((x = y → y_w M_X3_layGains mc ms Q (165, lv, r, ω, c, s)) ∧ (¬ (x = y) → y_w M_X3_layGains mc ms Q (125, lv, r, ω, c, s))) := w_icmp dX3_layGains_122 (tgt := 165) rfl rfl rfl
theorem wX3_layGains_125 : y_w M_X3_layGains mc ms Q (125, lv, st, ω, c, s) = y_ldI lv 8 (fun v => y_w M_X3_layGains mc ms Q (127, lv, v :: st, ω, c, s)) := w_iload dX3_layGains_125 rfl
theorem wX3_layGains_127 : y_w M_X3_layGains mc ms Q (127, lv, st, ω, c, s) = y_w M_X3_layGains mc ms Q (129, lv, .int (nI 40) :: st, ω, c, s) := w_bipush dX3_layGains_127 (v := (nI 40)) (by decide) rfl
theorem wX3_layGains_129 : y_w M_X3_layGains mc ms Q (129, lv, .int y :: .int x :: r, ω, c, s) = ((y < x → y_w M_X3_layGains mc ms Q (165, lv, r, ω, c, s)) ∧ (¬ (y < x) → y_w M_X3_layGains mc ms Q (132, lv, r, ω, c, s))) := w_icmp dX3_layGains_129 (tgt := 165) rfl rfl rfl
theorem wX3_layGains_132 : y_w M_X3_layGains mc ms Q (132, lv, st, ω, c, s) = y_ldA lv 0 (fun v => y_w M_X3_layGains mc ms Q (133, lv, v :: st, ω, c, s)) := w_aload_n dX3_layGains_132 rfl rfl
theorem wX3_layGains_133 : y_w M_X3_layGains mc ms Q (133, lv, .ref a :: r, ω, c, s) = y_gf P_X3_layGains 31 (ω.2 a) (fun v => y_w M_X3_layGains mc ms Q (136, lv, v :: r, ω, c, s)) := w_getfield dX3_layGains_133 rfl rfl
theorem wX3_layGains_136 : y_w M_X3_layGains mc ms Q (136, lv, st, ω, c, s) = y_w M_X3_layGains mc ms Q (137, lv, .int (nI 5) :: st, ω, c, s) := w_iconst dX3_layGains_136 (v := (nI 5)) (by decide) rfl
theorem wX3_layGains_137 : y_w M_X3_layGains mc ms Q (137, lv, st, ω, c, s) = y_ldI lv 8 (fun v => y_w M_X3_layGains mc ms Q (139, lv, v :: st, ω, c, s)) := w_iload dX3_layGains_137 rfl
theorem wX3_layGains_139 : y_w M_X3_layGains mc ms Q (139, lv, .int y :: .int x :: r, ω, c, s) = y_w M_X3_layGains mc ms Q (140, lv, .int (x * y) :: r, ω, c, s) := w_imul dX3_layGains_139 rfl
theorem wX3_layGains_140 : y_w M_X3_layGains mc ms Q (140, lv, st, ω, c, s) = y_ldI lv 7 (fun v => y_w M_X3_layGains mc ms Q (142, lv, v :: st, ω, c, s)) := w_iload dX3_layGains_140 rfl
theorem wX3_layGains_142 : y_w M_X3_layGains mc ms Q (142, lv, .int y :: .int x :: r, ω, c, s) = y_w M_X3_layGains mc ms Q (143, lv, .int (x + y) :: r, ω, c, s) := w_iadd dX3_layGains_142 rfl
theorem wX3_layGains_143 : y_w M_X3_layGains mc ms Q (143, lv, v :: v1 :: r, ω, c, s) = ((v.category = 1 ∧ v1.category = 1) ∧ y_w M_X3_layGains mc ms Q (144, lv, v :: v1 :: v :: v1 :: r, ω, c, s)) := w_dup2 dX3_layGains_143 rfl
theorem wX3_layGains_144 : y_w M_X3_layGains mc ms Q (144, lv, .int j :: .ref a :: r, ω, c, s) = y_rL (ω.2 a) j (fun x => y_w M_X3_layGains mc ms Q (145, lv, .long x :: r, ω, c, s)) := w_laload dX3_layGains_144 rfl
theorem wX3_layGains_145 : y_w M_X3_layGains mc ms Q (145, lv, st, ω, c, s) = y_ldL lv 4 (fun v => y_w M_X3_layGains mc ms Q (147, lv, v :: st, ω, c, s)) := w_lload dX3_layGains_145 rfl
theorem wX3_layGains_147 : y_w M_X3_layGains mc ms Q (147, lv, st, ω, c, s) = y_ldA lv 0 (fun v => y_w M_X3_layGains mc ms Q (148, lv, v :: st, ω, c, s)) := w_aload_n dX3_layGains_147 rfl rfl
theorem wX3_layGains_148 : y_w M_X3_layGains mc ms Q (148, lv, st, ω, c, s) = y_ldI lv 6 (fun v => y_w M_X3_layGains mc ms Q (150, lv, v :: st, ω, c, s)) := w_iload dX3_layGains_148 rfl
theorem wX3_layGains_150 : y_w M_X3_layGains mc ms Q (150, lv, st, ω, c, s) = y_w M_X3_layGains mc ms Q (151, lv, .int (nI 2) :: st, ω, c, s) := w_iconst dX3_layGains_150 (v := (nI 2)) (by decide) rfl
theorem wX3_layGains_151 (hc : y_cls ω a = some 3) : y_w M_X3_layGains mc ms Q (151, lv, v2 :: v1 :: .ref a :: r, ω, c, s) = (y_cat r ≤ 8 ∧ F_X3_wayOf mc ms [.ref a, v1, v2] ω c s (y_aft M_X3_layGains 151 3 lv r (y_w M_X3_layGains mc ms Q) Q)) := w_call1 (av := [v1, v2]) (Or.inl ⟨⟨rfl, rfl⟩, rfl⟩) dX3_layGains_151 rfl hc rfl (y_F_mono _) (y_dle rfl) (y_dle rfl) rfl rfl
theorem wX3_layGains_154 : y_w M_X3_layGains mc ms Q (154, lv, st, ω, c, s) = y_ldA lv 0 (fun v => y_w M_X3_layGains mc ms Q (155, lv, v :: st, ω, c, s)) := w_aload_n dX3_layGains_154 rfl rfl
theorem wX3_layGains_155 : y_w M_X3_layGains mc ms Q (155, lv, st, ω, c, s) = y_ldI lv 1 (fun v => y_w M_X3_layGains mc ms Q (156, lv, v :: st, ω, c, s)) := w_iload_n dX3_layGains_155 rfl rfl
theorem wX3_layGains_156 : y_w M_X3_layGains mc ms Q (156, lv, st, ω, c, s) = y_ldI lv 6 (fun v => y_w M_X3_layGains mc ms Q (158, lv, v :: st, ω, c, s)) := w_iload dX3_layGains_156 rfl
theorem wX3_layGains_158 (hc : y_cls ω a = some 3) : y_w M_X3_layGains mc ms Q (158, lv, v2 :: v1 :: .ref a :: r, ω, c, s) = (y_cat r ≤ 8 ∧ F_X3_agesBy mc ms [.ref a, v1, v2] ω c s (y_aft M_X3_layGains 158 3 lv r (y_w M_X3_layGains mc ms Q) Q)) := w_call1 (av := [v1, v2]) (Or.inl ⟨⟨rfl, rfl⟩, rfl⟩) dX3_layGains_158 rfl hc rfl (y_F_mono _) (y_dle rfl) (y_dle rfl) rfl rfl
theorem wX3_layGains_161 : y_w M_X3_layGains mc ms Q (161, lv, .int y :: .int x :: r, ω, c, s) = y_w M_X3_layGains mc ms Q (162, lv, .int (x - y) :: r, ω, c, s) := w_isub dX3_layGains_161 rfl
theorem wX3_layGains_162 : y_w M_X3_layGains mc ms Q (162, lv, .int y :: .long z :: r, ω, c, s) = y_w M_X3_layGains mc ms Q (163, lv, .long (z <<< (y.toInt64 &&& 63)) :: r, ω, c, s) := w_lshl dX3_layGains_162 rfl
theorem wX3_layGains_163 : y_w M_X3_layGains mc ms Q (163, lv, .long w :: .long z :: r, ω, c, s) = y_w M_X3_layGains mc ms Q (164, lv, .long (z ||| w) :: r, ω, c, s) := w_lor dX3_layGains_163 rfl
theorem wX3_layGains_164 : y_w M_X3_layGains mc ms Q (164, lv, .long z :: .int j :: .ref a :: r, ω, c, s) = y_wL (ω.2 a) j z (fun e => y_w M_X3_layGains mc ms Q (165, lv, r, y_hup ω a e, c, s)) := w_lastore dX3_layGains_164 rfl
theorem wX3_layGains_165 : y_w M_X3_layGains mc ms Q (165, lv, st, ω, c, s) = y_inc lv 6 (fun x => y_w M_X3_layGains mc ms Q (168, (6, .int (x + 1)) :: y_kill 6 lv, st, ω, c, s)) := w_iinc dX3_layGains_165 (d := 1) (by decide) (y_dle rfl) rfl
theorem wX3_layGains_168 : y_w M_X3_layGains mc ms Q (168, lv, st, ω, c, s) = ∃ lv2, y_lsub lv2 lv ∧ y_w M_X3_layGains mc ms Q (86, lv2, st, ω, c, s) := w_back dX3_layGains_168 (tgt := 86) (by decide) rfl
theorem wX3_layGains_171 : y_w M_X3_layGains mc ms Q (171, lv, st, ω, c, s) = y_inc lv 3 (fun x => y_w M_X3_layGains mc ms Q (174, (3, .int (x + 1)) :: y_kill 3 lv, st, ω, c, s)) := w_iinc dX3_layGains_171 (d := 1) (by decide) (y_dle rfl) rfl
theorem wX3_layGains_174 : y_w M_X3_layGains mc ms Q (174, lv, st, ω, c, s) = ∃ lv2, y_lsub lv2 lv ∧ y_w M_X3_layGains mc ms Q (44, lv2, st, ω, c, s) := w_back dX3_layGains_174 (tgt := 44) (by decide) rfl
theorem wX3_layGains_177 : y_w M_X3_layGains mc ms Q (177, lv, st, ω, c, s) = y_inc lv 2 (fun x => y_w M_X3_layGains mc ms Q (180, (2, .int (x + 1)) :: y_kill 2 lv, st, ω, c, s)) := w_iinc dX3_layGains_177 (d := 1) (by decide) (y_dle rfl) rfl
theorem wX3_layGains_180 : y_w M_X3_layGains mc ms Q (180, lv, st, ω, c, s) = ∃ lv2, y_lsub lv2 lv ∧ y_w M_X3_layGains mc ms Q (36, lv2, st, ω, c, s) := w_back dX3_layGains_180 (tgt := 36) (by decide) rfl
theorem wX3_layGains_183 : y_w M_X3_layGains mc ms Q (183, lv, [], ω, c, s) = Q (.returned none) ω c s := w_return dX3_layGains_183 rfl
def P_X3_gains : y_Pool := ([(48, 3, 0, .int, false), (31, 3, 19, (.array .long), true)], [], [(226, .long (lN 40)), (66, .long (lN 2)), (68, .int (-1000001)), (84, .int (-1000000))], [(199, 1, 3, 2, (2, 46), F_X3_isPerson), (223, 1, 3, 2, (2, 46), F_X3_isHarbour), (58, 0, 0, 3, (1, 25), F_X3_in), (228, 1, 3, 2, (3, 74), F_X3_layGains)], [], [], [])
def M_X3_gains : y_Md := (cX3_gains, "YoungerBackModel", (9, (some FieldType.int)), (3, 74), false, P_X3_gains, [])
def F_X3_gains : y_Tr := y_F M_X3_gains
theorem nX3_gains : y_nL M_X3_gains = 9 := rfl
theorem fX3_gains_48_3 : y_ffP P_X3_gains 48 3 = some (0, .int, false) := rfl
theorem fX3_gains_31_3 : y_ffP P_X3_gains 31 3 = some (19, (.array .long), true) := rfl
theorem wX3_gains_0 : y_w M_X3_gains mc ms Q (0, lv, st, ω, c, s) = y_ldA lv 0 (fun v => y_w M_X3_gains mc ms Q (1, lv, v :: st, ω, c, s)) := w_aload_n dX3_gains_0 rfl rfl
theorem wX3_gains_1 : y_w M_X3_gains mc ms Q (1, lv, st, ω, c, s) = y_w M_X3_gains mc ms Q (2, lv, .int 0 :: st, ω, c, s) := w_iconst dX3_gains_1 (v := 0) (by decide) rfl
theorem wX3_gains_2 : y_w M_X3_gains mc ms Q (2, lv, v :: .ref a :: r, ω, c, s) = y_pf P_X3_gains false 48 (ω.2 a) v (fun ci fs => y_w M_X3_gains mc ms Q (5, lv, r, y_hup ω a (.inr (ci, fs)), c, s)) := w_putfield dX3_gains_2 rfl rfl rfl
theorem wX3_gains_5 : y_w M_X3_gains mc ms Q (5, lv, st, ω, c, s) = y_ldA lv 0 (fun v => y_w M_X3_gains mc ms Q (6, lv, v :: st, ω, c, s)) := w_aload_n dX3_gains_5 rfl rfl
theorem wX3_gains_6 : y_w M_X3_gains mc ms Q (6, lv, st, ω, c, s) = y_ldI lv 1 (fun v => y_w M_X3_gains mc ms Q (7, lv, v :: st, ω, c, s)) := w_iload_n dX3_gains_6 rfl rfl
theorem wX3_gains_7 (hc : y_cls ω a = some 3) : y_w M_X3_gains mc ms Q (7, lv, v1 :: .ref a :: r, ω, c, s) = (y_cat r ≤ 8 ∧ F_X3_isPerson mc ms [.ref a, v1] ω c s (y_aft M_X3_gains 7 3 lv r (y_w M_X3_gains mc ms Q) Q)) := w_call1 (av := [v1]) (Or.inl ⟨⟨rfl, rfl⟩, rfl⟩) dX3_gains_7 rfl hc rfl (y_F_mono _) (y_dle rfl) (y_dle rfl) rfl rfl
theorem wX3_gains_10 : y_w M_X3_gains mc ms Q (10, lv, .int x :: r, ω, c, s) = ((x = 0 → y_w M_X3_gains mc ms Q (46, lv, r, ω, c, s)) ∧ (¬ (x = 0) → y_w M_X3_gains mc ms Q (13, lv, r, ω, c, s))) := w_if dX3_gains_10 (tgt := 46) rfl rfl rfl
theorem wX3_gains_13 : y_w M_X3_gains mc ms Q (13, lv, st, ω, c, s) = y_ldA lv 0 (fun v => y_w M_X3_gains mc ms Q (14, lv, v :: st, ω, c, s)) := w_aload_n dX3_gains_13 rfl rfl
theorem wX3_gains_14 : y_w M_X3_gains mc ms Q (14, lv, st, ω, c, s) = y_ldI lv 2 (fun v => y_w M_X3_gains mc ms Q (15, lv, v :: st, ω, c, s)) := w_iload_n dX3_gains_14 rfl rfl
theorem wX3_gains_15 (hc : y_cls ω a = some 3) : y_w M_X3_gains mc ms Q (15, lv, v1 :: .ref a :: r, ω, c, s) = (y_cat r ≤ 8 ∧ F_X3_isHarbour mc ms [.ref a, v1] ω c s (y_aft M_X3_gains 15 3 lv r (y_w M_X3_gains mc ms Q) Q)) := w_call1 (av := [v1]) (Or.inl ⟨⟨rfl, rfl⟩, rfl⟩) dX3_gains_15 rfl hc rfl (y_F_mono _) (y_dle rfl) (y_dle rfl) rfl rfl
theorem wX3_gains_18 : y_w M_X3_gains mc ms Q (18, lv, .int x :: r, ω, c, s) = ((x = 0 → y_w M_X3_gains mc ms Q (46, lv, r, ω, c, s)) ∧ (¬ (x = 0) → y_w M_X3_gains mc ms Q (21, lv, r, ω, c, s))) := w_if dX3_gains_18 (tgt := 46) rfl rfl rfl
theorem wX3_gains_21 : y_w M_X3_gains mc ms Q (21, lv, st, ω, c, s) = y_ldI lv 3 (fun v => y_w M_X3_gains mc ms Q (22, lv, v :: st, ω, c, s)) := w_iload_n dX3_gains_21 rfl rfl
theorem wX3_gains_22 : y_w M_X3_gains mc ms Q (22, lv, .int x :: r, ω, c, s) = y_w M_X3_gains mc ms Q (23, lv, .long x.toInt64 :: r, ω, c, s) := w_i2l dX3_gains_22 rfl
theorem wX3_gains_23 : y_w M_X3_gains mc ms Q (23, lv, st, ω, c, s) = y_w M_X3_gains mc ms Q (24, lv, .long 0 :: st, ω, c, s) := w_lconst dX3_gains_23 (v := 0) (by decide) rfl
theorem wX3_gains_24 : y_w M_X3_gains mc ms Q (24, lv, st, ω, c, s) = y_w M_X3_gains mc ms Q (27, lv, .long (lN 40) :: st, ω, c, s) := w_ldc2_w dX3_gains_24 rfl rfl rfl
theorem wX3_gains_27 : y_w M_X3_gains mc ms Q (27, lv, v2 :: v1 :: v0 :: r, ω, c, s) = (y_cat r ≤ 8 ∧ F_X3_in mc ms [v0, v1, v2] ω c s (y_aft M_X3_gains 27 3 lv r (y_w M_X3_gains mc ms Q) Q)) := w_call0 (av := [v0, v1, v2]) ⟨Or.inr ⟨rfl, rfl⟩, rfl⟩ dX3_gains_27 rfl (y_F_mono _) (y_dle rfl) (y_dle rfl) rfl rfl
theorem wX3_gains_30 : y_w M_X3_gains mc ms Q (30, lv, .int x :: r, ω, c, s) = ((x = 0 → y_w M_X3_gains mc ms Q (46, lv, r, ω, c, s)) ∧ (¬ (x = 0) → y_w M_X3_gains mc ms Q (33, lv, r, ω, c, s))) := w_if dX3_gains_30 (tgt := 46) rfl rfl rfl
theorem wX3_gains_33 : y_w M_X3_gains mc ms Q (33, lv, st, ω, c, s) = y_ldI lv 4 (fun v => y_w M_X3_gains mc ms Q (35, lv, v :: st, ω, c, s)) := w_iload dX3_gains_33 rfl
theorem wX3_gains_35 : y_w M_X3_gains mc ms Q (35, lv, .int x :: r, ω, c, s) = y_w M_X3_gains mc ms Q (36, lv, .long x.toInt64 :: r, ω, c, s) := w_i2l dX3_gains_35 rfl
theorem wX3_gains_36 : y_w M_X3_gains mc ms Q (36, lv, st, ω, c, s) = y_w M_X3_gains mc ms Q (37, lv, .long 0 :: st, ω, c, s) := w_lconst dX3_gains_36 (v := 0) (by decide) rfl
theorem wX3_gains_37 : y_w M_X3_gains mc ms Q (37, lv, st, ω, c, s) = y_w M_X3_gains mc ms Q (40, lv, .long (lN 2) :: st, ω, c, s) := w_ldc2_w dX3_gains_37 rfl rfl rfl
theorem wX3_gains_40 : y_w M_X3_gains mc ms Q (40, lv, v2 :: v1 :: v0 :: r, ω, c, s) = (y_cat r ≤ 8 ∧ F_X3_in mc ms [v0, v1, v2] ω c s (y_aft M_X3_gains 40 3 lv r (y_w M_X3_gains mc ms Q) Q)) := w_call0 (av := [v0, v1, v2]) ⟨Or.inr ⟨rfl, rfl⟩, rfl⟩ dX3_gains_40 rfl (y_F_mono _) (y_dle rfl) (y_dle rfl) rfl rfl
theorem wX3_gains_43 : y_w M_X3_gains mc ms Q (43, lv, .int x :: r, ω, c, s) = ((¬ x = 0 → y_w M_X3_gains mc ms Q (49, lv, r, ω, c, s)) ∧ (¬ (¬ x = 0) → y_w M_X3_gains mc ms Q (46, lv, r, ω, c, s))) := w_if dX3_gains_43 (tgt := 49) rfl rfl rfl
theorem wX3_gains_46 : y_w M_X3_gains mc ms Q (46, lv, st, ω, c, s) = y_w M_X3_gains mc ms Q (48, lv, .int (-1000001) :: st, ω, c, s) := w_ldc dX3_gains_46 rfl rfl rfl
theorem wX3_gains_48 : y_w M_X3_gains mc ms Q (48, lv, [.int x], ω, c, s) = Q (.returned (some (.int x))) ω c s := w_ireturnI dX3_gains_48 rfl
theorem wX3_gains_49 : y_w M_X3_gains mc ms Q (49, lv, st, ω, c, s) = y_ldA lv 0 (fun v => y_w M_X3_gains mc ms Q (50, lv, v :: st, ω, c, s)) := w_aload_n dX3_gains_49 rfl rfl
theorem wX3_gains_50 : y_w M_X3_gains mc ms Q (50, lv, st, ω, c, s) = y_ldI lv 1 (fun v => y_w M_X3_gains mc ms Q (51, lv, v :: st, ω, c, s)) := w_iload_n dX3_gains_50 rfl rfl
theorem wX3_gains_51 (hc : y_cls ω a = some 3) : y_w M_X3_gains mc ms Q (51, lv, v1 :: .ref a :: r, ω, c, s) = (y_cat r ≤ 8 ∧ F_X3_layGains mc ms [.ref a, v1] ω c s (y_aft M_X3_gains 51 3 lv r (y_w M_X3_gains mc ms Q) Q)) := w_call1 (av := [v1]) (Or.inl ⟨⟨rfl, rfl⟩, rfl⟩) dX3_gains_51 rfl hc rfl (y_F_mono _) (y_dle rfl) (y_dle rfl) rfl rfl
theorem wX3_gains_54 : y_w M_X3_gains mc ms Q (54, lv, st, ω, c, s) = y_w M_X3_gains mc ms Q (55, lv, .int 0 :: st, ω, c, s) := w_iconst dX3_gains_54 (v := 0) (by decide) rfl
theorem wX3_gains_55 : y_w M_X3_gains mc ms Q (55, lv, .int x :: r, ω, c, s) = y_w M_X3_gains mc ms Q (57, (5, .int x) :: y_kill 5 lv, r, ω, c, s) := w_istore dX3_gains_55 (y_dle rfl) rfl
theorem wX3_gains_57 : y_w M_X3_gains mc ms Q (57, lv, st, ω, c, s) = y_w M_X3_gains mc ms Q (59, lv, .int (-1000000) :: st, ω, c, s) := w_ldc dX3_gains_57 rfl rfl rfl
theorem wX3_gains_59 : y_w M_X3_gains mc ms Q (59, lv, .int x :: r, ω, c, s) = y_w M_X3_gains mc ms Q (61, (6, .int x) :: y_kill 6 lv, r, ω, c, s) := w_istore dX3_gains_59 (y_dle rfl) rfl
theorem wX3_gains_61 : y_w M_X3_gains mc ms Q (61, lv, st, ω, c, s) = y_w M_X3_gains mc ms Q (63, lv, .int (-1000000) :: st, ω, c, s) := w_ldc dX3_gains_61 rfl rfl rfl
theorem wX3_gains_63 : y_w M_X3_gains mc ms Q (63, lv, .int x :: r, ω, c, s) = y_w M_X3_gains mc ms Q (65, (7, .int x) :: y_kill 7 lv, r, ω, c, s) := w_istore dX3_gains_63 (y_dle rfl) rfl
theorem wX3_gains_65 : y_w M_X3_gains mc ms Q (65, lv, st, ω, c, s) = y_w M_X3_gains mc ms Q (66, lv, .int 0 :: st, ω, c, s) := w_iconst dX3_gains_65 (v := 0) (by decide) rfl
theorem wX3_gains_66 : y_w M_X3_gains mc ms Q (66, lv, .int x :: r, ω, c, s) = y_w M_X3_gains mc ms Q (68, (8, .int x) :: y_kill 8 lv, r, ω, c, s) := w_istore dX3_gains_66 (y_dle rfl) rfl
theorem wX3_gains_68 : y_w M_X3_gains mc ms Q (68, lv, st, ω, c, s) = y_ldI lv 8 (fun v => y_w M_X3_gains mc ms Q (70, lv, v :: st, ω, c, s)) := w_iload dX3_gains_68 rfl
theorem wX3_gains_70 : y_w M_X3_gains mc ms Q (70, lv, st, ω, c, s) = y_w M_X3_gains mc ms Q (72, lv, .int (nI 40) :: st, ω, c, s) := w_bipush dX3_gains_70 (v := (nI 40)) (by decide) rfl
theorem wX3_gains_72 : y_w M_X3_gains mc ms Q (72, lv, .int y :: .int x :: r, ω, c, s) = ((y < x → y_w M_X3_gains mc ms Q (124, lv, r, ω, c, s)) ∧ (¬ (y < x) → y_w M_X3_gains mc ms Q (75, lv, r, ω, c, s))) := w_icmp dX3_gains_72 (tgt := 124) rfl rfl rfl
theorem wX3_gains_75 : y_w M_X3_gains mc ms Q (75, lv, st, ω, c, s) = y_ldA lv 0 (fun v => y_w M_X3_gains mc ms Q (76, lv, v :: st, ω, c, s)) := w_aload_n dX3_gains_75 rfl rfl
theorem wX3_gains_76 : y_w M_X3_gains mc ms Q (76, lv, .ref a :: r, ω, c, s) = y_gf P_X3_gains 31 (ω.2 a) (fun v => y_w M_X3_gains mc ms Q (79, lv, v :: r, ω, c, s)) := w_getfield dX3_gains_76 rfl rfl
theorem wX3_gains_79 : y_w M_X3_gains mc ms Q (79, lv, st, ω, c, s) = y_w M_X3_gains mc ms Q (80, lv, .int (nI 5) :: st, ω, c, s) := w_iconst dX3_gains_79 (v := (nI 5)) (by decide) rfl
theorem wX3_gains_80 : y_w M_X3_gains mc ms Q (80, lv, st, ω, c, s) = y_ldI lv 3 (fun v => y_w M_X3_gains mc ms Q (81, lv, v :: st, ω, c, s)) := w_iload_n dX3_gains_80 rfl rfl
theorem wX3_gains_81 : y_w M_X3_gains mc ms Q (81, lv, .int y :: .int x :: r, ω, c, s) = y_w M_X3_gains mc ms Q (82, lv, .int (x * y) :: r, ω, c, s) := w_imul dX3_gains_81 rfl
theorem wX3_gains_82 : y_w M_X3_gains mc ms Q (82, lv, st, ω, c, s) = y_ldI lv 2 (fun v => y_w M_X3_gains mc ms Q (83, lv, v :: st, ω, c, s)) := w_iload_n dX3_gains_82 rfl rfl
theorem wX3_gains_83 : y_w M_X3_gains mc ms Q (83, lv, .int y :: .int x :: r, ω, c, s) = y_w M_X3_gains mc ms Q (84, lv, .int (x + y) :: r, ω, c, s) := w_iadd dX3_gains_83 rfl
theorem wX3_gains_84 : y_w M_X3_gains mc ms Q (84, lv, .int j :: .ref a :: r, ω, c, s) = y_rL (ω.2 a) j (fun x => y_w M_X3_gains mc ms Q (85, lv, .long x :: r, ω, c, s)) := w_laload dX3_gains_84 rfl
theorem wX3_gains_85 : y_w M_X3_gains mc ms Q (85, lv, st, ω, c, s) = y_ldI lv 8 (fun v => y_w M_X3_gains mc ms Q (87, lv, v :: st, ω, c, s)) := w_iload dX3_gains_85 rfl
theorem wX3_gains_87 : y_w M_X3_gains mc ms Q (87, lv, .int y :: .long z :: r, ω, c, s) = y_w M_X3_gains mc ms Q (88, lv, .long (z >>> (y.toInt64 &&& 63)) :: r, ω, c, s) := w_lshr dX3_gains_87 rfl
theorem wX3_gains_88 : y_w M_X3_gains mc ms Q (88, lv, st, ω, c, s) = y_w M_X3_gains mc ms Q (89, lv, .long 1 :: st, ω, c, s) := w_lconst dX3_gains_88 (v := 1) (by decide) rfl
theorem wX3_gains_89 : y_w M_X3_gains mc ms Q (89, lv, .long w :: .long z :: r, ω, c, s) = y_w M_X3_gains mc ms Q (90, lv, .long (z &&& w) :: r, ω, c, s) := w_land dX3_gains_89 rfl
theorem wX3_gains_90 : y_w M_X3_gains mc ms Q (90, lv, st, ω, c, s) = y_w M_X3_gains mc ms Q (91, lv, .long 1 :: st, ω, c, s) := w_lconst dX3_gains_90 (v := 1) (by decide) rfl
theorem wX3_gains_91 : y_w M_X3_gains mc ms Q (91, lv, .long w :: .long z :: r, ω, c, s) = y_w M_X3_gains mc ms Q (92, lv, .int (lg_cmp z w) :: r, ω, c, s) := w_lcmp dX3_gains_91 rfl
theorem wX3_gains_92 : y_w M_X3_gains mc ms Q (92, lv, .int x :: r, ω, c, s) = ((¬ x = 0 → y_w M_X3_gains mc ms Q (118, lv, r, ω, c, s)) ∧ (¬ (¬ x = 0) → y_w M_X3_gains mc ms Q (95, lv, r, ω, c, s))) := w_if dX3_gains_92 (tgt := 118) rfl rfl rfl
theorem wX3_gains_95 : y_w M_X3_gains mc ms Q (95, lv, st, ω, c, s) = y_inc lv 5 (fun x => y_w M_X3_gains mc ms Q (98, (5, .int (x + 1)) :: y_kill 5 lv, st, ω, c, s)) := w_iinc dX3_gains_95 (d := 1) (by decide) (y_dle rfl) rfl
theorem wX3_gains_98 : y_w M_X3_gains mc ms Q (98, lv, st, ω, c, s) = y_ldI lv 6 (fun v => y_w M_X3_gains mc ms Q (100, lv, v :: st, ω, c, s)) := w_iload dX3_gains_98 rfl
theorem wX3_gains_100 : y_w M_X3_gains mc ms Q (100, lv, st, ω, c, s) = y_w M_X3_gains mc ms Q (102, lv, .int (-1000000) :: st, ω, c, s) := w_ldc dX3_gains_100 rfl rfl rfl
theorem wX3_gains_102 : y_w M_X3_gains mc ms Q (102, lv, .int y :: .int x :: r, ω, c, s) = ((¬ x = y → y_w M_X3_gains mc ms Q (110, lv, r, ω, c, s)) ∧ (¬ (¬ x = y) → y_w M_X3_gains mc ms Q (105, lv, r, ω, c, s))) := w_icmp dX3_gains_102 (tgt := 110) rfl rfl rfl
theorem wX3_gains_105 : y_w M_X3_gains mc ms Q (105, lv, st, ω, c, s) = y_ldI lv 8 (fun v => y_w M_X3_gains mc ms Q (107, lv, v :: st, ω, c, s)) := w_iload dX3_gains_105 rfl
theorem wX3_gains_107 : y_w M_X3_gains mc ms Q (107, lv, st, ω, c, s) = y_w M_X3_gains mc ms Q (112, lv, st, ω, c, s) := w_goto dX3_gains_107 (tgt := 112) (by decide) rfl
theorem wX3_gains_110 : y_w M_X3_gains mc ms Q (110, lv, st, ω, c, s) = y_ldI lv 6 (fun v => y_w M_X3_gains mc ms Q (112, lv, v :: st, ω, c, s)) := w_iload dX3_gains_110 rfl
theorem wX3_gains_112 : y_w M_X3_gains mc ms Q (112, lv, .int x :: r, ω, c, s) = y_w M_X3_gains mc ms Q (114, (6, .int x) :: y_kill 6 lv, r, ω, c, s) := w_istore dX3_gains_112 (y_dle rfl) rfl
theorem wX3_gains_114 : y_w M_X3_gains mc ms Q (114, lv, st, ω, c, s) = y_ldI lv 8 (fun v => y_w M_X3_gains mc ms Q (116, lv, v :: st, ω, c, s)) := w_iload dX3_gains_114 rfl
theorem wX3_gains_116 : y_w M_X3_gains mc ms Q (116, lv, .int x :: r, ω, c, s) = y_w M_X3_gains mc ms Q (118, (7, .int x) :: y_kill 7 lv, r, ω, c, s) := w_istore dX3_gains_116 (y_dle rfl) rfl
theorem wX3_gains_118 : y_w M_X3_gains mc ms Q (118, lv, st, ω, c, s) = y_inc lv 8 (fun x => y_w M_X3_gains mc ms Q (121, (8, .int (x + 1)) :: y_kill 8 lv, st, ω, c, s)) := w_iinc dX3_gains_118 (d := 1) (by decide) (y_dle rfl) rfl
theorem wX3_gains_121 : y_w M_X3_gains mc ms Q (121, lv, st, ω, c, s) = ∃ lv2, y_lsub lv2 lv ∧ y_w M_X3_gains mc ms Q (68, lv2, st, ω, c, s) := w_back dX3_gains_121 (tgt := 68) (by decide) rfl
theorem wX3_gains_124 : y_w M_X3_gains mc ms Q (124, lv, st, ω, c, s) = y_ldI lv 4 (fun v => y_w M_X3_gains mc ms Q (126, lv, v :: st, ω, c, s)) := w_iload dX3_gains_124 rfl
theorem wX3_gains_126 : y_w M_X3_gains mc ms Q (126, lv, .int x :: r, ω, c, s) = ((¬ x = 0 → y_w M_X3_gains mc ms Q (134, lv, r, ω, c, s)) ∧ (¬ (¬ x = 0) → y_w M_X3_gains mc ms Q (129, lv, r, ω, c, s))) := w_if dX3_gains_126 (tgt := 134) rfl rfl rfl
theorem wX3_gains_129 : y_w M_X3_gains mc ms Q (129, lv, st, ω, c, s) = y_ldI lv 5 (fun v => y_w M_X3_gains mc ms Q (131, lv, v :: st, ω, c, s)) := w_iload dX3_gains_129 rfl
theorem wX3_gains_131 : y_w M_X3_gains mc ms Q (131, lv, st, ω, c, s) = y_w M_X3_gains mc ms Q (147, lv, st, ω, c, s) := w_goto dX3_gains_131 (tgt := 147) (by decide) rfl
theorem wX3_gains_134 : y_w M_X3_gains mc ms Q (134, lv, st, ω, c, s) = y_ldI lv 4 (fun v => y_w M_X3_gains mc ms Q (136, lv, v :: st, ω, c, s)) := w_iload dX3_gains_134 rfl
theorem wX3_gains_136 : y_w M_X3_gains mc ms Q (136, lv, st, ω, c, s) = y_w M_X3_gains mc ms Q (137, lv, .int 1 :: st, ω, c, s) := w_iconst dX3_gains_136 (v := 1) (by decide) rfl
theorem wX3_gains_137 : y_w M_X3_gains mc ms Q (137, lv, .int y :: .int x :: r, ω, c, s) = ((¬ x = y → y_w M_X3_gains mc ms Q (145, lv, r, ω, c, s)) ∧ (¬ (¬ x = y) → y_w M_X3_gains mc ms Q (140, lv, r, ω, c, s))) := w_icmp dX3_gains_137 (tgt := 145) rfl rfl rfl
theorem wX3_gains_140 : y_w M_X3_gains mc ms Q (140, lv, st, ω, c, s) = y_ldI lv 6 (fun v => y_w M_X3_gains mc ms Q (142, lv, v :: st, ω, c, s)) := w_iload dX3_gains_140 rfl
theorem wX3_gains_142 : y_w M_X3_gains mc ms Q (142, lv, st, ω, c, s) = y_w M_X3_gains mc ms Q (147, lv, st, ω, c, s) := w_goto dX3_gains_142 (tgt := 147) (by decide) rfl
theorem wX3_gains_145 : y_w M_X3_gains mc ms Q (145, lv, st, ω, c, s) = y_ldI lv 7 (fun v => y_w M_X3_gains mc ms Q (147, lv, v :: st, ω, c, s)) := w_iload dX3_gains_145 rfl
theorem wX3_gains_147 : y_w M_X3_gains mc ms Q (147, lv, [.int x], ω, c, s) = Q (.returned (some (.int x))) ω c s := w_ireturnI dX3_gains_147 rfl
def P_X3_soonest : y_Pool := ([(48, 3, 0, .int, false), (31, 3, 19, (.array .long), true)], [], [(226, .long (lN 40)), (68, .int (-1000001)), (84, .int (-1000000))], [(199, 1, 3, 2, (2, 46), F_X3_isPerson), (223, 1, 3, 2, (2, 46), F_X3_isHarbour), (58, 0, 0, 3, (1, 25), F_X3_in), (228, 1, 3, 2, (3, 74), F_X3_layGains)], [], [], [])
def M_X3_soonest : y_Md := (cX3_soonest, "YoungerBackModel", (5, (some FieldType.int)), (3, 74), false, P_X3_soonest, [])
def F_X3_soonest : y_Tr := y_F M_X3_soonest
theorem nX3_soonest : y_nL M_X3_soonest = 5 := rfl
theorem fX3_soonest_48_3 : y_ffP P_X3_soonest 48 3 = some (0, .int, false) := rfl
theorem fX3_soonest_31_3 : y_ffP P_X3_soonest 31 3 = some (19, (.array .long), true) := rfl
theorem wX3_soonest_0 : y_w M_X3_soonest mc ms Q (0, lv, st, ω, c, s) = y_ldA lv 0 (fun v => y_w M_X3_soonest mc ms Q (1, lv, v :: st, ω, c, s)) := w_aload_n dX3_soonest_0 rfl rfl
theorem wX3_soonest_1 : y_w M_X3_soonest mc ms Q (1, lv, st, ω, c, s) = y_w M_X3_soonest mc ms Q (2, lv, .int 0 :: st, ω, c, s) := w_iconst dX3_soonest_1 (v := 0) (by decide) rfl
theorem wX3_soonest_2 : y_w M_X3_soonest mc ms Q (2, lv, v :: .ref a :: r, ω, c, s) = y_pf P_X3_soonest false 48 (ω.2 a) v (fun ci fs => y_w M_X3_soonest mc ms Q (5, lv, r, y_hup ω a (.inr (ci, fs)), c, s)) := w_putfield dX3_soonest_2 rfl rfl rfl
theorem wX3_soonest_5 : y_w M_X3_soonest mc ms Q (5, lv, st, ω, c, s) = y_ldA lv 0 (fun v => y_w M_X3_soonest mc ms Q (6, lv, v :: st, ω, c, s)) := w_aload_n dX3_soonest_5 rfl rfl
theorem wX3_soonest_6 : y_w M_X3_soonest mc ms Q (6, lv, st, ω, c, s) = y_ldI lv 1 (fun v => y_w M_X3_soonest mc ms Q (7, lv, v :: st, ω, c, s)) := w_iload_n dX3_soonest_6 rfl rfl
theorem wX3_soonest_7 (hc : y_cls ω a = some 3) : y_w M_X3_soonest mc ms Q (7, lv, v1 :: .ref a :: r, ω, c, s) = (y_cat r ≤ 8 ∧ F_X3_isPerson mc ms [.ref a, v1] ω c s (y_aft M_X3_soonest 7 3 lv r (y_w M_X3_soonest mc ms Q) Q)) := w_call1 (av := [v1]) (Or.inl ⟨⟨rfl, rfl⟩, rfl⟩) dX3_soonest_7 rfl hc rfl (y_F_mono _) (y_dle rfl) (y_dle rfl) rfl rfl
theorem wX3_soonest_10 : y_w M_X3_soonest mc ms Q (10, lv, .int x :: r, ω, c, s) = ((x = 0 → y_w M_X3_soonest mc ms Q (33, lv, r, ω, c, s)) ∧ (¬ (x = 0) → y_w M_X3_soonest mc ms Q (13, lv, r, ω, c, s))) := w_if dX3_soonest_10 (tgt := 33) rfl rfl rfl
theorem wX3_soonest_13 : y_w M_X3_soonest mc ms Q (13, lv, st, ω, c, s) = y_ldA lv 0 (fun v => y_w M_X3_soonest mc ms Q (14, lv, v :: st, ω, c, s)) := w_aload_n dX3_soonest_13 rfl rfl
theorem wX3_soonest_14 : y_w M_X3_soonest mc ms Q (14, lv, st, ω, c, s) = y_ldI lv 2 (fun v => y_w M_X3_soonest mc ms Q (15, lv, v :: st, ω, c, s)) := w_iload_n dX3_soonest_14 rfl rfl
theorem wX3_soonest_15 (hc : y_cls ω a = some 3) : y_w M_X3_soonest mc ms Q (15, lv, v1 :: .ref a :: r, ω, c, s) = (y_cat r ≤ 8 ∧ F_X3_isHarbour mc ms [.ref a, v1] ω c s (y_aft M_X3_soonest 15 3 lv r (y_w M_X3_soonest mc ms Q) Q)) := w_call1 (av := [v1]) (Or.inl ⟨⟨rfl, rfl⟩, rfl⟩) dX3_soonest_15 rfl hc rfl (y_F_mono _) (y_dle rfl) (y_dle rfl) rfl rfl
theorem wX3_soonest_18 : y_w M_X3_soonest mc ms Q (18, lv, .int x :: r, ω, c, s) = ((x = 0 → y_w M_X3_soonest mc ms Q (33, lv, r, ω, c, s)) ∧ (¬ (x = 0) → y_w M_X3_soonest mc ms Q (21, lv, r, ω, c, s))) := w_if dX3_soonest_18 (tgt := 33) rfl rfl rfl
theorem wX3_soonest_21 : y_w M_X3_soonest mc ms Q (21, lv, st, ω, c, s) = y_ldI lv 3 (fun v => y_w M_X3_soonest mc ms Q (22, lv, v :: st, ω, c, s)) := w_iload_n dX3_soonest_21 rfl rfl
theorem wX3_soonest_22 : y_w M_X3_soonest mc ms Q (22, lv, .int x :: r, ω, c, s) = y_w M_X3_soonest mc ms Q (23, lv, .long x.toInt64 :: r, ω, c, s) := w_i2l dX3_soonest_22 rfl
theorem wX3_soonest_23 : y_w M_X3_soonest mc ms Q (23, lv, st, ω, c, s) = y_w M_X3_soonest mc ms Q (24, lv, .long 0 :: st, ω, c, s) := w_lconst dX3_soonest_23 (v := 0) (by decide) rfl
theorem wX3_soonest_24 : y_w M_X3_soonest mc ms Q (24, lv, st, ω, c, s) = y_w M_X3_soonest mc ms Q (27, lv, .long (lN 40) :: st, ω, c, s) := w_ldc2_w dX3_soonest_24 rfl rfl rfl
theorem wX3_soonest_27 : y_w M_X3_soonest mc ms Q (27, lv, v2 :: v1 :: v0 :: r, ω, c, s) = (y_cat r ≤ 8 ∧ F_X3_in mc ms [v0, v1, v2] ω c s (y_aft M_X3_soonest 27 3 lv r (y_w M_X3_soonest mc ms Q) Q)) := w_call0 (av := [v0, v1, v2]) ⟨Or.inr ⟨rfl, rfl⟩, rfl⟩ dX3_soonest_27 rfl (y_F_mono _) (y_dle rfl) (y_dle rfl) rfl rfl
theorem wX3_soonest_30 : y_w M_X3_soonest mc ms Q (30, lv, .int x :: r, ω, c, s) = ((¬ x = 0 → y_w M_X3_soonest mc ms Q (36, lv, r, ω, c, s)) ∧ (¬ (¬ x = 0) → y_w M_X3_soonest mc ms Q (33, lv, r, ω, c, s))) := w_if dX3_soonest_30 (tgt := 36) rfl rfl rfl
theorem wX3_soonest_33 : y_w M_X3_soonest mc ms Q (33, lv, st, ω, c, s) = y_w M_X3_soonest mc ms Q (35, lv, .int (-1000001) :: st, ω, c, s) := w_ldc dX3_soonest_33 rfl rfl rfl
theorem wX3_soonest_35 : y_w M_X3_soonest mc ms Q (35, lv, [.int x], ω, c, s) = Q (.returned (some (.int x))) ω c s := w_ireturnI dX3_soonest_35 rfl
theorem wX3_soonest_36 : y_w M_X3_soonest mc ms Q (36, lv, st, ω, c, s) = y_ldA lv 0 (fun v => y_w M_X3_soonest mc ms Q (37, lv, v :: st, ω, c, s)) := w_aload_n dX3_soonest_36 rfl rfl
theorem wX3_soonest_37 : y_w M_X3_soonest mc ms Q (37, lv, st, ω, c, s) = y_ldI lv 1 (fun v => y_w M_X3_soonest mc ms Q (38, lv, v :: st, ω, c, s)) := w_iload_n dX3_soonest_37 rfl rfl
theorem wX3_soonest_38 (hc : y_cls ω a = some 3) : y_w M_X3_soonest mc ms Q (38, lv, v1 :: .ref a :: r, ω, c, s) = (y_cat r ≤ 8 ∧ F_X3_layGains mc ms [.ref a, v1] ω c s (y_aft M_X3_soonest 38 3 lv r (y_w M_X3_soonest mc ms Q) Q)) := w_call1 (av := [v1]) (Or.inl ⟨⟨rfl, rfl⟩, rfl⟩) dX3_soonest_38 rfl hc rfl (y_F_mono _) (y_dle rfl) (y_dle rfl) rfl rfl
theorem wX3_soonest_41 : y_w M_X3_soonest mc ms Q (41, lv, st, ω, c, s) = y_w M_X3_soonest mc ms Q (42, lv, .int 0 :: st, ω, c, s) := w_iconst dX3_soonest_41 (v := 0) (by decide) rfl
theorem wX3_soonest_42 : y_w M_X3_soonest mc ms Q (42, lv, .int x :: r, ω, c, s) = y_w M_X3_soonest mc ms Q (44, (4, .int x) :: y_kill 4 lv, r, ω, c, s) := w_istore dX3_soonest_42 (y_dle rfl) rfl
theorem wX3_soonest_44 : y_w M_X3_soonest mc ms Q (44, lv, st, ω, c, s) = y_ldI lv 4 (fun v => y_w M_X3_soonest mc ms Q (46, lv, v :: st, ω, c, s)) := w_iload dX3_soonest_44 rfl
theorem wX3_soonest_46 : y_w M_X3_soonest mc ms Q (46, lv, st, ω, c, s) = y_w M_X3_soonest mc ms Q (48, lv, .int (nI 40) :: st, ω, c, s) := w_bipush dX3_soonest_46 (v := (nI 40)) (by decide) rfl
theorem wX3_soonest_48 : y_w M_X3_soonest mc ms Q (48, lv, .int y :: .int x :: r, ω, c, s) = ((y < x → y_w M_X3_soonest mc ms Q (80, lv, r, ω, c, s)) ∧ (¬ (y < x) → y_w M_X3_soonest mc ms Q (51, lv, r, ω, c, s))) := w_icmp dX3_soonest_48 (tgt := 80) rfl rfl rfl
theorem wX3_soonest_51 : y_w M_X3_soonest mc ms Q (51, lv, st, ω, c, s) = y_ldA lv 0 (fun v => y_w M_X3_soonest mc ms Q (52, lv, v :: st, ω, c, s)) := w_aload_n dX3_soonest_51 rfl rfl
theorem wX3_soonest_52 : y_w M_X3_soonest mc ms Q (52, lv, .ref a :: r, ω, c, s) = y_gf P_X3_soonest 31 (ω.2 a) (fun v => y_w M_X3_soonest mc ms Q (55, lv, v :: r, ω, c, s)) := w_getfield dX3_soonest_52 rfl rfl
theorem wX3_soonest_55 : y_w M_X3_soonest mc ms Q (55, lv, st, ω, c, s) = y_w M_X3_soonest mc ms Q (56, lv, .int (nI 5) :: st, ω, c, s) := w_iconst dX3_soonest_55 (v := (nI 5)) (by decide) rfl
theorem wX3_soonest_56 : y_w M_X3_soonest mc ms Q (56, lv, st, ω, c, s) = y_ldI lv 4 (fun v => y_w M_X3_soonest mc ms Q (58, lv, v :: st, ω, c, s)) := w_iload dX3_soonest_56 rfl
theorem wX3_soonest_58 : y_w M_X3_soonest mc ms Q (58, lv, .int y :: .int x :: r, ω, c, s) = y_w M_X3_soonest mc ms Q (59, lv, .int (x * y) :: r, ω, c, s) := w_imul dX3_soonest_58 rfl
theorem wX3_soonest_59 : y_w M_X3_soonest mc ms Q (59, lv, st, ω, c, s) = y_ldI lv 2 (fun v => y_w M_X3_soonest mc ms Q (60, lv, v :: st, ω, c, s)) := w_iload_n dX3_soonest_59 rfl rfl
theorem wX3_soonest_60 : y_w M_X3_soonest mc ms Q (60, lv, .int y :: .int x :: r, ω, c, s) = y_w M_X3_soonest mc ms Q (61, lv, .int (x + y) :: r, ω, c, s) := w_iadd dX3_soonest_60 rfl
theorem wX3_soonest_61 : y_w M_X3_soonest mc ms Q (61, lv, .int j :: .ref a :: r, ω, c, s) = y_rL (ω.2 a) j (fun x => y_w M_X3_soonest mc ms Q (62, lv, .long x :: r, ω, c, s)) := w_laload dX3_soonest_61 rfl
theorem wX3_soonest_62 : y_w M_X3_soonest mc ms Q (62, lv, st, ω, c, s) = y_ldI lv 3 (fun v => y_w M_X3_soonest mc ms Q (63, lv, v :: st, ω, c, s)) := w_iload_n dX3_soonest_62 rfl rfl
theorem wX3_soonest_63 : y_w M_X3_soonest mc ms Q (63, lv, .int y :: .long z :: r, ω, c, s) = y_w M_X3_soonest mc ms Q (64, lv, .long (z >>> (y.toInt64 &&& 63)) :: r, ω, c, s) := w_lshr dX3_soonest_63 rfl
theorem wX3_soonest_64 : y_w M_X3_soonest mc ms Q (64, lv, st, ω, c, s) = y_w M_X3_soonest mc ms Q (65, lv, .long 1 :: st, ω, c, s) := w_lconst dX3_soonest_64 (v := 1) (by decide) rfl
theorem wX3_soonest_65 : y_w M_X3_soonest mc ms Q (65, lv, .long w :: .long z :: r, ω, c, s) = y_w M_X3_soonest mc ms Q (66, lv, .long (z &&& w) :: r, ω, c, s) := w_land dX3_soonest_65 rfl
theorem wX3_soonest_66 : y_w M_X3_soonest mc ms Q (66, lv, st, ω, c, s) = y_w M_X3_soonest mc ms Q (67, lv, .long 1 :: st, ω, c, s) := w_lconst dX3_soonest_66 (v := 1) (by decide) rfl
theorem wX3_soonest_67 : y_w M_X3_soonest mc ms Q (67, lv, .long w :: .long z :: r, ω, c, s) = y_w M_X3_soonest mc ms Q (68, lv, .int (lg_cmp z w) :: r, ω, c, s) := w_lcmp dX3_soonest_67 rfl
theorem wX3_soonest_68 : y_w M_X3_soonest mc ms Q (68, lv, .int x :: r, ω, c, s) = ((¬ x = 0 → y_w M_X3_soonest mc ms Q (74, lv, r, ω, c, s)) ∧ (¬ (¬ x = 0) → y_w M_X3_soonest mc ms Q (71, lv, r, ω, c, s))) := w_if dX3_soonest_68 (tgt := 74) rfl rfl rfl
theorem wX3_soonest_71 : y_w M_X3_soonest mc ms Q (71, lv, st, ω, c, s) = y_ldI lv 4 (fun v => y_w M_X3_soonest mc ms Q (73, lv, v :: st, ω, c, s)) := w_iload dX3_soonest_71 rfl
theorem wX3_soonest_73 : y_w M_X3_soonest mc ms Q (73, lv, [.int x], ω, c, s) = Q (.returned (some (.int x))) ω c s := w_ireturnI dX3_soonest_73 rfl
theorem wX3_soonest_74 : y_w M_X3_soonest mc ms Q (74, lv, st, ω, c, s) = y_inc lv 4 (fun x => y_w M_X3_soonest mc ms Q (77, (4, .int (x + 1)) :: y_kill 4 lv, st, ω, c, s)) := w_iinc dX3_soonest_74 (d := 1) (by decide) (y_dle rfl) rfl
theorem wX3_soonest_77 : y_w M_X3_soonest mc ms Q (77, lv, st, ω, c, s) = ∃ lv2, y_lsub lv2 lv ∧ y_w M_X3_soonest mc ms Q (44, lv2, st, ω, c, s) := w_back dX3_soonest_77 (tgt := 44) (by decide) rfl
theorem wX3_soonest_80 : y_w M_X3_soonest mc ms Q (80, lv, st, ω, c, s) = y_w M_X3_soonest mc ms Q (82, lv, .int (-1000000) :: st, ω, c, s) := w_ldc dX3_soonest_80 rfl rfl rfl
theorem wX3_soonest_82 : y_w M_X3_soonest mc ms Q (82, lv, [.int x], ω, c, s) = Q (.returned (some (.int x))) ω c s := w_ireturnI dX3_soonest_82 rfl
def P_X3_voyages : y_Pool := ([(48, 3, 0, .int, false), (19, 3, 5, (.array .int), true)], [], [(68, .int (-1000001)), (84, .int (-1000000))], [(199, 1, 3, 2, (2, 46), F_X3_isPerson), (223, 1, 3, 2, (2, 46), F_X3_isHarbour), (181, 1, 3, 3, (1, 22), F_X3_of), (184, 1, 3, 4, (2, 46), F_X3_endOf)], [], [], [])
def M_X3_voyages : y_Md := (cX3_voyages, "YoungerBackModel", (9, (some FieldType.int)), (2, 46), false, P_X3_voyages, [])
def F_X3_voyages : y_Tr := y_F M_X3_voyages
theorem nX3_voyages : y_nL M_X3_voyages = 9 := rfl
theorem fX3_voyages_48_3 : y_ffP P_X3_voyages 48 3 = some (0, .int, false) := rfl
theorem fX3_voyages_19_3 : y_ffP P_X3_voyages 19 3 = some (5, (.array .int), true) := rfl
theorem wX3_voyages_0 : y_w M_X3_voyages mc ms Q (0, lv, st, ω, c, s) = y_ldA lv 0 (fun v => y_w M_X3_voyages mc ms Q (1, lv, v :: st, ω, c, s)) := w_aload_n dX3_voyages_0 rfl rfl
theorem wX3_voyages_1 : y_w M_X3_voyages mc ms Q (1, lv, st, ω, c, s) = y_w M_X3_voyages mc ms Q (2, lv, .int 0 :: st, ω, c, s) := w_iconst dX3_voyages_1 (v := 0) (by decide) rfl
theorem wX3_voyages_2 : y_w M_X3_voyages mc ms Q (2, lv, v :: .ref a :: r, ω, c, s) = y_pf P_X3_voyages false 48 (ω.2 a) v (fun ci fs => y_w M_X3_voyages mc ms Q (5, lv, r, y_hup ω a (.inr (ci, fs)), c, s)) := w_putfield dX3_voyages_2 rfl rfl rfl
theorem wX3_voyages_5 : y_w M_X3_voyages mc ms Q (5, lv, st, ω, c, s) = y_ldA lv 0 (fun v => y_w M_X3_voyages mc ms Q (6, lv, v :: st, ω, c, s)) := w_aload_n dX3_voyages_5 rfl rfl
theorem wX3_voyages_6 : y_w M_X3_voyages mc ms Q (6, lv, st, ω, c, s) = y_ldI lv 1 (fun v => y_w M_X3_voyages mc ms Q (7, lv, v :: st, ω, c, s)) := w_iload_n dX3_voyages_6 rfl rfl
theorem wX3_voyages_7 (hc : y_cls ω a = some 3) : y_w M_X3_voyages mc ms Q (7, lv, v1 :: .ref a :: r, ω, c, s) = (y_cat r ≤ 8 ∧ F_X3_isPerson mc ms [.ref a, v1] ω c s (y_aft M_X3_voyages 7 3 lv r (y_w M_X3_voyages mc ms Q) Q)) := w_call1 (av := [v1]) (Or.inl ⟨⟨rfl, rfl⟩, rfl⟩) dX3_voyages_7 rfl hc rfl (y_F_mono _) (y_dle rfl) (y_dle rfl) rfl rfl
theorem wX3_voyages_10 : y_w M_X3_voyages mc ms Q (10, lv, .int x :: r, ω, c, s) = ((x = 0 → y_w M_X3_voyages mc ms Q (21, lv, r, ω, c, s)) ∧ (¬ (x = 0) → y_w M_X3_voyages mc ms Q (13, lv, r, ω, c, s))) := w_if dX3_voyages_10 (tgt := 21) rfl rfl rfl
theorem wX3_voyages_13 : y_w M_X3_voyages mc ms Q (13, lv, st, ω, c, s) = y_ldA lv 0 (fun v => y_w M_X3_voyages mc ms Q (14, lv, v :: st, ω, c, s)) := w_aload_n dX3_voyages_13 rfl rfl
theorem wX3_voyages_14 : y_w M_X3_voyages mc ms Q (14, lv, st, ω, c, s) = y_ldI lv 2 (fun v => y_w M_X3_voyages mc ms Q (15, lv, v :: st, ω, c, s)) := w_iload_n dX3_voyages_14 rfl rfl
theorem wX3_voyages_15 (hc : y_cls ω a = some 3) : y_w M_X3_voyages mc ms Q (15, lv, v1 :: .ref a :: r, ω, c, s) = (y_cat r ≤ 8 ∧ F_X3_isHarbour mc ms [.ref a, v1] ω c s (y_aft M_X3_voyages 15 3 lv r (y_w M_X3_voyages mc ms Q) Q)) := w_call1 (av := [v1]) (Or.inl ⟨⟨rfl, rfl⟩, rfl⟩) dX3_voyages_15 rfl hc rfl (y_F_mono _) (y_dle rfl) (y_dle rfl) rfl rfl
theorem wX3_voyages_18 : y_w M_X3_voyages mc ms Q (18, lv, .int x :: r, ω, c, s) = ((¬ x = 0 → y_w M_X3_voyages mc ms Q (24, lv, r, ω, c, s)) ∧ (¬ (¬ x = 0) → y_w M_X3_voyages mc ms Q (21, lv, r, ω, c, s))) := w_if dX3_voyages_18 (tgt := 24) rfl rfl rfl
theorem wX3_voyages_21 : y_w M_X3_voyages mc ms Q (21, lv, st, ω, c, s) = y_w M_X3_voyages mc ms Q (23, lv, .int (-1000001) :: st, ω, c, s) := w_ldc dX3_voyages_21 rfl rfl rfl
theorem wX3_voyages_23 : y_w M_X3_voyages mc ms Q (23, lv, [.int x], ω, c, s) = Q (.returned (some (.int x))) ω c s := w_ireturnI dX3_voyages_23 rfl
theorem wX3_voyages_24 : y_w M_X3_voyages mc ms Q (24, lv, st, ω, c, s) = y_w M_X3_voyages mc ms Q (25, lv, .int 1 :: st, ω, c, s) := w_iconst dX3_voyages_24 (v := 1) (by decide) rfl
theorem wX3_voyages_25 : y_w M_X3_voyages mc ms Q (25, lv, st, ω, c, s) = y_ldA lv 0 (fun v => y_w M_X3_voyages mc ms Q (26, lv, v :: st, ω, c, s)) := w_aload_n dX3_voyages_25 rfl rfl
theorem wX3_voyages_26 : y_w M_X3_voyages mc ms Q (26, lv, st, ω, c, s) = y_ldI lv 1 (fun v => y_w M_X3_voyages mc ms Q (27, lv, v :: st, ω, c, s)) := w_iload_n dX3_voyages_26 rfl rfl
theorem wX3_voyages_27 : y_w M_X3_voyages mc ms Q (27, lv, st, ω, c, s) = y_w M_X3_voyages mc ms Q (28, lv, .int 1 :: st, ω, c, s) := w_iconst dX3_voyages_27 (v := 1) (by decide) rfl
theorem wX3_voyages_28 (hc : y_cls ω a = some 3) : y_w M_X3_voyages mc ms Q (28, lv, v2 :: v1 :: .ref a :: r, ω, c, s) = (y_cat r ≤ 8 ∧ F_X3_of mc ms [.ref a, v1, v2] ω c s (y_aft M_X3_voyages 28 3 lv r (y_w M_X3_voyages mc ms Q) Q)) := w_call1 (av := [v1, v2]) (Or.inl ⟨⟨rfl, rfl⟩, rfl⟩) dX3_voyages_28 rfl hc rfl (y_F_mono _) (y_dle rfl) (y_dle rfl) rfl rfl
theorem wX3_voyages_31 : y_w M_X3_voyages mc ms Q (31, lv, .int y :: .int x :: r, ω, c, s) = y_w M_X3_voyages mc ms Q (32, lv, .int (x <<< (y &&& 31)) :: r, ω, c, s) := w_ishl dX3_voyages_31 rfl
theorem wX3_voyages_32 : y_w M_X3_voyages mc ms Q (32, lv, .int x :: r, ω, c, s) = y_w M_X3_voyages mc ms Q (33, (3, .int x) :: y_kill 3 lv, r, ω, c, s) := w_istore_n dX3_voyages_32 rfl (y_dle rfl) rfl
theorem wX3_voyages_33 : y_w M_X3_voyages mc ms Q (33, lv, st, ω, c, s) = y_w M_X3_voyages mc ms Q (34, lv, .int 0 :: st, ω, c, s) := w_iconst dX3_voyages_33 (v := 0) (by decide) rfl
theorem wX3_voyages_34 : y_w M_X3_voyages mc ms Q (34, lv, .int x :: r, ω, c, s) = y_w M_X3_voyages mc ms Q (36, (4, .int x) :: y_kill 4 lv, r, ω, c, s) := w_istore dX3_voyages_34 (y_dle rfl) rfl
theorem wX3_voyages_36 : y_w M_X3_voyages mc ms Q (36, lv, st, ω, c, s) = y_ldI lv 4 (fun v => y_w M_X3_voyages mc ms Q (38, lv, v :: st, ω, c, s)) := w_iload dX3_voyages_36 rfl
theorem wX3_voyages_38 : y_w M_X3_voyages mc ms Q (38, lv, st, ω, c, s) = y_w M_X3_voyages mc ms Q (39, lv, .int (nI 5) :: st, ω, c, s) := w_iconst dX3_voyages_38 (v := (nI 5)) (by decide) rfl
theorem wX3_voyages_39 : y_w M_X3_voyages mc ms Q (39, lv, .int y :: .int x :: r, ω, c, s) = ((y ≤ x → y_w M_X3_voyages mc ms Q (147, lv, r, ω, c, s)) ∧ (¬ (y ≤ x) → y_w M_X3_voyages mc ms Q (42, lv, r, ω, c, s))) := w_icmp dX3_voyages_39 (tgt := 147) rfl rfl rfl
theorem wX3_voyages_42 : y_w M_X3_voyages mc ms Q (42, lv, st, ω, c, s) = y_ldI lv 3 (fun v => y_w M_X3_voyages mc ms Q (43, lv, v :: st, ω, c, s)) := w_iload_n dX3_voyages_42 rfl rfl
theorem wX3_voyages_43 : y_w M_X3_voyages mc ms Q (43, lv, st, ω, c, s) = y_ldI lv 2 (fun v => y_w M_X3_voyages mc ms Q (44, lv, v :: st, ω, c, s)) := w_iload_n dX3_voyages_43 rfl rfl
theorem wX3_voyages_44 : y_w M_X3_voyages mc ms Q (44, lv, .int y :: .int x :: r, ω, c, s) = y_w M_X3_voyages mc ms Q (45, lv, .int (x >>> (y &&& 31)) :: r, ω, c, s) := w_ishr dX3_voyages_44 rfl
theorem wX3_voyages_45 : y_w M_X3_voyages mc ms Q (45, lv, st, ω, c, s) = y_w M_X3_voyages mc ms Q (46, lv, .int 1 :: st, ω, c, s) := w_iconst dX3_voyages_45 (v := 1) (by decide) rfl
theorem wX3_voyages_46 : y_w M_X3_voyages mc ms Q (46, lv, .int y :: .int x :: r, ω, c, s) = y_w M_X3_voyages mc ms Q (47, lv, .int (x &&& y) :: r, ω, c, s) := w_iand dX3_voyages_46 rfl
theorem wX3_voyages_47 : y_w M_X3_voyages mc ms Q (47, lv, st, ω, c, s) = y_w M_X3_voyages mc ms Q (48, lv, .int 1 :: st, ω, c, s) := w_iconst dX3_voyages_47 (v := 1) (by decide) rfl
theorem wX3_voyages_48 : y_w M_X3_voyages mc ms Q (48, lv, .int y :: .int x :: r, ω, c, s) = ((¬ x = y → y_w M_X3_voyages mc ms Q (54, lv, r, ω, c, s)) ∧ (¬ (¬ x = y) → y_w M_X3_voyages mc ms Q (51, lv, r, ω, c, s))) := w_icmp dX3_voyages_48 (tgt := 54) rfl rfl rfl
theorem wX3_voyages_51 : y_w M_X3_voyages mc ms Q (51, lv, st, ω, c, s) = y_ldI lv 4 (fun v => y_w M_X3_voyages mc ms Q (53, lv, v :: st, ω, c, s)) := w_iload dX3_voyages_51 rfl
theorem wX3_voyages_53 : y_w M_X3_voyages mc ms Q (53, lv, [.int x], ω, c, s) = Q (.returned (some (.int x))) ω c s := w_ireturnI dX3_voyages_53 rfl
theorem wX3_voyages_54 : y_w M_X3_voyages mc ms Q (54, lv, st, ω, c, s) = y_ldI lv 3 (fun v => y_w M_X3_voyages mc ms Q (55, lv, v :: st, ω, c, s)) := w_iload_n dX3_voyages_54 rfl rfl
theorem wX3_voyages_55 : y_w M_X3_voyages mc ms Q (55, lv, .int x :: r, ω, c, s) = y_w M_X3_voyages mc ms Q (57, (5, .int x) :: y_kill 5 lv, r, ω, c, s) := w_istore dX3_voyages_55 (y_dle rfl) rfl
theorem wX3_voyages_57 : y_w M_X3_voyages mc ms Q (57, lv, st, ω, c, s) = y_w M_X3_voyages mc ms Q (58, lv, .int 0 :: st, ω, c, s) := w_iconst dX3_voyages_57 (v := 0) (by decide) rfl
theorem wX3_voyages_58 : y_w M_X3_voyages mc ms Q (58, lv, .int x :: r, ω, c, s) = y_w M_X3_voyages mc ms Q (60, (6, .int x) :: y_kill 6 lv, r, ω, c, s) := w_istore dX3_voyages_58 (y_dle rfl) rfl
theorem wX3_voyages_60 : y_w M_X3_voyages mc ms Q (60, lv, st, ω, c, s) = y_ldI lv 6 (fun v => y_w M_X3_voyages mc ms Q (62, lv, v :: st, ω, c, s)) := w_iload dX3_voyages_60 rfl
theorem wX3_voyages_62 : y_w M_X3_voyages mc ms Q (62, lv, st, ω, c, s) = y_ldA lv 0 (fun v => y_w M_X3_voyages mc ms Q (63, lv, v :: st, ω, c, s)) := w_aload_n dX3_voyages_62 rfl rfl
theorem wX3_voyages_63 : y_w M_X3_voyages mc ms Q (63, lv, .ref a :: r, ω, c, s) = y_gf P_X3_voyages 19 (ω.2 a) (fun v => y_w M_X3_voyages mc ms Q (66, lv, v :: r, ω, c, s)) := w_getfield dX3_voyages_63 rfl rfl
theorem wX3_voyages_66 : y_w M_X3_voyages mc ms Q (66, lv, st, ω, c, s) = y_w M_X3_voyages mc ms Q (67, lv, .int 0 :: st, ω, c, s) := w_iconst dX3_voyages_66 (v := 0) (by decide) rfl
theorem wX3_voyages_67 : y_w M_X3_voyages mc ms Q (67, lv, .int j :: .ref a :: r, ω, c, s) = y_rI (ω.2 a) j (fun x => y_w M_X3_voyages mc ms Q (68, lv, .int x :: r, ω, c, s)) := w_iaload dX3_voyages_67 rfl
theorem wX3_voyages_68 : y_w M_X3_voyages mc ms Q (68, lv, .int y :: .int x :: r, ω, c, s) = ((y ≤ x → y_w M_X3_voyages mc ms Q (138, lv, r, ω, c, s)) ∧ (¬ (y ≤ x) → y_w M_X3_voyages mc ms Q (71, lv, r, ω, c, s))) := w_icmp dX3_voyages_68 (tgt := 138) rfl rfl rfl
theorem wX3_voyages_71 : y_w M_X3_voyages mc ms Q (71, lv, st, ω, c, s) = y_w M_X3_voyages mc ms Q (72, lv, .int 0 :: st, ω, c, s) := w_iconst dX3_voyages_71 (v := 0) (by decide) rfl
theorem wX3_voyages_72 : y_w M_X3_voyages mc ms Q (72, lv, .int x :: r, ω, c, s) = y_w M_X3_voyages mc ms Q (74, (7, .int x) :: y_kill 7 lv, r, ω, c, s) := w_istore dX3_voyages_72 (y_dle rfl) rfl
theorem wX3_voyages_74 : y_w M_X3_voyages mc ms Q (74, lv, st, ω, c, s) = y_ldI lv 7 (fun v => y_w M_X3_voyages mc ms Q (76, lv, v :: st, ω, c, s)) := w_iload dX3_voyages_74 rfl
theorem wX3_voyages_76 : y_w M_X3_voyages mc ms Q (76, lv, st, ω, c, s) = y_ldA lv 0 (fun v => y_w M_X3_voyages mc ms Q (77, lv, v :: st, ω, c, s)) := w_aload_n dX3_voyages_76 rfl rfl
theorem wX3_voyages_77 : y_w M_X3_voyages mc ms Q (77, lv, .ref a :: r, ω, c, s) = y_gf P_X3_voyages 19 (ω.2 a) (fun v => y_w M_X3_voyages mc ms Q (80, lv, v :: r, ω, c, s)) := w_getfield dX3_voyages_77 rfl rfl
theorem wX3_voyages_80 : y_w M_X3_voyages mc ms Q (80, lv, st, ω, c, s) = y_w M_X3_voyages mc ms Q (81, lv, .int (nI 2) :: st, ω, c, s) := w_iconst dX3_voyages_80 (v := (nI 2)) (by decide) rfl
theorem wX3_voyages_81 : y_w M_X3_voyages mc ms Q (81, lv, .int j :: .ref a :: r, ω, c, s) = y_rI (ω.2 a) j (fun x => y_w M_X3_voyages mc ms Q (82, lv, .int x :: r, ω, c, s)) := w_iaload dX3_voyages_81 rfl
theorem wX3_voyages_82 : y_w M_X3_voyages mc ms Q (82, lv, .int y :: .int x :: r, ω, c, s) = ((y ≤ x → y_w M_X3_voyages mc ms Q (132, lv, r, ω, c, s)) ∧ (¬ (y ≤ x) → y_w M_X3_voyages mc ms Q (85, lv, r, ω, c, s))) := w_icmp dX3_voyages_82 (tgt := 132) rfl rfl rfl
theorem wX3_voyages_85 : y_w M_X3_voyages mc ms Q (85, lv, st, ω, c, s) = y_ldI lv 3 (fun v => y_w M_X3_voyages mc ms Q (86, lv, v :: st, ω, c, s)) := w_iload_n dX3_voyages_85 rfl rfl
theorem wX3_voyages_86 : y_w M_X3_voyages mc ms Q (86, lv, st, ω, c, s) = y_ldI lv 6 (fun v => y_w M_X3_voyages mc ms Q (88, lv, v :: st, ω, c, s)) := w_iload dX3_voyages_86 rfl
theorem wX3_voyages_88 : y_w M_X3_voyages mc ms Q (88, lv, .int y :: .int x :: r, ω, c, s) = y_w M_X3_voyages mc ms Q (89, lv, .int (x >>> (y &&& 31)) :: r, ω, c, s) := w_ishr dX3_voyages_88 rfl
theorem wX3_voyages_89 : y_w M_X3_voyages mc ms Q (89, lv, st, ω, c, s) = y_w M_X3_voyages mc ms Q (90, lv, .int 1 :: st, ω, c, s) := w_iconst dX3_voyages_89 (v := 1) (by decide) rfl
theorem wX3_voyages_90 : y_w M_X3_voyages mc ms Q (90, lv, .int y :: .int x :: r, ω, c, s) = y_w M_X3_voyages mc ms Q (91, lv, .int (x &&& y) :: r, ω, c, s) := w_iand dX3_voyages_90 rfl
theorem wX3_voyages_91 : y_w M_X3_voyages mc ms Q (91, lv, st, ω, c, s) = y_w M_X3_voyages mc ms Q (92, lv, .int 1 :: st, ω, c, s) := w_iconst dX3_voyages_91 (v := 1) (by decide) rfl
theorem wX3_voyages_92 : y_w M_X3_voyages mc ms Q (92, lv, .int y :: .int x :: r, ω, c, s) = ((¬ x = y → y_w M_X3_voyages mc ms Q (132, lv, r, ω, c, s)) ∧ (¬ (¬ x = y) → y_w M_X3_voyages mc ms Q (95, lv, r, ω, c, s))) := w_icmp dX3_voyages_92 (tgt := 132) rfl rfl rfl
theorem wX3_voyages_95 : y_w M_X3_voyages mc ms Q (95, lv, st, ω, c, s) = y_ldA lv 0 (fun v => y_w M_X3_voyages mc ms Q (96, lv, v :: st, ω, c, s)) := w_aload_n dX3_voyages_95 rfl rfl
theorem wX3_voyages_96 : y_w M_X3_voyages mc ms Q (96, lv, st, ω, c, s) = y_ldI lv 1 (fun v => y_w M_X3_voyages mc ms Q (97, lv, v :: st, ω, c, s)) := w_iload_n dX3_voyages_96 rfl rfl
theorem wX3_voyages_97 : y_w M_X3_voyages mc ms Q (97, lv, st, ω, c, s) = y_ldI lv 7 (fun v => y_w M_X3_voyages mc ms Q (99, lv, v :: st, ω, c, s)) := w_iload dX3_voyages_97 rfl
theorem wX3_voyages_99 : y_w M_X3_voyages mc ms Q (99, lv, st, ω, c, s) = y_ldI lv 6 (fun v => y_w M_X3_voyages mc ms Q (101, lv, v :: st, ω, c, s)) := w_iload dX3_voyages_99 rfl
theorem wX3_voyages_101 (hc : y_cls ω a = some 3) : y_w M_X3_voyages mc ms Q (101, lv, v3 :: v2 :: v1 :: .ref a :: r, ω, c, s) = (y_cat r ≤ 8 ∧ F_X3_endOf mc ms [.ref a, v1, v2, v3] ω c s (y_aft M_X3_voyages 101 3 lv r (y_w M_X3_voyages mc ms Q) Q)) := w_call1 (av := [v1, v2, v3]) (Or.inl ⟨⟨rfl, rfl⟩, rfl⟩) dX3_voyages_101 rfl hc rfl (y_F_mono _) (y_dle rfl) (y_dle rfl) rfl rfl
theorem wX3_voyages_104 : y_w M_X3_voyages mc ms Q (104, lv, .int x :: r, ω, c, s) = y_w M_X3_voyages mc ms Q (106, (8, .int x) :: y_kill 8 lv, r, ω, c, s) := w_istore dX3_voyages_104 (y_dle rfl) rfl
theorem wX3_voyages_106 : y_w M_X3_voyages mc ms Q (106, lv, st, ω, c, s) = y_ldI lv 5 (fun v => y_w M_X3_voyages mc ms Q (108, lv, v :: st, ω, c, s)) := w_iload dX3_voyages_106 rfl
theorem wX3_voyages_108 : y_w M_X3_voyages mc ms Q (108, lv, st, ω, c, s) = y_ldI lv 8 (fun v => y_w M_X3_voyages mc ms Q (110, lv, v :: st, ω, c, s)) := w_iload dX3_voyages_108 rfl
theorem wX3_voyages_110 : y_w M_X3_voyages mc ms Q (110, lv, st, ω, c, s) = y_w M_X3_voyages mc ms Q (112, lv, .int (-1000000) :: st, ω, c, s) := w_ldc dX3_voyages_110 rfl rfl rfl
theorem wX3_voyages_112 : y_w M_X3_voyages mc ms Q (112, lv, .int y :: .int x :: r, ω, c, s) = ((x = y → y_w M_X3_voyages mc ms Q (122, lv, r, ω, c, s)) ∧ (¬ (x = y) → y_w M_X3_voyages mc ms Q (115, lv, r, ω, c, s))) := w_icmp dX3_voyages_112 (tgt := 122) rfl rfl rfl
theorem wX3_voyages_115 : y_w M_X3_voyages mc ms Q (115, lv, st, ω, c, s) = y_w M_X3_voyages mc ms Q (116, lv, .int 1 :: st, ω, c, s) := w_iconst dX3_voyages_115 (v := 1) (by decide) rfl
theorem wX3_voyages_116 : y_w M_X3_voyages mc ms Q (116, lv, st, ω, c, s) = y_ldI lv 8 (fun v => y_w M_X3_voyages mc ms Q (118, lv, v :: st, ω, c, s)) := w_iload dX3_voyages_116 rfl
theorem wX3_voyages_118 : y_w M_X3_voyages mc ms Q (118, lv, .int y :: .int x :: r, ω, c, s) = y_w M_X3_voyages mc ms Q (119, lv, .int (x <<< (y &&& 31)) :: r, ω, c, s) := w_ishl dX3_voyages_118 rfl
theorem wX3_voyages_119 : y_w M_X3_voyages mc ms Q (119, lv, st, ω, c, s) = y_w M_X3_voyages mc ms Q (123, lv, st, ω, c, s) := w_goto dX3_voyages_119 (tgt := 123) (by decide) rfl
theorem wX3_voyages_122 : y_w M_X3_voyages mc ms Q (122, lv, st, ω, c, s) = y_w M_X3_voyages mc ms Q (123, lv, .int 0 :: st, ω, c, s) := w_iconst dX3_voyages_122 (v := 0) (by decide) rfl
theorem wX3_voyages_123 : y_w M_X3_voyages mc ms Q (123, lv, .int y :: .int x :: r, ω, c, s) = y_w M_X3_voyages mc ms Q (124, lv, .int (x ||| y) :: r, ω, c, s) := w_ior dX3_voyages_123 rfl
theorem wX3_voyages_124 : y_w M_X3_voyages mc ms Q (124, lv, .int x :: r, ω, c, s) = y_w M_X3_voyages mc ms Q (126, (5, .int x) :: y_kill 5 lv, r, ω, c, s) := w_istore dX3_voyages_124 (y_dle rfl) rfl
theorem wX3_voyages_126 : y_w M_X3_voyages mc ms Q (126, lv, st, ω, c, s) = y_inc lv 7 (fun x => y_w M_X3_voyages mc ms Q (129, (7, .int (x + 1)) :: y_kill 7 lv, st, ω, c, s)) := w_iinc dX3_voyages_126 (d := 1) (by decide) (y_dle rfl) rfl
theorem wX3_voyages_129 : y_w M_X3_voyages mc ms Q (129, lv, st, ω, c, s) = ∃ lv2, y_lsub lv2 lv ∧ y_w M_X3_voyages mc ms Q (74, lv2, st, ω, c, s) := w_back dX3_voyages_129 (tgt := 74) (by decide) rfl
theorem wX3_voyages_132 : y_w M_X3_voyages mc ms Q (132, lv, st, ω, c, s) = y_inc lv 6 (fun x => y_w M_X3_voyages mc ms Q (135, (6, .int (x + 1)) :: y_kill 6 lv, st, ω, c, s)) := w_iinc dX3_voyages_132 (d := 1) (by decide) (y_dle rfl) rfl
theorem wX3_voyages_135 : y_w M_X3_voyages mc ms Q (135, lv, st, ω, c, s) = ∃ lv2, y_lsub lv2 lv ∧ y_w M_X3_voyages mc ms Q (60, lv2, st, ω, c, s) := w_back dX3_voyages_135 (tgt := 60) (by decide) rfl
theorem wX3_voyages_138 : y_w M_X3_voyages mc ms Q (138, lv, st, ω, c, s) = y_ldI lv 5 (fun v => y_w M_X3_voyages mc ms Q (140, lv, v :: st, ω, c, s)) := w_iload dX3_voyages_138 rfl
theorem wX3_voyages_140 : y_w M_X3_voyages mc ms Q (140, lv, .int x :: r, ω, c, s) = y_w M_X3_voyages mc ms Q (141, (3, .int x) :: y_kill 3 lv, r, ω, c, s) := w_istore_n dX3_voyages_140 rfl (y_dle rfl) rfl
theorem wX3_voyages_141 : y_w M_X3_voyages mc ms Q (141, lv, st, ω, c, s) = y_inc lv 4 (fun x => y_w M_X3_voyages mc ms Q (144, (4, .int (x + 1)) :: y_kill 4 lv, st, ω, c, s)) := w_iinc dX3_voyages_141 (d := 1) (by decide) (y_dle rfl) rfl
theorem wX3_voyages_144 : y_w M_X3_voyages mc ms Q (144, lv, st, ω, c, s) = ∃ lv2, y_lsub lv2 lv ∧ y_w M_X3_voyages mc ms Q (36, lv2, st, ω, c, s) := w_back dX3_voyages_144 (tgt := 36) (by decide) rfl
theorem wX3_voyages_147 : y_w M_X3_voyages mc ms Q (147, lv, st, ω, c, s) = y_w M_X3_voyages mc ms Q (149, lv, .int (-1000000) :: st, ω, c, s) := w_ldc dX3_voyages_147 rfl rfl rfl
theorem wX3_voyages_149 : y_w M_X3_voyages mc ms Q (149, lv, [.int x], ω, c, s) = Q (.returned (some (.int x))) ω c s := w_ireturnI dX3_voyages_149 rfl
def P_X3_even : y_Pool := ([(48, 3, 0, .int, false), (35, 3, 20, (.array .long), true), (31, 3, 19, (.array .long), true)], [], [(68, .int (-1000001)), (226, .long (lN 40)), (84, .int (-1000000))], [(199, 1, 3, 2, (2, 46), F_X3_isPerson), (223, 1, 3, 2, (2, 46), F_X3_isHarbour), (228, 1, 3, 2, (3, 74), F_X3_layGains), (181, 1, 3, 3, (1, 22), F_X3_of), (58, 0, 0, 3, (1, 25), F_X3_in)], [], [], [])
def M_X3_even : y_Md := (cX3_even, "YoungerBackModel", (11, (some FieldType.int)), (3, 74), false, P_X3_even, [])
def F_X3_even : y_Tr := y_F M_X3_even
theorem nX3_even : y_nL M_X3_even = 11 := rfl
theorem fX3_even_48_3 : y_ffP P_X3_even 48 3 = some (0, .int, false) := rfl
theorem fX3_even_35_3 : y_ffP P_X3_even 35 3 = some (20, (.array .long), true) := rfl
theorem fX3_even_31_3 : y_ffP P_X3_even 31 3 = some (19, (.array .long), true) := rfl
theorem wX3_even_0 : y_w M_X3_even mc ms Q (0, lv, st, ω, c, s) = y_ldA lv 0 (fun v => y_w M_X3_even mc ms Q (1, lv, v :: st, ω, c, s)) := w_aload_n dX3_even_0 rfl rfl
theorem wX3_even_1 : y_w M_X3_even mc ms Q (1, lv, st, ω, c, s) = y_w M_X3_even mc ms Q (2, lv, .int 0 :: st, ω, c, s) := w_iconst dX3_even_1 (v := 0) (by decide) rfl
theorem wX3_even_2 : y_w M_X3_even mc ms Q (2, lv, v :: .ref a :: r, ω, c, s) = y_pf P_X3_even false 48 (ω.2 a) v (fun ci fs => y_w M_X3_even mc ms Q (5, lv, r, y_hup ω a (.inr (ci, fs)), c, s)) := w_putfield dX3_even_2 rfl rfl rfl
theorem wX3_even_5 : y_w M_X3_even mc ms Q (5, lv, st, ω, c, s) = y_ldA lv 0 (fun v => y_w M_X3_even mc ms Q (6, lv, v :: st, ω, c, s)) := w_aload_n dX3_even_5 rfl rfl
theorem wX3_even_6 : y_w M_X3_even mc ms Q (6, lv, st, ω, c, s) = y_ldI lv 1 (fun v => y_w M_X3_even mc ms Q (7, lv, v :: st, ω, c, s)) := w_iload_n dX3_even_6 rfl rfl
theorem wX3_even_7 (hc : y_cls ω a = some 3) : y_w M_X3_even mc ms Q (7, lv, v1 :: .ref a :: r, ω, c, s) = (y_cat r ≤ 8 ∧ F_X3_isPerson mc ms [.ref a, v1] ω c s (y_aft M_X3_even 7 3 lv r (y_w M_X3_even mc ms Q) Q)) := w_call1 (av := [v1]) (Or.inl ⟨⟨rfl, rfl⟩, rfl⟩) dX3_even_7 rfl hc rfl (y_F_mono _) (y_dle rfl) (y_dle rfl) rfl rfl
theorem wX3_even_10 : y_w M_X3_even mc ms Q (10, lv, .int x :: r, ω, c, s) = ((x = 0 → y_w M_X3_even mc ms Q (34, lv, r, ω, c, s)) ∧ (¬ (x = 0) → y_w M_X3_even mc ms Q (13, lv, r, ω, c, s))) := w_if dX3_even_10 (tgt := 34) rfl rfl rfl
theorem wX3_even_13 : y_w M_X3_even mc ms Q (13, lv, st, ω, c, s) = y_ldA lv 0 (fun v => y_w M_X3_even mc ms Q (14, lv, v :: st, ω, c, s)) := w_aload_n dX3_even_13 rfl rfl
theorem wX3_even_14 : y_w M_X3_even mc ms Q (14, lv, st, ω, c, s) = y_ldI lv 2 (fun v => y_w M_X3_even mc ms Q (15, lv, v :: st, ω, c, s)) := w_iload_n dX3_even_14 rfl rfl
theorem wX3_even_15 (hc : y_cls ω a = some 3) : y_w M_X3_even mc ms Q (15, lv, v1 :: .ref a :: r, ω, c, s) = (y_cat r ≤ 8 ∧ F_X3_isPerson mc ms [.ref a, v1] ω c s (y_aft M_X3_even 15 3 lv r (y_w M_X3_even mc ms Q) Q)) := w_call1 (av := [v1]) (Or.inl ⟨⟨rfl, rfl⟩, rfl⟩) dX3_even_15 rfl hc rfl (y_F_mono _) (y_dle rfl) (y_dle rfl) rfl rfl
theorem wX3_even_18 : y_w M_X3_even mc ms Q (18, lv, .int x :: r, ω, c, s) = ((x = 0 → y_w M_X3_even mc ms Q (34, lv, r, ω, c, s)) ∧ (¬ (x = 0) → y_w M_X3_even mc ms Q (21, lv, r, ω, c, s))) := w_if dX3_even_18 (tgt := 34) rfl rfl rfl
theorem wX3_even_21 : y_w M_X3_even mc ms Q (21, lv, st, ω, c, s) = y_ldI lv 1 (fun v => y_w M_X3_even mc ms Q (22, lv, v :: st, ω, c, s)) := w_iload_n dX3_even_21 rfl rfl
theorem wX3_even_22 : y_w M_X3_even mc ms Q (22, lv, st, ω, c, s) = y_ldI lv 2 (fun v => y_w M_X3_even mc ms Q (23, lv, v :: st, ω, c, s)) := w_iload_n dX3_even_22 rfl rfl
theorem wX3_even_23 : y_w M_X3_even mc ms Q (23, lv, .int y :: .int x :: r, ω, c, s) = ((x = y → y_w M_X3_even mc ms Q (34, lv, r, ω, c, s)) ∧ (¬ (x = y) → y_w M_X3_even mc ms Q (26, lv, r, ω, c, s))) := w_icmp dX3_even_23 (tgt := 34) rfl rfl rfl
theorem wX3_even_26 : y_w M_X3_even mc ms Q (26, lv, st, ω, c, s) = y_ldA lv 0 (fun v => y_w M_X3_even mc ms Q (27, lv, v :: st, ω, c, s)) := w_aload_n dX3_even_26 rfl rfl
theorem wX3_even_27 : y_w M_X3_even mc ms Q (27, lv, st, ω, c, s) = y_ldI lv 3 (fun v => y_w M_X3_even mc ms Q (28, lv, v :: st, ω, c, s)) := w_iload_n dX3_even_27 rfl rfl
theorem wX3_even_28 (hc : y_cls ω a = some 3) : y_w M_X3_even mc ms Q (28, lv, v1 :: .ref a :: r, ω, c, s) = (y_cat r ≤ 8 ∧ F_X3_isHarbour mc ms [.ref a, v1] ω c s (y_aft M_X3_even 28 3 lv r (y_w M_X3_even mc ms Q) Q)) := w_call1 (av := [v1]) (Or.inl ⟨⟨rfl, rfl⟩, rfl⟩) dX3_even_28 rfl hc rfl (y_F_mono _) (y_dle rfl) (y_dle rfl) rfl rfl
theorem wX3_even_31 : y_w M_X3_even mc ms Q (31, lv, .int x :: r, ω, c, s) = ((¬ x = 0 → y_w M_X3_even mc ms Q (37, lv, r, ω, c, s)) ∧ (¬ (¬ x = 0) → y_w M_X3_even mc ms Q (34, lv, r, ω, c, s))) := w_if dX3_even_31 (tgt := 37) rfl rfl rfl
theorem wX3_even_34 : y_w M_X3_even mc ms Q (34, lv, st, ω, c, s) = y_w M_X3_even mc ms Q (36, lv, .int (-1000001) :: st, ω, c, s) := w_ldc dX3_even_34 rfl rfl rfl
theorem wX3_even_36 : y_w M_X3_even mc ms Q (36, lv, [.int x], ω, c, s) = Q (.returned (some (.int x))) ω c s := w_ireturnI dX3_even_36 rfl
theorem wX3_even_37 : y_w M_X3_even mc ms Q (37, lv, st, ω, c, s) = y_ldA lv 0 (fun v => y_w M_X3_even mc ms Q (38, lv, v :: st, ω, c, s)) := w_aload_n dX3_even_37 rfl rfl
theorem wX3_even_38 : y_w M_X3_even mc ms Q (38, lv, st, ω, c, s) = y_ldI lv 2 (fun v => y_w M_X3_even mc ms Q (39, lv, v :: st, ω, c, s)) := w_iload_n dX3_even_38 rfl rfl
theorem wX3_even_39 (hc : y_cls ω a = some 3) : y_w M_X3_even mc ms Q (39, lv, v1 :: .ref a :: r, ω, c, s) = (y_cat r ≤ 8 ∧ F_X3_layGains mc ms [.ref a, v1] ω c s (y_aft M_X3_even 39 3 lv r (y_w M_X3_even mc ms Q) Q)) := w_call1 (av := [v1]) (Or.inl ⟨⟨rfl, rfl⟩, rfl⟩) dX3_even_39 rfl hc rfl (y_F_mono _) (y_dle rfl) (y_dle rfl) rfl rfl
theorem wX3_even_42 : y_w M_X3_even mc ms Q (42, lv, st, ω, c, s) = y_w M_X3_even mc ms Q (43, lv, .int 0 :: st, ω, c, s) := w_iconst dX3_even_42 (v := 0) (by decide) rfl
theorem wX3_even_43 : y_w M_X3_even mc ms Q (43, lv, .int x :: r, ω, c, s) = y_w M_X3_even mc ms Q (45, (4, .int x) :: y_kill 4 lv, r, ω, c, s) := w_istore dX3_even_43 (y_dle rfl) rfl
theorem wX3_even_45 : y_w M_X3_even mc ms Q (45, lv, st, ω, c, s) = y_ldI lv 4 (fun v => y_w M_X3_even mc ms Q (47, lv, v :: st, ω, c, s)) := w_iload dX3_even_45 rfl
theorem wX3_even_47 : y_w M_X3_even mc ms Q (47, lv, st, ω, c, s) = y_w M_X3_even mc ms Q (50, lv, .int (nI 205) :: st, ω, c, s) := w_sipush dX3_even_47 (v := (nI 205)) (by decide) rfl
theorem wX3_even_50 : y_w M_X3_even mc ms Q (50, lv, .int y :: .int x :: r, ω, c, s) = ((y ≤ x → y_w M_X3_even mc ms Q (73, lv, r, ω, c, s)) ∧ (¬ (y ≤ x) → y_w M_X3_even mc ms Q (53, lv, r, ω, c, s))) := w_icmp dX3_even_50 (tgt := 73) rfl rfl rfl
theorem wX3_even_53 : y_w M_X3_even mc ms Q (53, lv, st, ω, c, s) = y_ldA lv 0 (fun v => y_w M_X3_even mc ms Q (54, lv, v :: st, ω, c, s)) := w_aload_n dX3_even_53 rfl rfl
theorem wX3_even_54 : y_w M_X3_even mc ms Q (54, lv, .ref a :: r, ω, c, s) = y_gf P_X3_even 35 (ω.2 a) (fun v => y_w M_X3_even mc ms Q (57, lv, v :: r, ω, c, s)) := w_getfield dX3_even_54 rfl rfl
theorem wX3_even_57 : y_w M_X3_even mc ms Q (57, lv, st, ω, c, s) = y_ldI lv 4 (fun v => y_w M_X3_even mc ms Q (59, lv, v :: st, ω, c, s)) := w_iload dX3_even_57 rfl
theorem wX3_even_59 : y_w M_X3_even mc ms Q (59, lv, st, ω, c, s) = y_ldA lv 0 (fun v => y_w M_X3_even mc ms Q (60, lv, v :: st, ω, c, s)) := w_aload_n dX3_even_59 rfl rfl
theorem wX3_even_60 : y_w M_X3_even mc ms Q (60, lv, .ref a :: r, ω, c, s) = y_gf P_X3_even 31 (ω.2 a) (fun v => y_w M_X3_even mc ms Q (63, lv, v :: r, ω, c, s)) := w_getfield dX3_even_60 rfl rfl
theorem wX3_even_63 : y_w M_X3_even mc ms Q (63, lv, st, ω, c, s) = y_ldI lv 4 (fun v => y_w M_X3_even mc ms Q (65, lv, v :: st, ω, c, s)) := w_iload dX3_even_63 rfl
theorem wX3_even_65 : y_w M_X3_even mc ms Q (65, lv, .int j :: .ref a :: r, ω, c, s) = y_rL (ω.2 a) j (fun x => y_w M_X3_even mc ms Q (66, lv, .long x :: r, ω, c, s)) := w_laload dX3_even_65 rfl
theorem wX3_even_66 : y_w M_X3_even mc ms Q (66, lv, .long z :: .int j :: .ref a :: r, ω, c, s) = y_wL (ω.2 a) j z (fun e => y_w M_X3_even mc ms Q (67, lv, r, y_hup ω a e, c, s)) := w_lastore dX3_even_66 rfl
theorem wX3_even_67 : y_w M_X3_even mc ms Q (67, lv, st, ω, c, s) = y_inc lv 4 (fun x => y_w M_X3_even mc ms Q (70, (4, .int (x + 1)) :: y_kill 4 lv, st, ω, c, s)) := w_iinc dX3_even_67 (d := 1) (by decide) (y_dle rfl) rfl
theorem wX3_even_70 : y_w M_X3_even mc ms Q (70, lv, st, ω, c, s) = ∃ lv2, y_lsub lv2 lv ∧ y_w M_X3_even mc ms Q (45, lv2, st, ω, c, s) := w_back dX3_even_70 (tgt := 45) (by decide) rfl
theorem wX3_even_73 : y_w M_X3_even mc ms Q (73, lv, st, ω, c, s) = y_ldA lv 0 (fun v => y_w M_X3_even mc ms Q (74, lv, v :: st, ω, c, s)) := w_aload_n dX3_even_73 rfl rfl
theorem wX3_even_74 : y_w M_X3_even mc ms Q (74, lv, st, ω, c, s) = y_ldI lv 1 (fun v => y_w M_X3_even mc ms Q (75, lv, v :: st, ω, c, s)) := w_iload_n dX3_even_74 rfl rfl
theorem wX3_even_75 (hc : y_cls ω a = some 3) : y_w M_X3_even mc ms Q (75, lv, v1 :: .ref a :: r, ω, c, s) = (y_cat r ≤ 8 ∧ F_X3_layGains mc ms [.ref a, v1] ω c s (y_aft M_X3_even 75 3 lv r (y_w M_X3_even mc ms Q) Q)) := w_call1 (av := [v1]) (Or.inl ⟨⟨rfl, rfl⟩, rfl⟩) dX3_even_75 rfl hc rfl (y_F_mono _) (y_dle rfl) (y_dle rfl) rfl rfl
theorem wX3_even_78 : y_w M_X3_even mc ms Q (78, lv, st, ω, c, s) = y_ldA lv 0 (fun v => y_w M_X3_even mc ms Q (79, lv, v :: st, ω, c, s)) := w_aload_n dX3_even_78 rfl rfl
theorem wX3_even_79 : y_w M_X3_even mc ms Q (79, lv, st, ω, c, s) = y_ldI lv 1 (fun v => y_w M_X3_even mc ms Q (80, lv, v :: st, ω, c, s)) := w_iload_n dX3_even_79 rfl rfl
theorem wX3_even_80 : y_w M_X3_even mc ms Q (80, lv, st, ω, c, s) = y_w M_X3_even mc ms Q (81, lv, .int (nI 3) :: st, ω, c, s) := w_iconst dX3_even_80 (v := (nI 3)) (by decide) rfl
theorem wX3_even_81 (hc : y_cls ω a = some 3) : y_w M_X3_even mc ms Q (81, lv, v2 :: v1 :: .ref a :: r, ω, c, s) = (y_cat r ≤ 8 ∧ F_X3_of mc ms [.ref a, v1, v2] ω c s (y_aft M_X3_even 81 3 lv r (y_w M_X3_even mc ms Q) Q)) := w_call1 (av := [v1, v2]) (Or.inl ⟨⟨rfl, rfl⟩, rfl⟩) dX3_even_81 rfl hc rfl (y_F_mono _) (y_dle rfl) (y_dle rfl) rfl rfl
theorem wX3_even_84 : y_w M_X3_even mc ms Q (84, lv, st, ω, c, s) = y_ldA lv 0 (fun v => y_w M_X3_even mc ms Q (85, lv, v :: st, ω, c, s)) := w_aload_n dX3_even_84 rfl rfl
theorem wX3_even_85 : y_w M_X3_even mc ms Q (85, lv, st, ω, c, s) = y_ldI lv 2 (fun v => y_w M_X3_even mc ms Q (86, lv, v :: st, ω, c, s)) := w_iload_n dX3_even_85 rfl rfl
theorem wX3_even_86 : y_w M_X3_even mc ms Q (86, lv, st, ω, c, s) = y_w M_X3_even mc ms Q (87, lv, .int (nI 3) :: st, ω, c, s) := w_iconst dX3_even_86 (v := (nI 3)) (by decide) rfl
theorem wX3_even_87 (hc : y_cls ω a = some 3) : y_w M_X3_even mc ms Q (87, lv, v2 :: v1 :: .ref a :: r, ω, c, s) = (y_cat r ≤ 8 ∧ F_X3_of mc ms [.ref a, v1, v2] ω c s (y_aft M_X3_even 87 3 lv r (y_w M_X3_even mc ms Q) Q)) := w_call1 (av := [v1, v2]) (Or.inl ⟨⟨rfl, rfl⟩, rfl⟩) dX3_even_87 rfl hc rfl (y_F_mono _) (y_dle rfl) (y_dle rfl) rfl rfl
theorem wX3_even_90 : y_w M_X3_even mc ms Q (90, lv, .int y :: .int x :: r, ω, c, s) = ((x ≤ y → y_w M_X3_even mc ms Q (102, lv, r, ω, c, s)) ∧ (¬ (x ≤ y) → y_w M_X3_even mc ms Q (93, lv, r, ω, c, s))) := w_icmp dX3_even_90 (tgt := 102) rfl rfl rfl
theorem wX3_even_93 : y_w M_X3_even mc ms Q (93, lv, st, ω, c, s) = y_ldA lv 0 (fun v => y_w M_X3_even mc ms Q (94, lv, v :: st, ω, c, s)) := w_aload_n dX3_even_93 rfl rfl
theorem wX3_even_94 : y_w M_X3_even mc ms Q (94, lv, st, ω, c, s) = y_ldI lv 1 (fun v => y_w M_X3_even mc ms Q (95, lv, v :: st, ω, c, s)) := w_iload_n dX3_even_94 rfl rfl
theorem wX3_even_95 : y_w M_X3_even mc ms Q (95, lv, st, ω, c, s) = y_w M_X3_even mc ms Q (96, lv, .int (nI 3) :: st, ω, c, s) := w_iconst dX3_even_95 (v := (nI 3)) (by decide) rfl
theorem wX3_even_96 (hc : y_cls ω a = some 3) : y_w M_X3_even mc ms Q (96, lv, v2 :: v1 :: .ref a :: r, ω, c, s) = (y_cat r ≤ 8 ∧ F_X3_of mc ms [.ref a, v1, v2] ω c s (y_aft M_X3_even 96 3 lv r (y_w M_X3_even mc ms Q) Q)) := w_call1 (av := [v1, v2]) (Or.inl ⟨⟨rfl, rfl⟩, rfl⟩) dX3_even_96 rfl hc rfl (y_F_mono _) (y_dle rfl) (y_dle rfl) rfl rfl
theorem wX3_even_99 : y_w M_X3_even mc ms Q (99, lv, st, ω, c, s) = y_w M_X3_even mc ms Q (108, lv, st, ω, c, s) := w_goto dX3_even_99 (tgt := 108) (by decide) rfl
theorem wX3_even_102 : y_w M_X3_even mc ms Q (102, lv, st, ω, c, s) = y_ldA lv 0 (fun v => y_w M_X3_even mc ms Q (103, lv, v :: st, ω, c, s)) := w_aload_n dX3_even_102 rfl rfl
theorem wX3_even_103 : y_w M_X3_even mc ms Q (103, lv, st, ω, c, s) = y_ldI lv 2 (fun v => y_w M_X3_even mc ms Q (104, lv, v :: st, ω, c, s)) := w_iload_n dX3_even_103 rfl rfl
theorem wX3_even_104 : y_w M_X3_even mc ms Q (104, lv, st, ω, c, s) = y_w M_X3_even mc ms Q (105, lv, .int (nI 3) :: st, ω, c, s) := w_iconst dX3_even_104 (v := (nI 3)) (by decide) rfl
theorem wX3_even_105 (hc : y_cls ω a = some 3) : y_w M_X3_even mc ms Q (105, lv, v2 :: v1 :: .ref a :: r, ω, c, s) = (y_cat r ≤ 8 ∧ F_X3_of mc ms [.ref a, v1, v2] ω c s (y_aft M_X3_even 105 3 lv r (y_w M_X3_even mc ms Q) Q)) := w_call1 (av := [v1, v2]) (Or.inl ⟨⟨rfl, rfl⟩, rfl⟩) dX3_even_105 rfl hc rfl (y_F_mono _) (y_dle rfl) (y_dle rfl) rfl rfl
theorem wX3_even_108 : y_w M_X3_even mc ms Q (108, lv, .int x :: r, ω, c, s) = y_w M_X3_even mc ms Q (110, (4, .int x) :: y_kill 4 lv, r, ω, c, s) := w_istore dX3_even_108 (y_dle rfl) rfl
theorem wX3_even_110 : y_w M_X3_even mc ms Q (110, lv, st, ω, c, s) = y_ldI lv 4 (fun v => y_w M_X3_even mc ms Q (112, lv, v :: st, ω, c, s)) := w_iload dX3_even_110 rfl
theorem wX3_even_112 : y_w M_X3_even mc ms Q (112, lv, .int x :: r, ω, c, s) = y_w M_X3_even mc ms Q (114, (5, .int x) :: y_kill 5 lv, r, ω, c, s) := w_istore dX3_even_112 (y_dle rfl) rfl
theorem wX3_even_114 : y_w M_X3_even mc ms Q (114, lv, st, ω, c, s) = y_ldI lv 5 (fun v => y_w M_X3_even mc ms Q (116, lv, v :: st, ω, c, s)) := w_iload dX3_even_114 rfl
theorem wX3_even_116 : y_w M_X3_even mc ms Q (116, lv, st, ω, c, s) = y_ldA lv 0 (fun v => y_w M_X3_even mc ms Q (117, lv, v :: st, ω, c, s)) := w_aload_n dX3_even_116 rfl rfl
theorem wX3_even_117 : y_w M_X3_even mc ms Q (117, lv, st, ω, c, s) = y_ldI lv 1 (fun v => y_w M_X3_even mc ms Q (118, lv, v :: st, ω, c, s)) := w_iload_n dX3_even_117 rfl rfl
theorem wX3_even_118 : y_w M_X3_even mc ms Q (118, lv, st, ω, c, s) = y_w M_X3_even mc ms Q (119, lv, .int (nI 3) :: st, ω, c, s) := w_iconst dX3_even_118 (v := (nI 3)) (by decide) rfl
theorem wX3_even_119 (hc : y_cls ω a = some 3) : y_w M_X3_even mc ms Q (119, lv, v2 :: v1 :: .ref a :: r, ω, c, s) = (y_cat r ≤ 8 ∧ F_X3_of mc ms [.ref a, v1, v2] ω c s (y_aft M_X3_even 119 3 lv r (y_w M_X3_even mc ms Q) Q)) := w_call1 (av := [v1, v2]) (Or.inl ⟨⟨rfl, rfl⟩, rfl⟩) dX3_even_119 rfl hc rfl (y_F_mono _) (y_dle rfl) (y_dle rfl) rfl rfl
theorem wX3_even_122 : y_w M_X3_even mc ms Q (122, lv, .int y :: .int x :: r, ω, c, s) = y_w M_X3_even mc ms Q (123, lv, .int (x - y) :: r, ω, c, s) := w_isub dX3_even_122 rfl
theorem wX3_even_123 : y_w M_X3_even mc ms Q (123, lv, st, ω, c, s) = y_w M_X3_even mc ms Q (125, lv, .int (nI 40) :: st, ω, c, s) := w_bipush dX3_even_123 (v := (nI 40)) (by decide) rfl
theorem wX3_even_125 : y_w M_X3_even mc ms Q (125, lv, .int y :: .int x :: r, ω, c, s) = ((y < x → y_w M_X3_even mc ms Q (272, lv, r, ω, c, s)) ∧ (¬ (y < x) → y_w M_X3_even mc ms Q (128, lv, r, ω, c, s))) := w_icmp dX3_even_125 (tgt := 272) rfl rfl rfl
theorem wX3_even_128 : y_w M_X3_even mc ms Q (128, lv, st, ω, c, s) = y_ldI lv 5 (fun v => y_w M_X3_even mc ms Q (130, lv, v :: st, ω, c, s)) := w_iload dX3_even_128 rfl
theorem wX3_even_130 : y_w M_X3_even mc ms Q (130, lv, st, ω, c, s) = y_ldA lv 0 (fun v => y_w M_X3_even mc ms Q (131, lv, v :: st, ω, c, s)) := w_aload_n dX3_even_130 rfl rfl
theorem wX3_even_131 : y_w M_X3_even mc ms Q (131, lv, st, ω, c, s) = y_ldI lv 2 (fun v => y_w M_X3_even mc ms Q (132, lv, v :: st, ω, c, s)) := w_iload_n dX3_even_131 rfl rfl
theorem wX3_even_132 : y_w M_X3_even mc ms Q (132, lv, st, ω, c, s) = y_w M_X3_even mc ms Q (133, lv, .int (nI 3) :: st, ω, c, s) := w_iconst dX3_even_132 (v := (nI 3)) (by decide) rfl
theorem wX3_even_133 (hc : y_cls ω a = some 3) : y_w M_X3_even mc ms Q (133, lv, v2 :: v1 :: .ref a :: r, ω, c, s) = (y_cat r ≤ 8 ∧ F_X3_of mc ms [.ref a, v1, v2] ω c s (y_aft M_X3_even 133 3 lv r (y_w M_X3_even mc ms Q) Q)) := w_call1 (av := [v1, v2]) (Or.inl ⟨⟨rfl, rfl⟩, rfl⟩) dX3_even_133 rfl hc rfl (y_F_mono _) (y_dle rfl) (y_dle rfl) rfl rfl
theorem wX3_even_136 : y_w M_X3_even mc ms Q (136, lv, .int y :: .int x :: r, ω, c, s) = y_w M_X3_even mc ms Q (137, lv, .int (x - y) :: r, ω, c, s) := w_isub dX3_even_136 rfl
theorem wX3_even_137 : y_w M_X3_even mc ms Q (137, lv, st, ω, c, s) = y_w M_X3_even mc ms Q (139, lv, .int (nI 40) :: st, ω, c, s) := w_bipush dX3_even_137 (v := (nI 40)) (by decide) rfl
theorem wX3_even_139 : y_w M_X3_even mc ms Q (139, lv, .int y :: .int x :: r, ω, c, s) = ((y < x → y_w M_X3_even mc ms Q (272, lv, r, ω, c, s)) ∧ (¬ (y < x) → y_w M_X3_even mc ms Q (142, lv, r, ω, c, s))) := w_icmp dX3_even_139 (tgt := 272) rfl rfl rfl
theorem wX3_even_142 : y_w M_X3_even mc ms Q (142, lv, st, ω, c, s) = y_ldI lv 5 (fun v => y_w M_X3_even mc ms Q (144, lv, v :: st, ω, c, s)) := w_iload dX3_even_142 rfl
theorem wX3_even_144 : y_w M_X3_even mc ms Q (144, lv, st, ω, c, s) = y_ldA lv 0 (fun v => y_w M_X3_even mc ms Q (145, lv, v :: st, ω, c, s)) := w_aload_n dX3_even_144 rfl rfl
theorem wX3_even_145 : y_w M_X3_even mc ms Q (145, lv, st, ω, c, s) = y_ldI lv 1 (fun v => y_w M_X3_even mc ms Q (146, lv, v :: st, ω, c, s)) := w_iload_n dX3_even_145 rfl rfl
theorem wX3_even_146 : y_w M_X3_even mc ms Q (146, lv, st, ω, c, s) = y_w M_X3_even mc ms Q (147, lv, .int (nI 3) :: st, ω, c, s) := w_iconst dX3_even_146 (v := (nI 3)) (by decide) rfl
theorem wX3_even_147 (hc : y_cls ω a = some 3) : y_w M_X3_even mc ms Q (147, lv, v2 :: v1 :: .ref a :: r, ω, c, s) = (y_cat r ≤ 8 ∧ F_X3_of mc ms [.ref a, v1, v2] ω c s (y_aft M_X3_even 147 3 lv r (y_w M_X3_even mc ms Q) Q)) := w_call1 (av := [v1, v2]) (Or.inl ⟨⟨rfl, rfl⟩, rfl⟩) dX3_even_147 rfl hc rfl (y_F_mono _) (y_dle rfl) (y_dle rfl) rfl rfl
theorem wX3_even_150 : y_w M_X3_even mc ms Q (150, lv, .int y :: .int x :: r, ω, c, s) = y_w M_X3_even mc ms Q (151, lv, .int (x - y) :: r, ω, c, s) := w_isub dX3_even_150 rfl
theorem wX3_even_151 : y_w M_X3_even mc ms Q (151, lv, .int x :: r, ω, c, s) = y_w M_X3_even mc ms Q (153, (6, .int x) :: y_kill 6 lv, r, ω, c, s) := w_istore dX3_even_151 (y_dle rfl) rfl
theorem wX3_even_153 : y_w M_X3_even mc ms Q (153, lv, st, ω, c, s) = y_ldI lv 5 (fun v => y_w M_X3_even mc ms Q (155, lv, v :: st, ω, c, s)) := w_iload dX3_even_153 rfl
theorem wX3_even_155 : y_w M_X3_even mc ms Q (155, lv, st, ω, c, s) = y_ldA lv 0 (fun v => y_w M_X3_even mc ms Q (156, lv, v :: st, ω, c, s)) := w_aload_n dX3_even_155 rfl rfl
theorem wX3_even_156 : y_w M_X3_even mc ms Q (156, lv, st, ω, c, s) = y_ldI lv 2 (fun v => y_w M_X3_even mc ms Q (157, lv, v :: st, ω, c, s)) := w_iload_n dX3_even_156 rfl rfl
theorem wX3_even_157 : y_w M_X3_even mc ms Q (157, lv, st, ω, c, s) = y_w M_X3_even mc ms Q (158, lv, .int (nI 3) :: st, ω, c, s) := w_iconst dX3_even_157 (v := (nI 3)) (by decide) rfl
theorem wX3_even_158 (hc : y_cls ω a = some 3) : y_w M_X3_even mc ms Q (158, lv, v2 :: v1 :: .ref a :: r, ω, c, s) = (y_cat r ≤ 8 ∧ F_X3_of mc ms [.ref a, v1, v2] ω c s (y_aft M_X3_even 158 3 lv r (y_w M_X3_even mc ms Q) Q)) := w_call1 (av := [v1, v2]) (Or.inl ⟨⟨rfl, rfl⟩, rfl⟩) dX3_even_158 rfl hc rfl (y_F_mono _) (y_dle rfl) (y_dle rfl) rfl rfl
theorem wX3_even_161 : y_w M_X3_even mc ms Q (161, lv, .int y :: .int x :: r, ω, c, s) = y_w M_X3_even mc ms Q (162, lv, .int (x - y) :: r, ω, c, s) := w_isub dX3_even_161 rfl
theorem wX3_even_162 : y_w M_X3_even mc ms Q (162, lv, .int x :: r, ω, c, s) = y_w M_X3_even mc ms Q (164, (7, .int x) :: y_kill 7 lv, r, ω, c, s) := w_istore dX3_even_162 (y_dle rfl) rfl
theorem wX3_even_164 : y_w M_X3_even mc ms Q (164, lv, st, ω, c, s) = y_ldA lv 0 (fun v => y_w M_X3_even mc ms Q (165, lv, v :: st, ω, c, s)) := w_aload_n dX3_even_164 rfl rfl
theorem wX3_even_165 : y_w M_X3_even mc ms Q (165, lv, st, ω, c, s) = y_ldI lv 1 (fun v => y_w M_X3_even mc ms Q (166, lv, v :: st, ω, c, s)) := w_iload_n dX3_even_165 rfl rfl
theorem wX3_even_166 : y_w M_X3_even mc ms Q (166, lv, st, ω, c, s) = y_w M_X3_even mc ms Q (167, lv, .int (nI 4) :: st, ω, c, s) := w_iconst dX3_even_166 (v := (nI 4)) (by decide) rfl
theorem wX3_even_167 (hc : y_cls ω a = some 3) : y_w M_X3_even mc ms Q (167, lv, v2 :: v1 :: .ref a :: r, ω, c, s) = (y_cat r ≤ 8 ∧ F_X3_of mc ms [.ref a, v1, v2] ω c s (y_aft M_X3_even 167 3 lv r (y_w M_X3_even mc ms Q) Q)) := w_call1 (av := [v1, v2]) (Or.inl ⟨⟨rfl, rfl⟩, rfl⟩) dX3_even_167 rfl hc rfl (y_F_mono _) (y_dle rfl) (y_dle rfl) rfl rfl
theorem wX3_even_170 : y_w M_X3_even mc ms Q (170, lv, st, ω, c, s) = y_ldI lv 6 (fun v => y_w M_X3_even mc ms Q (172, lv, v :: st, ω, c, s)) := w_iload dX3_even_170 rfl
theorem wX3_even_172 : y_w M_X3_even mc ms Q (172, lv, .int y :: .int x :: r, ω, c, s) = y_w M_X3_even mc ms Q (173, lv, .int (x + y) :: r, ω, c, s) := w_iadd dX3_even_172 rfl
theorem wX3_even_173 : y_w M_X3_even mc ms Q (173, lv, st, ω, c, s) = y_ldA lv 0 (fun v => y_w M_X3_even mc ms Q (174, lv, v :: st, ω, c, s)) := w_aload_n dX3_even_173 rfl rfl
theorem wX3_even_174 : y_w M_X3_even mc ms Q (174, lv, st, ω, c, s) = y_ldI lv 2 (fun v => y_w M_X3_even mc ms Q (175, lv, v :: st, ω, c, s)) := w_iload_n dX3_even_174 rfl rfl
theorem wX3_even_175 : y_w M_X3_even mc ms Q (175, lv, st, ω, c, s) = y_w M_X3_even mc ms Q (176, lv, .int (nI 4) :: st, ω, c, s) := w_iconst dX3_even_175 (v := (nI 4)) (by decide) rfl
theorem wX3_even_176 (hc : y_cls ω a = some 3) : y_w M_X3_even mc ms Q (176, lv, v2 :: v1 :: .ref a :: r, ω, c, s) = (y_cat r ≤ 8 ∧ F_X3_of mc ms [.ref a, v1, v2] ω c s (y_aft M_X3_even 176 3 lv r (y_w M_X3_even mc ms Q) Q)) := w_call1 (av := [v1, v2]) (Or.inl ⟨⟨rfl, rfl⟩, rfl⟩) dX3_even_176 rfl hc rfl (y_F_mono _) (y_dle rfl) (y_dle rfl) rfl rfl
theorem wX3_even_179 : y_w M_X3_even mc ms Q (179, lv, .int y :: .int x :: r, ω, c, s) = y_w M_X3_even mc ms Q (180, lv, .int (x - y) :: r, ω, c, s) := w_isub dX3_even_179 rfl
theorem wX3_even_180 : y_w M_X3_even mc ms Q (180, lv, st, ω, c, s) = y_ldI lv 7 (fun v => y_w M_X3_even mc ms Q (182, lv, v :: st, ω, c, s)) := w_iload dX3_even_180 rfl
theorem wX3_even_182 : y_w M_X3_even mc ms Q (182, lv, .int y :: .int x :: r, ω, c, s) = y_w M_X3_even mc ms Q (183, lv, .int (x - y) :: r, ω, c, s) := w_isub dX3_even_182 rfl
theorem wX3_even_183 : y_w M_X3_even mc ms Q (183, lv, .int x :: r, ω, c, s) = y_w M_X3_even mc ms Q (185, (8, .int x) :: y_kill 8 lv, r, ω, c, s) := w_istore dX3_even_183 (y_dle rfl) rfl
theorem wX3_even_185 : y_w M_X3_even mc ms Q (185, lv, st, ω, c, s) = y_w M_X3_even mc ms Q (186, lv, .int 0 :: st, ω, c, s) := w_iconst dX3_even_185 (v := 0) (by decide) rfl
theorem wX3_even_186 : y_w M_X3_even mc ms Q (186, lv, .int x :: r, ω, c, s) = y_w M_X3_even mc ms Q (188, (9, .int x) :: y_kill 9 lv, r, ω, c, s) := w_istore dX3_even_186 (y_dle rfl) rfl
theorem wX3_even_188 : y_w M_X3_even mc ms Q (188, lv, st, ω, c, s) = y_ldI lv 9 (fun v => y_w M_X3_even mc ms Q (190, lv, v :: st, ω, c, s)) := w_iload dX3_even_188 rfl
theorem wX3_even_190 : y_w M_X3_even mc ms Q (190, lv, st, ω, c, s) = y_w M_X3_even mc ms Q (192, lv, .int (nI 40) :: st, ω, c, s) := w_bipush dX3_even_190 (v := (nI 40)) (by decide) rfl
theorem wX3_even_192 : y_w M_X3_even mc ms Q (192, lv, .int y :: .int x :: r, ω, c, s) = ((y < x → y_w M_X3_even mc ms Q (266, lv, r, ω, c, s)) ∧ (¬ (y < x) → y_w M_X3_even mc ms Q (195, lv, r, ω, c, s))) := w_icmp dX3_even_192 (tgt := 266) rfl rfl rfl
theorem wX3_even_195 : y_w M_X3_even mc ms Q (195, lv, st, ω, c, s) = y_ldI lv 9 (fun v => y_w M_X3_even mc ms Q (197, lv, v :: st, ω, c, s)) := w_iload dX3_even_195 rfl
theorem wX3_even_197 : y_w M_X3_even mc ms Q (197, lv, st, ω, c, s) = y_ldI lv 8 (fun v => y_w M_X3_even mc ms Q (199, lv, v :: st, ω, c, s)) := w_iload dX3_even_197 rfl
theorem wX3_even_199 : y_w M_X3_even mc ms Q (199, lv, .int y :: .int x :: r, ω, c, s) = y_w M_X3_even mc ms Q (200, lv, .int (x - y) :: r, ω, c, s) := w_isub dX3_even_199 rfl
theorem wX3_even_200 : y_w M_X3_even mc ms Q (200, lv, .int x :: r, ω, c, s) = y_w M_X3_even mc ms Q (202, (10, .int x) :: y_kill 10 lv, r, ω, c, s) := w_istore dX3_even_200 (y_dle rfl) rfl
theorem wX3_even_202 : y_w M_X3_even mc ms Q (202, lv, st, ω, c, s) = y_ldA lv 0 (fun v => y_w M_X3_even mc ms Q (203, lv, v :: st, ω, c, s)) := w_aload_n dX3_even_202 rfl rfl
theorem wX3_even_203 : y_w M_X3_even mc ms Q (203, lv, .ref a :: r, ω, c, s) = y_gf P_X3_even 31 (ω.2 a) (fun v => y_w M_X3_even mc ms Q (206, lv, v :: r, ω, c, s)) := w_getfield dX3_even_203 rfl rfl
theorem wX3_even_206 : y_w M_X3_even mc ms Q (206, lv, st, ω, c, s) = y_w M_X3_even mc ms Q (207, lv, .int (nI 5) :: st, ω, c, s) := w_iconst dX3_even_206 (v := (nI 5)) (by decide) rfl
theorem wX3_even_207 : y_w M_X3_even mc ms Q (207, lv, st, ω, c, s) = y_ldI lv 6 (fun v => y_w M_X3_even mc ms Q (209, lv, v :: st, ω, c, s)) := w_iload dX3_even_207 rfl
theorem wX3_even_209 : y_w M_X3_even mc ms Q (209, lv, .int y :: .int x :: r, ω, c, s) = y_w M_X3_even mc ms Q (210, lv, .int (x * y) :: r, ω, c, s) := w_imul dX3_even_209 rfl
theorem wX3_even_210 : y_w M_X3_even mc ms Q (210, lv, st, ω, c, s) = y_ldI lv 3 (fun v => y_w M_X3_even mc ms Q (211, lv, v :: st, ω, c, s)) := w_iload_n dX3_even_210 rfl rfl
theorem wX3_even_211 : y_w M_X3_even mc ms Q (211, lv, .int y :: .int x :: r, ω, c, s) = y_w M_X3_even mc ms Q (212, lv, .int (x + y) :: r, ω, c, s) := w_iadd dX3_even_211 rfl
theorem wX3_even_212 : y_w M_X3_even mc ms Q (212, lv, .int j :: .ref a :: r, ω, c, s) = y_rL (ω.2 a) j (fun x => y_w M_X3_even mc ms Q (213, lv, .long x :: r, ω, c, s)) := w_laload dX3_even_212 rfl
theorem wX3_even_213 : y_w M_X3_even mc ms Q (213, lv, st, ω, c, s) = y_ldI lv 9 (fun v => y_w M_X3_even mc ms Q (215, lv, v :: st, ω, c, s)) := w_iload dX3_even_213 rfl
theorem wX3_even_215 : y_w M_X3_even mc ms Q (215, lv, .int y :: .long z :: r, ω, c, s) = y_w M_X3_even mc ms Q (216, lv, .long (z >>> (y.toInt64 &&& 63)) :: r, ω, c, s) := w_lshr dX3_even_215 rfl
theorem wX3_even_216 : y_w M_X3_even mc ms Q (216, lv, st, ω, c, s) = y_w M_X3_even mc ms Q (217, lv, .long 1 :: st, ω, c, s) := w_lconst dX3_even_216 (v := 1) (by decide) rfl
theorem wX3_even_217 : y_w M_X3_even mc ms Q (217, lv, .long w :: .long z :: r, ω, c, s) = y_w M_X3_even mc ms Q (218, lv, .long (z &&& w) :: r, ω, c, s) := w_land dX3_even_217 rfl
theorem wX3_even_218 : y_w M_X3_even mc ms Q (218, lv, st, ω, c, s) = y_w M_X3_even mc ms Q (219, lv, .long 1 :: st, ω, c, s) := w_lconst dX3_even_218 (v := 1) (by decide) rfl
theorem wX3_even_219 : y_w M_X3_even mc ms Q (219, lv, .long w :: .long z :: r, ω, c, s) = y_w M_X3_even mc ms Q (220, lv, .int (lg_cmp z w) :: r, ω, c, s) := w_lcmp dX3_even_219 rfl
theorem wX3_even_220 : y_w M_X3_even mc ms Q (220, lv, .int x :: r, ω, c, s) = ((¬ x = 0 → y_w M_X3_even mc ms Q (260, lv, r, ω, c, s)) ∧ (¬ (¬ x = 0) → y_w M_X3_even mc ms Q (223, lv, r, ω, c, s))) := w_if dX3_even_220 (tgt := 260) rfl rfl rfl
theorem wX3_even_223 : y_w M_X3_even mc ms Q (223, lv, st, ω, c, s) = y_ldI lv 10 (fun v => y_w M_X3_even mc ms Q (225, lv, v :: st, ω, c, s)) := w_iload dX3_even_223 rfl
theorem wX3_even_225 : y_w M_X3_even mc ms Q (225, lv, .int x :: r, ω, c, s) = y_w M_X3_even mc ms Q (226, lv, .long x.toInt64 :: r, ω, c, s) := w_i2l dX3_even_225 rfl
theorem wX3_even_226 : y_w M_X3_even mc ms Q (226, lv, st, ω, c, s) = y_w M_X3_even mc ms Q (227, lv, .long 0 :: st, ω, c, s) := w_lconst dX3_even_226 (v := 0) (by decide) rfl
theorem wX3_even_227 : y_w M_X3_even mc ms Q (227, lv, st, ω, c, s) = y_w M_X3_even mc ms Q (230, lv, .long (lN 40) :: st, ω, c, s) := w_ldc2_w dX3_even_227 rfl rfl rfl
theorem wX3_even_230 : y_w M_X3_even mc ms Q (230, lv, v2 :: v1 :: v0 :: r, ω, c, s) = (y_cat r ≤ 8 ∧ F_X3_in mc ms [v0, v1, v2] ω c s (y_aft M_X3_even 230 3 lv r (y_w M_X3_even mc ms Q) Q)) := w_call0 (av := [v0, v1, v2]) ⟨Or.inr ⟨rfl, rfl⟩, rfl⟩ dX3_even_230 rfl (y_F_mono _) (y_dle rfl) (y_dle rfl) rfl rfl
theorem wX3_even_233 : y_w M_X3_even mc ms Q (233, lv, .int x :: r, ω, c, s) = ((x = 0 → y_w M_X3_even mc ms Q (260, lv, r, ω, c, s)) ∧ (¬ (x = 0) → y_w M_X3_even mc ms Q (236, lv, r, ω, c, s))) := w_if dX3_even_233 (tgt := 260) rfl rfl rfl
theorem wX3_even_236 : y_w M_X3_even mc ms Q (236, lv, st, ω, c, s) = y_ldA lv 0 (fun v => y_w M_X3_even mc ms Q (237, lv, v :: st, ω, c, s)) := w_aload_n dX3_even_236 rfl rfl
theorem wX3_even_237 : y_w M_X3_even mc ms Q (237, lv, .ref a :: r, ω, c, s) = y_gf P_X3_even 35 (ω.2 a) (fun v => y_w M_X3_even mc ms Q (240, lv, v :: r, ω, c, s)) := w_getfield dX3_even_237 rfl rfl
theorem wX3_even_240 : y_w M_X3_even mc ms Q (240, lv, st, ω, c, s) = y_w M_X3_even mc ms Q (241, lv, .int (nI 5) :: st, ω, c, s) := w_iconst dX3_even_240 (v := (nI 5)) (by decide) rfl
theorem wX3_even_241 : y_w M_X3_even mc ms Q (241, lv, st, ω, c, s) = y_ldI lv 7 (fun v => y_w M_X3_even mc ms Q (243, lv, v :: st, ω, c, s)) := w_iload dX3_even_241 rfl
theorem wX3_even_243 : y_w M_X3_even mc ms Q (243, lv, .int y :: .int x :: r, ω, c, s) = y_w M_X3_even mc ms Q (244, lv, .int (x * y) :: r, ω, c, s) := w_imul dX3_even_243 rfl
theorem wX3_even_244 : y_w M_X3_even mc ms Q (244, lv, st, ω, c, s) = y_ldI lv 3 (fun v => y_w M_X3_even mc ms Q (245, lv, v :: st, ω, c, s)) := w_iload_n dX3_even_244 rfl rfl
theorem wX3_even_245 : y_w M_X3_even mc ms Q (245, lv, .int y :: .int x :: r, ω, c, s) = y_w M_X3_even mc ms Q (246, lv, .int (x + y) :: r, ω, c, s) := w_iadd dX3_even_245 rfl
theorem wX3_even_246 : y_w M_X3_even mc ms Q (246, lv, .int j :: .ref a :: r, ω, c, s) = y_rL (ω.2 a) j (fun x => y_w M_X3_even mc ms Q (247, lv, .long x :: r, ω, c, s)) := w_laload dX3_even_246 rfl
theorem wX3_even_247 : y_w M_X3_even mc ms Q (247, lv, st, ω, c, s) = y_ldI lv 10 (fun v => y_w M_X3_even mc ms Q (249, lv, v :: st, ω, c, s)) := w_iload dX3_even_247 rfl
theorem wX3_even_249 : y_w M_X3_even mc ms Q (249, lv, .int y :: .long z :: r, ω, c, s) = y_w M_X3_even mc ms Q (250, lv, .long (z >>> (y.toInt64 &&& 63)) :: r, ω, c, s) := w_lshr dX3_even_249 rfl
theorem wX3_even_250 : y_w M_X3_even mc ms Q (250, lv, st, ω, c, s) = y_w M_X3_even mc ms Q (251, lv, .long 1 :: st, ω, c, s) := w_lconst dX3_even_250 (v := 1) (by decide) rfl
theorem wX3_even_251 : y_w M_X3_even mc ms Q (251, lv, .long w :: .long z :: r, ω, c, s) = y_w M_X3_even mc ms Q (252, lv, .long (z &&& w) :: r, ω, c, s) := w_land dX3_even_251 rfl
theorem wX3_even_252 : y_w M_X3_even mc ms Q (252, lv, st, ω, c, s) = y_w M_X3_even mc ms Q (253, lv, .long 1 :: st, ω, c, s) := w_lconst dX3_even_252 (v := 1) (by decide) rfl
theorem wX3_even_253 : y_w M_X3_even mc ms Q (253, lv, .long w :: .long z :: r, ω, c, s) = y_w M_X3_even mc ms Q (254, lv, .int (lg_cmp z w) :: r, ω, c, s) := w_lcmp dX3_even_253 rfl
theorem wX3_even_254 : y_w M_X3_even mc ms Q (254, lv, .int x :: r, ω, c, s) = ((¬ x = 0 → y_w M_X3_even mc ms Q (260, lv, r, ω, c, s)) ∧ (¬ (¬ x = 0) → y_w M_X3_even mc ms Q (257, lv, r, ω, c, s))) := w_if dX3_even_254 (tgt := 260) rfl rfl rfl
theorem wX3_even_257 : y_w M_X3_even mc ms Q (257, lv, st, ω, c, s) = y_ldI lv 5 (fun v => y_w M_X3_even mc ms Q (259, lv, v :: st, ω, c, s)) := w_iload dX3_even_257 rfl
theorem wX3_even_259 : y_w M_X3_even mc ms Q (259, lv, [.int x], ω, c, s) = Q (.returned (some (.int x))) ω c s := w_ireturnI dX3_even_259 rfl
theorem wX3_even_260 : y_w M_X3_even mc ms Q (260, lv, st, ω, c, s) = y_inc lv 9 (fun x => y_w M_X3_even mc ms Q (263, (9, .int (x + 1)) :: y_kill 9 lv, st, ω, c, s)) := w_iinc dX3_even_260 (d := 1) (by decide) (y_dle rfl) rfl
theorem wX3_even_263 : y_w M_X3_even mc ms Q (263, lv, st, ω, c, s) = ∃ lv2, y_lsub lv2 lv ∧ y_w M_X3_even mc ms Q (188, lv2, st, ω, c, s) := w_back dX3_even_263 (tgt := 188) (by decide) rfl
theorem wX3_even_266 : y_w M_X3_even mc ms Q (266, lv, st, ω, c, s) = y_inc lv 5 (fun x => y_w M_X3_even mc ms Q (269, (5, .int (x + 1)) :: y_kill 5 lv, st, ω, c, s)) := w_iinc dX3_even_266 (d := 1) (by decide) (y_dle rfl) rfl
theorem wX3_even_269 : y_w M_X3_even mc ms Q (269, lv, st, ω, c, s) = ∃ lv2, y_lsub lv2 lv ∧ y_w M_X3_even mc ms Q (114, lv2, st, ω, c, s) := w_back dX3_even_269 (tgt := 114) (by decide) rfl
theorem wX3_even_272 : y_w M_X3_even mc ms Q (272, lv, st, ω, c, s) = y_w M_X3_even mc ms Q (274, lv, .int (-1000000) :: st, ω, c, s) := w_ldc dX3_even_272 rfl rfl rfl
theorem wX3_even_274 : y_w M_X3_even mc ms Q (274, lv, [.int x], ω, c, s) = Q (.returned (some (.int x))) ω c s := w_ireturnI dX3_even_274 rfl
def P_X3_where : y_Pool := ([(48, 3, 0, .int, false), (19, 3, 5, (.array .int), true), (31, 3, 19, (.array .long), true)], [], [(231, .long (lN 200)), (233, .long (lN 399)), (68, .int (-1000001)), (226, .long (lN 40))], [(199, 1, 3, 2, (2, 46), F_X3_isPerson), (58, 0, 0, 3, (1, 25), F_X3_in), (181, 1, 3, 3, (1, 22), F_X3_of), (228, 1, 3, 2, (3, 74), F_X3_layGains)], [], [], [])
def M_X3_where : y_Md := (cX3_where, "YoungerBackModel", (8, (some FieldType.int)), (3, 74), false, P_X3_where, [])
def F_X3_where : y_Tr := y_F M_X3_where
theorem nX3_where : y_nL M_X3_where = 8 := rfl
theorem fX3_where_48_3 : y_ffP P_X3_where 48 3 = some (0, .int, false) := rfl
theorem fX3_where_19_3 : y_ffP P_X3_where 19 3 = some (5, (.array .int), true) := rfl
theorem fX3_where_31_3 : y_ffP P_X3_where 31 3 = some (19, (.array .long), true) := rfl
theorem wX3_where_0 : y_w M_X3_where mc ms Q (0, lv, st, ω, c, s) = y_ldA lv 0 (fun v => y_w M_X3_where mc ms Q (1, lv, v :: st, ω, c, s)) := w_aload_n dX3_where_0 rfl rfl
theorem wX3_where_1 : y_w M_X3_where mc ms Q (1, lv, st, ω, c, s) = y_w M_X3_where mc ms Q (2, lv, .int 0 :: st, ω, c, s) := w_iconst dX3_where_1 (v := 0) (by decide) rfl
theorem wX3_where_2 : y_w M_X3_where mc ms Q (2, lv, v :: .ref a :: r, ω, c, s) = y_pf P_X3_where false 48 (ω.2 a) v (fun ci fs => y_w M_X3_where mc ms Q (5, lv, r, y_hup ω a (.inr (ci, fs)), c, s)) := w_putfield dX3_where_2 rfl rfl rfl
theorem wX3_where_5 : y_w M_X3_where mc ms Q (5, lv, st, ω, c, s) = y_ldA lv 0 (fun v => y_w M_X3_where mc ms Q (6, lv, v :: st, ω, c, s)) := w_aload_n dX3_where_5 rfl rfl
theorem wX3_where_6 : y_w M_X3_where mc ms Q (6, lv, st, ω, c, s) = y_ldI lv 1 (fun v => y_w M_X3_where mc ms Q (7, lv, v :: st, ω, c, s)) := w_iload_n dX3_where_6 rfl rfl
theorem wX3_where_7 (hc : y_cls ω a = some 3) : y_w M_X3_where mc ms Q (7, lv, v1 :: .ref a :: r, ω, c, s) = (y_cat r ≤ 8 ∧ F_X3_isPerson mc ms [.ref a, v1] ω c s (y_aft M_X3_where 7 3 lv r (y_w M_X3_where mc ms Q) Q)) := w_call1 (av := [v1]) (Or.inl ⟨⟨rfl, rfl⟩, rfl⟩) dX3_where_7 rfl hc rfl (y_F_mono _) (y_dle rfl) (y_dle rfl) rfl rfl
theorem wX3_where_10 : y_w M_X3_where mc ms Q (10, lv, .int x :: r, ω, c, s) = ((x = 0 → y_w M_X3_where mc ms Q (37, lv, r, ω, c, s)) ∧ (¬ (x = 0) → y_w M_X3_where mc ms Q (13, lv, r, ω, c, s))) := w_if dX3_where_10 (tgt := 37) rfl rfl rfl
theorem wX3_where_13 : y_w M_X3_where mc ms Q (13, lv, st, ω, c, s) = y_ldI lv 2 (fun v => y_w M_X3_where mc ms Q (14, lv, v :: st, ω, c, s)) := w_iload_n dX3_where_13 rfl rfl
theorem wX3_where_14 : y_w M_X3_where mc ms Q (14, lv, .int x :: r, ω, c, s) = y_w M_X3_where mc ms Q (15, lv, .long x.toInt64 :: r, ω, c, s) := w_i2l dX3_where_14 rfl
theorem wX3_where_15 : y_w M_X3_where mc ms Q (15, lv, st, ω, c, s) = y_w M_X3_where mc ms Q (16, lv, .long 0 :: st, ω, c, s) := w_lconst dX3_where_15 (v := 0) (by decide) rfl
theorem wX3_where_16 : y_w M_X3_where mc ms Q (16, lv, st, ω, c, s) = y_w M_X3_where mc ms Q (19, lv, .long (lN 200) :: st, ω, c, s) := w_ldc2_w dX3_where_16 rfl rfl rfl
theorem wX3_where_19 : y_w M_X3_where mc ms Q (19, lv, v2 :: v1 :: v0 :: r, ω, c, s) = (y_cat r ≤ 8 ∧ F_X3_in mc ms [v0, v1, v2] ω c s (y_aft M_X3_where 19 3 lv r (y_w M_X3_where mc ms Q) Q)) := w_call0 (av := [v0, v1, v2]) ⟨Or.inr ⟨rfl, rfl⟩, rfl⟩ dX3_where_19 rfl (y_F_mono _) (y_dle rfl) (y_dle rfl) rfl rfl
theorem wX3_where_22 : y_w M_X3_where mc ms Q (22, lv, .int x :: r, ω, c, s) = ((x = 0 → y_w M_X3_where mc ms Q (37, lv, r, ω, c, s)) ∧ (¬ (x = 0) → y_w M_X3_where mc ms Q (25, lv, r, ω, c, s))) := w_if dX3_where_22 (tgt := 37) rfl rfl rfl
theorem wX3_where_25 : y_w M_X3_where mc ms Q (25, lv, st, ω, c, s) = y_ldI lv 3 (fun v => y_w M_X3_where mc ms Q (26, lv, v :: st, ω, c, s)) := w_iload_n dX3_where_25 rfl rfl
theorem wX3_where_26 : y_w M_X3_where mc ms Q (26, lv, .int x :: r, ω, c, s) = y_w M_X3_where mc ms Q (27, lv, .long x.toInt64 :: r, ω, c, s) := w_i2l dX3_where_26 rfl
theorem wX3_where_27 : y_w M_X3_where mc ms Q (27, lv, st, ω, c, s) = y_w M_X3_where mc ms Q (28, lv, .long 0 :: st, ω, c, s) := w_lconst dX3_where_27 (v := 0) (by decide) rfl
theorem wX3_where_28 : y_w M_X3_where mc ms Q (28, lv, st, ω, c, s) = y_w M_X3_where mc ms Q (31, lv, .long (lN 399) :: st, ω, c, s) := w_ldc2_w dX3_where_28 rfl rfl rfl
theorem wX3_where_31 : y_w M_X3_where mc ms Q (31, lv, v2 :: v1 :: v0 :: r, ω, c, s) = (y_cat r ≤ 8 ∧ F_X3_in mc ms [v0, v1, v2] ω c s (y_aft M_X3_where 31 3 lv r (y_w M_X3_where mc ms Q) Q)) := w_call0 (av := [v0, v1, v2]) ⟨Or.inr ⟨rfl, rfl⟩, rfl⟩ dX3_where_31 rfl (y_F_mono _) (y_dle rfl) (y_dle rfl) rfl rfl
theorem wX3_where_34 : y_w M_X3_where mc ms Q (34, lv, .int x :: r, ω, c, s) = ((¬ x = 0 → y_w M_X3_where mc ms Q (40, lv, r, ω, c, s)) ∧ (¬ (¬ x = 0) → y_w M_X3_where mc ms Q (37, lv, r, ω, c, s))) := w_if dX3_where_34 (tgt := 40) rfl rfl rfl
theorem wX3_where_37 : y_w M_X3_where mc ms Q (37, lv, st, ω, c, s) = y_w M_X3_where mc ms Q (39, lv, .int (-1000001) :: st, ω, c, s) := w_ldc dX3_where_37 rfl rfl rfl
theorem wX3_where_39 : y_w M_X3_where mc ms Q (39, lv, [.int x], ω, c, s) = Q (.returned (some (.int x))) ω c s := w_ireturnI dX3_where_39 rfl
theorem wX3_where_40 : y_w M_X3_where mc ms Q (40, lv, st, ω, c, s) = y_ldI lv 2 (fun v => y_w M_X3_where mc ms Q (41, lv, v :: st, ω, c, s)) := w_iload_n dX3_where_40 rfl rfl
theorem wX3_where_41 : y_w M_X3_where mc ms Q (41, lv, st, ω, c, s) = y_ldA lv 0 (fun v => y_w M_X3_where mc ms Q (42, lv, v :: st, ω, c, s)) := w_aload_n dX3_where_41 rfl rfl
theorem wX3_where_42 : y_w M_X3_where mc ms Q (42, lv, st, ω, c, s) = y_ldI lv 1 (fun v => y_w M_X3_where mc ms Q (43, lv, v :: st, ω, c, s)) := w_iload_n dX3_where_42 rfl rfl
theorem wX3_where_43 : y_w M_X3_where mc ms Q (43, lv, st, ω, c, s) = y_w M_X3_where mc ms Q (44, lv, .int (nI 3) :: st, ω, c, s) := w_iconst dX3_where_43 (v := (nI 3)) (by decide) rfl
theorem wX3_where_44 (hc : y_cls ω a = some 3) : y_w M_X3_where mc ms Q (44, lv, v2 :: v1 :: .ref a :: r, ω, c, s) = (y_cat r ≤ 8 ∧ F_X3_of mc ms [.ref a, v1, v2] ω c s (y_aft M_X3_where 44 3 lv r (y_w M_X3_where mc ms Q) Q)) := w_call1 (av := [v1, v2]) (Or.inl ⟨⟨rfl, rfl⟩, rfl⟩) dX3_where_44 rfl hc rfl (y_F_mono _) (y_dle rfl) (y_dle rfl) rfl rfl
theorem wX3_where_47 : y_w M_X3_where mc ms Q (47, lv, .int y :: .int x :: r, ω, c, s) = y_w M_X3_where mc ms Q (48, lv, .int (x - y) :: r, ω, c, s) := w_isub dX3_where_47 rfl
theorem wX3_where_48 : y_w M_X3_where mc ms Q (48, lv, .int x :: r, ω, c, s) = y_w M_X3_where mc ms Q (50, (4, .int x) :: y_kill 4 lv, r, ω, c, s) := w_istore dX3_where_48 (y_dle rfl) rfl
theorem wX3_where_50 : y_w M_X3_where mc ms Q (50, lv, st, ω, c, s) = y_ldA lv 0 (fun v => y_w M_X3_where mc ms Q (51, lv, v :: st, ω, c, s)) := w_aload_n dX3_where_50 rfl rfl
theorem wX3_where_51 : y_w M_X3_where mc ms Q (51, lv, st, ω, c, s) = y_ldI lv 1 (fun v => y_w M_X3_where mc ms Q (52, lv, v :: st, ω, c, s)) := w_iload_n dX3_where_51 rfl rfl
theorem wX3_where_52 : y_w M_X3_where mc ms Q (52, lv, st, ω, c, s) = y_w M_X3_where mc ms Q (53, lv, .int (nI 4) :: st, ω, c, s) := w_iconst dX3_where_52 (v := (nI 4)) (by decide) rfl
theorem wX3_where_53 (hc : y_cls ω a = some 3) : y_w M_X3_where mc ms Q (53, lv, v2 :: v1 :: .ref a :: r, ω, c, s) = (y_cat r ≤ 8 ∧ F_X3_of mc ms [.ref a, v1, v2] ω c s (y_aft M_X3_where 53 3 lv r (y_w M_X3_where mc ms Q) Q)) := w_call1 (av := [v1, v2]) (Or.inl ⟨⟨rfl, rfl⟩, rfl⟩) dX3_where_53 rfl hc rfl (y_F_mono _) (y_dle rfl) (y_dle rfl) rfl rfl
theorem wX3_where_56 : y_w M_X3_where mc ms Q (56, lv, st, ω, c, s) = y_ldI lv 4 (fun v => y_w M_X3_where mc ms Q (58, lv, v :: st, ω, c, s)) := w_iload dX3_where_56 rfl
theorem wX3_where_58 : y_w M_X3_where mc ms Q (58, lv, .int y :: .int x :: r, ω, c, s) = y_w M_X3_where mc ms Q (59, lv, .int (x + y) :: r, ω, c, s) := w_iadd dX3_where_58 rfl
theorem wX3_where_59 : y_w M_X3_where mc ms Q (59, lv, st, ω, c, s) = y_ldI lv 3 (fun v => y_w M_X3_where mc ms Q (60, lv, v :: st, ω, c, s)) := w_iload_n dX3_where_59 rfl rfl
theorem wX3_where_60 : y_w M_X3_where mc ms Q (60, lv, .int y :: .int x :: r, ω, c, s) = y_w M_X3_where mc ms Q (61, lv, .int (x - y) :: r, ω, c, s) := w_isub dX3_where_60 rfl
theorem wX3_where_61 : y_w M_X3_where mc ms Q (61, lv, .int x :: r, ω, c, s) = y_w M_X3_where mc ms Q (63, (5, .int x) :: y_kill 5 lv, r, ω, c, s) := w_istore dX3_where_61 (y_dle rfl) rfl
theorem wX3_where_63 : y_w M_X3_where mc ms Q (63, lv, st, ω, c, s) = y_ldI lv 4 (fun v => y_w M_X3_where mc ms Q (65, lv, v :: st, ω, c, s)) := w_iload dX3_where_63 rfl
theorem wX3_where_65 : y_w M_X3_where mc ms Q (65, lv, .int x :: r, ω, c, s) = y_w M_X3_where mc ms Q (66, lv, .long x.toInt64 :: r, ω, c, s) := w_i2l dX3_where_65 rfl
theorem wX3_where_66 : y_w M_X3_where mc ms Q (66, lv, st, ω, c, s) = y_w M_X3_where mc ms Q (67, lv, .long 0 :: st, ω, c, s) := w_lconst dX3_where_66 (v := 0) (by decide) rfl
theorem wX3_where_67 : y_w M_X3_where mc ms Q (67, lv, st, ω, c, s) = y_w M_X3_where mc ms Q (70, lv, .long (lN 40) :: st, ω, c, s) := w_ldc2_w dX3_where_67 rfl rfl rfl
theorem wX3_where_70 : y_w M_X3_where mc ms Q (70, lv, v2 :: v1 :: v0 :: r, ω, c, s) = (y_cat r ≤ 8 ∧ F_X3_in mc ms [v0, v1, v2] ω c s (y_aft M_X3_where 70 3 lv r (y_w M_X3_where mc ms Q) Q)) := w_call0 (av := [v0, v1, v2]) ⟨Or.inr ⟨rfl, rfl⟩, rfl⟩ dX3_where_70 rfl (y_F_mono _) (y_dle rfl) (y_dle rfl) rfl rfl
theorem wX3_where_73 : y_w M_X3_where mc ms Q (73, lv, .int x :: r, ω, c, s) = ((x = 0 → y_w M_X3_where mc ms Q (89, lv, r, ω, c, s)) ∧ (¬ (x = 0) → y_w M_X3_where mc ms Q (76, lv, r, ω, c, s))) := w_if dX3_where_73 (tgt := 89) rfl rfl rfl
theorem wX3_where_76 : y_w M_X3_where mc ms Q (76, lv, st, ω, c, s) = y_ldI lv 5 (fun v => y_w M_X3_where mc ms Q (78, lv, v :: st, ω, c, s)) := w_iload dX3_where_76 rfl
theorem wX3_where_78 : y_w M_X3_where mc ms Q (78, lv, .int x :: r, ω, c, s) = y_w M_X3_where mc ms Q (79, lv, .long x.toInt64 :: r, ω, c, s) := w_i2l dX3_where_78 rfl
theorem wX3_where_79 : y_w M_X3_where mc ms Q (79, lv, st, ω, c, s) = y_w M_X3_where mc ms Q (80, lv, .long 0 :: st, ω, c, s) := w_lconst dX3_where_79 (v := 0) (by decide) rfl
theorem wX3_where_80 : y_w M_X3_where mc ms Q (80, lv, st, ω, c, s) = y_w M_X3_where mc ms Q (83, lv, .long (lN 40) :: st, ω, c, s) := w_ldc2_w dX3_where_80 rfl rfl rfl
theorem wX3_where_83 : y_w M_X3_where mc ms Q (83, lv, v2 :: v1 :: v0 :: r, ω, c, s) = (y_cat r ≤ 8 ∧ F_X3_in mc ms [v0, v1, v2] ω c s (y_aft M_X3_where 83 3 lv r (y_w M_X3_where mc ms Q) Q)) := w_call0 (av := [v0, v1, v2]) ⟨Or.inr ⟨rfl, rfl⟩, rfl⟩ dX3_where_83 rfl (y_F_mono _) (y_dle rfl) (y_dle rfl) rfl rfl
theorem wX3_where_86 : y_w M_X3_where mc ms Q (86, lv, .int x :: r, ω, c, s) = ((¬ x = 0 → y_w M_X3_where mc ms Q (91, lv, r, ω, c, s)) ∧ (¬ (¬ x = 0) → y_w M_X3_where mc ms Q (89, lv, r, ω, c, s))) := w_if dX3_where_86 (tgt := 91) rfl rfl rfl
theorem wX3_where_89 : y_w M_X3_where mc ms Q (89, lv, st, ω, c, s) = y_w M_X3_where mc ms Q (90, lv, .int 0 :: st, ω, c, s) := w_iconst dX3_where_89 (v := 0) (by decide) rfl
theorem wX3_where_90 : y_w M_X3_where mc ms Q (90, lv, [.int x], ω, c, s) = Q (.returned (some (.int x))) ω c s := w_ireturnI dX3_where_90 rfl
theorem wX3_where_91 : y_w M_X3_where mc ms Q (91, lv, st, ω, c, s) = y_ldA lv 0 (fun v => y_w M_X3_where mc ms Q (92, lv, v :: st, ω, c, s)) := w_aload_n dX3_where_91 rfl rfl
theorem wX3_where_92 : y_w M_X3_where mc ms Q (92, lv, st, ω, c, s) = y_ldI lv 1 (fun v => y_w M_X3_where mc ms Q (93, lv, v :: st, ω, c, s)) := w_iload_n dX3_where_92 rfl rfl
theorem wX3_where_93 (hc : y_cls ω a = some 3) : y_w M_X3_where mc ms Q (93, lv, v1 :: .ref a :: r, ω, c, s) = (y_cat r ≤ 8 ∧ F_X3_layGains mc ms [.ref a, v1] ω c s (y_aft M_X3_where 93 3 lv r (y_w M_X3_where mc ms Q) Q)) := w_call1 (av := [v1]) (Or.inl ⟨⟨rfl, rfl⟩, rfl⟩) dX3_where_93 rfl hc rfl (y_F_mono _) (y_dle rfl) (y_dle rfl) rfl rfl
theorem wX3_where_96 : y_w M_X3_where mc ms Q (96, lv, st, ω, c, s) = y_w M_X3_where mc ms Q (97, lv, .int 0 :: st, ω, c, s) := w_iconst dX3_where_96 (v := 0) (by decide) rfl
theorem wX3_where_97 : y_w M_X3_where mc ms Q (97, lv, .int x :: r, ω, c, s) = y_w M_X3_where mc ms Q (99, (6, .int x) :: y_kill 6 lv, r, ω, c, s) := w_istore dX3_where_97 (y_dle rfl) rfl
theorem wX3_where_99 : y_w M_X3_where mc ms Q (99, lv, st, ω, c, s) = y_w M_X3_where mc ms Q (100, lv, .int 0 :: st, ω, c, s) := w_iconst dX3_where_99 (v := 0) (by decide) rfl
theorem wX3_where_100 : y_w M_X3_where mc ms Q (100, lv, .int x :: r, ω, c, s) = y_w M_X3_where mc ms Q (102, (7, .int x) :: y_kill 7 lv, r, ω, c, s) := w_istore dX3_where_100 (y_dle rfl) rfl
theorem wX3_where_102 : y_w M_X3_where mc ms Q (102, lv, st, ω, c, s) = y_ldI lv 7 (fun v => y_w M_X3_where mc ms Q (104, lv, v :: st, ω, c, s)) := w_iload dX3_where_102 rfl
theorem wX3_where_104 : y_w M_X3_where mc ms Q (104, lv, st, ω, c, s) = y_ldA lv 0 (fun v => y_w M_X3_where mc ms Q (105, lv, v :: st, ω, c, s)) := w_aload_n dX3_where_104 rfl rfl
theorem wX3_where_105 : y_w M_X3_where mc ms Q (105, lv, .ref a :: r, ω, c, s) = y_gf P_X3_where 19 (ω.2 a) (fun v => y_w M_X3_where mc ms Q (108, lv, v :: r, ω, c, s)) := w_getfield dX3_where_105 rfl rfl
theorem wX3_where_108 : y_w M_X3_where mc ms Q (108, lv, st, ω, c, s) = y_w M_X3_where mc ms Q (109, lv, .int 0 :: st, ω, c, s) := w_iconst dX3_where_108 (v := 0) (by decide) rfl
theorem wX3_where_109 : y_w M_X3_where mc ms Q (109, lv, .int j :: .ref a :: r, ω, c, s) = y_rI (ω.2 a) j (fun x => y_w M_X3_where mc ms Q (110, lv, .int x :: r, ω, c, s)) := w_iaload dX3_where_109 rfl
theorem wX3_where_110 : y_w M_X3_where mc ms Q (110, lv, .int y :: .int x :: r, ω, c, s) = ((y ≤ x → y_w M_X3_where mc ms Q (154, lv, r, ω, c, s)) ∧ (¬ (y ≤ x) → y_w M_X3_where mc ms Q (113, lv, r, ω, c, s))) := w_icmp dX3_where_110 (tgt := 154) rfl rfl rfl
theorem wX3_where_113 : y_w M_X3_where mc ms Q (113, lv, st, ω, c, s) = y_ldI lv 6 (fun v => y_w M_X3_where mc ms Q (115, lv, v :: st, ω, c, s)) := w_iload dX3_where_113 rfl
theorem wX3_where_115 : y_w M_X3_where mc ms Q (115, lv, st, ω, c, s) = y_ldA lv 0 (fun v => y_w M_X3_where mc ms Q (116, lv, v :: st, ω, c, s)) := w_aload_n dX3_where_115 rfl rfl
theorem wX3_where_116 : y_w M_X3_where mc ms Q (116, lv, .ref a :: r, ω, c, s) = y_gf P_X3_where 31 (ω.2 a) (fun v => y_w M_X3_where mc ms Q (119, lv, v :: r, ω, c, s)) := w_getfield dX3_where_116 rfl rfl
theorem wX3_where_119 : y_w M_X3_where mc ms Q (119, lv, st, ω, c, s) = y_w M_X3_where mc ms Q (120, lv, .int (nI 5) :: st, ω, c, s) := w_iconst dX3_where_119 (v := (nI 5)) (by decide) rfl
theorem wX3_where_120 : y_w M_X3_where mc ms Q (120, lv, st, ω, c, s) = y_ldI lv 4 (fun v => y_w M_X3_where mc ms Q (122, lv, v :: st, ω, c, s)) := w_iload dX3_where_120 rfl
theorem wX3_where_122 : y_w M_X3_where mc ms Q (122, lv, .int y :: .int x :: r, ω, c, s) = y_w M_X3_where mc ms Q (123, lv, .int (x * y) :: r, ω, c, s) := w_imul dX3_where_122 rfl
theorem wX3_where_123 : y_w M_X3_where mc ms Q (123, lv, st, ω, c, s) = y_ldI lv 7 (fun v => y_w M_X3_where mc ms Q (125, lv, v :: st, ω, c, s)) := w_iload dX3_where_123 rfl
theorem wX3_where_125 : y_w M_X3_where mc ms Q (125, lv, .int y :: .int x :: r, ω, c, s) = y_w M_X3_where mc ms Q (126, lv, .int (x + y) :: r, ω, c, s) := w_iadd dX3_where_125 rfl
theorem wX3_where_126 : y_w M_X3_where mc ms Q (126, lv, .int j :: .ref a :: r, ω, c, s) = y_rL (ω.2 a) j (fun x => y_w M_X3_where mc ms Q (127, lv, .long x :: r, ω, c, s)) := w_laload dX3_where_126 rfl
theorem wX3_where_127 : y_w M_X3_where mc ms Q (127, lv, st, ω, c, s) = y_ldI lv 5 (fun v => y_w M_X3_where mc ms Q (129, lv, v :: st, ω, c, s)) := w_iload dX3_where_127 rfl
theorem wX3_where_129 : y_w M_X3_where mc ms Q (129, lv, .int y :: .long z :: r, ω, c, s) = y_w M_X3_where mc ms Q (130, lv, .long (z >>> (y.toInt64 &&& 63)) :: r, ω, c, s) := w_lshr dX3_where_129 rfl
theorem wX3_where_130 : y_w M_X3_where mc ms Q (130, lv, st, ω, c, s) = y_w M_X3_where mc ms Q (131, lv, .long 1 :: st, ω, c, s) := w_lconst dX3_where_130 (v := 1) (by decide) rfl
theorem wX3_where_131 : y_w M_X3_where mc ms Q (131, lv, .long w :: .long z :: r, ω, c, s) = y_w M_X3_where mc ms Q (132, lv, .long (z &&& w) :: r, ω, c, s) := w_land dX3_where_131 rfl
theorem wX3_where_132 : y_w M_X3_where mc ms Q (132, lv, st, ω, c, s) = y_w M_X3_where mc ms Q (133, lv, .long 1 :: st, ω, c, s) := w_lconst dX3_where_132 (v := 1) (by decide) rfl
theorem wX3_where_133 : y_w M_X3_where mc ms Q (133, lv, .long w :: .long z :: r, ω, c, s) = y_w M_X3_where mc ms Q (134, lv, .int (lg_cmp z w) :: r, ω, c, s) := w_lcmp dX3_where_133 rfl
theorem wX3_where_134 : y_w M_X3_where mc ms Q (134, lv, .int x :: r, ω, c, s) = ((¬ x = 0 → y_w M_X3_where mc ms Q (144, lv, r, ω, c, s)) ∧ (¬ (¬ x = 0) → y_w M_X3_where mc ms Q (137, lv, r, ω, c, s))) := w_if dX3_where_134 (tgt := 144) rfl rfl rfl
theorem wX3_where_137 : y_w M_X3_where mc ms Q (137, lv, st, ω, c, s) = y_w M_X3_where mc ms Q (138, lv, .int 1 :: st, ω, c, s) := w_iconst dX3_where_137 (v := 1) (by decide) rfl
theorem wX3_where_138 : y_w M_X3_where mc ms Q (138, lv, st, ω, c, s) = y_ldI lv 7 (fun v => y_w M_X3_where mc ms Q (140, lv, v :: st, ω, c, s)) := w_iload dX3_where_138 rfl
theorem wX3_where_140 : y_w M_X3_where mc ms Q (140, lv, .int y :: .int x :: r, ω, c, s) = y_w M_X3_where mc ms Q (141, lv, .int (x <<< (y &&& 31)) :: r, ω, c, s) := w_ishl dX3_where_140 rfl
theorem wX3_where_141 : y_w M_X3_where mc ms Q (141, lv, st, ω, c, s) = y_w M_X3_where mc ms Q (145, lv, st, ω, c, s) := w_goto dX3_where_141 (tgt := 145) (by decide) rfl
theorem wX3_where_144 : y_w M_X3_where mc ms Q (144, lv, st, ω, c, s) = y_w M_X3_where mc ms Q (145, lv, .int 0 :: st, ω, c, s) := w_iconst dX3_where_144 (v := 0) (by decide) rfl
theorem wX3_where_145 : y_w M_X3_where mc ms Q (145, lv, .int y :: .int x :: r, ω, c, s) = y_w M_X3_where mc ms Q (146, lv, .int (x ||| y) :: r, ω, c, s) := w_ior dX3_where_145 rfl
theorem wX3_where_146 : y_w M_X3_where mc ms Q (146, lv, .int x :: r, ω, c, s) = y_w M_X3_where mc ms Q (148, (6, .int x) :: y_kill 6 lv, r, ω, c, s) := w_istore dX3_where_146 (y_dle rfl) rfl
theorem wX3_where_148 : y_w M_X3_where mc ms Q (148, lv, st, ω, c, s) = y_inc lv 7 (fun x => y_w M_X3_where mc ms Q (151, (7, .int (x + 1)) :: y_kill 7 lv, st, ω, c, s)) := w_iinc dX3_where_148 (d := 1) (by decide) (y_dle rfl) rfl
theorem wX3_where_151 : y_w M_X3_where mc ms Q (151, lv, st, ω, c, s) = ∃ lv2, y_lsub lv2 lv ∧ y_w M_X3_where mc ms Q (102, lv2, st, ω, c, s) := w_back dX3_where_151 (tgt := 102) (by decide) rfl
theorem wX3_where_154 : y_w M_X3_where mc ms Q (154, lv, st, ω, c, s) = y_ldI lv 6 (fun v => y_w M_X3_where mc ms Q (156, lv, v :: st, ω, c, s)) := w_iload dX3_where_154 rfl
theorem wX3_where_156 : y_w M_X3_where mc ms Q (156, lv, [.int x], ω, c, s) = Q (.returned (some (.int x))) ω c s := w_ireturnI dX3_where_156 rfl
def P_X3_gone : y_Pool := ([(48, 3, 0, .int, false)], [], [(68, .int (-1000001))], [(199, 1, 3, 2, (2, 46), F_X3_isPerson), (218, 1, 3, 3, (2, 47), F_X3_owedBy)], [], [], [])
def M_X3_gone : y_Md := (cX3_gone, "YoungerBackModel", (2, (some FieldType.int)), (2, 47), false, P_X3_gone, [])
def F_X3_gone : y_Tr := y_F M_X3_gone
theorem nX3_gone : y_nL M_X3_gone = 2 := rfl
theorem fX3_gone_48_3 : y_ffP P_X3_gone 48 3 = some (0, .int, false) := rfl
theorem wX3_gone_0 : y_w M_X3_gone mc ms Q (0, lv, st, ω, c, s) = y_ldA lv 0 (fun v => y_w M_X3_gone mc ms Q (1, lv, v :: st, ω, c, s)) := w_aload_n dX3_gone_0 rfl rfl
theorem wX3_gone_1 : y_w M_X3_gone mc ms Q (1, lv, st, ω, c, s) = y_w M_X3_gone mc ms Q (2, lv, .int 0 :: st, ω, c, s) := w_iconst dX3_gone_1 (v := 0) (by decide) rfl
theorem wX3_gone_2 : y_w M_X3_gone mc ms Q (2, lv, v :: .ref a :: r, ω, c, s) = y_pf P_X3_gone false 48 (ω.2 a) v (fun ci fs => y_w M_X3_gone mc ms Q (5, lv, r, y_hup ω a (.inr (ci, fs)), c, s)) := w_putfield dX3_gone_2 rfl rfl rfl
theorem wX3_gone_5 : y_w M_X3_gone mc ms Q (5, lv, st, ω, c, s) = y_ldA lv 0 (fun v => y_w M_X3_gone mc ms Q (6, lv, v :: st, ω, c, s)) := w_aload_n dX3_gone_5 rfl rfl
theorem wX3_gone_6 : y_w M_X3_gone mc ms Q (6, lv, st, ω, c, s) = y_ldI lv 1 (fun v => y_w M_X3_gone mc ms Q (7, lv, v :: st, ω, c, s)) := w_iload_n dX3_gone_6 rfl rfl
theorem wX3_gone_7 (hc : y_cls ω a = some 3) : y_w M_X3_gone mc ms Q (7, lv, v1 :: .ref a :: r, ω, c, s) = (y_cat r ≤ 8 ∧ F_X3_isPerson mc ms [.ref a, v1] ω c s (y_aft M_X3_gone 7 3 lv r (y_w M_X3_gone mc ms Q) Q)) := w_call1 (av := [v1]) (Or.inl ⟨⟨rfl, rfl⟩, rfl⟩) dX3_gone_7 rfl hc rfl (y_F_mono _) (y_dle rfl) (y_dle rfl) rfl rfl
theorem wX3_gone_10 : y_w M_X3_gone mc ms Q (10, lv, .int x :: r, ω, c, s) = ((x = 0 → y_w M_X3_gone mc ms Q (29, lv, r, ω, c, s)) ∧ (¬ (x = 0) → y_w M_X3_gone mc ms Q (13, lv, r, ω, c, s))) := w_if dX3_gone_10 (tgt := 29) rfl rfl rfl
theorem wX3_gone_13 : y_w M_X3_gone mc ms Q (13, lv, st, ω, c, s) = y_ldA lv 0 (fun v => y_w M_X3_gone mc ms Q (14, lv, v :: st, ω, c, s)) := w_aload_n dX3_gone_13 rfl rfl
theorem wX3_gone_14 : y_w M_X3_gone mc ms Q (14, lv, st, ω, c, s) = y_ldI lv 1 (fun v => y_w M_X3_gone mc ms Q (15, lv, v :: st, ω, c, s)) := w_iload_n dX3_gone_14 rfl rfl
theorem wX3_gone_15 : y_w M_X3_gone mc ms Q (15, lv, st, ω, c, s) = y_w M_X3_gone mc ms Q (16, lv, .int 0 :: st, ω, c, s) := w_iconst dX3_gone_15 (v := 0) (by decide) rfl
theorem wX3_gone_16 (hc : y_cls ω a = some 3) : y_w M_X3_gone mc ms Q (16, lv, v2 :: v1 :: .ref a :: r, ω, c, s) = (y_cat r ≤ 8 ∧ F_X3_owedBy mc ms [.ref a, v1, v2] ω c s (y_aft M_X3_gone 16 3 lv r (y_w M_X3_gone mc ms Q) Q)) := w_call1 (av := [v1, v2]) (Or.inl ⟨⟨rfl, rfl⟩, rfl⟩) dX3_gone_16 rfl hc rfl (y_F_mono _) (y_dle rfl) (y_dle rfl) rfl rfl
theorem wX3_gone_19 : y_w M_X3_gone mc ms Q (19, lv, st, ω, c, s) = y_ldA lv 0 (fun v => y_w M_X3_gone mc ms Q (20, lv, v :: st, ω, c, s)) := w_aload_n dX3_gone_19 rfl rfl
theorem wX3_gone_20 : y_w M_X3_gone mc ms Q (20, lv, st, ω, c, s) = y_ldI lv 1 (fun v => y_w M_X3_gone mc ms Q (21, lv, v :: st, ω, c, s)) := w_iload_n dX3_gone_20 rfl rfl
theorem wX3_gone_21 : y_w M_X3_gone mc ms Q (21, lv, st, ω, c, s) = y_w M_X3_gone mc ms Q (22, lv, .int 1 :: st, ω, c, s) := w_iconst dX3_gone_21 (v := 1) (by decide) rfl
theorem wX3_gone_22 (hc : y_cls ω a = some 3) : y_w M_X3_gone mc ms Q (22, lv, v2 :: v1 :: .ref a :: r, ω, c, s) = (y_cat r ≤ 8 ∧ F_X3_owedBy mc ms [.ref a, v1, v2] ω c s (y_aft M_X3_gone 22 3 lv r (y_w M_X3_gone mc ms Q) Q)) := w_call1 (av := [v1, v2]) (Or.inl ⟨⟨rfl, rfl⟩, rfl⟩) dX3_gone_22 rfl hc rfl (y_F_mono _) (y_dle rfl) (y_dle rfl) rfl rfl
theorem wX3_gone_25 : y_w M_X3_gone mc ms Q (25, lv, .int y :: .int x :: r, ω, c, s) = y_w M_X3_gone mc ms Q (26, lv, .int (x - y) :: r, ω, c, s) := w_isub dX3_gone_25 rfl
theorem wX3_gone_26 : y_w M_X3_gone mc ms Q (26, lv, st, ω, c, s) = y_w M_X3_gone mc ms Q (31, lv, st, ω, c, s) := w_goto dX3_gone_26 (tgt := 31) (by decide) rfl
theorem wX3_gone_29 : y_w M_X3_gone mc ms Q (29, lv, st, ω, c, s) = y_w M_X3_gone mc ms Q (31, lv, .int (-1000001) :: st, ω, c, s) := w_ldc dX3_gone_29 rfl rfl rfl
theorem wX3_gone_31 : y_w M_X3_gone mc ms Q (31, lv, [.int x], ω, c, s) = Q (.returned (some (.int x))) ω c s := w_ireturnI dX3_gone_31 rfl
def P_X3_isThere : y_Pool := ([(19, 3, 5, (.array .int), true)], [], [], [], [], [], [])
def M_X3_isThere : y_Md := (cX3_isThere, "YoungerBackModel", (1, (some FieldType.boolean)), (0, 0), false, P_X3_isThere, [])
def F_X3_isThere : y_Tr := y_F M_X3_isThere
theorem nX3_isThere : y_nL M_X3_isThere = 1 := rfl
theorem fX3_isThere_19_3 : y_ffP P_X3_isThere 19 3 = some (5, (.array .int), true) := rfl
theorem wX3_isThere_0 : y_w M_X3_isThere mc ms Q (0, lv, st, ω, c, s) = y_ldA lv 0 (fun v => y_w M_X3_isThere mc ms Q (1, lv, v :: st, ω, c, s)) := w_aload_n dX3_isThere_0 rfl rfl
theorem wX3_isThere_1 : y_w M_X3_isThere mc ms Q (1, lv, .ref a :: r, ω, c, s) = y_gf P_X3_isThere 19 (ω.2 a) (fun v => y_w M_X3_isThere mc ms Q (4, lv, v :: r, ω, c, s)) := w_getfield dX3_isThere_1 rfl rfl
theorem wX3_isThere_4 : y_w M_X3_isThere mc ms Q (4, lv, st, ω, c, s) = y_w M_X3_isThere mc ms Q (5, lv, .int 0 :: st, ω, c, s) := w_iconst dX3_isThere_4 (v := 0) (by decide) rfl
theorem wX3_isThere_5 : y_w M_X3_isThere mc ms Q (5, lv, .int j :: .ref a :: r, ω, c, s) = y_rI (ω.2 a) j (fun x => y_w M_X3_isThere mc ms Q (6, lv, .int x :: r, ω, c, s)) := w_iaload dX3_isThere_5 rfl
theorem wX3_isThere_6 : y_w M_X3_isThere mc ms Q (6, lv, .int x :: r, ω, c, s) = ((x ≤ 0 → y_w M_X3_isThere mc ms Q (13, lv, r, ω, c, s)) ∧ (¬ (x ≤ 0) → y_w M_X3_isThere mc ms Q (9, lv, r, ω, c, s))) := w_if dX3_isThere_6 (tgt := 13) rfl rfl rfl
theorem wX3_isThere_9 : y_w M_X3_isThere mc ms Q (9, lv, st, ω, c, s) = y_w M_X3_isThere mc ms Q (10, lv, .int 1 :: st, ω, c, s) := w_iconst dX3_isThere_9 (v := 1) (by decide) rfl
theorem wX3_isThere_10 : y_w M_X3_isThere mc ms Q (10, lv, st, ω, c, s) = y_w M_X3_isThere mc ms Q (14, lv, st, ω, c, s) := w_goto dX3_isThere_10 (tgt := 14) (by decide) rfl
theorem wX3_isThere_13 : y_w M_X3_isThere mc ms Q (13, lv, st, ω, c, s) = y_w M_X3_isThere mc ms Q (14, lv, .int 0 :: st, ω, c, s) := w_iconst dX3_isThere_13 (v := 0) (by decide) rfl
theorem wX3_isThere_14 : y_w M_X3_isThere mc ms Q (14, lv, [.int x], ω, c, s) = (narrow FieldType.boolean (.int x) = .int x ∧ Q (.returned (some (.int x))) ω c s) := w_ireturn dX3_isThere_14 rfl
def P_X3_eldest : y_Pool := ([(48, 3, 0, .int, false), (19, 3, 5, (.array .int), true)], [], [(188, .int (-1000002)), (68, .int (-1000001)), (84, .int (-1000000))], [(235, 1, 3, 1, (1, 20), F_X3_isThere), (58, 0, 0, 3, (1, 25), F_X3_in), (181, 1, 3, 3, (1, 22), F_X3_of)], [], [], [])
def M_X3_eldest : y_Md := (cX3_eldest, "YoungerBackModel", (5, (some FieldType.int)), (1, 25), false, P_X3_eldest, [])
def F_X3_eldest : y_Tr := y_F M_X3_eldest
theorem nX3_eldest : y_nL M_X3_eldest = 5 := rfl
theorem fX3_eldest_48_3 : y_ffP P_X3_eldest 48 3 = some (0, .int, false) := rfl
theorem fX3_eldest_19_3 : y_ffP P_X3_eldest 19 3 = some (5, (.array .int), true) := rfl
theorem wX3_eldest_0 : y_w M_X3_eldest mc ms Q (0, lv, st, ω, c, s) = y_ldA lv 0 (fun v => y_w M_X3_eldest mc ms Q (1, lv, v :: st, ω, c, s)) := w_aload_n dX3_eldest_0 rfl rfl
theorem wX3_eldest_1 : y_w M_X3_eldest mc ms Q (1, lv, st, ω, c, s) = y_w M_X3_eldest mc ms Q (2, lv, .int 0 :: st, ω, c, s) := w_iconst dX3_eldest_1 (v := 0) (by decide) rfl
theorem wX3_eldest_2 : y_w M_X3_eldest mc ms Q (2, lv, v :: .ref a :: r, ω, c, s) = y_pf P_X3_eldest false 48 (ω.2 a) v (fun ci fs => y_w M_X3_eldest mc ms Q (5, lv, r, y_hup ω a (.inr (ci, fs)), c, s)) := w_putfield dX3_eldest_2 rfl rfl rfl
theorem wX3_eldest_5 : y_w M_X3_eldest mc ms Q (5, lv, st, ω, c, s) = y_ldA lv 0 (fun v => y_w M_X3_eldest mc ms Q (6, lv, v :: st, ω, c, s)) := w_aload_n dX3_eldest_5 rfl rfl
theorem wX3_eldest_6 (hc : y_cls ω a = some 3) : y_w M_X3_eldest mc ms Q (6, lv, .ref a :: r, ω, c, s) = (y_cat r ≤ 8 ∧ F_X3_isThere mc ms [.ref a] ω c s (y_aft M_X3_eldest 6 3 lv r (y_w M_X3_eldest mc ms Q) Q)) := w_call1 (av := []) (Or.inl ⟨⟨rfl, rfl⟩, rfl⟩) dX3_eldest_6 rfl hc rfl (y_F_mono _) (y_dle rfl) (y_dle rfl) rfl rfl
theorem wX3_eldest_9 : y_w M_X3_eldest mc ms Q (9, lv, .int x :: r, ω, c, s) = ((¬ x = 0 → y_w M_X3_eldest mc ms Q (15, lv, r, ω, c, s)) ∧ (¬ (¬ x = 0) → y_w M_X3_eldest mc ms Q (12, lv, r, ω, c, s))) := w_if dX3_eldest_9 (tgt := 15) rfl rfl rfl
theorem wX3_eldest_12 : y_w M_X3_eldest mc ms Q (12, lv, st, ω, c, s) = y_w M_X3_eldest mc ms Q (14, lv, .int (-1000002) :: st, ω, c, s) := w_ldc dX3_eldest_12 rfl rfl rfl
theorem wX3_eldest_14 : y_w M_X3_eldest mc ms Q (14, lv, [.int x], ω, c, s) = Q (.returned (some (.int x))) ω c s := w_ireturnI dX3_eldest_14 rfl
theorem wX3_eldest_15 : y_w M_X3_eldest mc ms Q (15, lv, st, ω, c, s) = y_ldI lv 1 (fun v => y_w M_X3_eldest mc ms Q (16, lv, v :: st, ω, c, s)) := w_iload_n dX3_eldest_15 rfl rfl
theorem wX3_eldest_16 : y_w M_X3_eldest mc ms Q (16, lv, .int x :: r, ω, c, s) = y_w M_X3_eldest mc ms Q (17, lv, .long x.toInt64 :: r, ω, c, s) := w_i2l dX3_eldest_16 rfl
theorem wX3_eldest_17 : y_w M_X3_eldest mc ms Q (17, lv, st, ω, c, s) = y_w M_X3_eldest mc ms Q (18, lv, .long 0 :: st, ω, c, s) := w_lconst dX3_eldest_17 (v := 0) (by decide) rfl
theorem wX3_eldest_18 : y_w M_X3_eldest mc ms Q (18, lv, st, ω, c, s) = y_w M_X3_eldest mc ms Q (19, lv, .long 1 :: st, ω, c, s) := w_lconst dX3_eldest_18 (v := 1) (by decide) rfl
theorem wX3_eldest_19 : y_w M_X3_eldest mc ms Q (19, lv, v2 :: v1 :: v0 :: r, ω, c, s) = (y_cat r ≤ 8 ∧ F_X3_in mc ms [v0, v1, v2] ω c s (y_aft M_X3_eldest 19 3 lv r (y_w M_X3_eldest mc ms Q) Q)) := w_call0 (av := [v0, v1, v2]) ⟨Or.inr ⟨rfl, rfl⟩, rfl⟩ dX3_eldest_19 rfl (y_F_mono _) (y_dle rfl) (y_dle rfl) rfl rfl
theorem wX3_eldest_22 : y_w M_X3_eldest mc ms Q (22, lv, .int x :: r, ω, c, s) = ((¬ x = 0 → y_w M_X3_eldest mc ms Q (28, lv, r, ω, c, s)) ∧ (¬ (¬ x = 0) → y_w M_X3_eldest mc ms Q (25, lv, r, ω, c, s))) := w_if dX3_eldest_22 (tgt := 28) rfl rfl rfl
theorem wX3_eldest_25 : y_w M_X3_eldest mc ms Q (25, lv, st, ω, c, s) = y_w M_X3_eldest mc ms Q (27, lv, .int (-1000001) :: st, ω, c, s) := w_ldc dX3_eldest_25 rfl rfl rfl
theorem wX3_eldest_27 : y_w M_X3_eldest mc ms Q (27, lv, [.int x], ω, c, s) = Q (.returned (some (.int x))) ω c s := w_ireturnI dX3_eldest_27 rfl
theorem wX3_eldest_28 : y_w M_X3_eldest mc ms Q (28, lv, st, ω, c, s) = y_ldI lv 1 (fun v => y_w M_X3_eldest mc ms Q (29, lv, v :: st, ω, c, s)) := w_iload_n dX3_eldest_28 rfl rfl
theorem wX3_eldest_29 : y_w M_X3_eldest mc ms Q (29, lv, .int x :: r, ω, c, s) = ((¬ x = 0 → y_w M_X3_eldest mc ms Q (36, lv, r, ω, c, s)) ∧ (¬ (¬ x = 0) → y_w M_X3_eldest mc ms Q (32, lv, r, ω, c, s))) := w_if dX3_eldest_29 (tgt := 36) rfl rfl rfl
theorem wX3_eldest_32 : y_w M_X3_eldest mc ms Q (32, lv, st, ω, c, s) = y_w M_X3_eldest mc ms Q (33, lv, .int (nI 4) :: st, ω, c, s) := w_iconst dX3_eldest_32 (v := (nI 4)) (by decide) rfl
theorem wX3_eldest_33 : y_w M_X3_eldest mc ms Q (33, lv, st, ω, c, s) = y_w M_X3_eldest mc ms Q (37, lv, st, ω, c, s) := w_goto dX3_eldest_33 (tgt := 37) (by decide) rfl
theorem wX3_eldest_36 : y_w M_X3_eldest mc ms Q (36, lv, st, ω, c, s) = y_w M_X3_eldest mc ms Q (37, lv, .int (nI 2) :: st, ω, c, s) := w_iconst dX3_eldest_36 (v := (nI 2)) (by decide) rfl
theorem wX3_eldest_37 : y_w M_X3_eldest mc ms Q (37, lv, .int x :: r, ω, c, s) = y_w M_X3_eldest mc ms Q (38, (2, .int x) :: y_kill 2 lv, r, ω, c, s) := w_istore_n dX3_eldest_37 rfl (y_dle rfl) rfl
theorem wX3_eldest_38 : y_w M_X3_eldest mc ms Q (38, lv, st, ω, c, s) = y_w M_X3_eldest mc ms Q (40, lv, .int (-1000000) :: st, ω, c, s) := w_ldc dX3_eldest_38 rfl rfl rfl
theorem wX3_eldest_40 : y_w M_X3_eldest mc ms Q (40, lv, .int x :: r, ω, c, s) = y_w M_X3_eldest mc ms Q (41, (3, .int x) :: y_kill 3 lv, r, ω, c, s) := w_istore_n dX3_eldest_40 rfl (y_dle rfl) rfl
theorem wX3_eldest_41 : y_w M_X3_eldest mc ms Q (41, lv, st, ω, c, s) = y_w M_X3_eldest mc ms Q (42, lv, .int 0 :: st, ω, c, s) := w_iconst dX3_eldest_41 (v := 0) (by decide) rfl
theorem wX3_eldest_42 : y_w M_X3_eldest mc ms Q (42, lv, .int x :: r, ω, c, s) = y_w M_X3_eldest mc ms Q (44, (4, .int x) :: y_kill 4 lv, r, ω, c, s) := w_istore dX3_eldest_42 (y_dle rfl) rfl
theorem wX3_eldest_44 : y_w M_X3_eldest mc ms Q (44, lv, st, ω, c, s) = y_ldI lv 4 (fun v => y_w M_X3_eldest mc ms Q (46, lv, v :: st, ω, c, s)) := w_iload dX3_eldest_44 rfl
theorem wX3_eldest_46 : y_w M_X3_eldest mc ms Q (46, lv, st, ω, c, s) = y_ldA lv 0 (fun v => y_w M_X3_eldest mc ms Q (47, lv, v :: st, ω, c, s)) := w_aload_n dX3_eldest_46 rfl rfl
theorem wX3_eldest_47 : y_w M_X3_eldest mc ms Q (47, lv, .ref a :: r, ω, c, s) = y_gf P_X3_eldest 19 (ω.2 a) (fun v => y_w M_X3_eldest mc ms Q (50, lv, v :: r, ω, c, s)) := w_getfield dX3_eldest_47 rfl rfl
theorem wX3_eldest_50 : y_w M_X3_eldest mc ms Q (50, lv, st, ω, c, s) = y_w M_X3_eldest mc ms Q (51, lv, .int (nI 3) :: st, ω, c, s) := w_iconst dX3_eldest_50 (v := (nI 3)) (by decide) rfl
theorem wX3_eldest_51 : y_w M_X3_eldest mc ms Q (51, lv, .int j :: .ref a :: r, ω, c, s) = y_rI (ω.2 a) j (fun x => y_w M_X3_eldest mc ms Q (52, lv, .int x :: r, ω, c, s)) := w_iaload dX3_eldest_51 rfl
theorem wX3_eldest_52 : y_w M_X3_eldest mc ms Q (52, lv, .int y :: .int x :: r, ω, c, s) = ((y ≤ x → y_w M_X3_eldest mc ms Q (90, lv, r, ω, c, s)) ∧ (¬ (y ≤ x) → y_w M_X3_eldest mc ms Q (55, lv, r, ω, c, s))) := w_icmp dX3_eldest_52 (tgt := 90) rfl rfl rfl
theorem wX3_eldest_55 : y_w M_X3_eldest mc ms Q (55, lv, st, ω, c, s) = y_ldI lv 3 (fun v => y_w M_X3_eldest mc ms Q (56, lv, v :: st, ω, c, s)) := w_iload_n dX3_eldest_55 rfl rfl
theorem wX3_eldest_56 : y_w M_X3_eldest mc ms Q (56, lv, st, ω, c, s) = y_w M_X3_eldest mc ms Q (58, lv, .int (-1000000) :: st, ω, c, s) := w_ldc dX3_eldest_56 rfl rfl rfl
theorem wX3_eldest_58 : y_w M_X3_eldest mc ms Q (58, lv, .int y :: .int x :: r, ω, c, s) = ((x = y → y_w M_X3_eldest mc ms Q (77, lv, r, ω, c, s)) ∧ (¬ (x = y) → y_w M_X3_eldest mc ms Q (61, lv, r, ω, c, s))) := w_icmp dX3_eldest_58 (tgt := 77) rfl rfl rfl
theorem wX3_eldest_61 : y_w M_X3_eldest mc ms Q (61, lv, st, ω, c, s) = y_ldA lv 0 (fun v => y_w M_X3_eldest mc ms Q (62, lv, v :: st, ω, c, s)) := w_aload_n dX3_eldest_61 rfl rfl
theorem wX3_eldest_62 : y_w M_X3_eldest mc ms Q (62, lv, st, ω, c, s) = y_ldI lv 4 (fun v => y_w M_X3_eldest mc ms Q (64, lv, v :: st, ω, c, s)) := w_iload dX3_eldest_62 rfl
theorem wX3_eldest_64 : y_w M_X3_eldest mc ms Q (64, lv, st, ω, c, s) = y_ldI lv 2 (fun v => y_w M_X3_eldest mc ms Q (65, lv, v :: st, ω, c, s)) := w_iload_n dX3_eldest_64 rfl rfl
theorem wX3_eldest_65 (hc : y_cls ω a = some 3) : y_w M_X3_eldest mc ms Q (65, lv, v2 :: v1 :: .ref a :: r, ω, c, s) = (y_cat r ≤ 8 ∧ F_X3_of mc ms [.ref a, v1, v2] ω c s (y_aft M_X3_eldest 65 3 lv r (y_w M_X3_eldest mc ms Q) Q)) := w_call1 (av := [v1, v2]) (Or.inl ⟨⟨rfl, rfl⟩, rfl⟩) dX3_eldest_65 rfl hc rfl (y_F_mono _) (y_dle rfl) (y_dle rfl) rfl rfl
theorem wX3_eldest_68 : y_w M_X3_eldest mc ms Q (68, lv, st, ω, c, s) = y_ldA lv 0 (fun v => y_w M_X3_eldest mc ms Q (69, lv, v :: st, ω, c, s)) := w_aload_n dX3_eldest_68 rfl rfl
theorem wX3_eldest_69 : y_w M_X3_eldest mc ms Q (69, lv, st, ω, c, s) = y_ldI lv 3 (fun v => y_w M_X3_eldest mc ms Q (70, lv, v :: st, ω, c, s)) := w_iload_n dX3_eldest_69 rfl rfl
theorem wX3_eldest_70 : y_w M_X3_eldest mc ms Q (70, lv, st, ω, c, s) = y_ldI lv 2 (fun v => y_w M_X3_eldest mc ms Q (71, lv, v :: st, ω, c, s)) := w_iload_n dX3_eldest_70 rfl rfl
theorem wX3_eldest_71 (hc : y_cls ω a = some 3) : y_w M_X3_eldest mc ms Q (71, lv, v2 :: v1 :: .ref a :: r, ω, c, s) = (y_cat r ≤ 8 ∧ F_X3_of mc ms [.ref a, v1, v2] ω c s (y_aft M_X3_eldest 71 3 lv r (y_w M_X3_eldest mc ms Q) Q)) := w_call1 (av := [v1, v2]) (Or.inl ⟨⟨rfl, rfl⟩, rfl⟩) dX3_eldest_71 rfl hc rfl (y_F_mono _) (y_dle rfl) (y_dle rfl) rfl rfl
theorem wX3_eldest_74 : y_w M_X3_eldest mc ms Q (74, lv, .int y :: .int x :: r, ω, c, s) = ((x ≤ y → y_w M_X3_eldest mc ms Q (82, lv, r, ω, c, s)) ∧ (¬ (x ≤ y) → y_w M_X3_eldest mc ms Q (77, lv, r, ω, c, s))) := w_icmp dX3_eldest_74 (tgt := 82) rfl rfl rfl
theorem wX3_eldest_77 : y_w M_X3_eldest mc ms Q (77, lv, st, ω, c, s) = y_ldI lv 4 (fun v => y_w M_X3_eldest mc ms Q (79, lv, v :: st, ω, c, s)) := w_iload dX3_eldest_77 rfl
theorem wX3_eldest_79 : y_w M_X3_eldest mc ms Q (79, lv, st, ω, c, s) = y_w M_X3_eldest mc ms Q (83, lv, st, ω, c, s) := w_goto dX3_eldest_79 (tgt := 83) (by decide) rfl
theorem wX3_eldest_82 : y_w M_X3_eldest mc ms Q (82, lv, st, ω, c, s) = y_ldI lv 3 (fun v => y_w M_X3_eldest mc ms Q (83, lv, v :: st, ω, c, s)) := w_iload_n dX3_eldest_82 rfl rfl
theorem wX3_eldest_83 : y_w M_X3_eldest mc ms Q (83, lv, .int x :: r, ω, c, s) = y_w M_X3_eldest mc ms Q (84, (3, .int x) :: y_kill 3 lv, r, ω, c, s) := w_istore_n dX3_eldest_83 rfl (y_dle rfl) rfl
theorem wX3_eldest_84 : y_w M_X3_eldest mc ms Q (84, lv, st, ω, c, s) = y_inc lv 4 (fun x => y_w M_X3_eldest mc ms Q (87, (4, .int (x + 1)) :: y_kill 4 lv, st, ω, c, s)) := w_iinc dX3_eldest_84 (d := 1) (by decide) (y_dle rfl) rfl
theorem wX3_eldest_87 : y_w M_X3_eldest mc ms Q (87, lv, st, ω, c, s) = ∃ lv2, y_lsub lv2 lv ∧ y_w M_X3_eldest mc ms Q (44, lv2, st, ω, c, s) := w_back dX3_eldest_87 (tgt := 44) (by decide) rfl
theorem wX3_eldest_90 : y_w M_X3_eldest mc ms Q (90, lv, st, ω, c, s) = y_ldI lv 3 (fun v => y_w M_X3_eldest mc ms Q (91, lv, v :: st, ω, c, s)) := w_iload_n dX3_eldest_90 rfl rfl
theorem wX3_eldest_91 : y_w M_X3_eldest mc ms Q (91, lv, [.int x], ω, c, s) = Q (.returned (some (.int x))) ω c s := w_ireturnI dX3_eldest_91 rfl
def P_X3_image : y_Pool := ([(48, 3, 0, .int, false), (42, 3, 22, (.array .int), true), (19, 3, 5, (.array .int), true), (38, 3, 21, (.array .boolean), true)], [], [(68, .int (-1000001)), (188, .int (-1000002))], [(58, 0, 0, 3, (1, 25), F_X3_in), (235, 1, 3, 1, (1, 20), F_X3_isThere)], [], [], [])
def M_X3_image : y_Md := (cX3_image, "YoungerBackModel", (3, (some FieldType.int)), (1, 25), false, P_X3_image, [])
def F_X3_image : y_Tr := y_F M_X3_image
theorem nX3_image : y_nL M_X3_image = 3 := rfl
theorem fX3_image_48_3 : y_ffP P_X3_image 48 3 = some (0, .int, false) := rfl
theorem fX3_image_42_3 : y_ffP P_X3_image 42 3 = some (22, (.array .int), true) := rfl
theorem fX3_image_19_3 : y_ffP P_X3_image 19 3 = some (5, (.array .int), true) := rfl
theorem fX3_image_38_3 : y_ffP P_X3_image 38 3 = some (21, (.array .boolean), true) := rfl
theorem wX3_image_0 : y_w M_X3_image mc ms Q (0, lv, st, ω, c, s) = y_ldA lv 0 (fun v => y_w M_X3_image mc ms Q (1, lv, v :: st, ω, c, s)) := w_aload_n dX3_image_0 rfl rfl
theorem wX3_image_1 : y_w M_X3_image mc ms Q (1, lv, st, ω, c, s) = y_w M_X3_image mc ms Q (2, lv, .int 0 :: st, ω, c, s) := w_iconst dX3_image_1 (v := 0) (by decide) rfl
theorem wX3_image_2 : y_w M_X3_image mc ms Q (2, lv, v :: .ref a :: r, ω, c, s) = y_pf P_X3_image false 48 (ω.2 a) v (fun ci fs => y_w M_X3_image mc ms Q (5, lv, r, y_hup ω a (.inr (ci, fs)), c, s)) := w_putfield dX3_image_2 rfl rfl rfl
theorem wX3_image_5 : y_w M_X3_image mc ms Q (5, lv, st, ω, c, s) = y_ldI lv 1 (fun v => y_w M_X3_image mc ms Q (6, lv, v :: st, ω, c, s)) := w_iload_n dX3_image_5 rfl rfl
theorem wX3_image_6 : y_w M_X3_image mc ms Q (6, lv, .int x :: r, ω, c, s) = y_w M_X3_image mc ms Q (7, lv, .long x.toInt64 :: r, ω, c, s) := w_i2l dX3_image_6 rfl
theorem wX3_image_7 : y_w M_X3_image mc ms Q (7, lv, st, ω, c, s) = y_w M_X3_image mc ms Q (8, lv, .long 0 :: st, ω, c, s) := w_lconst dX3_image_7 (v := 0) (by decide) rfl
theorem wX3_image_8 : y_w M_X3_image mc ms Q (8, lv, st, ω, c, s) = y_w M_X3_image mc ms Q (9, lv, .long 1 :: st, ω, c, s) := w_lconst dX3_image_8 (v := 1) (by decide) rfl
theorem wX3_image_9 : y_w M_X3_image mc ms Q (9, lv, v2 :: v1 :: v0 :: r, ω, c, s) = (y_cat r ≤ 8 ∧ F_X3_in mc ms [v0, v1, v2] ω c s (y_aft M_X3_image 9 3 lv r (y_w M_X3_image mc ms Q) Q)) := w_call0 (av := [v0, v1, v2]) ⟨Or.inr ⟨rfl, rfl⟩, rfl⟩ dX3_image_9 rfl (y_F_mono _) (y_dle rfl) (y_dle rfl) rfl rfl
theorem wX3_image_12 : y_w M_X3_image mc ms Q (12, lv, .int x :: r, ω, c, s) = ((¬ x = 0 → y_w M_X3_image mc ms Q (18, lv, r, ω, c, s)) ∧ (¬ (¬ x = 0) → y_w M_X3_image mc ms Q (15, lv, r, ω, c, s))) := w_if dX3_image_12 (tgt := 18) rfl rfl rfl
theorem wX3_image_15 : y_w M_X3_image mc ms Q (15, lv, st, ω, c, s) = y_w M_X3_image mc ms Q (17, lv, .int (-1000001) :: st, ω, c, s) := w_ldc dX3_image_15 rfl rfl rfl
theorem wX3_image_17 : y_w M_X3_image mc ms Q (17, lv, [.int x], ω, c, s) = Q (.returned (some (.int x))) ω c s := w_ireturnI dX3_image_17 rfl
theorem wX3_image_18 : y_w M_X3_image mc ms Q (18, lv, st, ω, c, s) = y_ldA lv 0 (fun v => y_w M_X3_image mc ms Q (19, lv, v :: st, ω, c, s)) := w_aload_n dX3_image_18 rfl rfl
theorem wX3_image_19 (hc : y_cls ω a = some 3) : y_w M_X3_image mc ms Q (19, lv, .ref a :: r, ω, c, s) = (y_cat r ≤ 8 ∧ F_X3_isThere mc ms [.ref a] ω c s (y_aft M_X3_image 19 3 lv r (y_w M_X3_image mc ms Q) Q)) := w_call1 (av := []) (Or.inl ⟨⟨rfl, rfl⟩, rfl⟩) dX3_image_19 rfl hc rfl (y_F_mono _) (y_dle rfl) (y_dle rfl) rfl rfl
theorem wX3_image_22 : y_w M_X3_image mc ms Q (22, lv, .int x :: r, ω, c, s) = ((¬ x = 0 → y_w M_X3_image mc ms Q (28, lv, r, ω, c, s)) ∧ (¬ (¬ x = 0) → y_w M_X3_image mc ms Q (25, lv, r, ω, c, s))) := w_if dX3_image_22 (tgt := 28) rfl rfl rfl
theorem wX3_image_25 : y_w M_X3_image mc ms Q (25, lv, st, ω, c, s) = y_w M_X3_image mc ms Q (27, lv, .int (-1000002) :: st, ω, c, s) := w_ldc dX3_image_25 rfl rfl rfl
theorem wX3_image_27 : y_w M_X3_image mc ms Q (27, lv, [.int x], ω, c, s) = Q (.returned (some (.int x))) ω c s := w_ireturnI dX3_image_27 rfl
theorem wX3_image_28 : y_w M_X3_image mc ms Q (28, lv, st, ω, c, s) = y_w M_X3_image mc ms Q (29, lv, .int 0 :: st, ω, c, s) := w_iconst dX3_image_28 (v := 0) (by decide) rfl
theorem wX3_image_29 : y_w M_X3_image mc ms Q (29, lv, .int x :: r, ω, c, s) = y_w M_X3_image mc ms Q (30, (2, .int x) :: y_kill 2 lv, r, ω, c, s) := w_istore_n dX3_image_29 rfl (y_dle rfl) rfl
theorem wX3_image_30 : y_w M_X3_image mc ms Q (30, lv, st, ω, c, s) = y_ldI lv 2 (fun v => y_w M_X3_image mc ms Q (31, lv, v :: st, ω, c, s)) := w_iload_n dX3_image_30 rfl rfl
theorem wX3_image_31 : y_w M_X3_image mc ms Q (31, lv, st, ω, c, s) = y_w M_X3_image mc ms Q (33, lv, .int (nI 68) :: st, ω, c, s) := w_bipush dX3_image_31 (v := (nI 68)) (by decide) rfl
theorem wX3_image_33 : y_w M_X3_image mc ms Q (33, lv, .int y :: .int x :: r, ω, c, s) = ((y ≤ x → y_w M_X3_image mc ms Q (59, lv, r, ω, c, s)) ∧ (¬ (y ≤ x) → y_w M_X3_image mc ms Q (36, lv, r, ω, c, s))) := w_icmp dX3_image_33 (tgt := 59) rfl rfl rfl
theorem wX3_image_36 : y_w M_X3_image mc ms Q (36, lv, st, ω, c, s) = y_ldA lv 0 (fun v => y_w M_X3_image mc ms Q (37, lv, v :: st, ω, c, s)) := w_aload_n dX3_image_36 rfl rfl
theorem wX3_image_37 : y_w M_X3_image mc ms Q (37, lv, .ref a :: r, ω, c, s) = y_gf P_X3_image 42 (ω.2 a) (fun v => y_w M_X3_image mc ms Q (40, lv, v :: r, ω, c, s)) := w_getfield dX3_image_37 rfl rfl
theorem wX3_image_40 : y_w M_X3_image mc ms Q (40, lv, st, ω, c, s) = y_w M_X3_image mc ms Q (42, lv, .int (nI 68) :: st, ω, c, s) := w_bipush dX3_image_40 (v := (nI 68)) (by decide) rfl
theorem wX3_image_42 : y_w M_X3_image mc ms Q (42, lv, st, ω, c, s) = y_ldI lv 1 (fun v => y_w M_X3_image mc ms Q (43, lv, v :: st, ω, c, s)) := w_iload_n dX3_image_42 rfl rfl
theorem wX3_image_43 : y_w M_X3_image mc ms Q (43, lv, .int y :: .int x :: r, ω, c, s) = y_w M_X3_image mc ms Q (44, lv, .int (x * y) :: r, ω, c, s) := w_imul dX3_image_43 rfl
theorem wX3_image_44 : y_w M_X3_image mc ms Q (44, lv, st, ω, c, s) = y_ldI lv 2 (fun v => y_w M_X3_image mc ms Q (45, lv, v :: st, ω, c, s)) := w_iload_n dX3_image_44 rfl rfl
theorem wX3_image_45 : y_w M_X3_image mc ms Q (45, lv, .int y :: .int x :: r, ω, c, s) = y_w M_X3_image mc ms Q (46, lv, .int (x + y) :: r, ω, c, s) := w_iadd dX3_image_45 rfl
theorem wX3_image_46 : y_w M_X3_image mc ms Q (46, lv, st, ω, c, s) = y_ldA lv 0 (fun v => y_w M_X3_image mc ms Q (47, lv, v :: st, ω, c, s)) := w_aload_n dX3_image_46 rfl rfl
theorem wX3_image_47 : y_w M_X3_image mc ms Q (47, lv, .ref a :: r, ω, c, s) = y_gf P_X3_image 19 (ω.2 a) (fun v => y_w M_X3_image mc ms Q (50, lv, v :: r, ω, c, s)) := w_getfield dX3_image_47 rfl rfl
theorem wX3_image_50 : y_w M_X3_image mc ms Q (50, lv, st, ω, c, s) = y_ldI lv 2 (fun v => y_w M_X3_image mc ms Q (51, lv, v :: st, ω, c, s)) := w_iload_n dX3_image_50 rfl rfl
theorem wX3_image_51 : y_w M_X3_image mc ms Q (51, lv, .int j :: .ref a :: r, ω, c, s) = y_rI (ω.2 a) j (fun x => y_w M_X3_image mc ms Q (52, lv, .int x :: r, ω, c, s)) := w_iaload dX3_image_51 rfl
theorem wX3_image_52 : y_w M_X3_image mc ms Q (52, lv, .int x :: .int j :: .ref a :: r, ω, c, s) = y_wI (ω.2 a) j x (fun e => y_w M_X3_image mc ms Q (53, lv, r, y_hup ω a e, c, s)) := w_iastore dX3_image_52 rfl
theorem wX3_image_53 : y_w M_X3_image mc ms Q (53, lv, st, ω, c, s) = y_inc lv 2 (fun x => y_w M_X3_image mc ms Q (56, (2, .int (x + 1)) :: y_kill 2 lv, st, ω, c, s)) := w_iinc dX3_image_53 (d := 1) (by decide) (y_dle rfl) rfl
theorem wX3_image_56 : y_w M_X3_image mc ms Q (56, lv, st, ω, c, s) = ∃ lv2, y_lsub lv2 lv ∧ y_w M_X3_image mc ms Q (30, lv2, st, ω, c, s) := w_back dX3_image_56 (tgt := 30) (by decide) rfl
theorem wX3_image_59 : y_w M_X3_image mc ms Q (59, lv, st, ω, c, s) = y_ldA lv 0 (fun v => y_w M_X3_image mc ms Q (60, lv, v :: st, ω, c, s)) := w_aload_n dX3_image_59 rfl rfl
theorem wX3_image_60 : y_w M_X3_image mc ms Q (60, lv, .ref a :: r, ω, c, s) = y_gf P_X3_image 38 (ω.2 a) (fun v => y_w M_X3_image mc ms Q (63, lv, v :: r, ω, c, s)) := w_getfield dX3_image_60 rfl rfl
theorem wX3_image_63 : y_w M_X3_image mc ms Q (63, lv, st, ω, c, s) = y_ldI lv 1 (fun v => y_w M_X3_image mc ms Q (64, lv, v :: st, ω, c, s)) := w_iload_n dX3_image_63 rfl rfl
theorem wX3_image_64 : y_w M_X3_image mc ms Q (64, lv, st, ω, c, s) = y_w M_X3_image mc ms Q (65, lv, .int 1 :: st, ω, c, s) := w_iconst dX3_image_64 (v := 1) (by decide) rfl
theorem wX3_image_65 : y_w M_X3_image mc ms Q (65, lv, .int x :: .int j :: .ref a :: r, ω, c, s) = y_wB (ω.2 a) j x (fun e => y_w M_X3_image mc ms Q (66, lv, r, y_hup ω a e, c, s)) := w_bastore dX3_image_65 rfl
theorem wX3_image_66 : y_w M_X3_image mc ms Q (66, lv, st, ω, c, s) = y_w M_X3_image mc ms Q (67, lv, .int 1 :: st, ω, c, s) := w_iconst dX3_image_66 (v := 1) (by decide) rfl
theorem wX3_image_67 : y_w M_X3_image mc ms Q (67, lv, [.int x], ω, c, s) = Q (.returned (some (.int x))) ω c s := w_ireturnI dX3_image_67 rfl
def P_X3_restore : y_Pool := ([(48, 3, 0, .int, false), (38, 3, 21, (.array .boolean), true), (19, 3, 5, (.array .int), true), (42, 3, 22, (.array .int), true), (175, 3, 8, .int, false)], [], [(68, .int (-1000001)), (188, .int (-1000002))], [(58, 0, 0, 3, (1, 25), F_X3_in)], [], [], [])
def M_X3_restore : y_Md := (cX3_restore, "YoungerBackModel", (3, (some FieldType.int)), (1, 25), false, P_X3_restore, [])
def F_X3_restore : y_Tr := y_F M_X3_restore
theorem nX3_restore : y_nL M_X3_restore = 3 := rfl
theorem fX3_restore_48_3 : y_ffP P_X3_restore 48 3 = some (0, .int, false) := rfl
theorem fX3_restore_38_3 : y_ffP P_X3_restore 38 3 = some (21, (.array .boolean), true) := rfl
theorem fX3_restore_19_3 : y_ffP P_X3_restore 19 3 = some (5, (.array .int), true) := rfl
theorem fX3_restore_42_3 : y_ffP P_X3_restore 42 3 = some (22, (.array .int), true) := rfl
theorem fX3_restore_175_3 : y_ffP P_X3_restore 175 3 = some (8, .int, false) := rfl
theorem wX3_restore_0 : y_w M_X3_restore mc ms Q (0, lv, st, ω, c, s) = y_ldA lv 0 (fun v => y_w M_X3_restore mc ms Q (1, lv, v :: st, ω, c, s)) := w_aload_n dX3_restore_0 rfl rfl
theorem wX3_restore_1 : y_w M_X3_restore mc ms Q (1, lv, st, ω, c, s) = y_w M_X3_restore mc ms Q (2, lv, .int 0 :: st, ω, c, s) := w_iconst dX3_restore_1 (v := 0) (by decide) rfl
theorem wX3_restore_2 : y_w M_X3_restore mc ms Q (2, lv, v :: .ref a :: r, ω, c, s) = y_pf P_X3_restore false 48 (ω.2 a) v (fun ci fs => y_w M_X3_restore mc ms Q (5, lv, r, y_hup ω a (.inr (ci, fs)), c, s)) := w_putfield dX3_restore_2 rfl rfl rfl
theorem wX3_restore_5 : y_w M_X3_restore mc ms Q (5, lv, st, ω, c, s) = y_ldI lv 1 (fun v => y_w M_X3_restore mc ms Q (6, lv, v :: st, ω, c, s)) := w_iload_n dX3_restore_5 rfl rfl
theorem wX3_restore_6 : y_w M_X3_restore mc ms Q (6, lv, .int x :: r, ω, c, s) = y_w M_X3_restore mc ms Q (7, lv, .long x.toInt64 :: r, ω, c, s) := w_i2l dX3_restore_6 rfl
theorem wX3_restore_7 : y_w M_X3_restore mc ms Q (7, lv, st, ω, c, s) = y_w M_X3_restore mc ms Q (8, lv, .long 0 :: st, ω, c, s) := w_lconst dX3_restore_7 (v := 0) (by decide) rfl
theorem wX3_restore_8 : y_w M_X3_restore mc ms Q (8, lv, st, ω, c, s) = y_w M_X3_restore mc ms Q (9, lv, .long 1 :: st, ω, c, s) := w_lconst dX3_restore_8 (v := 1) (by decide) rfl
theorem wX3_restore_9 : y_w M_X3_restore mc ms Q (9, lv, v2 :: v1 :: v0 :: r, ω, c, s) = (y_cat r ≤ 8 ∧ F_X3_in mc ms [v0, v1, v2] ω c s (y_aft M_X3_restore 9 3 lv r (y_w M_X3_restore mc ms Q) Q)) := w_call0 (av := [v0, v1, v2]) ⟨Or.inr ⟨rfl, rfl⟩, rfl⟩ dX3_restore_9 rfl (y_F_mono _) (y_dle rfl) (y_dle rfl) rfl rfl
theorem wX3_restore_12 : y_w M_X3_restore mc ms Q (12, lv, .int x :: r, ω, c, s) = ((¬ x = 0 → y_w M_X3_restore mc ms Q (18, lv, r, ω, c, s)) ∧ (¬ (¬ x = 0) → y_w M_X3_restore mc ms Q (15, lv, r, ω, c, s))) := w_if dX3_restore_12 (tgt := 18) rfl rfl rfl
theorem wX3_restore_15 : y_w M_X3_restore mc ms Q (15, lv, st, ω, c, s) = y_w M_X3_restore mc ms Q (17, lv, .int (-1000001) :: st, ω, c, s) := w_ldc dX3_restore_15 rfl rfl rfl
theorem wX3_restore_17 : y_w M_X3_restore mc ms Q (17, lv, [.int x], ω, c, s) = Q (.returned (some (.int x))) ω c s := w_ireturnI dX3_restore_17 rfl
theorem wX3_restore_18 : y_w M_X3_restore mc ms Q (18, lv, st, ω, c, s) = y_ldA lv 0 (fun v => y_w M_X3_restore mc ms Q (19, lv, v :: st, ω, c, s)) := w_aload_n dX3_restore_18 rfl rfl
theorem wX3_restore_19 : y_w M_X3_restore mc ms Q (19, lv, .ref a :: r, ω, c, s) = y_gf P_X3_restore 38 (ω.2 a) (fun v => y_w M_X3_restore mc ms Q (22, lv, v :: r, ω, c, s)) := w_getfield dX3_restore_19 rfl rfl
theorem wX3_restore_22 : y_w M_X3_restore mc ms Q (22, lv, st, ω, c, s) = y_ldI lv 1 (fun v => y_w M_X3_restore mc ms Q (23, lv, v :: st, ω, c, s)) := w_iload_n dX3_restore_22 rfl rfl
theorem wX3_restore_23 : y_w M_X3_restore mc ms Q (23, lv, .int j :: .ref a :: r, ω, c, s) = y_rB (ω.2 a) j (fun x => y_w M_X3_restore mc ms Q (24, lv, .int x :: r, ω, c, s)) := w_baload dX3_restore_23 rfl
theorem wX3_restore_24 : y_w M_X3_restore mc ms Q (24, lv, .int x :: r, ω, c, s) = ((¬ x = 0 → y_w M_X3_restore mc ms Q (30, lv, r, ω, c, s)) ∧ (¬ (¬ x = 0) → y_w M_X3_restore mc ms Q (27, lv, r, ω, c, s))) := w_if dX3_restore_24 (tgt := 30) rfl rfl rfl
theorem wX3_restore_27 : y_w M_X3_restore mc ms Q (27, lv, st, ω, c, s) = y_w M_X3_restore mc ms Q (29, lv, .int (-1000002) :: st, ω, c, s) := w_ldc dX3_restore_27 rfl rfl rfl
theorem wX3_restore_29 : y_w M_X3_restore mc ms Q (29, lv, [.int x], ω, c, s) = Q (.returned (some (.int x))) ω c s := w_ireturnI dX3_restore_29 rfl
theorem wX3_restore_30 : y_w M_X3_restore mc ms Q (30, lv, st, ω, c, s) = y_w M_X3_restore mc ms Q (31, lv, .int 0 :: st, ω, c, s) := w_iconst dX3_restore_30 (v := 0) (by decide) rfl
theorem wX3_restore_31 : y_w M_X3_restore mc ms Q (31, lv, .int x :: r, ω, c, s) = y_w M_X3_restore mc ms Q (32, (2, .int x) :: y_kill 2 lv, r, ω, c, s) := w_istore_n dX3_restore_31 rfl (y_dle rfl) rfl
theorem wX3_restore_32 : y_w M_X3_restore mc ms Q (32, lv, st, ω, c, s) = y_ldI lv 2 (fun v => y_w M_X3_restore mc ms Q (33, lv, v :: st, ω, c, s)) := w_iload_n dX3_restore_32 rfl rfl
theorem wX3_restore_33 : y_w M_X3_restore mc ms Q (33, lv, st, ω, c, s) = y_w M_X3_restore mc ms Q (35, lv, .int (nI 68) :: st, ω, c, s) := w_bipush dX3_restore_33 (v := (nI 68)) (by decide) rfl
theorem wX3_restore_35 : y_w M_X3_restore mc ms Q (35, lv, .int y :: .int x :: r, ω, c, s) = ((y ≤ x → y_w M_X3_restore mc ms Q (61, lv, r, ω, c, s)) ∧ (¬ (y ≤ x) → y_w M_X3_restore mc ms Q (38, lv, r, ω, c, s))) := w_icmp dX3_restore_35 (tgt := 61) rfl rfl rfl
theorem wX3_restore_38 : y_w M_X3_restore mc ms Q (38, lv, st, ω, c, s) = y_ldA lv 0 (fun v => y_w M_X3_restore mc ms Q (39, lv, v :: st, ω, c, s)) := w_aload_n dX3_restore_38 rfl rfl
theorem wX3_restore_39 : y_w M_X3_restore mc ms Q (39, lv, .ref a :: r, ω, c, s) = y_gf P_X3_restore 19 (ω.2 a) (fun v => y_w M_X3_restore mc ms Q (42, lv, v :: r, ω, c, s)) := w_getfield dX3_restore_39 rfl rfl
theorem wX3_restore_42 : y_w M_X3_restore mc ms Q (42, lv, st, ω, c, s) = y_ldI lv 2 (fun v => y_w M_X3_restore mc ms Q (43, lv, v :: st, ω, c, s)) := w_iload_n dX3_restore_42 rfl rfl
theorem wX3_restore_43 : y_w M_X3_restore mc ms Q (43, lv, st, ω, c, s) = y_ldA lv 0 (fun v => y_w M_X3_restore mc ms Q (44, lv, v :: st, ω, c, s)) := w_aload_n dX3_restore_43 rfl rfl
theorem wX3_restore_44 : y_w M_X3_restore mc ms Q (44, lv, .ref a :: r, ω, c, s) = y_gf P_X3_restore 42 (ω.2 a) (fun v => y_w M_X3_restore mc ms Q (47, lv, v :: r, ω, c, s)) := w_getfield dX3_restore_44 rfl rfl
theorem wX3_restore_47 : y_w M_X3_restore mc ms Q (47, lv, st, ω, c, s) = y_w M_X3_restore mc ms Q (49, lv, .int (nI 68) :: st, ω, c, s) := w_bipush dX3_restore_47 (v := (nI 68)) (by decide) rfl
theorem wX3_restore_49 : y_w M_X3_restore mc ms Q (49, lv, st, ω, c, s) = y_ldI lv 1 (fun v => y_w M_X3_restore mc ms Q (50, lv, v :: st, ω, c, s)) := w_iload_n dX3_restore_49 rfl rfl
theorem wX3_restore_50 : y_w M_X3_restore mc ms Q (50, lv, .int y :: .int x :: r, ω, c, s) = y_w M_X3_restore mc ms Q (51, lv, .int (x * y) :: r, ω, c, s) := w_imul dX3_restore_50 rfl
theorem wX3_restore_51 : y_w M_X3_restore mc ms Q (51, lv, st, ω, c, s) = y_ldI lv 2 (fun v => y_w M_X3_restore mc ms Q (52, lv, v :: st, ω, c, s)) := w_iload_n dX3_restore_51 rfl rfl
theorem wX3_restore_52 : y_w M_X3_restore mc ms Q (52, lv, .int y :: .int x :: r, ω, c, s) = y_w M_X3_restore mc ms Q (53, lv, .int (x + y) :: r, ω, c, s) := w_iadd dX3_restore_52 rfl
theorem wX3_restore_53 : y_w M_X3_restore mc ms Q (53, lv, .int j :: .ref a :: r, ω, c, s) = y_rI (ω.2 a) j (fun x => y_w M_X3_restore mc ms Q (54, lv, .int x :: r, ω, c, s)) := w_iaload dX3_restore_53 rfl
theorem wX3_restore_54 : y_w M_X3_restore mc ms Q (54, lv, .int x :: .int j :: .ref a :: r, ω, c, s) = y_wI (ω.2 a) j x (fun e => y_w M_X3_restore mc ms Q (55, lv, r, y_hup ω a e, c, s)) := w_iastore dX3_restore_54 rfl
theorem wX3_restore_55 : y_w M_X3_restore mc ms Q (55, lv, st, ω, c, s) = y_inc lv 2 (fun x => y_w M_X3_restore mc ms Q (58, (2, .int (x + 1)) :: y_kill 2 lv, st, ω, c, s)) := w_iinc dX3_restore_55 (d := 1) (by decide) (y_dle rfl) rfl
theorem wX3_restore_58 : y_w M_X3_restore mc ms Q (58, lv, st, ω, c, s) = ∃ lv2, y_lsub lv2 lv ∧ y_w M_X3_restore mc ms Q (32, lv2, st, ω, c, s) := w_back dX3_restore_58 (tgt := 32) (by decide) rfl
theorem wX3_restore_61 : y_w M_X3_restore mc ms Q (61, lv, st, ω, c, s) = y_ldA lv 0 (fun v => y_w M_X3_restore mc ms Q (62, lv, v :: st, ω, c, s)) := w_aload_n dX3_restore_61 rfl rfl
theorem wX3_restore_62 : y_w M_X3_restore mc ms Q (62, lv, st, ω, c, s) = y_w M_X3_restore mc ms Q (63, lv, .int 0 :: st, ω, c, s) := w_iconst dX3_restore_62 (v := 0) (by decide) rfl
theorem wX3_restore_63 : y_w M_X3_restore mc ms Q (63, lv, v :: .ref a :: r, ω, c, s) = y_pf P_X3_restore false 175 (ω.2 a) v (fun ci fs => y_w M_X3_restore mc ms Q (66, lv, r, y_hup ω a (.inr (ci, fs)), c, s)) := w_putfield dX3_restore_63 rfl rfl rfl
theorem wX3_restore_66 : y_w M_X3_restore mc ms Q (66, lv, st, ω, c, s) = y_w M_X3_restore mc ms Q (67, lv, .int 1 :: st, ω, c, s) := w_iconst dX3_restore_66 (v := 1) (by decide) rfl
theorem wX3_restore_67 : y_w M_X3_restore mc ms Q (67, lv, [.int x], ω, c, s) = Q (.returned (some (.int x))) ω c s := w_ireturnI dX3_restore_67 rfl
def P_X3_kind : y_Pool := ([(48, 3, 0, .int, false)], [], [(68, .int (-1000001))], [(199, 1, 3, 2, (2, 46), F_X3_isPerson), (181, 1, 3, 3, (1, 22), F_X3_of)], [], [], [])
def M_X3_kind : y_Md := (cX3_kind, "YoungerBackModel", (2, (some FieldType.int)), (2, 46), false, P_X3_kind, [])
def F_X3_kind : y_Tr := y_F M_X3_kind
theorem nX3_kind : y_nL M_X3_kind = 2 := rfl
theorem fX3_kind_48_3 : y_ffP P_X3_kind 48 3 = some (0, .int, false) := rfl
theorem wX3_kind_0 : y_w M_X3_kind mc ms Q (0, lv, st, ω, c, s) = y_ldA lv 0 (fun v => y_w M_X3_kind mc ms Q (1, lv, v :: st, ω, c, s)) := w_aload_n dX3_kind_0 rfl rfl
theorem wX3_kind_1 : y_w M_X3_kind mc ms Q (1, lv, st, ω, c, s) = y_w M_X3_kind mc ms Q (2, lv, .int 0 :: st, ω, c, s) := w_iconst dX3_kind_1 (v := 0) (by decide) rfl
theorem wX3_kind_2 : y_w M_X3_kind mc ms Q (2, lv, v :: .ref a :: r, ω, c, s) = y_pf P_X3_kind false 48 (ω.2 a) v (fun ci fs => y_w M_X3_kind mc ms Q (5, lv, r, y_hup ω a (.inr (ci, fs)), c, s)) := w_putfield dX3_kind_2 rfl rfl rfl
theorem wX3_kind_5 : y_w M_X3_kind mc ms Q (5, lv, st, ω, c, s) = y_ldA lv 0 (fun v => y_w M_X3_kind mc ms Q (6, lv, v :: st, ω, c, s)) := w_aload_n dX3_kind_5 rfl rfl
theorem wX3_kind_6 : y_w M_X3_kind mc ms Q (6, lv, st, ω, c, s) = y_ldI lv 1 (fun v => y_w M_X3_kind mc ms Q (7, lv, v :: st, ω, c, s)) := w_iload_n dX3_kind_6 rfl rfl
theorem wX3_kind_7 (hc : y_cls ω a = some 3) : y_w M_X3_kind mc ms Q (7, lv, v1 :: .ref a :: r, ω, c, s) = (y_cat r ≤ 8 ∧ F_X3_isPerson mc ms [.ref a, v1] ω c s (y_aft M_X3_kind 7 3 lv r (y_w M_X3_kind mc ms Q) Q)) := w_call1 (av := [v1]) (Or.inl ⟨⟨rfl, rfl⟩, rfl⟩) dX3_kind_7 rfl hc rfl (y_F_mono _) (y_dle rfl) (y_dle rfl) rfl rfl
theorem wX3_kind_10 : y_w M_X3_kind mc ms Q (10, lv, .int x :: r, ω, c, s) = ((x = 0 → y_w M_X3_kind mc ms Q (22, lv, r, ω, c, s)) ∧ (¬ (x = 0) → y_w M_X3_kind mc ms Q (13, lv, r, ω, c, s))) := w_if dX3_kind_10 (tgt := 22) rfl rfl rfl
theorem wX3_kind_13 : y_w M_X3_kind mc ms Q (13, lv, st, ω, c, s) = y_ldA lv 0 (fun v => y_w M_X3_kind mc ms Q (14, lv, v :: st, ω, c, s)) := w_aload_n dX3_kind_13 rfl rfl
theorem wX3_kind_14 : y_w M_X3_kind mc ms Q (14, lv, st, ω, c, s) = y_ldI lv 1 (fun v => y_w M_X3_kind mc ms Q (15, lv, v :: st, ω, c, s)) := w_iload_n dX3_kind_14 rfl rfl
theorem wX3_kind_15 : y_w M_X3_kind mc ms Q (15, lv, st, ω, c, s) = y_w M_X3_kind mc ms Q (16, lv, .int 0 :: st, ω, c, s) := w_iconst dX3_kind_15 (v := 0) (by decide) rfl
theorem wX3_kind_16 (hc : y_cls ω a = some 3) : y_w M_X3_kind mc ms Q (16, lv, v2 :: v1 :: .ref a :: r, ω, c, s) = (y_cat r ≤ 8 ∧ F_X3_of mc ms [.ref a, v1, v2] ω c s (y_aft M_X3_kind 16 3 lv r (y_w M_X3_kind mc ms Q) Q)) := w_call1 (av := [v1, v2]) (Or.inl ⟨⟨rfl, rfl⟩, rfl⟩) dX3_kind_16 rfl hc rfl (y_F_mono _) (y_dle rfl) (y_dle rfl) rfl rfl
theorem wX3_kind_19 : y_w M_X3_kind mc ms Q (19, lv, st, ω, c, s) = y_w M_X3_kind mc ms Q (24, lv, st, ω, c, s) := w_goto dX3_kind_19 (tgt := 24) (by decide) rfl
theorem wX3_kind_22 : y_w M_X3_kind mc ms Q (22, lv, st, ω, c, s) = y_w M_X3_kind mc ms Q (24, lv, .int (-1000001) :: st, ω, c, s) := w_ldc dX3_kind_22 rfl rfl rfl
theorem wX3_kind_24 : y_w M_X3_kind mc ms Q (24, lv, [.int x], ω, c, s) = Q (.returned (some (.int x))) ω c s := w_ireturnI dX3_kind_24 rfl
def P_X3_isOf : y_Pool := ([], [], [], [], [], [], [])
def M_X3_isOf : y_Md := (cX3_isOf, "YoungerBackModel", (2, (some FieldType.boolean)), (0, 0), false, P_X3_isOf, [])
def F_X3_isOf : y_Tr := y_F M_X3_isOf
theorem nX3_isOf : y_nL M_X3_isOf = 2 := rfl
theorem wX3_isOf_0 : y_w M_X3_isOf mc ms Q (0, lv, st, ω, c, s) = y_ldI lv 1 (fun v => y_w M_X3_isOf mc ms Q (1, lv, v :: st, ω, c, s)) := w_iload_n dX3_isOf_0 rfl rfl
theorem wX3_isOf_1 : y_w M_X3_isOf mc ms Q (1, lv, .int x :: r, ω, c, s) = ((x = 0 → y_w M_X3_isOf mc ms Q (29, lv, r, ω, c, s)) ∧ (¬ (x = 0) → y_w M_X3_isOf mc ms Q (4, lv, r, ω, c, s))) := w_if dX3_isOf_1 (tgt := 29) rfl rfl rfl
theorem wX3_isOf_4 : y_w M_X3_isOf mc ms Q (4, lv, st, ω, c, s) = y_ldI lv 0 (fun v => y_w M_X3_isOf mc ms Q (5, lv, v :: st, ω, c, s)) := w_iload_n dX3_isOf_4 rfl rfl
theorem wX3_isOf_5 : y_w M_X3_isOf mc ms Q (5, lv, st, ω, c, s) = y_ldI lv 1 (fun v => y_w M_X3_isOf mc ms Q (6, lv, v :: st, ω, c, s)) := w_iload_n dX3_isOf_5 rfl rfl
theorem wX3_isOf_6 : y_w M_X3_isOf mc ms Q (6, lv, .int y :: .int x :: r, ω, c, s) = ((x = y → y_w M_X3_isOf mc ms Q (29, lv, r, ω, c, s)) ∧ (¬ (x = y) → y_w M_X3_isOf mc ms Q (9, lv, r, ω, c, s))) := w_icmp dX3_isOf_6 (tgt := 29) rfl rfl rfl
theorem wX3_isOf_9 : y_w M_X3_isOf mc ms Q (9, lv, st, ω, c, s) = y_ldI lv 1 (fun v => y_w M_X3_isOf mc ms Q (10, lv, v :: st, ω, c, s)) := w_iload_n dX3_isOf_9 rfl rfl
theorem wX3_isOf_10 : y_w M_X3_isOf mc ms Q (10, lv, st, ω, c, s) = y_w M_X3_isOf mc ms Q (11, lv, .int 1 :: st, ω, c, s) := w_iconst dX3_isOf_10 (v := 1) (by decide) rfl
theorem wX3_isOf_11 : y_w M_X3_isOf mc ms Q (11, lv, .int y :: .int x :: r, ω, c, s) = ((¬ x = y → y_w M_X3_isOf mc ms Q (19, lv, r, ω, c, s)) ∧ (¬ (¬ x = y) → y_w M_X3_isOf mc ms Q (14, lv, r, ω, c, s))) := w_icmp dX3_isOf_11 (tgt := 19) rfl rfl rfl
theorem wX3_isOf_14 : y_w M_X3_isOf mc ms Q (14, lv, st, ω, c, s) = y_ldI lv 0 (fun v => y_w M_X3_isOf mc ms Q (15, lv, v :: st, ω, c, s)) := w_iload_n dX3_isOf_14 rfl rfl
theorem wX3_isOf_15 : y_w M_X3_isOf mc ms Q (15, lv, st, ω, c, s) = y_w M_X3_isOf mc ms Q (16, lv, .int (nI 4) :: st, ω, c, s) := w_iconst dX3_isOf_15 (v := (nI 4)) (by decide) rfl
theorem wX3_isOf_16 : y_w M_X3_isOf mc ms Q (16, lv, .int y :: .int x :: r, ω, c, s) = ((x < y → y_w M_X3_isOf mc ms Q (29, lv, r, ω, c, s)) ∧ (¬ (x < y) → y_w M_X3_isOf mc ms Q (19, lv, r, ω, c, s))) := w_icmp dX3_isOf_16 (tgt := 29) rfl rfl rfl
theorem wX3_isOf_19 : y_w M_X3_isOf mc ms Q (19, lv, st, ω, c, s) = y_ldI lv 1 (fun v => y_w M_X3_isOf mc ms Q (20, lv, v :: st, ω, c, s)) := w_iload_n dX3_isOf_19 rfl rfl
theorem wX3_isOf_20 : y_w M_X3_isOf mc ms Q (20, lv, st, ω, c, s) = y_w M_X3_isOf mc ms Q (21, lv, .int (nI 4) :: st, ω, c, s) := w_iconst dX3_isOf_20 (v := (nI 4)) (by decide) rfl
theorem wX3_isOf_21 : y_w M_X3_isOf mc ms Q (21, lv, .int y :: .int x :: r, ω, c, s) = ((¬ x = y → y_w M_X3_isOf mc ms Q (33, lv, r, ω, c, s)) ∧ (¬ (¬ x = y) → y_w M_X3_isOf mc ms Q (24, lv, r, ω, c, s))) := w_icmp dX3_isOf_21 (tgt := 33) rfl rfl rfl
theorem wX3_isOf_24 : y_w M_X3_isOf mc ms Q (24, lv, st, ω, c, s) = y_ldI lv 0 (fun v => y_w M_X3_isOf mc ms Q (25, lv, v :: st, ω, c, s)) := w_iload_n dX3_isOf_24 rfl rfl
theorem wX3_isOf_25 : y_w M_X3_isOf mc ms Q (25, lv, st, ω, c, s) = y_w M_X3_isOf mc ms Q (26, lv, .int (nI 5) :: st, ω, c, s) := w_iconst dX3_isOf_25 (v := (nI 5)) (by decide) rfl
theorem wX3_isOf_26 : y_w M_X3_isOf mc ms Q (26, lv, .int y :: .int x :: r, ω, c, s) = ((¬ x = y → y_w M_X3_isOf mc ms Q (33, lv, r, ω, c, s)) ∧ (¬ (¬ x = y) → y_w M_X3_isOf mc ms Q (29, lv, r, ω, c, s))) := w_icmp dX3_isOf_26 (tgt := 33) rfl rfl rfl
theorem wX3_isOf_29 : y_w M_X3_isOf mc ms Q (29, lv, st, ω, c, s) = y_w M_X3_isOf mc ms Q (30, lv, .int 1 :: st, ω, c, s) := w_iconst dX3_isOf_29 (v := 1) (by decide) rfl
theorem wX3_isOf_30 : y_w M_X3_isOf mc ms Q (30, lv, st, ω, c, s) = y_w M_X3_isOf mc ms Q (34, lv, st, ω, c, s) := w_goto dX3_isOf_30 (tgt := 34) (by decide) rfl
theorem wX3_isOf_33 : y_w M_X3_isOf mc ms Q (33, lv, st, ω, c, s) = y_w M_X3_isOf mc ms Q (34, lv, .int 0 :: st, ω, c, s) := w_iconst dX3_isOf_33 (v := 0) (by decide) rfl
theorem wX3_isOf_34 : y_w M_X3_isOf mc ms Q (34, lv, [.int x], ω, c, s) = (narrow FieldType.boolean (.int x) = .int x ∧ Q (.returned (some (.int x))) ω c s) := w_ireturn dX3_isOf_34 rfl
def P_X3_as : y_Pool := ([(48, 3, 0, .int, false), (52, 3, 1, .int, false)], [], [(221, .long (lN 5)), (68, .int (-1000001))], [(199, 1, 3, 2, (2, 46), F_X3_isPerson), (58, 0, 0, 3, (1, 25), F_X3_in), (181, 1, 3, 3, (1, 22), F_X3_of), (239, 0, 0, 2, (1, 21), F_X3_isOf), (69, 1, 3, 2, (1, 21), F_X3_finding)], [], [], [])
def M_X3_as : y_Md := (cX3_as, "YoungerBackModel", (3, (some FieldType.int)), (2, 46), false, P_X3_as, [])
def F_X3_as : y_Tr := y_F M_X3_as
theorem nX3_as : y_nL M_X3_as = 3 := rfl
theorem fX3_as_48_3 : y_ffP P_X3_as 48 3 = some (0, .int, false) := rfl
theorem fX3_as_52_3 : y_ffP P_X3_as 52 3 = some (1, .int, false) := rfl
theorem wX3_as_0 : y_w M_X3_as mc ms Q (0, lv, st, ω, c, s) = y_ldA lv 0 (fun v => y_w M_X3_as mc ms Q (1, lv, v :: st, ω, c, s)) := w_aload_n dX3_as_0 rfl rfl
theorem wX3_as_1 : y_w M_X3_as mc ms Q (1, lv, st, ω, c, s) = y_w M_X3_as mc ms Q (2, lv, .int 0 :: st, ω, c, s) := w_iconst dX3_as_1 (v := 0) (by decide) rfl
theorem wX3_as_2 : y_w M_X3_as mc ms Q (2, lv, v :: .ref a :: r, ω, c, s) = y_pf P_X3_as false 48 (ω.2 a) v (fun ci fs => y_w M_X3_as mc ms Q (5, lv, r, y_hup ω a (.inr (ci, fs)), c, s)) := w_putfield dX3_as_2 rfl rfl rfl
theorem wX3_as_5 : y_w M_X3_as mc ms Q (5, lv, st, ω, c, s) = y_ldA lv 0 (fun v => y_w M_X3_as mc ms Q (6, lv, v :: st, ω, c, s)) := w_aload_n dX3_as_5 rfl rfl
theorem wX3_as_6 : y_w M_X3_as mc ms Q (6, lv, st, ω, c, s) = y_ldI lv 1 (fun v => y_w M_X3_as mc ms Q (7, lv, v :: st, ω, c, s)) := w_iload_n dX3_as_6 rfl rfl
theorem wX3_as_7 (hc : y_cls ω a = some 3) : y_w M_X3_as mc ms Q (7, lv, v1 :: .ref a :: r, ω, c, s) = (y_cat r ≤ 8 ∧ F_X3_isPerson mc ms [.ref a, v1] ω c s (y_aft M_X3_as 7 3 lv r (y_w M_X3_as mc ms Q) Q)) := w_call1 (av := [v1]) (Or.inl ⟨⟨rfl, rfl⟩, rfl⟩) dX3_as_7 rfl hc rfl (y_F_mono _) (y_dle rfl) (y_dle rfl) rfl rfl
theorem wX3_as_10 : y_w M_X3_as mc ms Q (10, lv, .int x :: r, ω, c, s) = ((x = 0 → y_w M_X3_as mc ms Q (25, lv, r, ω, c, s)) ∧ (¬ (x = 0) → y_w M_X3_as mc ms Q (13, lv, r, ω, c, s))) := w_if dX3_as_10 (tgt := 25) rfl rfl rfl
theorem wX3_as_13 : y_w M_X3_as mc ms Q (13, lv, st, ω, c, s) = y_ldI lv 2 (fun v => y_w M_X3_as mc ms Q (14, lv, v :: st, ω, c, s)) := w_iload_n dX3_as_13 rfl rfl
theorem wX3_as_14 : y_w M_X3_as mc ms Q (14, lv, .int x :: r, ω, c, s) = y_w M_X3_as mc ms Q (15, lv, .long x.toInt64 :: r, ω, c, s) := w_i2l dX3_as_14 rfl
theorem wX3_as_15 : y_w M_X3_as mc ms Q (15, lv, st, ω, c, s) = y_w M_X3_as mc ms Q (16, lv, .long 0 :: st, ω, c, s) := w_lconst dX3_as_15 (v := 0) (by decide) rfl
theorem wX3_as_16 : y_w M_X3_as mc ms Q (16, lv, st, ω, c, s) = y_w M_X3_as mc ms Q (19, lv, .long (lN 5) :: st, ω, c, s) := w_ldc2_w dX3_as_16 rfl rfl rfl
theorem wX3_as_19 : y_w M_X3_as mc ms Q (19, lv, v2 :: v1 :: v0 :: r, ω, c, s) = (y_cat r ≤ 8 ∧ F_X3_in mc ms [v0, v1, v2] ω c s (y_aft M_X3_as 19 3 lv r (y_w M_X3_as mc ms Q) Q)) := w_call0 (av := [v0, v1, v2]) ⟨Or.inr ⟨rfl, rfl⟩, rfl⟩ dX3_as_19 rfl (y_F_mono _) (y_dle rfl) (y_dle rfl) rfl rfl
theorem wX3_as_22 : y_w M_X3_as mc ms Q (22, lv, .int x :: r, ω, c, s) = ((¬ x = 0 → y_w M_X3_as mc ms Q (28, lv, r, ω, c, s)) ∧ (¬ (¬ x = 0) → y_w M_X3_as mc ms Q (25, lv, r, ω, c, s))) := w_if dX3_as_22 (tgt := 28) rfl rfl rfl
theorem wX3_as_25 : y_w M_X3_as mc ms Q (25, lv, st, ω, c, s) = y_w M_X3_as mc ms Q (27, lv, .int (-1000001) :: st, ω, c, s) := w_ldc dX3_as_25 rfl rfl rfl
theorem wX3_as_27 : y_w M_X3_as mc ms Q (27, lv, [.int x], ω, c, s) = Q (.returned (some (.int x))) ω c s := w_ireturnI dX3_as_27 rfl
theorem wX3_as_28 : y_w M_X3_as mc ms Q (28, lv, st, ω, c, s) = y_ldA lv 0 (fun v => y_w M_X3_as mc ms Q (29, lv, v :: st, ω, c, s)) := w_aload_n dX3_as_28 rfl rfl
theorem wX3_as_29 : y_w M_X3_as mc ms Q (29, lv, st, ω, c, s) = y_w M_X3_as mc ms Q (30, lv, .int 0 :: st, ω, c, s) := w_iconst dX3_as_29 (v := 0) (by decide) rfl
theorem wX3_as_30 : y_w M_X3_as mc ms Q (30, lv, v :: .ref a :: r, ω, c, s) = y_pf P_X3_as false 52 (ω.2 a) v (fun ci fs => y_w M_X3_as mc ms Q (33, lv, r, y_hup ω a (.inr (ci, fs)), c, s)) := w_putfield dX3_as_30 rfl rfl rfl
theorem wX3_as_33 : y_w M_X3_as mc ms Q (33, lv, st, ω, c, s) = y_ldA lv 0 (fun v => y_w M_X3_as mc ms Q (34, lv, v :: st, ω, c, s)) := w_aload_n dX3_as_33 rfl rfl
theorem wX3_as_34 : y_w M_X3_as mc ms Q (34, lv, st, ω, c, s) = y_ldI lv 1 (fun v => y_w M_X3_as mc ms Q (35, lv, v :: st, ω, c, s)) := w_iload_n dX3_as_34 rfl rfl
theorem wX3_as_35 : y_w M_X3_as mc ms Q (35, lv, st, ω, c, s) = y_w M_X3_as mc ms Q (36, lv, .int 0 :: st, ω, c, s) := w_iconst dX3_as_35 (v := 0) (by decide) rfl
theorem wX3_as_36 (hc : y_cls ω a = some 3) : y_w M_X3_as mc ms Q (36, lv, v2 :: v1 :: .ref a :: r, ω, c, s) = (y_cat r ≤ 8 ∧ F_X3_of mc ms [.ref a, v1, v2] ω c s (y_aft M_X3_as 36 3 lv r (y_w M_X3_as mc ms Q) Q)) := w_call1 (av := [v1, v2]) (Or.inl ⟨⟨rfl, rfl⟩, rfl⟩) dX3_as_36 rfl hc rfl (y_F_mono _) (y_dle rfl) (y_dle rfl) rfl rfl
theorem wX3_as_39 : y_w M_X3_as mc ms Q (39, lv, st, ω, c, s) = y_ldI lv 2 (fun v => y_w M_X3_as mc ms Q (40, lv, v :: st, ω, c, s)) := w_iload_n dX3_as_39 rfl rfl
theorem wX3_as_40 : y_w M_X3_as mc ms Q (40, lv, v1 :: v0 :: r, ω, c, s) = (y_cat r ≤ 8 ∧ F_X3_isOf mc ms [v0, v1] ω c s (y_aft M_X3_as 40 3 lv r (y_w M_X3_as mc ms Q) Q)) := w_call0 (av := [v0, v1]) ⟨Or.inr ⟨rfl, rfl⟩, rfl⟩ dX3_as_40 rfl (y_F_mono _) (y_dle rfl) (y_dle rfl) rfl rfl
theorem wX3_as_43 : y_w M_X3_as mc ms Q (43, lv, .int x :: r, ω, c, s) = ((x = 0 → y_w M_X3_as mc ms Q (50, lv, r, ω, c, s)) ∧ (¬ (x = 0) → y_w M_X3_as mc ms Q (46, lv, r, ω, c, s))) := w_if dX3_as_43 (tgt := 50) rfl rfl rfl
theorem wX3_as_46 : y_w M_X3_as mc ms Q (46, lv, st, ω, c, s) = y_ldI lv 1 (fun v => y_w M_X3_as mc ms Q (47, lv, v :: st, ω, c, s)) := w_iload_n dX3_as_46 rfl rfl
theorem wX3_as_47 : y_w M_X3_as mc ms Q (47, lv, st, ω, c, s) = y_w M_X3_as mc ms Q (55, lv, st, ω, c, s) := w_goto dX3_as_47 (tgt := 55) (by decide) rfl
theorem wX3_as_50 : y_w M_X3_as mc ms Q (50, lv, st, ω, c, s) = y_ldA lv 0 (fun v => y_w M_X3_as mc ms Q (51, lv, v :: st, ω, c, s)) := w_aload_n dX3_as_50 rfl rfl
theorem wX3_as_51 : y_w M_X3_as mc ms Q (51, lv, st, ω, c, s) = y_w M_X3_as mc ms Q (52, lv, .int (nI 3) :: st, ω, c, s) := w_iconst dX3_as_51 (v := (nI 3)) (by decide) rfl
theorem wX3_as_52 (hc : y_cls ω a = some 3) : y_w M_X3_as mc ms Q (52, lv, v1 :: .ref a :: r, ω, c, s) = (y_cat r ≤ 8 ∧ F_X3_finding mc ms [.ref a, v1] ω c s (y_aft M_X3_as 52 3 lv r (y_w M_X3_as mc ms Q) Q)) := w_call1 (av := [v1]) (Or.inl ⟨⟨rfl, rfl⟩, rfl⟩) dX3_as_52 rfl hc rfl (y_F_mono _) (y_dle rfl) (y_dle rfl) rfl rfl
theorem wX3_as_55 : y_w M_X3_as mc ms Q (55, lv, [.int x], ω, c, s) = Q (.returned (some (.int x))) ω c s := w_ireturnI dX3_as_55 rfl
def P_X3_began : y_Pool := ([(243, 3, 24, .int, false), (45, 3, 23, (.array .int), true)], [], [], [], [], [], [])
def M_X3_began : y_Md := (cX3_began, "YoungerBackModel", (2, none), (0, 0), false, P_X3_began, [])
def F_X3_began : y_Tr := y_F M_X3_began
theorem nX3_began : y_nL M_X3_began = 2 := rfl
theorem fX3_began_243_3 : y_ffP P_X3_began 243 3 = some (24, .int, false) := rfl
theorem fX3_began_45_3 : y_ffP P_X3_began 45 3 = some (23, (.array .int), true) := rfl
theorem wX3_began_0 : y_w M_X3_began mc ms Q (0, lv, st, ω, c, s) = y_ldA lv 0 (fun v => y_w M_X3_began mc ms Q (1, lv, v :: st, ω, c, s)) := w_aload_n dX3_began_0 rfl rfl
theorem wX3_began_1 : y_w M_X3_began mc ms Q (1, lv, .ref a :: r, ω, c, s) = y_gf P_X3_began 243 (ω.2 a) (fun v => y_w M_X3_began mc ms Q (4, lv, v :: r, ω, c, s)) := w_getfield dX3_began_1 rfl rfl
theorem wX3_began_4 : y_w M_X3_began mc ms Q (4, lv, st, ω, c, s) = y_w M_X3_began mc ms Q (6, lv, .int (nI 16) :: st, ω, c, s) := w_bipush dX3_began_4 (v := (nI 16)) (by decide) rfl
theorem wX3_began_6 : y_w M_X3_began mc ms Q (6, lv, .int y :: .int x :: r, ω, c, s) = ((y ≤ x → y_w M_X3_began mc ms Q (29, lv, r, ω, c, s)) ∧ (¬ (y ≤ x) → y_w M_X3_began mc ms Q (9, lv, r, ω, c, s))) := w_icmp dX3_began_6 (tgt := 29) rfl rfl rfl
theorem wX3_began_9 : y_w M_X3_began mc ms Q (9, lv, st, ω, c, s) = y_ldA lv 0 (fun v => y_w M_X3_began mc ms Q (10, lv, v :: st, ω, c, s)) := w_aload_n dX3_began_9 rfl rfl
theorem wX3_began_10 : y_w M_X3_began mc ms Q (10, lv, .ref a :: r, ω, c, s) = y_gf P_X3_began 45 (ω.2 a) (fun v => y_w M_X3_began mc ms Q (13, lv, v :: r, ω, c, s)) := w_getfield dX3_began_10 rfl rfl
theorem wX3_began_13 : y_w M_X3_began mc ms Q (13, lv, st, ω, c, s) = y_ldA lv 0 (fun v => y_w M_X3_began mc ms Q (14, lv, v :: st, ω, c, s)) := w_aload_n dX3_began_13 rfl rfl
theorem wX3_began_14 : y_w M_X3_began mc ms Q (14, lv, .ref a :: r, ω, c, s) = y_gf P_X3_began 243 (ω.2 a) (fun v => y_w M_X3_began mc ms Q (17, lv, v :: r, ω, c, s)) := w_getfield dX3_began_14 rfl rfl
theorem wX3_began_17 : y_w M_X3_began mc ms Q (17, lv, st, ω, c, s) = y_ldI lv 1 (fun v => y_w M_X3_began mc ms Q (18, lv, v :: st, ω, c, s)) := w_iload_n dX3_began_17 rfl rfl
theorem wX3_began_18 : y_w M_X3_began mc ms Q (18, lv, .int x :: .int j :: .ref a :: r, ω, c, s) = y_wI (ω.2 a) j x (fun e => y_w M_X3_began mc ms Q (19, lv, r, y_hup ω a e, c, s)) := w_iastore dX3_began_18 rfl
theorem wX3_began_19 : y_w M_X3_began mc ms Q (19, lv, st, ω, c, s) = y_ldA lv 0 (fun v => y_w M_X3_began mc ms Q (20, lv, v :: st, ω, c, s)) := w_aload_n dX3_began_19 rfl rfl
theorem wX3_began_20 : y_w M_X3_began mc ms Q (20, lv, v :: r, ω, c, s) = (v.category = 1 ∧ y_w M_X3_began mc ms Q (21, lv, v :: v :: r, ω, c, s)) := w_dup dX3_began_20 rfl
theorem wX3_began_21 : y_w M_X3_began mc ms Q (21, lv, .ref a :: r, ω, c, s) = y_gf P_X3_began 243 (ω.2 a) (fun v => y_w M_X3_began mc ms Q (24, lv, v :: r, ω, c, s)) := w_getfield dX3_began_21 rfl rfl
theorem wX3_began_24 : y_w M_X3_began mc ms Q (24, lv, st, ω, c, s) = y_w M_X3_began mc ms Q (25, lv, .int 1 :: st, ω, c, s) := w_iconst dX3_began_24 (v := 1) (by decide) rfl
theorem wX3_began_25 : y_w M_X3_began mc ms Q (25, lv, .int y :: .int x :: r, ω, c, s) = y_w M_X3_began mc ms Q (26, lv, .int (x + y) :: r, ω, c, s) := w_iadd dX3_began_25 rfl
theorem wX3_began_26 : y_w M_X3_began mc ms Q (26, lv, v :: .ref a :: r, ω, c, s) = y_pf P_X3_began false 243 (ω.2 a) v (fun ci fs => y_w M_X3_began mc ms Q (29, lv, r, y_hup ω a (.inr (ci, fs)), c, s)) := w_putfield dX3_began_26 rfl rfl rfl
theorem wX3_began_29 : y_w M_X3_began mc ms Q (29, lv, [], ω, c, s) = Q (.returned none) ω c s := w_return dX3_began_29 rfl
def P_X3_plainSize : y_Pool := ([], [], [], [(246, 1, 3, 2, (1, 21), F_X3_began), (181, 1, 3, 3, (1, 22), F_X3_of)], [], [], [])
def M_X3_plainSize : y_Md := (cX3_plainSize, "YoungerBackModel", (2, (some FieldType.int)), (1, 22), false, P_X3_plainSize, [])
def F_X3_plainSize : y_Tr := y_F M_X3_plainSize
theorem nX3_plainSize : y_nL M_X3_plainSize = 2 := rfl
theorem wX3_plainSize_0 : y_w M_X3_plainSize mc ms Q (0, lv, st, ω, c, s) = y_ldA lv 0 (fun v => y_w M_X3_plainSize mc ms Q (1, lv, v :: st, ω, c, s)) := w_aload_n dX3_plainSize_0 rfl rfl
theorem wX3_plainSize_1 : y_w M_X3_plainSize mc ms Q (1, lv, st, ω, c, s) = y_w M_X3_plainSize mc ms Q (3, lv, .int (nI 10) :: st, ω, c, s) := w_bipush dX3_plainSize_1 (v := (nI 10)) (by decide) rfl
theorem wX3_plainSize_3 (hc : y_cls ω a = some 3) : y_w M_X3_plainSize mc ms Q (3, lv, v1 :: .ref a :: r, ω, c, s) = (y_cat r ≤ 8 ∧ F_X3_began mc ms [.ref a, v1] ω c s (y_aft M_X3_plainSize 3 3 lv r (y_w M_X3_plainSize mc ms Q) Q)) := w_call1 (av := [v1]) (Or.inl ⟨⟨rfl, rfl⟩, rfl⟩) dX3_plainSize_3 rfl hc rfl (y_F_mono _) (y_dle rfl) (y_dle rfl) rfl rfl
theorem wX3_plainSize_6 : y_w M_X3_plainSize mc ms Q (6, lv, st, ω, c, s) = y_ldA lv 0 (fun v => y_w M_X3_plainSize mc ms Q (7, lv, v :: st, ω, c, s)) := w_aload_n dX3_plainSize_6 rfl rfl
theorem wX3_plainSize_7 : y_w M_X3_plainSize mc ms Q (7, lv, st, ω, c, s) = y_ldI lv 1 (fun v => y_w M_X3_plainSize mc ms Q (8, lv, v :: st, ω, c, s)) := w_iload_n dX3_plainSize_7 rfl rfl
theorem wX3_plainSize_8 : y_w M_X3_plainSize mc ms Q (8, lv, st, ω, c, s) = y_w M_X3_plainSize mc ms Q (9, lv, .int (nI 4) :: st, ω, c, s) := w_iconst dX3_plainSize_8 (v := (nI 4)) (by decide) rfl
theorem wX3_plainSize_9 (hc : y_cls ω a = some 3) : y_w M_X3_plainSize mc ms Q (9, lv, v2 :: v1 :: .ref a :: r, ω, c, s) = (y_cat r ≤ 8 ∧ F_X3_of mc ms [.ref a, v1, v2] ω c s (y_aft M_X3_plainSize 9 3 lv r (y_w M_X3_plainSize mc ms Q) Q)) := w_call1 (av := [v1, v2]) (Or.inl ⟨⟨rfl, rfl⟩, rfl⟩) dX3_plainSize_9 rfl hc rfl (y_F_mono _) (y_dle rfl) (y_dle rfl) rfl rfl
theorem wX3_plainSize_12 : y_w M_X3_plainSize mc ms Q (12, lv, [.int x], ω, c, s) = Q (.returned (some (.int x))) ω c s := w_ireturnI dX3_plainSize_12 rfl
def P_X3_clerkSize : y_Pool := ([], [], [], [(181, 1, 3, 3, (1, 22), F_X3_of), (246, 1, 3, 2, (1, 21), F_X3_began), (249, 1, 3, 2, (2, 43), F_X3_plainSize)], [], [], [])
def M_X3_clerkSize : y_Md := (cX3_clerkSize, "YoungerBackModel", (3, (some FieldType.int)), (2, 43), false, P_X3_clerkSize, [])
def F_X3_clerkSize : y_Tr := y_F M_X3_clerkSize
theorem nX3_clerkSize : y_nL M_X3_clerkSize = 3 := rfl
theorem wX3_clerkSize_0 : y_w M_X3_clerkSize mc ms Q (0, lv, st, ω, c, s) = y_ldA lv 0 (fun v => y_w M_X3_clerkSize mc ms Q (1, lv, v :: st, ω, c, s)) := w_aload_n dX3_clerkSize_0 rfl rfl
theorem wX3_clerkSize_1 : y_w M_X3_clerkSize mc ms Q (1, lv, st, ω, c, s) = y_ldI lv 1 (fun v => y_w M_X3_clerkSize mc ms Q (2, lv, v :: st, ω, c, s)) := w_iload_n dX3_clerkSize_1 rfl rfl
theorem wX3_clerkSize_2 : y_w M_X3_clerkSize mc ms Q (2, lv, st, ω, c, s) = y_w M_X3_clerkSize mc ms Q (3, lv, .int 0 :: st, ω, c, s) := w_iconst dX3_clerkSize_2 (v := 0) (by decide) rfl
theorem wX3_clerkSize_3 (hc : y_cls ω a = some 3) : y_w M_X3_clerkSize mc ms Q (3, lv, v2 :: v1 :: .ref a :: r, ω, c, s) = (y_cat r ≤ 8 ∧ F_X3_of mc ms [.ref a, v1, v2] ω c s (y_aft M_X3_clerkSize 3 3 lv r (y_w M_X3_clerkSize mc ms Q) Q)) := w_call1 (av := [v1, v2]) (Or.inl ⟨⟨rfl, rfl⟩, rfl⟩) dX3_clerkSize_3 rfl hc rfl (y_F_mono _) (y_dle rfl) (y_dle rfl) rfl rfl
theorem wX3_clerkSize_6 : y_w M_X3_clerkSize mc ms Q (6, lv, st, ω, c, s) = y_w M_X3_clerkSize mc ms Q (7, lv, .int (nI 5) :: st, ω, c, s) := w_iconst dX3_clerkSize_6 (v := (nI 5)) (by decide) rfl
theorem wX3_clerkSize_7 : y_w M_X3_clerkSize mc ms Q (7, lv, .int y :: .int x :: r, ω, c, s) = ((¬ x = y → y_w M_X3_clerkSize mc ms Q (16, lv, r, ω, c, s)) ∧ (¬ (¬ x = y) → y_w M_X3_clerkSize mc ms Q (10, lv, r, ω, c, s))) := w_icmp dX3_clerkSize_7 (tgt := 16) rfl rfl rfl
theorem wX3_clerkSize_10 : y_w M_X3_clerkSize mc ms Q (10, lv, st, ω, c, s) = y_ldA lv 0 (fun v => y_w M_X3_clerkSize mc ms Q (11, lv, v :: st, ω, c, s)) := w_aload_n dX3_clerkSize_10 rfl rfl
theorem wX3_clerkSize_11 : y_w M_X3_clerkSize mc ms Q (11, lv, st, ω, c, s) = y_w M_X3_clerkSize mc ms Q (13, lv, .int (nI 14) :: st, ω, c, s) := w_bipush dX3_clerkSize_11 (v := (nI 14)) (by decide) rfl
theorem wX3_clerkSize_13 (hc : y_cls ω a = some 3) : y_w M_X3_clerkSize mc ms Q (13, lv, v1 :: .ref a :: r, ω, c, s) = (y_cat r ≤ 8 ∧ F_X3_began mc ms [.ref a, v1] ω c s (y_aft M_X3_clerkSize 13 3 lv r (y_w M_X3_clerkSize mc ms Q) Q)) := w_call1 (av := [v1]) (Or.inl ⟨⟨rfl, rfl⟩, rfl⟩) dX3_clerkSize_13 rfl hc rfl (y_F_mono _) (y_dle rfl) (y_dle rfl) rfl rfl
theorem wX3_clerkSize_16 : y_w M_X3_clerkSize mc ms Q (16, lv, st, ω, c, s) = y_ldA lv 0 (fun v => y_w M_X3_clerkSize mc ms Q (17, lv, v :: st, ω, c, s)) := w_aload_n dX3_clerkSize_16 rfl rfl
theorem wX3_clerkSize_17 : y_w M_X3_clerkSize mc ms Q (17, lv, st, ω, c, s) = y_w M_X3_clerkSize mc ms Q (19, lv, .int (nI 13) :: st, ω, c, s) := w_bipush dX3_clerkSize_17 (v := (nI 13)) (by decide) rfl
theorem wX3_clerkSize_19 (hc : y_cls ω a = some 3) : y_w M_X3_clerkSize mc ms Q (19, lv, v1 :: .ref a :: r, ω, c, s) = (y_cat r ≤ 8 ∧ F_X3_began mc ms [.ref a, v1] ω c s (y_aft M_X3_clerkSize 19 3 lv r (y_w M_X3_clerkSize mc ms Q) Q)) := w_call1 (av := [v1]) (Or.inl ⟨⟨rfl, rfl⟩, rfl⟩) dX3_clerkSize_19 rfl hc rfl (y_F_mono _) (y_dle rfl) (y_dle rfl) rfl rfl
theorem wX3_clerkSize_22 : y_w M_X3_clerkSize mc ms Q (22, lv, st, ω, c, s) = y_ldA lv 0 (fun v => y_w M_X3_clerkSize mc ms Q (23, lv, v :: st, ω, c, s)) := w_aload_n dX3_clerkSize_22 rfl rfl
theorem wX3_clerkSize_23 : y_w M_X3_clerkSize mc ms Q (23, lv, st, ω, c, s) = y_ldI lv 1 (fun v => y_w M_X3_clerkSize mc ms Q (24, lv, v :: st, ω, c, s)) := w_iload_n dX3_clerkSize_23 rfl rfl
theorem wX3_clerkSize_24 (hc : y_cls ω a = some 3) : y_w M_X3_clerkSize mc ms Q (24, lv, v1 :: .ref a :: r, ω, c, s) = (y_cat r ≤ 8 ∧ F_X3_plainSize mc ms [.ref a, v1] ω c s (y_aft M_X3_clerkSize 24 3 lv r (y_w M_X3_clerkSize mc ms Q) Q)) := w_call1 (av := [v1]) (Or.inl ⟨⟨rfl, rfl⟩, rfl⟩) dX3_clerkSize_24 rfl hc rfl (y_F_mono _) (y_dle rfl) (y_dle rfl) rfl rfl
theorem wX3_clerkSize_27 : y_w M_X3_clerkSize mc ms Q (27, lv, st, ω, c, s) = y_w M_X3_clerkSize mc ms Q (29, lv, .int (nI 100) :: st, ω, c, s) := w_bipush dX3_clerkSize_27 (v := (nI 100)) (by decide) rfl
theorem wX3_clerkSize_29 : y_w M_X3_clerkSize mc ms Q (29, lv, .int y :: .int x :: r, ω, c, s) = y_w M_X3_clerkSize mc ms Q (30, lv, .int (x - y) :: r, ω, c, s) := w_isub dX3_clerkSize_29 rfl
theorem wX3_clerkSize_30 : y_w M_X3_clerkSize mc ms Q (30, lv, .int x :: r, ω, c, s) = y_w M_X3_clerkSize mc ms Q (31, (2, .int x) :: y_kill 2 lv, r, ω, c, s) := w_istore_n dX3_clerkSize_30 rfl (y_dle rfl) rfl
theorem wX3_clerkSize_31 : y_w M_X3_clerkSize mc ms Q (31, lv, st, ω, c, s) = y_ldA lv 0 (fun v => y_w M_X3_clerkSize mc ms Q (32, lv, v :: st, ω, c, s)) := w_aload_n dX3_clerkSize_31 rfl rfl
theorem wX3_clerkSize_32 : y_w M_X3_clerkSize mc ms Q (32, lv, st, ω, c, s) = y_ldI lv 1 (fun v => y_w M_X3_clerkSize mc ms Q (33, lv, v :: st, ω, c, s)) := w_iload_n dX3_clerkSize_32 rfl rfl
theorem wX3_clerkSize_33 : y_w M_X3_clerkSize mc ms Q (33, lv, st, ω, c, s) = y_w M_X3_clerkSize mc ms Q (34, lv, .int 0 :: st, ω, c, s) := w_iconst dX3_clerkSize_33 (v := 0) (by decide) rfl
theorem wX3_clerkSize_34 (hc : y_cls ω a = some 3) : y_w M_X3_clerkSize mc ms Q (34, lv, v2 :: v1 :: .ref a :: r, ω, c, s) = (y_cat r ≤ 8 ∧ F_X3_of mc ms [.ref a, v1, v2] ω c s (y_aft M_X3_clerkSize 34 3 lv r (y_w M_X3_clerkSize mc ms Q) Q)) := w_call1 (av := [v1, v2]) (Or.inl ⟨⟨rfl, rfl⟩, rfl⟩) dX3_clerkSize_34 rfl hc rfl (y_F_mono _) (y_dle rfl) (y_dle rfl) rfl rfl
theorem wX3_clerkSize_37 : y_w M_X3_clerkSize mc ms Q (37, lv, st, ω, c, s) = y_w M_X3_clerkSize mc ms Q (38, lv, .int (nI 5) :: st, ω, c, s) := w_iconst dX3_clerkSize_37 (v := (nI 5)) (by decide) rfl
theorem wX3_clerkSize_38 : y_w M_X3_clerkSize mc ms Q (38, lv, .int y :: .int x :: r, ω, c, s) = ((¬ x = y → y_w M_X3_clerkSize mc ms Q (47, lv, r, ω, c, s)) ∧ (¬ (¬ x = y) → y_w M_X3_clerkSize mc ms Q (41, lv, r, ω, c, s))) := w_icmp dX3_clerkSize_38 (tgt := 47) rfl rfl rfl
theorem wX3_clerkSize_41 : y_w M_X3_clerkSize mc ms Q (41, lv, st, ω, c, s) = y_w M_X3_clerkSize mc ms Q (42, lv, .int (nI 2) :: st, ω, c, s) := w_iconst dX3_clerkSize_41 (v := (nI 2)) (by decide) rfl
theorem wX3_clerkSize_42 : y_w M_X3_clerkSize mc ms Q (42, lv, st, ω, c, s) = y_ldI lv 2 (fun v => y_w M_X3_clerkSize mc ms Q (43, lv, v :: st, ω, c, s)) := w_iload_n dX3_clerkSize_42 rfl rfl
theorem wX3_clerkSize_43 : y_w M_X3_clerkSize mc ms Q (43, lv, .int y :: .int x :: r, ω, c, s) = y_w M_X3_clerkSize mc ms Q (44, lv, .int (x * y) :: r, ω, c, s) := w_imul dX3_clerkSize_43 rfl
theorem wX3_clerkSize_44 : y_w M_X3_clerkSize mc ms Q (44, lv, st, ω, c, s) = y_w M_X3_clerkSize mc ms Q (48, lv, st, ω, c, s) := w_goto dX3_clerkSize_44 (tgt := 48) (by decide) rfl
theorem wX3_clerkSize_47 : y_w M_X3_clerkSize mc ms Q (47, lv, st, ω, c, s) = y_ldI lv 2 (fun v => y_w M_X3_clerkSize mc ms Q (48, lv, v :: st, ω, c, s)) := w_iload_n dX3_clerkSize_47 rfl rfl
theorem wX3_clerkSize_48 : y_w M_X3_clerkSize mc ms Q (48, lv, [.int x], ω, c, s) = Q (.returned (some (.int x))) ω c s := w_ireturnI dX3_clerkSize_48 rfl
def P_X3_markOf : y_Pool := ([], [], [], [(181, 1, 3, 3, (1, 22), F_X3_of), (246, 1, 3, 2, (1, 21), F_X3_began), (252, 1, 3, 2, (3, 65), F_X3_clerkSize)], [], [], [])
def M_X3_markOf : y_Md := (cX3_markOf, "YoungerBackModel", (4, (some FieldType.int)), (3, 65), false, P_X3_markOf, [])
def F_X3_markOf : y_Tr := y_F M_X3_markOf
theorem nX3_markOf : y_nL M_X3_markOf = 4 := rfl
theorem wX3_markOf_0 : y_w M_X3_markOf mc ms Q (0, lv, st, ω, c, s) = y_ldA lv 0 (fun v => y_w M_X3_markOf mc ms Q (1, lv, v :: st, ω, c, s)) := w_aload_n dX3_markOf_0 rfl rfl
theorem wX3_markOf_1 : y_w M_X3_markOf mc ms Q (1, lv, st, ω, c, s) = y_ldI lv 1 (fun v => y_w M_X3_markOf mc ms Q (2, lv, v :: st, ω, c, s)) := w_iload_n dX3_markOf_1 rfl rfl
theorem wX3_markOf_2 : y_w M_X3_markOf mc ms Q (2, lv, st, ω, c, s) = y_w M_X3_markOf mc ms Q (3, lv, .int 0 :: st, ω, c, s) := w_iconst dX3_markOf_2 (v := 0) (by decide) rfl
theorem wX3_markOf_3 (hc : y_cls ω a = some 3) : y_w M_X3_markOf mc ms Q (3, lv, v2 :: v1 :: .ref a :: r, ω, c, s) = (y_cat r ≤ 8 ∧ F_X3_of mc ms [.ref a, v1, v2] ω c s (y_aft M_X3_markOf 3 3 lv r (y_w M_X3_markOf mc ms Q) Q)) := w_call1 (av := [v1, v2]) (Or.inl ⟨⟨rfl, rfl⟩, rfl⟩) dX3_markOf_3 rfl hc rfl (y_F_mono _) (y_dle rfl) (y_dle rfl) rfl rfl
theorem wX3_markOf_6 : y_w M_X3_markOf mc ms Q (6, lv, .int x :: r, ω, c, s) = y_w M_X3_markOf mc ms Q (7, (2, .int x) :: y_kill 2 lv, r, ω, c, s) := w_istore_n dX3_markOf_6 rfl (y_dle rfl) rfl
theorem wX3_markOf_7 : y_w M_X3_markOf mc ms Q (7, lv, st, ω, c, s) = y_ldI lv 2 (fun v => y_w M_X3_markOf mc ms Q (8, lv, v :: st, ω, c, s)) := w_iload_n dX3_markOf_7 rfl rfl
theorem wX3_markOf_8 : y_w M_X3_markOf mc ms Q (8, lv, st, ω, c, s) = y_w M_X3_markOf mc ms Q (9, lv, .int (nI 4) :: st, ω, c, s) := w_iconst dX3_markOf_8 (v := (nI 4)) (by decide) rfl
theorem wX3_markOf_9 : y_w M_X3_markOf mc ms Q (9, lv, .int y :: .int x :: r, ω, c, s) = ((x < y → y_w M_X3_markOf mc ms Q (32, lv, r, ω, c, s)) ∧ (¬ (x < y) → y_w M_X3_markOf mc ms Q (12, lv, r, ω, c, s))) := w_icmp dX3_markOf_9 (tgt := 32) rfl rfl rfl
theorem wX3_markOf_12 : y_w M_X3_markOf mc ms Q (12, lv, st, ω, c, s) = y_ldA lv 0 (fun v => y_w M_X3_markOf mc ms Q (13, lv, v :: st, ω, c, s)) := w_aload_n dX3_markOf_12 rfl rfl
theorem wX3_markOf_13 : y_w M_X3_markOf mc ms Q (13, lv, st, ω, c, s) = y_w M_X3_markOf mc ms Q (15, lv, .int (nI 23) :: st, ω, c, s) := w_bipush dX3_markOf_13 (v := (nI 23)) (by decide) rfl
theorem wX3_markOf_15 (hc : y_cls ω a = some 3) : y_w M_X3_markOf mc ms Q (15, lv, v1 :: .ref a :: r, ω, c, s) = (y_cat r ≤ 8 ∧ F_X3_began mc ms [.ref a, v1] ω c s (y_aft M_X3_markOf 15 3 lv r (y_w M_X3_markOf mc ms Q) Q)) := w_call1 (av := [v1]) (Or.inl ⟨⟨rfl, rfl⟩, rfl⟩) dX3_markOf_15 rfl hc rfl (y_F_mono _) (y_dle rfl) (y_dle rfl) rfl rfl
theorem wX3_markOf_18 : y_w M_X3_markOf mc ms Q (18, lv, st, ω, c, s) = y_ldA lv 0 (fun v => y_w M_X3_markOf mc ms Q (19, lv, v :: st, ω, c, s)) := w_aload_n dX3_markOf_18 rfl rfl
theorem wX3_markOf_19 : y_w M_X3_markOf mc ms Q (19, lv, st, ω, c, s) = y_w M_X3_markOf mc ms Q (21, lv, .int (nI 20) :: st, ω, c, s) := w_bipush dX3_markOf_19 (v := (nI 20)) (by decide) rfl
theorem wX3_markOf_21 (hc : y_cls ω a = some 3) : y_w M_X3_markOf mc ms Q (21, lv, v1 :: .ref a :: r, ω, c, s) = (y_cat r ≤ 8 ∧ F_X3_began mc ms [.ref a, v1] ω c s (y_aft M_X3_markOf 21 3 lv r (y_w M_X3_markOf mc ms Q) Q)) := w_call1 (av := [v1]) (Or.inl ⟨⟨rfl, rfl⟩, rfl⟩) dX3_markOf_21 rfl hc rfl (y_F_mono _) (y_dle rfl) (y_dle rfl) rfl rfl
theorem wX3_markOf_24 : y_w M_X3_markOf mc ms Q (24, lv, st, ω, c, s) = y_ldI lv 1 (fun v => y_w M_X3_markOf mc ms Q (25, lv, v :: st, ω, c, s)) := w_iload_n dX3_markOf_24 rfl rfl
theorem wX3_markOf_25 : y_w M_X3_markOf mc ms Q (25, lv, st, ω, c, s) = y_ldA lv 0 (fun v => y_w M_X3_markOf mc ms Q (26, lv, v :: st, ω, c, s)) := w_aload_n dX3_markOf_25 rfl rfl
theorem wX3_markOf_26 : y_w M_X3_markOf mc ms Q (26, lv, st, ω, c, s) = y_ldI lv 1 (fun v => y_w M_X3_markOf mc ms Q (27, lv, v :: st, ω, c, s)) := w_iload_n dX3_markOf_26 rfl rfl
theorem wX3_markOf_27 (hc : y_cls ω a = some 3) : y_w M_X3_markOf mc ms Q (27, lv, v1 :: .ref a :: r, ω, c, s) = (y_cat r ≤ 8 ∧ F_X3_clerkSize mc ms [.ref a, v1] ω c s (y_aft M_X3_markOf 27 3 lv r (y_w M_X3_markOf mc ms Q) Q)) := w_call1 (av := [v1]) (Or.inl ⟨⟨rfl, rfl⟩, rfl⟩) dX3_markOf_27 rfl hc rfl (y_F_mono _) (y_dle rfl) (y_dle rfl) rfl rfl
theorem wX3_markOf_30 : y_w M_X3_markOf mc ms Q (30, lv, .int y :: .int x :: r, ω, c, s) = y_w M_X3_markOf mc ms Q (31, lv, .int (x - y) :: r, ω, c, s) := w_isub dX3_markOf_30 rfl
theorem wX3_markOf_31 : y_w M_X3_markOf mc ms Q (31, lv, [.int x], ω, c, s) = Q (.returned (some (.int x))) ω c s := w_ireturnI dX3_markOf_31 rfl
theorem wX3_markOf_32 : y_w M_X3_markOf mc ms Q (32, lv, st, ω, c, s) = y_ldI lv 2 (fun v => y_w M_X3_markOf mc ms Q (33, lv, v :: st, ω, c, s)) := w_iload_n dX3_markOf_32 rfl rfl
theorem wX3_markOf_33 : y_w M_X3_markOf mc ms Q (33, lv, st, ω, c, s) = y_w M_X3_markOf mc ms Q (34, lv, .int 1 :: st, ω, c, s) := w_iconst dX3_markOf_33 (v := 1) (by decide) rfl
theorem wX3_markOf_34 : y_w M_X3_markOf mc ms Q (34, lv, .int y :: .int x :: r, ω, c, s) = ((x = y → y_w M_X3_markOf mc ms Q (53, lv, r, ω, c, s)) ∧ (¬ (x = y) → y_w M_X3_markOf mc ms Q (37, lv, r, ω, c, s))) := w_icmp dX3_markOf_34 (tgt := 53) rfl rfl rfl
theorem wX3_markOf_37 : y_w M_X3_markOf mc ms Q (37, lv, st, ω, c, s) = y_ldA lv 0 (fun v => y_w M_X3_markOf mc ms Q (38, lv, v :: st, ω, c, s)) := w_aload_n dX3_markOf_37 rfl rfl
theorem wX3_markOf_38 : y_w M_X3_markOf mc ms Q (38, lv, st, ω, c, s) = y_ldI lv 2 (fun v => y_w M_X3_markOf mc ms Q (39, lv, v :: st, ω, c, s)) := w_iload_n dX3_markOf_38 rfl rfl
theorem wX3_markOf_39 : y_w M_X3_markOf mc ms Q (39, lv, st, ω, c, s) = y_w M_X3_markOf mc ms Q (40, lv, .int (nI 3) :: st, ω, c, s) := w_iconst dX3_markOf_39 (v := (nI 3)) (by decide) rfl
theorem wX3_markOf_40 : y_w M_X3_markOf mc ms Q (40, lv, .int y :: .int x :: r, ω, c, s) = ((¬ x = y → y_w M_X3_markOf mc ms Q (48, lv, r, ω, c, s)) ∧ (¬ (¬ x = y) → y_w M_X3_markOf mc ms Q (43, lv, r, ω, c, s))) := w_icmp dX3_markOf_40 (tgt := 48) rfl rfl rfl
theorem wX3_markOf_43 : y_w M_X3_markOf mc ms Q (43, lv, st, ω, c, s) = y_w M_X3_markOf mc ms Q (45, lv, .int (nI 22) :: st, ω, c, s) := w_bipush dX3_markOf_43 (v := (nI 22)) (by decide) rfl
theorem wX3_markOf_45 : y_w M_X3_markOf mc ms Q (45, lv, st, ω, c, s) = y_w M_X3_markOf mc ms Q (50, lv, st, ω, c, s) := w_goto dX3_markOf_45 (tgt := 50) (by decide) rfl
theorem wX3_markOf_48 : y_w M_X3_markOf mc ms Q (48, lv, st, ω, c, s) = y_w M_X3_markOf mc ms Q (50, lv, .int (nI 24) :: st, ω, c, s) := w_bipush dX3_markOf_48 (v := (nI 24)) (by decide) rfl
theorem wX3_markOf_50 (hc : y_cls ω a = some 3) : y_w M_X3_markOf mc ms Q (50, lv, v1 :: .ref a :: r, ω, c, s) = (y_cat r ≤ 8 ∧ F_X3_began mc ms [.ref a, v1] ω c s (y_aft M_X3_markOf 50 3 lv r (y_w M_X3_markOf mc ms Q) Q)) := w_call1 (av := [v1]) (Or.inl ⟨⟨rfl, rfl⟩, rfl⟩) dX3_markOf_50 rfl hc rfl (y_F_mono _) (y_dle rfl) (y_dle rfl) rfl rfl
theorem wX3_markOf_53 : y_w M_X3_markOf mc ms Q (53, lv, st, ω, c, s) = y_ldA lv 0 (fun v => y_w M_X3_markOf mc ms Q (54, lv, v :: st, ω, c, s)) := w_aload_n dX3_markOf_53 rfl rfl
theorem wX3_markOf_54 : y_w M_X3_markOf mc ms Q (54, lv, st, ω, c, s) = y_w M_X3_markOf mc ms Q (56, lv, .int (nI 21) :: st, ω, c, s) := w_bipush dX3_markOf_54 (v := (nI 21)) (by decide) rfl
theorem wX3_markOf_56 (hc : y_cls ω a = some 3) : y_w M_X3_markOf mc ms Q (56, lv, v1 :: .ref a :: r, ω, c, s) = (y_cat r ≤ 8 ∧ F_X3_began mc ms [.ref a, v1] ω c s (y_aft M_X3_markOf 56 3 lv r (y_w M_X3_markOf mc ms Q) Q)) := w_call1 (av := [v1]) (Or.inl ⟨⟨rfl, rfl⟩, rfl⟩) dX3_markOf_56 rfl hc rfl (y_F_mono _) (y_dle rfl) (y_dle rfl) rfl rfl
theorem wX3_markOf_59 : y_w M_X3_markOf mc ms Q (59, lv, st, ω, c, s) = y_ldA lv 0 (fun v => y_w M_X3_markOf mc ms Q (60, lv, v :: st, ω, c, s)) := w_aload_n dX3_markOf_59 rfl rfl
theorem wX3_markOf_60 : y_w M_X3_markOf mc ms Q (60, lv, st, ω, c, s) = y_w M_X3_markOf mc ms Q (62, lv, .int (nI 20) :: st, ω, c, s) := w_bipush dX3_markOf_60 (v := (nI 20)) (by decide) rfl
theorem wX3_markOf_62 (hc : y_cls ω a = some 3) : y_w M_X3_markOf mc ms Q (62, lv, v1 :: .ref a :: r, ω, c, s) = (y_cat r ≤ 8 ∧ F_X3_began mc ms [.ref a, v1] ω c s (y_aft M_X3_markOf 62 3 lv r (y_w M_X3_markOf mc ms Q) Q)) := w_call1 (av := [v1]) (Or.inl ⟨⟨rfl, rfl⟩, rfl⟩) dX3_markOf_62 rfl hc rfl (y_F_mono _) (y_dle rfl) (y_dle rfl) rfl rfl
theorem wX3_markOf_65 : y_w M_X3_markOf mc ms Q (65, lv, st, ω, c, s) = y_ldI lv 1 (fun v => y_w M_X3_markOf mc ms Q (66, lv, v :: st, ω, c, s)) := w_iload_n dX3_markOf_65 rfl rfl
theorem wX3_markOf_66 : y_w M_X3_markOf mc ms Q (66, lv, st, ω, c, s) = y_ldA lv 0 (fun v => y_w M_X3_markOf mc ms Q (67, lv, v :: st, ω, c, s)) := w_aload_n dX3_markOf_66 rfl rfl
theorem wX3_markOf_67 : y_w M_X3_markOf mc ms Q (67, lv, st, ω, c, s) = y_ldI lv 1 (fun v => y_w M_X3_markOf mc ms Q (68, lv, v :: st, ω, c, s)) := w_iload_n dX3_markOf_67 rfl rfl
theorem wX3_markOf_68 : y_w M_X3_markOf mc ms Q (68, lv, st, ω, c, s) = y_w M_X3_markOf mc ms Q (69, lv, .int 1 :: st, ω, c, s) := w_iconst dX3_markOf_68 (v := 1) (by decide) rfl
theorem wX3_markOf_69 (hc : y_cls ω a = some 3) : y_w M_X3_markOf mc ms Q (69, lv, v2 :: v1 :: .ref a :: r, ω, c, s) = (y_cat r ≤ 8 ∧ F_X3_of mc ms [.ref a, v1, v2] ω c s (y_aft M_X3_markOf 69 3 lv r (y_w M_X3_markOf mc ms Q) Q)) := w_call1 (av := [v1, v2]) (Or.inl ⟨⟨rfl, rfl⟩, rfl⟩) dX3_markOf_69 rfl hc rfl (y_F_mono _) (y_dle rfl) (y_dle rfl) rfl rfl
theorem wX3_markOf_72 : y_w M_X3_markOf mc ms Q (72, lv, .int y :: .int x :: r, ω, c, s) = y_w M_X3_markOf mc ms Q (73, lv, .int (x + y) :: r, ω, c, s) := w_iadd dX3_markOf_72 rfl
theorem wX3_markOf_73 : y_w M_X3_markOf mc ms Q (73, lv, .int x :: r, ω, c, s) = y_w M_X3_markOf mc ms Q (74, (3, .int x) :: y_kill 3 lv, r, ω, c, s) := w_istore_n dX3_markOf_73 rfl (y_dle rfl) rfl
theorem wX3_markOf_74 : y_w M_X3_markOf mc ms Q (74, lv, st, ω, c, s) = y_ldI lv 2 (fun v => y_w M_X3_markOf mc ms Q (75, lv, v :: st, ω, c, s)) := w_iload_n dX3_markOf_74 rfl rfl
theorem wX3_markOf_75 : y_w M_X3_markOf mc ms Q (75, lv, st, ω, c, s) = y_w M_X3_markOf mc ms Q (76, lv, .int 1 :: st, ω, c, s) := w_iconst dX3_markOf_75 (v := 1) (by decide) rfl
theorem wX3_markOf_76 : y_w M_X3_markOf mc ms Q (76, lv, .int y :: .int x :: r, ω, c, s) = ((¬ x = y → y_w M_X3_markOf mc ms Q (83, lv, r, ω, c, s)) ∧ (¬ (¬ x = y) → y_w M_X3_markOf mc ms Q (79, lv, r, ω, c, s))) := w_icmp dX3_markOf_76 (tgt := 83) rfl rfl rfl
theorem wX3_markOf_79 : y_w M_X3_markOf mc ms Q (79, lv, st, ω, c, s) = y_ldI lv 3 (fun v => y_w M_X3_markOf mc ms Q (80, lv, v :: st, ω, c, s)) := w_iload_n dX3_markOf_79 rfl rfl
theorem wX3_markOf_80 : y_w M_X3_markOf mc ms Q (80, lv, st, ω, c, s) = y_w M_X3_markOf mc ms Q (99, lv, st, ω, c, s) := w_goto dX3_markOf_80 (tgt := 99) (by decide) rfl
theorem wX3_markOf_83 : y_w M_X3_markOf mc ms Q (83, lv, st, ω, c, s) = y_ldI lv 2 (fun v => y_w M_X3_markOf mc ms Q (84, lv, v :: st, ω, c, s)) := w_iload_n dX3_markOf_83 rfl rfl
theorem wX3_markOf_84 : y_w M_X3_markOf mc ms Q (84, lv, st, ω, c, s) = y_w M_X3_markOf mc ms Q (85, lv, .int (nI 3) :: st, ω, c, s) := w_iconst dX3_markOf_84 (v := (nI 3)) (by decide) rfl
theorem wX3_markOf_85 : y_w M_X3_markOf mc ms Q (85, lv, .int y :: .int x :: r, ω, c, s) = ((¬ x = y → y_w M_X3_markOf mc ms Q (96, lv, r, ω, c, s)) ∧ (¬ (¬ x = y) → y_w M_X3_markOf mc ms Q (88, lv, r, ω, c, s))) := w_icmp dX3_markOf_85 (tgt := 96) rfl rfl rfl
theorem wX3_markOf_88 : y_w M_X3_markOf mc ms Q (88, lv, st, ω, c, s) = y_ldI lv 3 (fun v => y_w M_X3_markOf mc ms Q (89, lv, v :: st, ω, c, s)) := w_iload_n dX3_markOf_88 rfl rfl
theorem wX3_markOf_89 : y_w M_X3_markOf mc ms Q (89, lv, st, ω, c, s) = y_w M_X3_markOf mc ms Q (92, lv, .int (nI 1000) :: st, ω, c, s) := w_sipush dX3_markOf_89 (v := (nI 1000)) (by decide) rfl
theorem wX3_markOf_92 : y_w M_X3_markOf mc ms Q (92, lv, .int y :: .int x :: r, ω, c, s) = y_w M_X3_markOf mc ms Q (93, lv, .int (x - y) :: r, ω, c, s) := w_isub dX3_markOf_92 rfl
theorem wX3_markOf_93 : y_w M_X3_markOf mc ms Q (93, lv, st, ω, c, s) = y_w M_X3_markOf mc ms Q (99, lv, st, ω, c, s) := w_goto dX3_markOf_93 (tgt := 99) (by decide) rfl
theorem wX3_markOf_96 : y_w M_X3_markOf mc ms Q (96, lv, st, ω, c, s) = y_w M_X3_markOf mc ms Q (97, lv, .int (nI 2) :: st, ω, c, s) := w_iconst dX3_markOf_96 (v := (nI 2)) (by decide) rfl
theorem wX3_markOf_97 : y_w M_X3_markOf mc ms Q (97, lv, st, ω, c, s) = y_ldI lv 3 (fun v => y_w M_X3_markOf mc ms Q (98, lv, v :: st, ω, c, s)) := w_iload_n dX3_markOf_97 rfl rfl
theorem wX3_markOf_98 : y_w M_X3_markOf mc ms Q (98, lv, .int y :: .int x :: r, ω, c, s) = y_w M_X3_markOf mc ms Q (99, lv, .int (x * y) :: r, ω, c, s) := w_imul dX3_markOf_98 rfl
theorem wX3_markOf_99 : y_w M_X3_markOf mc ms Q (99, lv, [.int x], ω, c, s) = Q (.returned (some (.int x))) ω c s := w_ireturnI dX3_markOf_99 rfl
def P_X3_sizeOf : y_Pool := ([], [], [], [(181, 1, 3, 3, (1, 22), F_X3_of), (252, 1, 3, 2, (3, 65), F_X3_clerkSize), (246, 1, 3, 2, (1, 21), F_X3_began), (249, 1, 3, 2, (2, 43), F_X3_plainSize), (255, 1, 3, 2, (4, 88), F_X3_markOf)], [], [], [])
def M_X3_sizeOf : y_Md := (cX3_sizeOf, "YoungerBackModel", (4, (some FieldType.int)), (4, 88), false, P_X3_sizeOf, [])
def F_X3_sizeOf : y_Tr := y_F M_X3_sizeOf
theorem nX3_sizeOf : y_nL M_X3_sizeOf = 4 := rfl
theorem wX3_sizeOf_0 : y_w M_X3_sizeOf mc ms Q (0, lv, st, ω, c, s) = y_ldA lv 0 (fun v => y_w M_X3_sizeOf mc ms Q (1, lv, v :: st, ω, c, s)) := w_aload_n dX3_sizeOf_0 rfl rfl
theorem wX3_sizeOf_1 : y_w M_X3_sizeOf mc ms Q (1, lv, st, ω, c, s) = y_ldI lv 1 (fun v => y_w M_X3_sizeOf mc ms Q (2, lv, v :: st, ω, c, s)) := w_iload_n dX3_sizeOf_1 rfl rfl
theorem wX3_sizeOf_2 : y_w M_X3_sizeOf mc ms Q (2, lv, st, ω, c, s) = y_w M_X3_sizeOf mc ms Q (3, lv, .int 0 :: st, ω, c, s) := w_iconst dX3_sizeOf_2 (v := 0) (by decide) rfl
theorem wX3_sizeOf_3 (hc : y_cls ω a = some 3) : y_w M_X3_sizeOf mc ms Q (3, lv, v2 :: v1 :: .ref a :: r, ω, c, s) = (y_cat r ≤ 8 ∧ F_X3_of mc ms [.ref a, v1, v2] ω c s (y_aft M_X3_sizeOf 3 3 lv r (y_w M_X3_sizeOf mc ms Q) Q)) := w_call1 (av := [v1, v2]) (Or.inl ⟨⟨rfl, rfl⟩, rfl⟩) dX3_sizeOf_3 rfl hc rfl (y_F_mono _) (y_dle rfl) (y_dle rfl) rfl rfl
theorem wX3_sizeOf_6 : y_w M_X3_sizeOf mc ms Q (6, lv, .int x :: r, ω, c, s) = y_w M_X3_sizeOf mc ms Q (7, (2, .int x) :: y_kill 2 lv, r, ω, c, s) := w_istore_n dX3_sizeOf_6 rfl (y_dle rfl) rfl
theorem wX3_sizeOf_7 : y_w M_X3_sizeOf mc ms Q (7, lv, st, ω, c, s) = y_ldI lv 2 (fun v => y_w M_X3_sizeOf mc ms Q (8, lv, v :: st, ω, c, s)) := w_iload_n dX3_sizeOf_7 rfl rfl
theorem wX3_sizeOf_8 : y_w M_X3_sizeOf mc ms Q (8, lv, st, ω, c, s) = y_w M_X3_sizeOf mc ms Q (9, lv, .int (nI 4) :: st, ω, c, s) := w_iconst dX3_sizeOf_8 (v := (nI 4)) (by decide) rfl
theorem wX3_sizeOf_9 : y_w M_X3_sizeOf mc ms Q (9, lv, .int y :: .int x :: r, ω, c, s) = ((x < y → y_w M_X3_sizeOf mc ms Q (18, lv, r, ω, c, s)) ∧ (¬ (x < y) → y_w M_X3_sizeOf mc ms Q (12, lv, r, ω, c, s))) := w_icmp dX3_sizeOf_9 (tgt := 18) rfl rfl rfl
theorem wX3_sizeOf_12 : y_w M_X3_sizeOf mc ms Q (12, lv, st, ω, c, s) = y_ldA lv 0 (fun v => y_w M_X3_sizeOf mc ms Q (13, lv, v :: st, ω, c, s)) := w_aload_n dX3_sizeOf_12 rfl rfl
theorem wX3_sizeOf_13 : y_w M_X3_sizeOf mc ms Q (13, lv, st, ω, c, s) = y_ldI lv 1 (fun v => y_w M_X3_sizeOf mc ms Q (14, lv, v :: st, ω, c, s)) := w_iload_n dX3_sizeOf_13 rfl rfl
theorem wX3_sizeOf_14 (hc : y_cls ω a = some 3) : y_w M_X3_sizeOf mc ms Q (14, lv, v1 :: .ref a :: r, ω, c, s) = (y_cat r ≤ 8 ∧ F_X3_clerkSize mc ms [.ref a, v1] ω c s (y_aft M_X3_sizeOf 14 3 lv r (y_w M_X3_sizeOf mc ms Q) Q)) := w_call1 (av := [v1]) (Or.inl ⟨⟨rfl, rfl⟩, rfl⟩) dX3_sizeOf_14 rfl hc rfl (y_F_mono _) (y_dle rfl) (y_dle rfl) rfl rfl
theorem wX3_sizeOf_17 : y_w M_X3_sizeOf mc ms Q (17, lv, [.int x], ω, c, s) = Q (.returned (some (.int x))) ω c s := w_ireturnI dX3_sizeOf_17 rfl
theorem wX3_sizeOf_18 : y_w M_X3_sizeOf mc ms Q (18, lv, st, ω, c, s) = y_ldI lv 2 (fun v => y_w M_X3_sizeOf mc ms Q (19, lv, v :: st, ω, c, s)) := w_iload_n dX3_sizeOf_18 rfl rfl
theorem wX3_sizeOf_19 : y_w M_X3_sizeOf mc ms Q (19, lv, st, ω, c, s) = y_w M_X3_sizeOf mc ms Q (20, lv, .int (nI 2) :: st, ω, c, s) := w_iconst dX3_sizeOf_19 (v := (nI 2)) (by decide) rfl
theorem wX3_sizeOf_20 : y_w M_X3_sizeOf mc ms Q (20, lv, .int y :: .int x :: r, ω, c, s) = ((¬ x = y → y_w M_X3_sizeOf mc ms Q (29, lv, r, ω, c, s)) ∧ (¬ (¬ x = y) → y_w M_X3_sizeOf mc ms Q (23, lv, r, ω, c, s))) := w_icmp dX3_sizeOf_20 (tgt := 29) rfl rfl rfl
theorem wX3_sizeOf_23 : y_w M_X3_sizeOf mc ms Q (23, lv, st, ω, c, s) = y_ldA lv 0 (fun v => y_w M_X3_sizeOf mc ms Q (24, lv, v :: st, ω, c, s)) := w_aload_n dX3_sizeOf_23 rfl rfl
theorem wX3_sizeOf_24 : y_w M_X3_sizeOf mc ms Q (24, lv, st, ω, c, s) = y_w M_X3_sizeOf mc ms Q (26, lv, .int (nI 12) :: st, ω, c, s) := w_bipush dX3_sizeOf_24 (v := (nI 12)) (by decide) rfl
theorem wX3_sizeOf_26 (hc : y_cls ω a = some 3) : y_w M_X3_sizeOf mc ms Q (26, lv, v1 :: .ref a :: r, ω, c, s) = (y_cat r ≤ 8 ∧ F_X3_began mc ms [.ref a, v1] ω c s (y_aft M_X3_sizeOf 26 3 lv r (y_w M_X3_sizeOf mc ms Q) Q)) := w_call1 (av := [v1]) (Or.inl ⟨⟨rfl, rfl⟩, rfl⟩) dX3_sizeOf_26 rfl hc rfl (y_F_mono _) (y_dle rfl) (y_dle rfl) rfl rfl
theorem wX3_sizeOf_29 : y_w M_X3_sizeOf mc ms Q (29, lv, st, ω, c, s) = y_ldA lv 0 (fun v => y_w M_X3_sizeOf mc ms Q (30, lv, v :: st, ω, c, s)) := w_aload_n dX3_sizeOf_29 rfl rfl
theorem wX3_sizeOf_30 : y_w M_X3_sizeOf mc ms Q (30, lv, st, ω, c, s) = y_w M_X3_sizeOf mc ms Q (32, lv, .int (nI 11) :: st, ω, c, s) := w_bipush dX3_sizeOf_30 (v := (nI 11)) (by decide) rfl
theorem wX3_sizeOf_32 (hc : y_cls ω a = some 3) : y_w M_X3_sizeOf mc ms Q (32, lv, v1 :: .ref a :: r, ω, c, s) = (y_cat r ≤ 8 ∧ F_X3_began mc ms [.ref a, v1] ω c s (y_aft M_X3_sizeOf 32 3 lv r (y_w M_X3_sizeOf mc ms Q) Q)) := w_call1 (av := [v1]) (Or.inl ⟨⟨rfl, rfl⟩, rfl⟩) dX3_sizeOf_32 rfl hc rfl (y_F_mono _) (y_dle rfl) (y_dle rfl) rfl rfl
theorem wX3_sizeOf_35 : y_w M_X3_sizeOf mc ms Q (35, lv, st, ω, c, s) = y_ldA lv 0 (fun v => y_w M_X3_sizeOf mc ms Q (36, lv, v :: st, ω, c, s)) := w_aload_n dX3_sizeOf_35 rfl rfl
theorem wX3_sizeOf_36 : y_w M_X3_sizeOf mc ms Q (36, lv, st, ω, c, s) = y_ldI lv 1 (fun v => y_w M_X3_sizeOf mc ms Q (37, lv, v :: st, ω, c, s)) := w_iload_n dX3_sizeOf_36 rfl rfl
theorem wX3_sizeOf_37 (hc : y_cls ω a = some 3) : y_w M_X3_sizeOf mc ms Q (37, lv, v1 :: .ref a :: r, ω, c, s) = (y_cat r ≤ 8 ∧ F_X3_plainSize mc ms [.ref a, v1] ω c s (y_aft M_X3_sizeOf 37 3 lv r (y_w M_X3_sizeOf mc ms Q) Q)) := w_call1 (av := [v1]) (Or.inl ⟨⟨rfl, rfl⟩, rfl⟩) dX3_sizeOf_37 rfl hc rfl (y_F_mono _) (y_dle rfl) (y_dle rfl) rfl rfl
theorem wX3_sizeOf_40 : y_w M_X3_sizeOf mc ms Q (40, lv, .int x :: r, ω, c, s) = y_w M_X3_sizeOf mc ms Q (41, (3, .int x) :: y_kill 3 lv, r, ω, c, s) := w_istore_n dX3_sizeOf_40 rfl (y_dle rfl) rfl
theorem wX3_sizeOf_41 : y_w M_X3_sizeOf mc ms Q (41, lv, st, ω, c, s) = y_ldI lv 3 (fun v => y_w M_X3_sizeOf mc ms Q (42, lv, v :: st, ω, c, s)) := w_iload_n dX3_sizeOf_41 rfl rfl
theorem wX3_sizeOf_42 : y_w M_X3_sizeOf mc ms Q (42, lv, st, ω, c, s) = y_ldA lv 0 (fun v => y_w M_X3_sizeOf mc ms Q (43, lv, v :: st, ω, c, s)) := w_aload_n dX3_sizeOf_42 rfl rfl
theorem wX3_sizeOf_43 : y_w M_X3_sizeOf mc ms Q (43, lv, st, ω, c, s) = y_ldI lv 1 (fun v => y_w M_X3_sizeOf mc ms Q (44, lv, v :: st, ω, c, s)) := w_iload_n dX3_sizeOf_43 rfl rfl
theorem wX3_sizeOf_44 (hc : y_cls ω a = some 3) : y_w M_X3_sizeOf mc ms Q (44, lv, v1 :: .ref a :: r, ω, c, s) = (y_cat r ≤ 8 ∧ F_X3_markOf mc ms [.ref a, v1] ω c s (y_aft M_X3_sizeOf 44 3 lv r (y_w M_X3_sizeOf mc ms Q) Q)) := w_call1 (av := [v1]) (Or.inl ⟨⟨rfl, rfl⟩, rfl⟩) dX3_sizeOf_44 rfl hc rfl (y_F_mono _) (y_dle rfl) (y_dle rfl) rfl rfl
theorem wX3_sizeOf_47 : y_w M_X3_sizeOf mc ms Q (47, lv, .int y :: .int x :: r, ω, c, s) = y_w M_X3_sizeOf mc ms Q (48, lv, .int (x + y) :: r, ω, c, s) := w_iadd dX3_sizeOf_47 rfl
theorem wX3_sizeOf_48 : y_w M_X3_sizeOf mc ms Q (48, lv, .int x :: r, ω, c, s) = y_w M_X3_sizeOf mc ms Q (49, (3, .int x) :: y_kill 3 lv, r, ω, c, s) := w_istore_n dX3_sizeOf_48 rfl (y_dle rfl) rfl
theorem wX3_sizeOf_49 : y_w M_X3_sizeOf mc ms Q (49, lv, st, ω, c, s) = y_ldI lv 2 (fun v => y_w M_X3_sizeOf mc ms Q (50, lv, v :: st, ω, c, s)) := w_iload_n dX3_sizeOf_49 rfl rfl
theorem wX3_sizeOf_50 : y_w M_X3_sizeOf mc ms Q (50, lv, st, ω, c, s) = y_w M_X3_sizeOf mc ms Q (51, lv, .int (nI 2) :: st, ω, c, s) := w_iconst dX3_sizeOf_50 (v := (nI 2)) (by decide) rfl
theorem wX3_sizeOf_51 : y_w M_X3_sizeOf mc ms Q (51, lv, .int y :: .int x :: r, ω, c, s) = ((¬ x = y → y_w M_X3_sizeOf mc ms Q (59, lv, r, ω, c, s)) ∧ (¬ (¬ x = y) → y_w M_X3_sizeOf mc ms Q (54, lv, r, ω, c, s))) := w_icmp dX3_sizeOf_51 (tgt := 59) rfl rfl rfl
theorem wX3_sizeOf_54 : y_w M_X3_sizeOf mc ms Q (54, lv, st, ω, c, s) = y_ldI lv 3 (fun v => y_w M_X3_sizeOf mc ms Q (55, lv, v :: st, ω, c, s)) := w_iload_n dX3_sizeOf_54 rfl rfl
theorem wX3_sizeOf_55 : y_w M_X3_sizeOf mc ms Q (55, lv, .int x :: r, ω, c, s) = y_w M_X3_sizeOf mc ms Q (56, lv, .int (-x) :: r, ω, c, s) := w_ineg dX3_sizeOf_55 rfl
theorem wX3_sizeOf_56 : y_w M_X3_sizeOf mc ms Q (56, lv, st, ω, c, s) = y_w M_X3_sizeOf mc ms Q (60, lv, st, ω, c, s) := w_goto dX3_sizeOf_56 (tgt := 60) (by decide) rfl
theorem wX3_sizeOf_59 : y_w M_X3_sizeOf mc ms Q (59, lv, st, ω, c, s) = y_ldI lv 3 (fun v => y_w M_X3_sizeOf mc ms Q (60, lv, v :: st, ω, c, s)) := w_iload_n dX3_sizeOf_59 rfl rfl
theorem wX3_sizeOf_60 : y_w M_X3_sizeOf mc ms Q (60, lv, [.int x], ω, c, s) = Q (.returned (some (.int x))) ω c s := w_ireturnI dX3_sizeOf_60 rfl
def P_X3_ask : y_Pool := ([(48, 3, 0, .int, false), (243, 3, 24, .int, false)], [], [(68, .int (-1000001))], [(199, 1, 3, 2, (2, 46), F_X3_isPerson), (58, 0, 0, 3, (1, 25), F_X3_in), (258, 1, 3, 2, (5, 111), F_X3_sizeOf), (255, 1, 3, 2, (4, 88), F_X3_markOf)], [], [], [])
def M_X3_ask : y_Md := (cX3_ask, "YoungerBackModel", (3, (some FieldType.int)), (5, 111), false, P_X3_ask, [])
def F_X3_ask : y_Tr := y_F M_X3_ask
theorem nX3_ask : y_nL M_X3_ask = 3 := rfl
theorem fX3_ask_48_3 : y_ffP P_X3_ask 48 3 = some (0, .int, false) := rfl
theorem fX3_ask_243_3 : y_ffP P_X3_ask 243 3 = some (24, .int, false) := rfl
theorem wX3_ask_0 : y_w M_X3_ask mc ms Q (0, lv, st, ω, c, s) = y_ldA lv 0 (fun v => y_w M_X3_ask mc ms Q (1, lv, v :: st, ω, c, s)) := w_aload_n dX3_ask_0 rfl rfl
theorem wX3_ask_1 : y_w M_X3_ask mc ms Q (1, lv, st, ω, c, s) = y_w M_X3_ask mc ms Q (2, lv, .int 0 :: st, ω, c, s) := w_iconst dX3_ask_1 (v := 0) (by decide) rfl
theorem wX3_ask_2 : y_w M_X3_ask mc ms Q (2, lv, v :: .ref a :: r, ω, c, s) = y_pf P_X3_ask false 48 (ω.2 a) v (fun ci fs => y_w M_X3_ask mc ms Q (5, lv, r, y_hup ω a (.inr (ci, fs)), c, s)) := w_putfield dX3_ask_2 rfl rfl rfl
theorem wX3_ask_5 : y_w M_X3_ask mc ms Q (5, lv, st, ω, c, s) = y_ldA lv 0 (fun v => y_w M_X3_ask mc ms Q (6, lv, v :: st, ω, c, s)) := w_aload_n dX3_ask_5 rfl rfl
theorem wX3_ask_6 : y_w M_X3_ask mc ms Q (6, lv, st, ω, c, s) = y_ldI lv 1 (fun v => y_w M_X3_ask mc ms Q (7, lv, v :: st, ω, c, s)) := w_iload_n dX3_ask_6 rfl rfl
theorem wX3_ask_7 (hc : y_cls ω a = some 3) : y_w M_X3_ask mc ms Q (7, lv, v1 :: .ref a :: r, ω, c, s) = (y_cat r ≤ 8 ∧ F_X3_isPerson mc ms [.ref a, v1] ω c s (y_aft M_X3_ask 7 3 lv r (y_w M_X3_ask mc ms Q) Q)) := w_call1 (av := [v1]) (Or.inl ⟨⟨rfl, rfl⟩, rfl⟩) dX3_ask_7 rfl hc rfl (y_F_mono _) (y_dle rfl) (y_dle rfl) rfl rfl
theorem wX3_ask_10 : y_w M_X3_ask mc ms Q (10, lv, .int x :: r, ω, c, s) = ((x = 0 → y_w M_X3_ask mc ms Q (23, lv, r, ω, c, s)) ∧ (¬ (x = 0) → y_w M_X3_ask mc ms Q (13, lv, r, ω, c, s))) := w_if dX3_ask_10 (tgt := 23) rfl rfl rfl
theorem wX3_ask_13 : y_w M_X3_ask mc ms Q (13, lv, st, ω, c, s) = y_ldI lv 2 (fun v => y_w M_X3_ask mc ms Q (14, lv, v :: st, ω, c, s)) := w_iload_n dX3_ask_13 rfl rfl
theorem wX3_ask_14 : y_w M_X3_ask mc ms Q (14, lv, .int x :: r, ω, c, s) = y_w M_X3_ask mc ms Q (15, lv, .long x.toInt64 :: r, ω, c, s) := w_i2l dX3_ask_14 rfl
theorem wX3_ask_15 : y_w M_X3_ask mc ms Q (15, lv, st, ω, c, s) = y_w M_X3_ask mc ms Q (16, lv, .long 0 :: st, ω, c, s) := w_lconst dX3_ask_15 (v := 0) (by decide) rfl
theorem wX3_ask_16 : y_w M_X3_ask mc ms Q (16, lv, st, ω, c, s) = y_w M_X3_ask mc ms Q (17, lv, .long 1 :: st, ω, c, s) := w_lconst dX3_ask_16 (v := 1) (by decide) rfl
theorem wX3_ask_17 : y_w M_X3_ask mc ms Q (17, lv, v2 :: v1 :: v0 :: r, ω, c, s) = (y_cat r ≤ 8 ∧ F_X3_in mc ms [v0, v1, v2] ω c s (y_aft M_X3_ask 17 3 lv r (y_w M_X3_ask mc ms Q) Q)) := w_call0 (av := [v0, v1, v2]) ⟨Or.inr ⟨rfl, rfl⟩, rfl⟩ dX3_ask_17 rfl (y_F_mono _) (y_dle rfl) (y_dle rfl) rfl rfl
theorem wX3_ask_20 : y_w M_X3_ask mc ms Q (20, lv, .int x :: r, ω, c, s) = ((¬ x = 0 → y_w M_X3_ask mc ms Q (26, lv, r, ω, c, s)) ∧ (¬ (¬ x = 0) → y_w M_X3_ask mc ms Q (23, lv, r, ω, c, s))) := w_if dX3_ask_20 (tgt := 26) rfl rfl rfl
theorem wX3_ask_23 : y_w M_X3_ask mc ms Q (23, lv, st, ω, c, s) = y_w M_X3_ask mc ms Q (25, lv, .int (-1000001) :: st, ω, c, s) := w_ldc dX3_ask_23 rfl rfl rfl
theorem wX3_ask_25 : y_w M_X3_ask mc ms Q (25, lv, [.int x], ω, c, s) = Q (.returned (some (.int x))) ω c s := w_ireturnI dX3_ask_25 rfl
theorem wX3_ask_26 : y_w M_X3_ask mc ms Q (26, lv, st, ω, c, s) = y_ldA lv 0 (fun v => y_w M_X3_ask mc ms Q (27, lv, v :: st, ω, c, s)) := w_aload_n dX3_ask_26 rfl rfl
theorem wX3_ask_27 : y_w M_X3_ask mc ms Q (27, lv, st, ω, c, s) = y_w M_X3_ask mc ms Q (28, lv, .int 0 :: st, ω, c, s) := w_iconst dX3_ask_27 (v := 0) (by decide) rfl
theorem wX3_ask_28 : y_w M_X3_ask mc ms Q (28, lv, v :: .ref a :: r, ω, c, s) = y_pf P_X3_ask false 243 (ω.2 a) v (fun ci fs => y_w M_X3_ask mc ms Q (31, lv, r, y_hup ω a (.inr (ci, fs)), c, s)) := w_putfield dX3_ask_28 rfl rfl rfl
theorem wX3_ask_31 : y_w M_X3_ask mc ms Q (31, lv, st, ω, c, s) = y_ldI lv 2 (fun v => y_w M_X3_ask mc ms Q (32, lv, v :: st, ω, c, s)) := w_iload_n dX3_ask_31 rfl rfl
theorem wX3_ask_32 : y_w M_X3_ask mc ms Q (32, lv, .int x :: r, ω, c, s) = ((¬ x = 0 → y_w M_X3_ask mc ms Q (43, lv, r, ω, c, s)) ∧ (¬ (¬ x = 0) → y_w M_X3_ask mc ms Q (35, lv, r, ω, c, s))) := w_if dX3_ask_32 (tgt := 43) rfl rfl rfl
theorem wX3_ask_35 : y_w M_X3_ask mc ms Q (35, lv, st, ω, c, s) = y_ldA lv 0 (fun v => y_w M_X3_ask mc ms Q (36, lv, v :: st, ω, c, s)) := w_aload_n dX3_ask_35 rfl rfl
theorem wX3_ask_36 : y_w M_X3_ask mc ms Q (36, lv, st, ω, c, s) = y_ldI lv 1 (fun v => y_w M_X3_ask mc ms Q (37, lv, v :: st, ω, c, s)) := w_iload_n dX3_ask_36 rfl rfl
theorem wX3_ask_37 (hc : y_cls ω a = some 3) : y_w M_X3_ask mc ms Q (37, lv, v1 :: .ref a :: r, ω, c, s) = (y_cat r ≤ 8 ∧ F_X3_sizeOf mc ms [.ref a, v1] ω c s (y_aft M_X3_ask 37 3 lv r (y_w M_X3_ask mc ms Q) Q)) := w_call1 (av := [v1]) (Or.inl ⟨⟨rfl, rfl⟩, rfl⟩) dX3_ask_37 rfl hc rfl (y_F_mono _) (y_dle rfl) (y_dle rfl) rfl rfl
theorem wX3_ask_40 : y_w M_X3_ask mc ms Q (40, lv, st, ω, c, s) = y_w M_X3_ask mc ms Q (48, lv, st, ω, c, s) := w_goto dX3_ask_40 (tgt := 48) (by decide) rfl
theorem wX3_ask_43 : y_w M_X3_ask mc ms Q (43, lv, st, ω, c, s) = y_ldA lv 0 (fun v => y_w M_X3_ask mc ms Q (44, lv, v :: st, ω, c, s)) := w_aload_n dX3_ask_43 rfl rfl
theorem wX3_ask_44 : y_w M_X3_ask mc ms Q (44, lv, st, ω, c, s) = y_ldI lv 1 (fun v => y_w M_X3_ask mc ms Q (45, lv, v :: st, ω, c, s)) := w_iload_n dX3_ask_44 rfl rfl
theorem wX3_ask_45 (hc : y_cls ω a = some 3) : y_w M_X3_ask mc ms Q (45, lv, v1 :: .ref a :: r, ω, c, s) = (y_cat r ≤ 8 ∧ F_X3_markOf mc ms [.ref a, v1] ω c s (y_aft M_X3_ask 45 3 lv r (y_w M_X3_ask mc ms Q) Q)) := w_call1 (av := [v1]) (Or.inl ⟨⟨rfl, rfl⟩, rfl⟩) dX3_ask_45 rfl hc rfl (y_F_mono _) (y_dle rfl) (y_dle rfl) rfl rfl
theorem wX3_ask_48 : y_w M_X3_ask mc ms Q (48, lv, [.int x], ω, c, s) = Q (.returned (some (.int x))) ω c s := w_ireturnI dX3_ask_48 rfl
def P_X3_trace : y_Pool := ([(48, 3, 0, .int, false), (243, 3, 24, .int, false), (45, 3, 23, (.array .int), true)], [], [(84, .int (-1000000))], [(58, 0, 0, 3, (1, 25), F_X3_in)], [], [], [])
def M_X3_trace : y_Md := (cX3_trace, "YoungerBackModel", (2, (some FieldType.int)), (1, 25), false, P_X3_trace, [])
def F_X3_trace : y_Tr := y_F M_X3_trace
theorem nX3_trace : y_nL M_X3_trace = 2 := rfl
theorem fX3_trace_48_3 : y_ffP P_X3_trace 48 3 = some (0, .int, false) := rfl
theorem fX3_trace_243_3 : y_ffP P_X3_trace 243 3 = some (24, .int, false) := rfl
theorem fX3_trace_45_3 : y_ffP P_X3_trace 45 3 = some (23, (.array .int), true) := rfl
theorem wX3_trace_0 : y_w M_X3_trace mc ms Q (0, lv, st, ω, c, s) = y_ldA lv 0 (fun v => y_w M_X3_trace mc ms Q (1, lv, v :: st, ω, c, s)) := w_aload_n dX3_trace_0 rfl rfl
theorem wX3_trace_1 : y_w M_X3_trace mc ms Q (1, lv, st, ω, c, s) = y_w M_X3_trace mc ms Q (2, lv, .int 0 :: st, ω, c, s) := w_iconst dX3_trace_1 (v := 0) (by decide) rfl
theorem wX3_trace_2 : y_w M_X3_trace mc ms Q (2, lv, v :: .ref a :: r, ω, c, s) = y_pf P_X3_trace false 48 (ω.2 a) v (fun ci fs => y_w M_X3_trace mc ms Q (5, lv, r, y_hup ω a (.inr (ci, fs)), c, s)) := w_putfield dX3_trace_2 rfl rfl rfl
theorem wX3_trace_5 : y_w M_X3_trace mc ms Q (5, lv, st, ω, c, s) = y_ldI lv 1 (fun v => y_w M_X3_trace mc ms Q (6, lv, v :: st, ω, c, s)) := w_iload_n dX3_trace_5 rfl rfl
theorem wX3_trace_6 : y_w M_X3_trace mc ms Q (6, lv, .int x :: r, ω, c, s) = y_w M_X3_trace mc ms Q (7, lv, .long x.toInt64 :: r, ω, c, s) := w_i2l dX3_trace_6 rfl
theorem wX3_trace_7 : y_w M_X3_trace mc ms Q (7, lv, st, ω, c, s) = y_w M_X3_trace mc ms Q (8, lv, .long 0 :: st, ω, c, s) := w_lconst dX3_trace_7 (v := 0) (by decide) rfl
theorem wX3_trace_8 : y_w M_X3_trace mc ms Q (8, lv, st, ω, c, s) = y_ldA lv 0 (fun v => y_w M_X3_trace mc ms Q (9, lv, v :: st, ω, c, s)) := w_aload_n dX3_trace_8 rfl rfl
theorem wX3_trace_9 : y_w M_X3_trace mc ms Q (9, lv, .ref a :: r, ω, c, s) = y_gf P_X3_trace 243 (ω.2 a) (fun v => y_w M_X3_trace mc ms Q (12, lv, v :: r, ω, c, s)) := w_getfield dX3_trace_9 rfl rfl
theorem wX3_trace_12 : y_w M_X3_trace mc ms Q (12, lv, st, ω, c, s) = y_w M_X3_trace mc ms Q (13, lv, .int 1 :: st, ω, c, s) := w_iconst dX3_trace_12 (v := 1) (by decide) rfl
theorem wX3_trace_13 : y_w M_X3_trace mc ms Q (13, lv, .int y :: .int x :: r, ω, c, s) = y_w M_X3_trace mc ms Q (14, lv, .int (x - y) :: r, ω, c, s) := w_isub dX3_trace_13 rfl
theorem wX3_trace_14 : y_w M_X3_trace mc ms Q (14, lv, .int x :: r, ω, c, s) = y_w M_X3_trace mc ms Q (15, lv, .long x.toInt64 :: r, ω, c, s) := w_i2l dX3_trace_14 rfl
theorem wX3_trace_15 : y_w M_X3_trace mc ms Q (15, lv, v2 :: v1 :: v0 :: r, ω, c, s) = (y_cat r ≤ 8 ∧ F_X3_in mc ms [v0, v1, v2] ω c s (y_aft M_X3_trace 15 3 lv r (y_w M_X3_trace mc ms Q) Q)) := w_call0 (av := [v0, v1, v2]) ⟨Or.inr ⟨rfl, rfl⟩, rfl⟩ dX3_trace_15 rfl (y_F_mono _) (y_dle rfl) (y_dle rfl) rfl rfl
theorem wX3_trace_18 : y_w M_X3_trace mc ms Q (18, lv, .int x :: r, ω, c, s) = ((x = 0 → y_w M_X3_trace mc ms Q (30, lv, r, ω, c, s)) ∧ (¬ (x = 0) → y_w M_X3_trace mc ms Q (21, lv, r, ω, c, s))) := w_if dX3_trace_18 (tgt := 30) rfl rfl rfl
theorem wX3_trace_21 : y_w M_X3_trace mc ms Q (21, lv, st, ω, c, s) = y_ldA lv 0 (fun v => y_w M_X3_trace mc ms Q (22, lv, v :: st, ω, c, s)) := w_aload_n dX3_trace_21 rfl rfl
theorem wX3_trace_22 : y_w M_X3_trace mc ms Q (22, lv, .ref a :: r, ω, c, s) = y_gf P_X3_trace 45 (ω.2 a) (fun v => y_w M_X3_trace mc ms Q (25, lv, v :: r, ω, c, s)) := w_getfield dX3_trace_22 rfl rfl
theorem wX3_trace_25 : y_w M_X3_trace mc ms Q (25, lv, st, ω, c, s) = y_ldI lv 1 (fun v => y_w M_X3_trace mc ms Q (26, lv, v :: st, ω, c, s)) := w_iload_n dX3_trace_25 rfl rfl
theorem wX3_trace_26 : y_w M_X3_trace mc ms Q (26, lv, .int j :: .ref a :: r, ω, c, s) = y_rI (ω.2 a) j (fun x => y_w M_X3_trace mc ms Q (27, lv, .int x :: r, ω, c, s)) := w_iaload dX3_trace_26 rfl
theorem wX3_trace_27 : y_w M_X3_trace mc ms Q (27, lv, st, ω, c, s) = y_w M_X3_trace mc ms Q (32, lv, st, ω, c, s) := w_goto dX3_trace_27 (tgt := 32) (by decide) rfl
theorem wX3_trace_30 : y_w M_X3_trace mc ms Q (30, lv, st, ω, c, s) = y_w M_X3_trace mc ms Q (32, lv, .int (-1000000) :: st, ω, c, s) := w_ldc dX3_trace_30 rfl rfl rfl
theorem wX3_trace_32 : y_w M_X3_trace mc ms Q (32, lv, [.int x], ω, c, s) = Q (.returned (some (.int x))) ω c s := w_ireturnI dX3_trace_32 rfl
def P_X3_count : y_Pool := ([(48, 3, 0, .int, false), (7, 3, 2, (.array .int), true), (19, 3, 5, (.array .int), true), (175, 3, 8, .int, false), (75, 3, 10, .int, false)], [], [(68, .int (-1000001))], [], [], [], [])
def M_X3_count : y_Md := (cX3_count, "YoungerBackModel", (4, (some FieldType.int)), (0, 0), false, P_X3_count, [])
def F_X3_count : y_Tr := y_F M_X3_count
theorem nX3_count : y_nL M_X3_count = 4 := rfl
theorem fX3_count_48_3 : y_ffP P_X3_count 48 3 = some (0, .int, false) := rfl
theorem fX3_count_7_3 : y_ffP P_X3_count 7 3 = some (2, (.array .int), true) := rfl
theorem fX3_count_19_3 : y_ffP P_X3_count 19 3 = some (5, (.array .int), true) := rfl
theorem fX3_count_175_3 : y_ffP P_X3_count 175 3 = some (8, .int, false) := rfl
theorem fX3_count_75_3 : y_ffP P_X3_count 75 3 = some (10, .int, false) := rfl
theorem wX3_count_0 : y_w M_X3_count mc ms Q (0, lv, st, ω, c, s) = y_ldA lv 0 (fun v => y_w M_X3_count mc ms Q (1, lv, v :: st, ω, c, s)) := w_aload_n dX3_count_0 rfl rfl
theorem wX3_count_1 : y_w M_X3_count mc ms Q (1, lv, st, ω, c, s) = y_w M_X3_count mc ms Q (2, lv, .int 0 :: st, ω, c, s) := w_iconst dX3_count_1 (v := 0) (by decide) rfl
theorem wX3_count_2 : y_w M_X3_count mc ms Q (2, lv, v :: .ref a :: r, ω, c, s) = y_pf P_X3_count false 48 (ω.2 a) v (fun ci fs => y_w M_X3_count mc ms Q (5, lv, r, y_hup ω a (.inr (ci, fs)), c, s)) := w_putfield dX3_count_2 rfl rfl rfl
theorem wX3_count_5 : y_w M_X3_count mc ms Q (5, lv, st, ω, c, s) = y_w M_X3_count mc ms Q (6, lv, .int 0 :: st, ω, c, s) := w_iconst dX3_count_5 (v := 0) (by decide) rfl
theorem wX3_count_6 : y_w M_X3_count mc ms Q (6, lv, .int x :: r, ω, c, s) = y_w M_X3_count mc ms Q (7, (2, .int x) :: y_kill 2 lv, r, ω, c, s) := w_istore_n dX3_count_6 rfl (y_dle rfl) rfl
theorem wX3_count_7 : y_w M_X3_count mc ms Q (7, lv, st, ω, c, s) = y_ldI lv 1 (fun v => y_w M_X3_count mc ms Q (8, lv, v :: st, ω, c, s)) := w_iload_n dX3_count_7 rfl rfl
theorem wX3_count_8 : y_w M_X3_count mc ms Q (8, lv, .int x :: r, ω, c, s) = y_sw x 0 [52, 85, 92, 99, 106, 111, 118] 123 (fun t => y_w M_X3_count mc ms Q (t, lv, r, ω, c, s)) := w_tsw dX3_count_8 (dt := 123) (ts := [52, 85, 92, 99, 106, 111, 118]) rfl (by decide) (by decide)
theorem wX3_count_52 : y_w M_X3_count mc ms Q (52, lv, st, ω, c, s) = y_w M_X3_count mc ms Q (53, lv, .int 0 :: st, ω, c, s) := w_iconst dX3_count_52 (v := 0) (by decide) rfl
theorem wX3_count_53 : y_w M_X3_count mc ms Q (53, lv, .int x :: r, ω, c, s) = y_w M_X3_count mc ms Q (54, (3, .int x) :: y_kill 3 lv, r, ω, c, s) := w_istore_n dX3_count_53 rfl (y_dle rfl) rfl
theorem wX3_count_54 : y_w M_X3_count mc ms Q (54, lv, st, ω, c, s) = y_ldI lv 3 (fun v => y_w M_X3_count mc ms Q (55, lv, v :: st, ω, c, s)) := w_iload_n dX3_count_54 rfl rfl
theorem wX3_count_55 : y_w M_X3_count mc ms Q (55, lv, st, ω, c, s) = y_w M_X3_count mc ms Q (57, lv, .int (nI 8) :: st, ω, c, s) := w_bipush dX3_count_55 (v := (nI 8)) (by decide) rfl
theorem wX3_count_57 : y_w M_X3_count mc ms Q (57, lv, .int y :: .int x :: r, ω, c, s) = ((y ≤ x → y_w M_X3_count mc ms Q (83, lv, r, ω, c, s)) ∧ (¬ (y ≤ x) → y_w M_X3_count mc ms Q (60, lv, r, ω, c, s))) := w_icmp dX3_count_57 (tgt := 83) rfl rfl rfl
theorem wX3_count_60 : y_w M_X3_count mc ms Q (60, lv, st, ω, c, s) = y_ldI lv 2 (fun v => y_w M_X3_count mc ms Q (61, lv, v :: st, ω, c, s)) := w_iload_n dX3_count_60 rfl rfl
theorem wX3_count_61 : y_w M_X3_count mc ms Q (61, lv, st, ω, c, s) = y_ldA lv 0 (fun v => y_w M_X3_count mc ms Q (62, lv, v :: st, ω, c, s)) := w_aload_n dX3_count_61 rfl rfl
theorem wX3_count_62 : y_w M_X3_count mc ms Q (62, lv, .ref a :: r, ω, c, s) = y_gf P_X3_count 7 (ω.2 a) (fun v => y_w M_X3_count mc ms Q (65, lv, v :: r, ω, c, s)) := w_getfield dX3_count_62 rfl rfl
theorem wX3_count_65 : y_w M_X3_count mc ms Q (65, lv, st, ω, c, s) = y_ldI lv 3 (fun v => y_w M_X3_count mc ms Q (66, lv, v :: st, ω, c, s)) := w_iload_n dX3_count_65 rfl rfl
theorem wX3_count_66 : y_w M_X3_count mc ms Q (66, lv, .int j :: .ref a :: r, ω, c, s) = y_rI (ω.2 a) j (fun x => y_w M_X3_count mc ms Q (67, lv, .int x :: r, ω, c, s)) := w_iaload dX3_count_66 rfl
theorem wX3_count_67 : y_w M_X3_count mc ms Q (67, lv, .int x :: r, ω, c, s) = ((x < 0 → y_w M_X3_count mc ms Q (74, lv, r, ω, c, s)) ∧ (¬ (x < 0) → y_w M_X3_count mc ms Q (70, lv, r, ω, c, s))) := w_if dX3_count_67 (tgt := 74) rfl rfl rfl
theorem wX3_count_70 : y_w M_X3_count mc ms Q (70, lv, st, ω, c, s) = y_w M_X3_count mc ms Q (71, lv, .int 1 :: st, ω, c, s) := w_iconst dX3_count_70 (v := 1) (by decide) rfl
theorem wX3_count_71 : y_w M_X3_count mc ms Q (71, lv, st, ω, c, s) = y_w M_X3_count mc ms Q (75, lv, st, ω, c, s) := w_goto dX3_count_71 (tgt := 75) (by decide) rfl
theorem wX3_count_74 : y_w M_X3_count mc ms Q (74, lv, st, ω, c, s) = y_w M_X3_count mc ms Q (75, lv, .int 0 :: st, ω, c, s) := w_iconst dX3_count_74 (v := 0) (by decide) rfl
theorem wX3_count_75 : y_w M_X3_count mc ms Q (75, lv, .int y :: .int x :: r, ω, c, s) = y_w M_X3_count mc ms Q (76, lv, .int (x + y) :: r, ω, c, s) := w_iadd dX3_count_75 rfl
theorem wX3_count_76 : y_w M_X3_count mc ms Q (76, lv, .int x :: r, ω, c, s) = y_w M_X3_count mc ms Q (77, (2, .int x) :: y_kill 2 lv, r, ω, c, s) := w_istore_n dX3_count_76 rfl (y_dle rfl) rfl
theorem wX3_count_77 : y_w M_X3_count mc ms Q (77, lv, st, ω, c, s) = y_inc lv 3 (fun x => y_w M_X3_count mc ms Q (80, (3, .int (x + 1)) :: y_kill 3 lv, st, ω, c, s)) := w_iinc dX3_count_77 (d := 1) (by decide) (y_dle rfl) rfl
theorem wX3_count_80 : y_w M_X3_count mc ms Q (80, lv, st, ω, c, s) = ∃ lv2, y_lsub lv2 lv ∧ y_w M_X3_count mc ms Q (54, lv2, st, ω, c, s) := w_back dX3_count_80 (tgt := 54) (by decide) rfl
theorem wX3_count_83 : y_w M_X3_count mc ms Q (83, lv, st, ω, c, s) = y_ldI lv 2 (fun v => y_w M_X3_count mc ms Q (84, lv, v :: st, ω, c, s)) := w_iload_n dX3_count_83 rfl rfl
theorem wX3_count_84 : y_w M_X3_count mc ms Q (84, lv, [.int x], ω, c, s) = Q (.returned (some (.int x))) ω c s := w_ireturnI dX3_count_84 rfl
theorem wX3_count_85 : y_w M_X3_count mc ms Q (85, lv, st, ω, c, s) = y_ldA lv 0 (fun v => y_w M_X3_count mc ms Q (86, lv, v :: st, ω, c, s)) := w_aload_n dX3_count_85 rfl rfl
theorem wX3_count_86 : y_w M_X3_count mc ms Q (86, lv, .ref a :: r, ω, c, s) = y_gf P_X3_count 19 (ω.2 a) (fun v => y_w M_X3_count mc ms Q (89, lv, v :: r, ω, c, s)) := w_getfield dX3_count_86 rfl rfl
theorem wX3_count_89 : y_w M_X3_count mc ms Q (89, lv, st, ω, c, s) = y_w M_X3_count mc ms Q (90, lv, .int (nI 3) :: st, ω, c, s) := w_iconst dX3_count_89 (v := (nI 3)) (by decide) rfl
theorem wX3_count_90 : y_w M_X3_count mc ms Q (90, lv, .int j :: .ref a :: r, ω, c, s) = y_rI (ω.2 a) j (fun x => y_w M_X3_count mc ms Q (91, lv, .int x :: r, ω, c, s)) := w_iaload dX3_count_90 rfl
theorem wX3_count_91 : y_w M_X3_count mc ms Q (91, lv, [.int x], ω, c, s) = Q (.returned (some (.int x))) ω c s := w_ireturnI dX3_count_91 rfl
theorem wX3_count_92 : y_w M_X3_count mc ms Q (92, lv, st, ω, c, s) = y_ldA lv 0 (fun v => y_w M_X3_count mc ms Q (93, lv, v :: st, ω, c, s)) := w_aload_n dX3_count_92 rfl rfl
theorem wX3_count_93 : y_w M_X3_count mc ms Q (93, lv, .ref a :: r, ω, c, s) = y_gf P_X3_count 19 (ω.2 a) (fun v => y_w M_X3_count mc ms Q (96, lv, v :: r, ω, c, s)) := w_getfield dX3_count_93 rfl rfl
theorem wX3_count_96 : y_w M_X3_count mc ms Q (96, lv, st, ω, c, s) = y_w M_X3_count mc ms Q (97, lv, .int (nI 2) :: st, ω, c, s) := w_iconst dX3_count_96 (v := (nI 2)) (by decide) rfl
theorem wX3_count_97 : y_w M_X3_count mc ms Q (97, lv, .int j :: .ref a :: r, ω, c, s) = y_rI (ω.2 a) j (fun x => y_w M_X3_count mc ms Q (98, lv, .int x :: r, ω, c, s)) := w_iaload dX3_count_97 rfl
theorem wX3_count_98 : y_w M_X3_count mc ms Q (98, lv, [.int x], ω, c, s) = Q (.returned (some (.int x))) ω c s := w_ireturnI dX3_count_98 rfl
theorem wX3_count_99 : y_w M_X3_count mc ms Q (99, lv, st, ω, c, s) = y_ldA lv 0 (fun v => y_w M_X3_count mc ms Q (100, lv, v :: st, ω, c, s)) := w_aload_n dX3_count_99 rfl rfl
theorem wX3_count_100 : y_w M_X3_count mc ms Q (100, lv, .ref a :: r, ω, c, s) = y_gf P_X3_count 19 (ω.2 a) (fun v => y_w M_X3_count mc ms Q (103, lv, v :: r, ω, c, s)) := w_getfield dX3_count_100 rfl rfl
theorem wX3_count_103 : y_w M_X3_count mc ms Q (103, lv, st, ω, c, s) = y_w M_X3_count mc ms Q (104, lv, .int 0 :: st, ω, c, s) := w_iconst dX3_count_103 (v := 0) (by decide) rfl
theorem wX3_count_104 : y_w M_X3_count mc ms Q (104, lv, .int j :: .ref a :: r, ω, c, s) = y_rI (ω.2 a) j (fun x => y_w M_X3_count mc ms Q (105, lv, .int x :: r, ω, c, s)) := w_iaload dX3_count_104 rfl
theorem wX3_count_105 : y_w M_X3_count mc ms Q (105, lv, [.int x], ω, c, s) = Q (.returned (some (.int x))) ω c s := w_ireturnI dX3_count_105 rfl
theorem wX3_count_106 : y_w M_X3_count mc ms Q (106, lv, st, ω, c, s) = y_ldA lv 0 (fun v => y_w M_X3_count mc ms Q (107, lv, v :: st, ω, c, s)) := w_aload_n dX3_count_106 rfl rfl
theorem wX3_count_107 : y_w M_X3_count mc ms Q (107, lv, .ref a :: r, ω, c, s) = y_gf P_X3_count 175 (ω.2 a) (fun v => y_w M_X3_count mc ms Q (110, lv, v :: r, ω, c, s)) := w_getfield dX3_count_107 rfl rfl
theorem wX3_count_110 : y_w M_X3_count mc ms Q (110, lv, [.int x], ω, c, s) = Q (.returned (some (.int x))) ω c s := w_ireturnI dX3_count_110 rfl
theorem wX3_count_111 : y_w M_X3_count mc ms Q (111, lv, st, ω, c, s) = y_ldA lv 0 (fun v => y_w M_X3_count mc ms Q (112, lv, v :: st, ω, c, s)) := w_aload_n dX3_count_111 rfl rfl
theorem wX3_count_112 : y_w M_X3_count mc ms Q (112, lv, .ref a :: r, ω, c, s) = y_gf P_X3_count 19 (ω.2 a) (fun v => y_w M_X3_count mc ms Q (115, lv, v :: r, ω, c, s)) := w_getfield dX3_count_112 rfl rfl
theorem wX3_count_115 : y_w M_X3_count mc ms Q (115, lv, st, ω, c, s) = y_w M_X3_count mc ms Q (116, lv, .int 1 :: st, ω, c, s) := w_iconst dX3_count_115 (v := 1) (by decide) rfl
theorem wX3_count_116 : y_w M_X3_count mc ms Q (116, lv, .int j :: .ref a :: r, ω, c, s) = y_rI (ω.2 a) j (fun x => y_w M_X3_count mc ms Q (117, lv, .int x :: r, ω, c, s)) := w_iaload dX3_count_116 rfl
theorem wX3_count_117 : y_w M_X3_count mc ms Q (117, lv, [.int x], ω, c, s) = Q (.returned (some (.int x))) ω c s := w_ireturnI dX3_count_117 rfl
theorem wX3_count_118 : y_w M_X3_count mc ms Q (118, lv, st, ω, c, s) = y_ldA lv 0 (fun v => y_w M_X3_count mc ms Q (119, lv, v :: st, ω, c, s)) := w_aload_n dX3_count_118 rfl rfl
theorem wX3_count_119 : y_w M_X3_count mc ms Q (119, lv, .ref a :: r, ω, c, s) = y_gf P_X3_count 75 (ω.2 a) (fun v => y_w M_X3_count mc ms Q (122, lv, v :: r, ω, c, s)) := w_getfield dX3_count_119 rfl rfl
theorem wX3_count_122 : y_w M_X3_count mc ms Q (122, lv, [.int x], ω, c, s) = Q (.returned (some (.int x))) ω c s := w_ireturnI dX3_count_122 rfl
theorem wX3_count_123 : y_w M_X3_count mc ms Q (123, lv, st, ω, c, s) = y_w M_X3_count mc ms Q (125, lv, .int (-1000001) :: st, ω, c, s) := w_ldc dX3_count_123 rfl rfl rfl
theorem wX3_count_125 : y_w M_X3_count mc ms Q (125, lv, [.int x], ω, c, s) = Q (.returned (some (.int x))) ω c s := w_ireturnI dX3_count_125 rfl
def P_X3_status : y_Pool := ([(48, 3, 0, .int, false), (52, 3, 1, .int, false)], [], [], [], [], [], [])
def M_X3_status : y_Md := (cX3_status, "YoungerBackModel", (1, (some FieldType.int)), (0, 0), false, P_X3_status, [])
def F_X3_status : y_Tr := y_F M_X3_status
theorem nX3_status : y_nL M_X3_status = 1 := rfl
theorem fX3_status_48_3 : y_ffP P_X3_status 48 3 = some (0, .int, false) := rfl
theorem fX3_status_52_3 : y_ffP P_X3_status 52 3 = some (1, .int, false) := rfl
theorem wX3_status_0 : y_w M_X3_status mc ms Q (0, lv, st, ω, c, s) = y_ldA lv 0 (fun v => y_w M_X3_status mc ms Q (1, lv, v :: st, ω, c, s)) := w_aload_n dX3_status_0 rfl rfl
theorem wX3_status_1 : y_w M_X3_status mc ms Q (1, lv, st, ω, c, s) = y_w M_X3_status mc ms Q (2, lv, .int 0 :: st, ω, c, s) := w_iconst dX3_status_1 (v := 0) (by decide) rfl
theorem wX3_status_2 : y_w M_X3_status mc ms Q (2, lv, v :: .ref a :: r, ω, c, s) = y_pf P_X3_status false 48 (ω.2 a) v (fun ci fs => y_w M_X3_status mc ms Q (5, lv, r, y_hup ω a (.inr (ci, fs)), c, s)) := w_putfield dX3_status_2 rfl rfl rfl
theorem wX3_status_5 : y_w M_X3_status mc ms Q (5, lv, st, ω, c, s) = y_ldA lv 0 (fun v => y_w M_X3_status mc ms Q (6, lv, v :: st, ω, c, s)) := w_aload_n dX3_status_5 rfl rfl
theorem wX3_status_6 : y_w M_X3_status mc ms Q (6, lv, .ref a :: r, ω, c, s) = y_gf P_X3_status 52 (ω.2 a) (fun v => y_w M_X3_status mc ms Q (9, lv, v :: r, ω, c, s)) := w_getfield dX3_status_6 rfl rfl
theorem wX3_status_9 : y_w M_X3_status mc ms Q (9, lv, [.int x], ω, c, s) = Q (.returned (some (.int x))) ω c s := w_ireturnI dX3_status_9 rfl
end
