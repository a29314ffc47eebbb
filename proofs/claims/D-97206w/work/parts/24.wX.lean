section
set_option maxRecDepth 100000
variable {mc ms : Nat} {Q : y_Po} {lv : y_Lv} {st r : List Value} {ω : y_Hp} {c s a : Nat} {x y j : Int32} {z w : Int64} {v v0 v1 v2 v3 v4 v5 : Value} {ad : y_Ad}

def P_X1_init (ad : y_Ad) : y_Pool := ([(9, 1, 3, (.array .int), true), (15, 1, 4, (.array .int), true), (18, 1, 5, (.array .int), true), (21, 1, 6, (.array .int), true), (27, 1, 7, (.object "java/util/List"), false), (31, 1, 8, (.array .int), true), (34, 1, 9, (.array .int), true), (37, 1, 10, (.array .int), true), (40, 1, 11, (.array .int), true), (43, 1, 12, (.array .int), true), (46, 1, 13, (.array .int), true)], [(24, 14, [.int 0, .null, .int 0])], [], [(3, 2, 0, 1, (1, 20), y_oinit), (26, 2, 0, 1, (4, 80), (y_ref (F_J2_init ad)))], [], [], [])
def M_X1_init (ad : y_Ad) : y_Md := (cX1_init, "YoungerBack$League", (1, none), (4, 80), true, (P_X1_init ad), [])
def F_X1_init (ad : y_Ad) : y_Tr := y_F (M_X1_init ad)
theorem nX1_init : y_nL (M_X1_init ad) = 1 := rfl
theorem fX1_init_9_1 : y_ffP (P_X1_init ad) 9 1 = some (3, (.array .int), true) := rfl
theorem fX1_init_15_1 : y_ffP (P_X1_init ad) 15 1 = some (4, (.array .int), true) := rfl
theorem fX1_init_18_1 : y_ffP (P_X1_init ad) 18 1 = some (5, (.array .int), true) := rfl
theorem fX1_init_21_1 : y_ffP (P_X1_init ad) 21 1 = some (6, (.array .int), true) := rfl
theorem fX1_init_27_1 : y_ffP (P_X1_init ad) 27 1 = some (7, (.object "java/util/List"), false) := rfl
theorem fX1_init_31_1 : y_ffP (P_X1_init ad) 31 1 = some (8, (.array .int), true) := rfl
theorem fX1_init_34_1 : y_ffP (P_X1_init ad) 34 1 = some (9, (.array .int), true) := rfl
theorem fX1_init_37_1 : y_ffP (P_X1_init ad) 37 1 = some (10, (.array .int), true) := rfl
theorem fX1_init_40_1 : y_ffP (P_X1_init ad) 40 1 = some (11, (.array .int), true) := rfl
theorem fX1_init_43_1 : y_ffP (P_X1_init ad) 43 1 = some (12, (.array .int), true) := rfl
theorem fX1_init_46_1 : y_ffP (P_X1_init ad) 46 1 = some (13, (.array .int), true) := rfl
theorem wX1_init_0 : y_w (M_X1_init ad) mc ms Q (0, lv, st, ω, c, s) = y_ldA lv 0 (fun v => y_w (M_X1_init ad) mc ms Q (1, lv, v :: st, ω, c, s)) := w_aload_n dX1_init_0 rfl rfl
theorem wX1_init_1 : y_w (M_X1_init ad) mc ms Q (1, lv, v0 :: r, ω, c, s) = (y_cat r ≤ 8 ∧ y_oinit mc ms [v0] ω c s (y_aft (M_X1_init ad) 1 3 lv r (y_w (M_X1_init ad) mc ms Q) Q)) := w_call0 (av := [v0]) ⟨Or.inl ⟨rfl, rfl⟩, rfl⟩ dX1_init_1 rfl y_oinit_mono (y_dle rfl) (y_dle rfl) rfl rfl
theorem wX1_init_4 : y_w (M_X1_init ad) mc ms Q (4, lv, st, ω, c, s) = y_ldA lv 0 (fun v => y_w (M_X1_init ad) mc ms Q (5, lv, v :: st, ω, c, s)) := w_aload_n dX1_init_4 rfl rfl
theorem wX1_init_5 : y_w (M_X1_init ad) mc ms Q (5, lv, st, ω, c, s) = y_w (M_X1_init ad) mc ms Q (7, lv, .int (nI 8) :: st, ω, c, s) := w_bipush dX1_init_5 (v := (nI 8)) (by decide) rfl
theorem wX1_init_7 : y_w (M_X1_init ad) mc ms Q (7, lv, .int x :: r, ω, c, s) = ((¬ x < 0 ∧ x.toNatClampNeg * 4 ≤ 536870912 ∧ y_room mc ms c s x.toNatClampNeg) ∧ y_w (M_X1_init ad) mc ms Q (9, lv, .ref ω.1 :: r, y_hnew ω (.inl (0, y_at2 0 x.toNatClampNeg)), c + 1, s + x.toNatClampNeg)) := w_newarray dX1_init_7 rfl rfl rfl
theorem wX1_init_9 : y_w (M_X1_init ad) mc ms Q (9, lv, v :: .ref a :: r, ω, c, s) = y_pf (P_X1_init ad) true 9 (ω.2 a) v (fun ci fs => y_w (M_X1_init ad) mc ms Q (12, lv, r, y_hup ω a (.inr (ci, fs)), c, s)) := w_putfield dX1_init_9 rfl rfl rfl
theorem wX1_init_12 : y_w (M_X1_init ad) mc ms Q (12, lv, st, ω, c, s) = y_ldA lv 0 (fun v => y_w (M_X1_init ad) mc ms Q (13, lv, v :: st, ω, c, s)) := w_aload_n dX1_init_12 rfl rfl
theorem wX1_init_13 : y_w (M_X1_init ad) mc ms Q (13, lv, st, ω, c, s) = y_w (M_X1_init ad) mc ms Q (15, lv, .int (nI 8) :: st, ω, c, s) := w_bipush dX1_init_13 (v := (nI 8)) (by decide) rfl
theorem wX1_init_15 : y_w (M_X1_init ad) mc ms Q (15, lv, .int x :: r, ω, c, s) = ((¬ x < 0 ∧ x.toNatClampNeg * 4 ≤ 536870912 ∧ y_room mc ms c s x.toNatClampNeg) ∧ y_w (M_X1_init ad) mc ms Q (17, lv, .ref ω.1 :: r, y_hnew ω (.inl (0, y_at2 0 x.toNatClampNeg)), c + 1, s + x.toNatClampNeg)) := w_newarray dX1_init_15 rfl rfl rfl
theorem wX1_init_17 : y_w (M_X1_init ad) mc ms Q (17, lv, v :: .ref a :: r, ω, c, s) = y_pf (P_X1_init ad) true 15 (ω.2 a) v (fun ci fs => y_w (M_X1_init ad) mc ms Q (20, lv, r, y_hup ω a (.inr (ci, fs)), c, s)) := w_putfield dX1_init_17 rfl rfl rfl
theorem wX1_init_20 : y_w (M_X1_init ad) mc ms Q (20, lv, st, ω, c, s) = y_ldA lv 0 (fun v => y_w (M_X1_init ad) mc ms Q (21, lv, v :: st, ω, c, s)) := w_aload_n dX1_init_20 rfl rfl
theorem wX1_init_21 : y_w (M_X1_init ad) mc ms Q (21, lv, st, ω, c, s) = y_w (M_X1_init ad) mc ms Q (23, lv, .int (nI 8) :: st, ω, c, s) := w_bipush dX1_init_21 (v := (nI 8)) (by decide) rfl
theorem wX1_init_23 : y_w (M_X1_init ad) mc ms Q (23, lv, .int x :: r, ω, c, s) = ((¬ x < 0 ∧ x.toNatClampNeg * 4 ≤ 536870912 ∧ y_room mc ms c s x.toNatClampNeg) ∧ y_w (M_X1_init ad) mc ms Q (25, lv, .ref ω.1 :: r, y_hnew ω (.inl (0, y_at2 0 x.toNatClampNeg)), c + 1, s + x.toNatClampNeg)) := w_newarray dX1_init_23 rfl rfl rfl
theorem wX1_init_25 : y_w (M_X1_init ad) mc ms Q (25, lv, v :: .ref a :: r, ω, c, s) = y_pf (P_X1_init ad) true 18 (ω.2 a) v (fun ci fs => y_w (M_X1_init ad) mc ms Q (28, lv, r, y_hup ω a (.inr (ci, fs)), c, s)) := w_putfield dX1_init_25 rfl rfl rfl
theorem wX1_init_28 : y_w (M_X1_init ad) mc ms Q (28, lv, st, ω, c, s) = y_ldA lv 0 (fun v => y_w (M_X1_init ad) mc ms Q (29, lv, v :: st, ω, c, s)) := w_aload_n dX1_init_28 rfl rfl
theorem wX1_init_29 : y_w (M_X1_init ad) mc ms Q (29, lv, st, ω, c, s) = y_w (M_X1_init ad) mc ms Q (31, lv, .int (nI 8) :: st, ω, c, s) := w_bipush dX1_init_29 (v := (nI 8)) (by decide) rfl
theorem wX1_init_31 : y_w (M_X1_init ad) mc ms Q (31, lv, .int x :: r, ω, c, s) = ((¬ x < 0 ∧ x.toNatClampNeg * 4 ≤ 536870912 ∧ y_room mc ms c s x.toNatClampNeg) ∧ y_w (M_X1_init ad) mc ms Q (33, lv, .ref ω.1 :: r, y_hnew ω (.inl (0, y_at2 0 x.toNatClampNeg)), c + 1, s + x.toNatClampNeg)) := w_newarray dX1_init_31 rfl rfl rfl
theorem wX1_init_33 : y_w (M_X1_init ad) mc ms Q (33, lv, v :: .ref a :: r, ω, c, s) = y_pf (P_X1_init ad) true 21 (ω.2 a) v (fun ci fs => y_w (M_X1_init ad) mc ms Q (36, lv, r, y_hup ω a (.inr (ci, fs)), c, s)) := w_putfield dX1_init_33 rfl rfl rfl
theorem wX1_init_36 : y_w (M_X1_init ad) mc ms Q (36, lv, st, ω, c, s) = y_ldA lv 0 (fun v => y_w (M_X1_init ad) mc ms Q (37, lv, v :: st, ω, c, s)) := w_aload_n dX1_init_36 rfl rfl
theorem wX1_init_37 : y_w (M_X1_init ad) mc ms Q (37, lv, st, ω, c, s) = (y_room mc ms c s 3 ∧ y_w (M_X1_init ad) mc ms Q (40, lv, .ref ω.1 :: st, y_hnew ω (.inr (14, [.int 0, .null, .int 0])), c + 1, s + 3)) := w_new dX1_init_37 rfl rfl rfl
theorem wX1_init_40 : y_w (M_X1_init ad) mc ms Q (40, lv, v :: r, ω, c, s) = (v.category = 1 ∧ y_w (M_X1_init ad) mc ms Q (41, lv, v :: v :: r, ω, c, s)) := w_dup dX1_init_40 rfl
theorem wX1_init_41 : y_w (M_X1_init ad) mc ms Q (41, lv, v0 :: r, ω, c, s) = (y_cat r ≤ 8 ∧ (y_ref (F_J2_init ad)) mc ms [v0] ω c s (y_aft (M_X1_init ad) 41 3 lv r (y_w (M_X1_init ad) mc ms Q) Q)) := w_call0 (av := [v0]) ⟨Or.inl ⟨rfl, rfl⟩, rfl⟩ dX1_init_41 rfl (y_ref_mono (y_F_mono _)) (y_dle rfl) (y_dle rfl) rfl rfl
theorem wX1_init_44 : y_w (M_X1_init ad) mc ms Q (44, lv, v :: .ref a :: r, ω, c, s) = y_pf (P_X1_init ad) true 27 (ω.2 a) v (fun ci fs => y_w (M_X1_init ad) mc ms Q (47, lv, r, y_hup ω a (.inr (ci, fs)), c, s)) := w_putfield dX1_init_44 rfl rfl rfl
theorem wX1_init_47 : y_w (M_X1_init ad) mc ms Q (47, lv, st, ω, c, s) = y_ldA lv 0 (fun v => y_w (M_X1_init ad) mc ms Q (48, lv, v :: st, ω, c, s)) := w_aload_n dX1_init_47 rfl rfl
theorem wX1_init_48 : y_w (M_X1_init ad) mc ms Q (48, lv, st, ω, c, s) = y_w (M_X1_init ad) mc ms Q (49, lv, .int (nI 4) :: st, ω, c, s) := w_iconst dX1_init_48 (v := (nI 4)) (by decide) rfl
theorem wX1_init_49 : y_w (M_X1_init ad) mc ms Q (49, lv, .int x :: r, ω, c, s) = ((¬ x < 0 ∧ x.toNatClampNeg * 4 ≤ 536870912 ∧ y_room mc ms c s x.toNatClampNeg) ∧ y_w (M_X1_init ad) mc ms Q (51, lv, .ref ω.1 :: r, y_hnew ω (.inl (0, y_at2 0 x.toNatClampNeg)), c + 1, s + x.toNatClampNeg)) := w_newarray dX1_init_49 rfl rfl rfl
theorem wX1_init_51 : y_w (M_X1_init ad) mc ms Q (51, lv, v :: .ref a :: r, ω, c, s) = y_pf (P_X1_init ad) true 31 (ω.2 a) v (fun ci fs => y_w (M_X1_init ad) mc ms Q (54, lv, r, y_hup ω a (.inr (ci, fs)), c, s)) := w_putfield dX1_init_51 rfl rfl rfl
theorem wX1_init_54 : y_w (M_X1_init ad) mc ms Q (54, lv, st, ω, c, s) = y_ldA lv 0 (fun v => y_w (M_X1_init ad) mc ms Q (55, lv, v :: st, ω, c, s)) := w_aload_n dX1_init_54 rfl rfl
theorem wX1_init_55 : y_w (M_X1_init ad) mc ms Q (55, lv, st, ω, c, s) = y_w (M_X1_init ad) mc ms Q (56, lv, .int (nI 4) :: st, ω, c, s) := w_iconst dX1_init_55 (v := (nI 4)) (by decide) rfl
theorem wX1_init_56 : y_w (M_X1_init ad) mc ms Q (56, lv, .int x :: r, ω, c, s) = ((¬ x < 0 ∧ x.toNatClampNeg * 4 ≤ 536870912 ∧ y_room mc ms c s x.toNatClampNeg) ∧ y_w (M_X1_init ad) mc ms Q (58, lv, .ref ω.1 :: r, y_hnew ω (.inl (0, y_at2 0 x.toNatClampNeg)), c + 1, s + x.toNatClampNeg)) := w_newarray dX1_init_56 rfl rfl rfl
theorem wX1_init_58 : y_w (M_X1_init ad) mc ms Q (58, lv, v :: .ref a :: r, ω, c, s) = y_pf (P_X1_init ad) true 34 (ω.2 a) v (fun ci fs => y_w (M_X1_init ad) mc ms Q (61, lv, r, y_hup ω a (.inr (ci, fs)), c, s)) := w_putfield dX1_init_58 rfl rfl rfl
theorem wX1_init_61 : y_w (M_X1_init ad) mc ms Q (61, lv, st, ω, c, s) = y_ldA lv 0 (fun v => y_w (M_X1_init ad) mc ms Q (62, lv, v :: st, ω, c, s)) := w_aload_n dX1_init_61 rfl rfl
theorem wX1_init_62 : y_w (M_X1_init ad) mc ms Q (62, lv, st, ω, c, s) = y_w (M_X1_init ad) mc ms Q (63, lv, .int (nI 4) :: st, ω, c, s) := w_iconst dX1_init_62 (v := (nI 4)) (by decide) rfl
theorem wX1_init_63 : y_w (M_X1_init ad) mc ms Q (63, lv, .int x :: r, ω, c, s) = ((¬ x < 0 ∧ x.toNatClampNeg * 4 ≤ 536870912 ∧ y_room mc ms c s x.toNatClampNeg) ∧ y_w (M_X1_init ad) mc ms Q (65, lv, .ref ω.1 :: r, y_hnew ω (.inl (0, y_at2 0 x.toNatClampNeg)), c + 1, s + x.toNatClampNeg)) := w_newarray dX1_init_63 rfl rfl rfl
theorem wX1_init_65 : y_w (M_X1_init ad) mc ms Q (65, lv, v :: .ref a :: r, ω, c, s) = y_pf (P_X1_init ad) true 37 (ω.2 a) v (fun ci fs => y_w (M_X1_init ad) mc ms Q (68, lv, r, y_hup ω a (.inr (ci, fs)), c, s)) := w_putfield dX1_init_65 rfl rfl rfl
theorem wX1_init_68 : y_w (M_X1_init ad) mc ms Q (68, lv, st, ω, c, s) = y_ldA lv 0 (fun v => y_w (M_X1_init ad) mc ms Q (69, lv, v :: st, ω, c, s)) := w_aload_n dX1_init_68 rfl rfl
theorem wX1_init_69 : y_w (M_X1_init ad) mc ms Q (69, lv, st, ω, c, s) = y_w (M_X1_init ad) mc ms Q (70, lv, .int (nI 4) :: st, ω, c, s) := w_iconst dX1_init_69 (v := (nI 4)) (by decide) rfl
theorem wX1_init_70 : y_w (M_X1_init ad) mc ms Q (70, lv, .int x :: r, ω, c, s) = ((¬ x < 0 ∧ x.toNatClampNeg * 4 ≤ 536870912 ∧ y_room mc ms c s x.toNatClampNeg) ∧ y_w (M_X1_init ad) mc ms Q (72, lv, .ref ω.1 :: r, y_hnew ω (.inl (0, y_at2 0 x.toNatClampNeg)), c + 1, s + x.toNatClampNeg)) := w_newarray dX1_init_70 rfl rfl rfl
theorem wX1_init_72 : y_w (M_X1_init ad) mc ms Q (72, lv, v :: .ref a :: r, ω, c, s) = y_pf (P_X1_init ad) true 40 (ω.2 a) v (fun ci fs => y_w (M_X1_init ad) mc ms Q (75, lv, r, y_hup ω a (.inr (ci, fs)), c, s)) := w_putfield dX1_init_72 rfl rfl rfl
theorem wX1_init_75 : y_w (M_X1_init ad) mc ms Q (75, lv, st, ω, c, s) = y_ldA lv 0 (fun v => y_w (M_X1_init ad) mc ms Q (76, lv, v :: st, ω, c, s)) := w_aload_n dX1_init_75 rfl rfl
theorem wX1_init_76 : y_w (M_X1_init ad) mc ms Q (76, lv, st, ω, c, s) = y_w (M_X1_init ad) mc ms Q (77, lv, .int (nI 4) :: st, ω, c, s) := w_iconst dX1_init_76 (v := (nI 4)) (by decide) rfl
theorem wX1_init_77 : y_w (M_X1_init ad) mc ms Q (77, lv, .int x :: r, ω, c, s) = ((¬ x < 0 ∧ x.toNatClampNeg * 4 ≤ 536870912 ∧ y_room mc ms c s x.toNatClampNeg) ∧ y_w (M_X1_init ad) mc ms Q (79, lv, .ref ω.1 :: r, y_hnew ω (.inl (0, y_at2 0 x.toNatClampNeg)), c + 1, s + x.toNatClampNeg)) := w_newarray dX1_init_77 rfl rfl rfl
theorem wX1_init_79 : y_w (M_X1_init ad) mc ms Q (79, lv, v :: .ref a :: r, ω, c, s) = y_pf (P_X1_init ad) true 43 (ω.2 a) v (fun ci fs => y_w (M_X1_init ad) mc ms Q (82, lv, r, y_hup ω a (.inr (ci, fs)), c, s)) := w_putfield dX1_init_79 rfl rfl rfl
theorem wX1_init_82 : y_w (M_X1_init ad) mc ms Q (82, lv, st, ω, c, s) = y_ldA lv 0 (fun v => y_w (M_X1_init ad) mc ms Q (83, lv, v :: st, ω, c, s)) := w_aload_n dX1_init_82 rfl rfl
theorem wX1_init_83 : y_w (M_X1_init ad) mc ms Q (83, lv, st, ω, c, s) = y_w (M_X1_init ad) mc ms Q (84, lv, .int (nI 4) :: st, ω, c, s) := w_iconst dX1_init_83 (v := (nI 4)) (by decide) rfl
theorem wX1_init_84 : y_w (M_X1_init ad) mc ms Q (84, lv, .int x :: r, ω, c, s) = ((¬ x < 0 ∧ x.toNatClampNeg * 4 ≤ 536870912 ∧ y_room mc ms c s x.toNatClampNeg) ∧ y_w (M_X1_init ad) mc ms Q (86, lv, .ref ω.1 :: r, y_hnew ω (.inl (0, y_at2 0 x.toNatClampNeg)), c + 1, s + x.toNatClampNeg)) := w_newarray dX1_init_84 rfl rfl rfl
theorem wX1_init_86 : y_w (M_X1_init ad) mc ms Q (86, lv, v :: .ref a :: r, ω, c, s) = y_pf (P_X1_init ad) true 46 (ω.2 a) v (fun ci fs => y_w (M_X1_init ad) mc ms Q (89, lv, r, y_hup ω a (.inr (ci, fs)), c, s)) := w_putfield dX1_init_86 rfl rfl rfl
theorem wX1_init_89 : y_w (M_X1_init ad) mc ms Q (89, lv, [], ω, c, s) = Q (.returned none) ω c s := w_return dX1_init_89 rfl
def P_X2_init : y_Pool := ([(9, 2, 0, (.array .int), true)], [], [], [(3, 2, 0, 1, (1, 20), y_oinit)], [], [], [])
def M_X2_init : y_Md := (cX2_init, "YoungerBack$Trail", (1, none), (1, 20), true, P_X2_init, [])
def F_X2_init : y_Tr := y_F M_X2_init
theorem nX2_init : y_nL M_X2_init = 1 := rfl
theorem fX2_init_9_2 : y_ffP P_X2_init 9 2 = some (0, (.array .int), true) := rfl
theorem wX2_init_0 : y_w M_X2_init mc ms Q (0, lv, st, ω, c, s) = y_ldA lv 0 (fun v => y_w M_X2_init mc ms Q (1, lv, v :: st, ω, c, s)) := w_aload_n dX2_init_0 rfl rfl
theorem wX2_init_1 : y_w M_X2_init mc ms Q (1, lv, v0 :: r, ω, c, s) = (y_cat r ≤ 8 ∧ y_oinit mc ms [v0] ω c s (y_aft M_X2_init 1 3 lv r (y_w M_X2_init mc ms Q) Q)) := w_call0 (av := [v0]) ⟨Or.inl ⟨rfl, rfl⟩, rfl⟩ dX2_init_1 rfl y_oinit_mono (y_dle rfl) (y_dle rfl) rfl rfl
theorem wX2_init_4 : y_w M_X2_init mc ms Q (4, lv, st, ω, c, s) = y_ldA lv 0 (fun v => y_w M_X2_init mc ms Q (5, lv, v :: st, ω, c, s)) := w_aload_n dX2_init_4 rfl rfl
theorem wX2_init_5 : y_w M_X2_init mc ms Q (5, lv, st, ω, c, s) = y_w M_X2_init mc ms Q (7, lv, .int (nI 16) :: st, ω, c, s) := w_bipush dX2_init_5 (v := (nI 16)) (by decide) rfl
theorem wX2_init_7 : y_w M_X2_init mc ms Q (7, lv, .int x :: r, ω, c, s) = ((¬ x < 0 ∧ x.toNatClampNeg * 4 ≤ 536870912 ∧ y_room mc ms c s x.toNatClampNeg) ∧ y_w M_X2_init mc ms Q (9, lv, .ref ω.1 :: r, y_hnew ω (.inl (0, y_at2 0 x.toNatClampNeg)), c + 1, s + x.toNatClampNeg)) := w_newarray dX2_init_7 rfl rfl rfl
theorem wX2_init_9 : y_w M_X2_init mc ms Q (9, lv, v :: .ref a :: r, ω, c, s) = y_pf P_X2_init true 9 (ω.2 a) v (fun ci fs => y_w M_X2_init mc ms Q (12, lv, r, y_hup ω a (.inr (ci, fs)), c, s)) := w_putfield dX2_init_9 rfl rfl rfl
theorem wX2_init_12 : y_w M_X2_init mc ms Q (12, lv, [], ω, c, s) = Q (.returned none) ω c s := w_return dX2_init_12 rfl
def P_X0_init (ad : y_Ad) : y_Pool := ([(28, 0, 0, (.array (.object "YoungerBack$Row")), true), (32, 0, 1, (.array .byte), true), (39, 0, 4, (.object "YoungerBack$League"), true), (43, 0, 5, (.array (.object "YoungerBack$League")), true), (47, 0, 7, (.array (.object "YoungerBack$League")), true), (53, 0, 8, (.object "YoungerBack$Trail"), false), (57, 0, 10, (.array .long), true), (61, 0, 11, (.array .long), true)], [(36, 1, [.int 0, .int 0, .int 0, .null, .null, .null, .null, .null, .null, .null, .null, .null, .null, .null]), (50, 2, [.null, .int 0])], [], [(21, 2, 0, 1, (1, 20), y_oinit), (38, 2, 0, 1, (5, 100), (y_ref (F_X1_init ad))), (52, 2, 0, 1, (2, 40), (y_ref F_X2_init))], [], [(26, 5), (36, 6)], [])
def M_X0_init (ad : y_Ad) : y_Md := (cX0_init, "YoungerBack", (1, none), (5, 100), true, (P_X0_init ad), [])
def F_X0_init (ad : y_Ad) : y_Tr := y_F (M_X0_init ad)
theorem nX0_init : y_nL (M_X0_init ad) = 1 := rfl
theorem fX0_init_28_0 : y_ffP (P_X0_init ad) 28 0 = some (0, (.array (.object "YoungerBack$Row")), true) := rfl
theorem fX0_init_32_0 : y_ffP (P_X0_init ad) 32 0 = some (1, (.array .byte), true) := rfl
theorem fX0_init_39_0 : y_ffP (P_X0_init ad) 39 0 = some (4, (.object "YoungerBack$League"), true) := rfl
theorem fX0_init_43_0 : y_ffP (P_X0_init ad) 43 0 = some (5, (.array (.object "YoungerBack$League")), true) := rfl
theorem fX0_init_47_0 : y_ffP (P_X0_init ad) 47 0 = some (7, (.array (.object "YoungerBack$League")), true) := rfl
theorem fX0_init_53_0 : y_ffP (P_X0_init ad) 53 0 = some (8, (.object "YoungerBack$Trail"), false) := rfl
theorem fX0_init_57_0 : y_ffP (P_X0_init ad) 57 0 = some (10, (.array .long), true) := rfl
theorem fX0_init_61_0 : y_ffP (P_X0_init ad) 61 0 = some (11, (.array .long), true) := rfl
theorem wX0_init_0 : y_w (M_X0_init ad) mc ms Q (0, lv, st, ω, c, s) = y_ldA lv 0 (fun v => y_w (M_X0_init ad) mc ms Q (1, lv, v :: st, ω, c, s)) := w_aload_n dX0_init_0 rfl rfl
theorem wX0_init_1 : y_w (M_X0_init ad) mc ms Q (1, lv, v0 :: r, ω, c, s) = (y_cat r ≤ 8 ∧ y_oinit mc ms [v0] ω c s (y_aft (M_X0_init ad) 1 3 lv r (y_w (M_X0_init ad) mc ms Q) Q)) := w_call0 (av := [v0]) ⟨Or.inl ⟨rfl, rfl⟩, rfl⟩ dX0_init_1 rfl y_oinit_mono (y_dle rfl) (y_dle rfl) rfl rfl
theorem wX0_init_4 : y_w (M_X0_init ad) mc ms Q (4, lv, st, ω, c, s) = y_ldA lv 0 (fun v => y_w (M_X0_init ad) mc ms Q (5, lv, v :: st, ω, c, s)) := w_aload_n dX0_init_4 rfl rfl
theorem wX0_init_5 : y_w (M_X0_init ad) mc ms Q (5, lv, st, ω, c, s) = y_w (M_X0_init ad) mc ms Q (7, lv, .int (nI 8) :: st, ω, c, s) := w_bipush dX0_init_5 (v := (nI 8)) (by decide) rfl
theorem wX0_init_7 : y_w (M_X0_init ad) mc ms Q (7, lv, .int x :: r, ω, c, s) = ((¬ x < 0 ∧ x.toNatClampNeg * 4 ≤ 536870912 ∧ y_room mc ms c s x.toNatClampNeg) ∧ y_w (M_X0_init ad) mc ms Q (10, lv, .ref ω.1 :: r, y_hnew ω (.inl (5, x.toNatClampNeg, .inr (.inr (.inr (.inr (fun _ => none)))))), c + 1, s + x.toNatClampNeg)) := w_anewarray dX0_init_7 rfl rfl
theorem wX0_init_10 : y_w (M_X0_init ad) mc ms Q (10, lv, v :: .ref a :: r, ω, c, s) = y_pf (P_X0_init ad) true 28 (ω.2 a) v (fun ci fs => y_w (M_X0_init ad) mc ms Q (13, lv, r, y_hup ω a (.inr (ci, fs)), c, s)) := w_putfield dX0_init_10 rfl rfl rfl
theorem wX0_init_13 : y_w (M_X0_init ad) mc ms Q (13, lv, st, ω, c, s) = y_ldA lv 0 (fun v => y_w (M_X0_init ad) mc ms Q (14, lv, v :: st, ω, c, s)) := w_aload_n dX0_init_13 rfl rfl
theorem wX0_init_14 : y_w (M_X0_init ad) mc ms Q (14, lv, st, ω, c, s) = y_w (M_X0_init ad) mc ms Q (17, lv, .int (nI 400) :: st, ω, c, s) := w_sipush dX0_init_14 (v := (nI 400)) (by decide) rfl
theorem wX0_init_17 : y_w (M_X0_init ad) mc ms Q (17, lv, .int x :: r, ω, c, s) = ((¬ x < 0 ∧ x.toNatClampNeg * 1 ≤ 536870912 ∧ y_room mc ms c s x.toNatClampNeg) ∧ y_w (M_X0_init ad) mc ms Q (19, lv, .ref ω.1 :: r, y_hnew ω (.inl (1, y_at2 1 x.toNatClampNeg)), c + 1, s + x.toNatClampNeg)) := w_newarray dX0_init_17 rfl rfl rfl
theorem wX0_init_19 : y_w (M_X0_init ad) mc ms Q (19, lv, v :: .ref a :: r, ω, c, s) = y_pf (P_X0_init ad) true 32 (ω.2 a) v (fun ci fs => y_w (M_X0_init ad) mc ms Q (22, lv, r, y_hup ω a (.inr (ci, fs)), c, s)) := w_putfield dX0_init_19 rfl rfl rfl
theorem wX0_init_22 : y_w (M_X0_init ad) mc ms Q (22, lv, st, ω, c, s) = y_ldA lv 0 (fun v => y_w (M_X0_init ad) mc ms Q (23, lv, v :: st, ω, c, s)) := w_aload_n dX0_init_22 rfl rfl
theorem wX0_init_23 : y_w (M_X0_init ad) mc ms Q (23, lv, st, ω, c, s) = (y_room mc ms c s 14 ∧ y_w (M_X0_init ad) mc ms Q (26, lv, .ref ω.1 :: st, y_hnew ω (.inr (1, [.int 0, .int 0, .int 0, .null, .null, .null, .null, .null, .null, .null, .null, .null, .null, .null])), c + 1, s + 14)) := w_new dX0_init_23 rfl rfl rfl
theorem wX0_init_26 : y_w (M_X0_init ad) mc ms Q (26, lv, v :: r, ω, c, s) = (v.category = 1 ∧ y_w (M_X0_init ad) mc ms Q (27, lv, v :: v :: r, ω, c, s)) := w_dup dX0_init_26 rfl
theorem wX0_init_27 : y_w (M_X0_init ad) mc ms Q (27, lv, v0 :: r, ω, c, s) = (y_cat r ≤ 8 ∧ (y_ref (F_X1_init ad)) mc ms [v0] ω c s (y_aft (M_X0_init ad) 27 3 lv r (y_w (M_X0_init ad) mc ms Q) Q)) := w_call0 (av := [v0]) ⟨Or.inl ⟨rfl, rfl⟩, rfl⟩ dX0_init_27 rfl (y_ref_mono (y_F_mono _)) (y_dle rfl) (y_dle rfl) rfl rfl
theorem wX0_init_30 : y_w (M_X0_init ad) mc ms Q (30, lv, v :: .ref a :: r, ω, c, s) = y_pf (P_X0_init ad) true 39 (ω.2 a) v (fun ci fs => y_w (M_X0_init ad) mc ms Q (33, lv, r, y_hup ω a (.inr (ci, fs)), c, s)) := w_putfield dX0_init_30 rfl rfl rfl
theorem wX0_init_33 : y_w (M_X0_init ad) mc ms Q (33, lv, st, ω, c, s) = y_ldA lv 0 (fun v => y_w (M_X0_init ad) mc ms Q (34, lv, v :: st, ω, c, s)) := w_aload_n dX0_init_33 rfl rfl
theorem wX0_init_34 : y_w (M_X0_init ad) mc ms Q (34, lv, st, ω, c, s) = y_w (M_X0_init ad) mc ms Q (36, lv, .int (nI 24) :: st, ω, c, s) := w_bipush dX0_init_34 (v := (nI 24)) (by decide) rfl
theorem wX0_init_36 : y_w (M_X0_init ad) mc ms Q (36, lv, .int x :: r, ω, c, s) = ((¬ x < 0 ∧ x.toNatClampNeg * 4 ≤ 536870912 ∧ y_room mc ms c s x.toNatClampNeg) ∧ y_w (M_X0_init ad) mc ms Q (39, lv, .ref ω.1 :: r, y_hnew ω (.inl (6, x.toNatClampNeg, .inr (.inr (.inr (.inr (fun _ => none)))))), c + 1, s + x.toNatClampNeg)) := w_anewarray dX0_init_36 rfl rfl
theorem wX0_init_39 : y_w (M_X0_init ad) mc ms Q (39, lv, v :: .ref a :: r, ω, c, s) = y_pf (P_X0_init ad) true 43 (ω.2 a) v (fun ci fs => y_w (M_X0_init ad) mc ms Q (42, lv, r, y_hup ω a (.inr (ci, fs)), c, s)) := w_putfield dX0_init_39 rfl rfl rfl
theorem wX0_init_42 : y_w (M_X0_init ad) mc ms Q (42, lv, st, ω, c, s) = y_ldA lv 0 (fun v => y_w (M_X0_init ad) mc ms Q (43, lv, v :: st, ω, c, s)) := w_aload_n dX0_init_42 rfl rfl
theorem wX0_init_43 : y_w (M_X0_init ad) mc ms Q (43, lv, st, ω, c, s) = y_w (M_X0_init ad) mc ms Q (44, lv, .int (nI 2) :: st, ω, c, s) := w_iconst dX0_init_43 (v := (nI 2)) (by decide) rfl
theorem wX0_init_44 : y_w (M_X0_init ad) mc ms Q (44, lv, .int x :: r, ω, c, s) = ((¬ x < 0 ∧ x.toNatClampNeg * 4 ≤ 536870912 ∧ y_room mc ms c s x.toNatClampNeg) ∧ y_w (M_X0_init ad) mc ms Q (47, lv, .ref ω.1 :: r, y_hnew ω (.inl (6, x.toNatClampNeg, .inr (.inr (.inr (.inr (fun _ => none)))))), c + 1, s + x.toNatClampNeg)) := w_anewarray dX0_init_44 rfl rfl
theorem wX0_init_47 : y_w (M_X0_init ad) mc ms Q (47, lv, v :: .ref a :: r, ω, c, s) = y_pf (P_X0_init ad) true 47 (ω.2 a) v (fun ci fs => y_w (M_X0_init ad) mc ms Q (50, lv, r, y_hup ω a (.inr (ci, fs)), c, s)) := w_putfield dX0_init_47 rfl rfl rfl
theorem wX0_init_50 : y_w (M_X0_init ad) mc ms Q (50, lv, st, ω, c, s) = y_ldA lv 0 (fun v => y_w (M_X0_init ad) mc ms Q (51, lv, v :: st, ω, c, s)) := w_aload_n dX0_init_50 rfl rfl
theorem wX0_init_51 : y_w (M_X0_init ad) mc ms Q (51, lv, st, ω, c, s) = (y_room mc ms c s 2 ∧ y_w (M_X0_init ad) mc ms Q (54, lv, .ref ω.1 :: st, y_hnew ω (.inr (2, [.null, .int 0])), c + 1, s + 2)) := w_new dX0_init_51 rfl rfl rfl
theorem wX0_init_54 : y_w (M_X0_init ad) mc ms Q (54, lv, v :: r, ω, c, s) = (v.category = 1 ∧ y_w (M_X0_init ad) mc ms Q (55, lv, v :: v :: r, ω, c, s)) := w_dup dX0_init_54 rfl
theorem wX0_init_55 : y_w (M_X0_init ad) mc ms Q (55, lv, v0 :: r, ω, c, s) = (y_cat r ≤ 8 ∧ (y_ref F_X2_init) mc ms [v0] ω c s (y_aft (M_X0_init ad) 55 3 lv r (y_w (M_X0_init ad) mc ms Q) Q)) := w_call0 (av := [v0]) ⟨Or.inl ⟨rfl, rfl⟩, rfl⟩ dX0_init_55 rfl (y_ref_mono (y_F_mono _)) (y_dle rfl) (y_dle rfl) rfl rfl
theorem wX0_init_58 : y_w (M_X0_init ad) mc ms Q (58, lv, v :: .ref a :: r, ω, c, s) = y_pf (P_X0_init ad) true 53 (ω.2 a) v (fun ci fs => y_w (M_X0_init ad) mc ms Q (61, lv, r, y_hup ω a (.inr (ci, fs)), c, s)) := w_putfield dX0_init_58 rfl rfl rfl
theorem wX0_init_61 : y_w (M_X0_init ad) mc ms Q (61, lv, st, ω, c, s) = y_ldA lv 0 (fun v => y_w (M_X0_init ad) mc ms Q (62, lv, v :: st, ω, c, s)) := w_aload_n dX0_init_61 rfl rfl
theorem wX0_init_62 : y_w (M_X0_init ad) mc ms Q (62, lv, st, ω, c, s) = y_w (M_X0_init ad) mc ms Q (65, lv, .int (nI 205) :: st, ω, c, s) := w_sipush dX0_init_62 (v := (nI 205)) (by decide) rfl
theorem wX0_init_65 : y_w (M_X0_init ad) mc ms Q (65, lv, .int x :: r, ω, c, s) = ((¬ x < 0 ∧ x.toNatClampNeg * 8 ≤ 536870912 ∧ y_room mc ms c s x.toNatClampNeg) ∧ y_w (M_X0_init ad) mc ms Q (67, lv, .ref ω.1 :: r, y_hnew ω (.inl (2, y_at2 2 x.toNatClampNeg)), c + 1, s + x.toNatClampNeg)) := w_newarray dX0_init_65 rfl rfl rfl
theorem wX0_init_67 : y_w (M_X0_init ad) mc ms Q (67, lv, v :: .ref a :: r, ω, c, s) = y_pf (P_X0_init ad) true 57 (ω.2 a) v (fun ci fs => y_w (M_X0_init ad) mc ms Q (70, lv, r, y_hup ω a (.inr (ci, fs)), c, s)) := w_putfield dX0_init_67 rfl rfl rfl
theorem wX0_init_70 : y_w (M_X0_init ad) mc ms Q (70, lv, st, ω, c, s) = y_ldA lv 0 (fun v => y_w (M_X0_init ad) mc ms Q (71, lv, v :: st, ω, c, s)) := w_aload_n dX0_init_70 rfl rfl
theorem wX0_init_71 : y_w (M_X0_init ad) mc ms Q (71, lv, st, ω, c, s) = y_w (M_X0_init ad) mc ms Q (74, lv, .int (nI 205) :: st, ω, c, s) := w_sipush dX0_init_71 (v := (nI 205)) (by decide) rfl
theorem wX0_init_74 : y_w (M_X0_init ad) mc ms Q (74, lv, .int x :: r, ω, c, s) = ((¬ x < 0 ∧ x.toNatClampNeg * 8 ≤ 536870912 ∧ y_room mc ms c s x.toNatClampNeg) ∧ y_w (M_X0_init ad) mc ms Q (76, lv, .ref ω.1 :: r, y_hnew ω (.inl (2, y_at2 2 x.toNatClampNeg)), c + 1, s + x.toNatClampNeg)) := w_newarray dX0_init_74 rfl rfl rfl
theorem wX0_init_76 : y_w (M_X0_init ad) mc ms Q (76, lv, v :: .ref a :: r, ω, c, s) = y_pf (P_X0_init ad) true 61 (ω.2 a) v (fun ci fs => y_w (M_X0_init ad) mc ms Q (79, lv, r, y_hup ω a (.inr (ci, fs)), c, s)) := w_putfield dX0_init_76 rfl rfl rfl
theorem wX0_init_79 : y_w (M_X0_init ad) mc ms Q (79, lv, [], ω, c, s) = Q (.returned none) ω c s := w_return dX0_init_79 rfl
def P_X0_isIn : y_Pool := ([], [], [], [], [], [], [])
def M_X0_isIn : y_Md := (cX0_isIn, "YoungerBack", (6, (some FieldType.boolean)), (0, 0), false, P_X0_isIn, [])
def F_X0_isIn : y_Tr := y_F M_X0_isIn
theorem nX0_isIn : y_nL M_X0_isIn = 6 := rfl
theorem wX0_isIn_0 : y_w M_X0_isIn mc ms Q (0, lv, st, ω, c, s) = y_ldL lv 0 (fun v => y_w M_X0_isIn mc ms Q (1, lv, v :: st, ω, c, s)) := w_lload_n dX0_isIn_0 rfl rfl
theorem wX0_isIn_1 : y_w M_X0_isIn mc ms Q (1, lv, st, ω, c, s) = y_ldL lv 2 (fun v => y_w M_X0_isIn mc ms Q (2, lv, v :: st, ω, c, s)) := w_lload_n dX0_isIn_1 rfl rfl
theorem wX0_isIn_2 : y_w M_X0_isIn mc ms Q (2, lv, .long w :: .long z :: r, ω, c, s) = y_w M_X0_isIn mc ms Q (3, lv, .int (lg_cmp z w) :: r, ω, c, s) := w_lcmp dX0_isIn_2 rfl
theorem wX0_isIn_3 : y_w M_X0_isIn mc ms Q (3, lv, .int x :: r, ω, c, s) = ((x < 0 → y_w M_X0_isIn mc ms Q (17, lv, r, ω, c, s)) ∧ (¬ (x < 0) → y_w M_X0_isIn mc ms Q (6, lv, r, ω, c, s))) := w_if dX0_isIn_3 (tgt := 17) rfl rfl rfl
theorem wX0_isIn_6 : y_w M_X0_isIn mc ms Q (6, lv, st, ω, c, s) = y_ldL lv 0 (fun v => y_w M_X0_isIn mc ms Q (7, lv, v :: st, ω, c, s)) := w_lload_n dX0_isIn_6 rfl rfl
theorem wX0_isIn_7 : y_w M_X0_isIn mc ms Q (7, lv, st, ω, c, s) = y_ldL lv 4 (fun v => y_w M_X0_isIn mc ms Q (9, lv, v :: st, ω, c, s)) := w_lload dX0_isIn_7 rfl
theorem wX0_isIn_9 : y_w M_X0_isIn mc ms Q (9, lv, .long w :: .long z :: r, ω, c, s) = y_w M_X0_isIn mc ms Q (10, lv, .int (lg_cmp z w) :: r, ω, c, s) := w_lcmp dX0_isIn_9 rfl
theorem wX0_isIn_10 : y_w M_X0_isIn mc ms Q (10, lv, .int x :: r, ω, c, s) = ((0 < x → y_w M_X0_isIn mc ms Q (17, lv, r, ω, c, s)) ∧ (¬ (0 < x) → y_w M_X0_isIn mc ms Q (13, lv, r, ω, c, s))) := w_if dX0_isIn_10 (tgt := 17) rfl rfl rfl
theorem wX0_isIn_13 : y_w M_X0_isIn mc ms Q (13, lv, st, ω, c, s) = y_w M_X0_isIn mc ms Q (14, lv, .int 1 :: st, ω, c, s) := w_iconst dX0_isIn_13 (v := 1) (by decide) rfl
theorem wX0_isIn_14 : y_w M_X0_isIn mc ms Q (14, lv, st, ω, c, s) = y_w M_X0_isIn mc ms Q (18, lv, st, ω, c, s) := w_goto dX0_isIn_14 (tgt := 18) (by decide) rfl
theorem wX0_isIn_17 : y_w M_X0_isIn mc ms Q (17, lv, st, ω, c, s) = y_w M_X0_isIn mc ms Q (18, lv, .int 0 :: st, ω, c, s) := w_iconst dX0_isIn_17 (v := 0) (by decide) rfl
theorem wX0_isIn_18 : y_w M_X0_isIn mc ms Q (18, lv, [.int x], ω, c, s) = (narrow FieldType.boolean (.int x) = .int x ∧ Q (.returned (some (.int x))) ω c s) := w_ireturn dX0_isIn_18 rfl
def P_X0_isRow : y_Pool := ([], [], [(77, .long (lN 7))], [(79, 0, 0, 3, (1, 25), F_X0_isIn)], [], [], [])
def M_X0_isRow : y_Md := (cX0_isRow, "YoungerBack", (1, (some FieldType.boolean)), (1, 25), false, P_X0_isRow, [])
def F_X0_isRow : y_Tr := y_F M_X0_isRow
theorem nX0_isRow : y_nL M_X0_isRow = 1 := rfl
theorem wX0_isRow_0 : y_w M_X0_isRow mc ms Q (0, lv, st, ω, c, s) = y_ldI lv 0 (fun v => y_w M_X0_isRow mc ms Q (1, lv, v :: st, ω, c, s)) := w_iload_n dX0_isRow_0 rfl rfl
theorem wX0_isRow_1 : y_w M_X0_isRow mc ms Q (1, lv, .int x :: r, ω, c, s) = y_w M_X0_isRow mc ms Q (2, lv, .long x.toInt64 :: r, ω, c, s) := w_i2l dX0_isRow_1 rfl
theorem wX0_isRow_2 : y_w M_X0_isRow mc ms Q (2, lv, st, ω, c, s) = y_w M_X0_isRow mc ms Q (3, lv, .long 0 :: st, ω, c, s) := w_lconst dX0_isRow_2 (v := 0) (by decide) rfl
theorem wX0_isRow_3 : y_w M_X0_isRow mc ms Q (3, lv, st, ω, c, s) = y_w M_X0_isRow mc ms Q (6, lv, .long (lN 7) :: st, ω, c, s) := w_ldc2_w dX0_isRow_3 rfl rfl rfl
theorem wX0_isRow_6 : y_w M_X0_isRow mc ms Q (6, lv, v2 :: v1 :: v0 :: r, ω, c, s) = (y_cat r ≤ 8 ∧ F_X0_isIn mc ms [v0, v1, v2] ω c s (y_aft M_X0_isRow 6 3 lv r (y_w M_X0_isRow mc ms Q) Q)) := w_call0 (av := [v0, v1, v2]) ⟨Or.inr ⟨rfl, rfl⟩, rfl⟩ dX0_isRow_6 rfl (y_F_mono _) (y_dle rfl) (y_dle rfl) rfl rfl
theorem wX0_isRow_9 : y_w M_X0_isRow mc ms Q (9, lv, [.int x], ω, c, s) = (narrow FieldType.boolean (.int x) = .int x ∧ Q (.returned (some (.int x))) ω c s) := w_ireturn dX0_isRow_9 rfl
def P_X4_init (ad : y_Ad) : y_Pool := ([(7, 4, 6, .int, true)], [], [], [(1, 2, 0, 5, (3, 68), (y_ref (F_J4_init ad)))], [], [], [])
def M_X4_init (ad : y_Ad) : y_Md := (cX4_init, "YoungerBack$Finding", (2, none), (3, 68), true, (P_X4_init ad), [])
def F_X4_init (ad : y_Ad) : y_Tr := y_F (M_X4_init ad)
theorem nX4_init : y_nL (M_X4_init ad) = 2 := rfl
theorem fX4_init_7_4 : y_ffP (P_X4_init ad) 7 4 = some (6, .int, true) := rfl
theorem wX4_init_0 : y_w (M_X4_init ad) mc ms Q (0, lv, st, ω, c, s) = y_ldA lv 0 (fun v => y_w (M_X4_init ad) mc ms Q (1, lv, v :: st, ω, c, s)) := w_aload_n dX4_init_0 rfl rfl
theorem wX4_init_1 : y_w (M_X4_init ad) mc ms Q (1, lv, st, ω, c, s) = y_w (M_X4_init ad) mc ms Q (2, lv, .null :: st, ω, c, s) := w_aconst_null dX4_init_1 rfl
theorem wX4_init_2 : y_w (M_X4_init ad) mc ms Q (2, lv, st, ω, c, s) = y_w (M_X4_init ad) mc ms Q (3, lv, .null :: st, ω, c, s) := w_aconst_null dX4_init_2 rfl
theorem wX4_init_3 : y_w (M_X4_init ad) mc ms Q (3, lv, st, ω, c, s) = y_w (M_X4_init ad) mc ms Q (4, lv, .int 0 :: st, ω, c, s) := w_iconst dX4_init_3 (v := 0) (by decide) rfl
theorem wX4_init_4 : y_w (M_X4_init ad) mc ms Q (4, lv, st, ω, c, s) = y_w (M_X4_init ad) mc ms Q (5, lv, .int 0 :: st, ω, c, s) := w_iconst dX4_init_4 (v := 0) (by decide) rfl
theorem wX4_init_5 : y_w (M_X4_init ad) mc ms Q (5, lv, v4 :: v3 :: v2 :: v1 :: v0 :: r, ω, c, s) = (y_cat r ≤ 8 ∧ (y_ref (F_J4_init ad)) mc ms [v0, v1, v2, v3, v4] ω c s (y_aft (M_X4_init ad) 5 3 lv r (y_w (M_X4_init ad) mc ms Q) Q)) := w_call0 (av := [v0, v1, v2, v3, v4]) ⟨Or.inl ⟨rfl, rfl⟩, rfl⟩ dX4_init_5 rfl (y_ref_mono (y_F_mono _)) (y_dle rfl) (y_dle rfl) rfl rfl
theorem wX4_init_8 : y_w (M_X4_init ad) mc ms Q (8, lv, st, ω, c, s) = y_ldA lv 0 (fun v => y_w (M_X4_init ad) mc ms Q (9, lv, v :: st, ω, c, s)) := w_aload_n dX4_init_8 rfl rfl
theorem wX4_init_9 : y_w (M_X4_init ad) mc ms Q (9, lv, st, ω, c, s) = y_ldI lv 1 (fun v => y_w (M_X4_init ad) mc ms Q (10, lv, v :: st, ω, c, s)) := w_iload_n dX4_init_9 rfl rfl
theorem wX4_init_10 : y_w (M_X4_init ad) mc ms Q (10, lv, v :: .ref a :: r, ω, c, s) = y_pf (P_X4_init ad) true 7 (ω.2 a) v (fun ci fs => y_w (M_X4_init ad) mc ms Q (13, lv, r, y_hup ω a (.inr (ci, fs)), c, s)) := w_putfield dX4_init_10 rfl rfl rfl
theorem wX4_init_13 : y_w (M_X4_init ad) mc ms Q (13, lv, [], ω, c, s) = Q (.returned none) ω c s := w_return dX4_init_13 rfl
def P_X0_must (ad : y_Ad) : y_Pool := ([], [(65, 4, [.null, .null, .null, .null, .null, .int 0, .int 0])], [], [(74, 2, 0, 2, (4, 89), (y_ref (F_X4_init ad)))], [], [], [])
def M_X0_must (ad : y_Ad) : y_Md := (cX0_must, "YoungerBack", (2, none), (4, 89), false, (P_X0_must ad), [])
def F_X0_must (ad : y_Ad) : y_Tr := y_F (M_X0_must ad)
theorem nX0_must : y_nL (M_X0_must ad) = 2 := rfl
theorem wX0_must_0 : y_w (M_X0_must ad) mc ms Q (0, lv, st, ω, c, s) = y_ldI lv 0 (fun v => y_w (M_X0_must ad) mc ms Q (1, lv, v :: st, ω, c, s)) := w_iload_n dX0_must_0 rfl rfl
theorem wX0_must_1 : y_w (M_X0_must ad) mc ms Q (1, lv, .int x :: r, ω, c, s) = ((¬ x = 0 → y_w (M_X0_must ad) mc ms Q (13, lv, r, ω, c, s)) ∧ (¬ (¬ x = 0) → y_w (M_X0_must ad) mc ms Q (4, lv, r, ω, c, s))) := w_if dX0_must_1 (tgt := 13) rfl rfl rfl
theorem wX0_must_4 : y_w (M_X0_must ad) mc ms Q (4, lv, st, ω, c, s) = (y_room mc ms c s 7 ∧ y_w (M_X0_must ad) mc ms Q (7, lv, .ref ω.1 :: st, y_hnew ω (.inr (4, [.null, .null, .null, .null, .null, .int 0, .int 0])), c + 1, s + 7)) := w_new dX0_must_4 rfl rfl rfl
theorem wX0_must_7 : y_w (M_X0_must ad) mc ms Q (7, lv, v :: r, ω, c, s) = (v.category = 1 ∧ y_w (M_X0_must ad) mc ms Q (8, lv, v :: v :: r, ω, c, s)) := w_dup dX0_must_7 rfl
theorem wX0_must_8 : y_w (M_X0_must ad) mc ms Q (8, lv, st, ω, c, s) = y_ldI lv 1 (fun v => y_w (M_X0_must ad) mc ms Q (9, lv, v :: st, ω, c, s)) := w_iload_n dX0_must_8 rfl rfl
theorem wX0_must_9 : y_w (M_X0_must ad) mc ms Q (9, lv, v1 :: v0 :: r, ω, c, s) = (y_cat r ≤ 8 ∧ (y_ref (F_X4_init ad)) mc ms [v0, v1] ω c s (y_aft (M_X0_must ad) 9 3 lv r (y_w (M_X0_must ad) mc ms Q) Q)) := w_call0 (av := [v0, v1]) ⟨Or.inl ⟨rfl, rfl⟩, rfl⟩ dX0_must_9 rfl (y_ref_mono (y_F_mono _)) (y_dle rfl) (y_dle rfl) rfl rfl
theorem wX0_must_12 : y_w (M_X0_must ad) mc ms Q (12, lv, .ref a :: r, ω, c, s) = y_thr (M_X0_must ad) 12 lv ω a c s (y_w (M_X0_must ad) mc ms Q) Q [] := w_athrow dX0_must_12
theorem wX0_must_13 : y_w (M_X0_must ad) mc ms Q (13, lv, [], ω, c, s) = Q (.returned none) ω c s := w_return dX0_must_13 rfl
def P_X5_init : y_Pool := ([(9, 5, 0, .int, true), (15, 5, 1, (.array .int), true)], [], [], [(3, 2, 0, 1, (1, 20), y_oinit)], [], [], [])
def M_X5_init : y_Md := (cX5_init, "YoungerBack$Row", (3, none), (1, 20), true, P_X5_init, [])
def F_X5_init : y_Tr := y_F M_X5_init
theorem nX5_init : y_nL M_X5_init = 3 := rfl
theorem fX5_init_9_5 : y_ffP P_X5_init 9 5 = some (0, .int, true) := rfl
theorem fX5_init_15_5 : y_ffP P_X5_init 15 5 = some (1, (.array .int), true) := rfl
theorem wX5_init_0 : y_w M_X5_init mc ms Q (0, lv, st, ω, c, s) = y_ldA lv 0 (fun v => y_w M_X5_init mc ms Q (1, lv, v :: st, ω, c, s)) := w_aload_n dX5_init_0 rfl rfl
theorem wX5_init_1 : y_w M_X5_init mc ms Q (1, lv, v0 :: r, ω, c, s) = (y_cat r ≤ 8 ∧ y_oinit mc ms [v0] ω c s (y_aft M_X5_init 1 3 lv r (y_w M_X5_init mc ms Q) Q)) := w_call0 (av := [v0]) ⟨Or.inl ⟨rfl, rfl⟩, rfl⟩ dX5_init_1 rfl y_oinit_mono (y_dle rfl) (y_dle rfl) rfl rfl
theorem wX5_init_4 : y_w M_X5_init mc ms Q (4, lv, st, ω, c, s) = y_ldA lv 0 (fun v => y_w M_X5_init mc ms Q (5, lv, v :: st, ω, c, s)) := w_aload_n dX5_init_4 rfl rfl
theorem wX5_init_5 : y_w M_X5_init mc ms Q (5, lv, st, ω, c, s) = y_ldI lv 1 (fun v => y_w M_X5_init mc ms Q (6, lv, v :: st, ω, c, s)) := w_iload_n dX5_init_5 rfl rfl
theorem wX5_init_6 : y_w M_X5_init mc ms Q (6, lv, v :: .ref a :: r, ω, c, s) = y_pf P_X5_init true 9 (ω.2 a) v (fun ci fs => y_w M_X5_init mc ms Q (9, lv, r, y_hup ω a (.inr (ci, fs)), c, s)) := w_putfield dX5_init_6 rfl rfl rfl
theorem wX5_init_9 : y_w M_X5_init mc ms Q (9, lv, st, ω, c, s) = y_ldA lv 0 (fun v => y_w M_X5_init mc ms Q (10, lv, v :: st, ω, c, s)) := w_aload_n dX5_init_9 rfl rfl
theorem wX5_init_10 : y_w M_X5_init mc ms Q (10, lv, st, ω, c, s) = y_ldI lv 2 (fun v => y_w M_X5_init mc ms Q (11, lv, v :: st, ω, c, s)) := w_iload_n dX5_init_10 rfl rfl
theorem wX5_init_11 : y_w M_X5_init mc ms Q (11, lv, .int x :: r, ω, c, s) = ((¬ x < 0 ∧ x.toNatClampNeg * 4 ≤ 536870912 ∧ y_room mc ms c s x.toNatClampNeg) ∧ y_w M_X5_init mc ms Q (13, lv, .ref ω.1 :: r, y_hnew ω (.inl (0, y_at2 0 x.toNatClampNeg)), c + 1, s + x.toNatClampNeg)) := w_newarray dX5_init_11 rfl rfl rfl
theorem wX5_init_13 : y_w M_X5_init mc ms Q (13, lv, v :: .ref a :: r, ω, c, s) = y_pf P_X5_init true 15 (ω.2 a) v (fun ci fs => y_w M_X5_init mc ms Q (16, lv, r, y_hup ω a (.inr (ci, fs)), c, s)) := w_putfield dX5_init_13 rfl rfl rfl
theorem wX5_init_16 : y_w M_X5_init mc ms Q (16, lv, [], ω, c, s) = Q (.returned none) ω c s := w_return dX5_init_16 rfl
def P_X0_well : y_Pool := ([(70, 0, 9, .int, false)], [], [], [], [], [], [])
def M_X0_well : y_Md := (cX0_well, "YoungerBack", (2, (some FieldType.int)), (0, 0), false, P_X0_well, [])
def F_X0_well : y_Tr := y_F M_X0_well
theorem nX0_well : y_nL M_X0_well = 2 := rfl
theorem fX0_well_70_0 : y_ffP P_X0_well 70 0 = some (9, .int, false) := rfl
theorem wX0_well_0 : y_w M_X0_well mc ms Q (0, lv, st, ω, c, s) = y_ldA lv 0 (fun v => y_w M_X0_well mc ms Q (1, lv, v :: st, ω, c, s)) := w_aload_n dX0_well_0 rfl rfl
theorem wX0_well_1 : y_w M_X0_well mc ms Q (1, lv, st, ω, c, s) = y_w M_X0_well mc ms Q (2, lv, .int 0 :: st, ω, c, s) := w_iconst dX0_well_1 (v := 0) (by decide) rfl
theorem wX0_well_2 : y_w M_X0_well mc ms Q (2, lv, v :: .ref a :: r, ω, c, s) = y_pf P_X0_well false 70 (ω.2 a) v (fun ci fs => y_w M_X0_well mc ms Q (5, lv, r, y_hup ω a (.inr (ci, fs)), c, s)) := w_putfield dX0_well_2 rfl rfl rfl
theorem wX0_well_5 : y_w M_X0_well mc ms Q (5, lv, st, ω, c, s) = y_ldI lv 1 (fun v => y_w M_X0_well mc ms Q (6, lv, v :: st, ω, c, s)) := w_iload_n dX0_well_5 rfl rfl
theorem wX0_well_6 : y_w M_X0_well mc ms Q (6, lv, [.int x], ω, c, s) = Q (.returned (some (.int x))) ω c s := w_ireturnI dX0_well_6 rfl
def P_X0_found : y_Pool := ([(64, 4, 6, .int, true), (70, 0, 9, .int, false)], [], [(73, .int (-1000010))], [], [], [], [])
def M_X0_found : y_Md := (cX0_found, "YoungerBack", (2, (some FieldType.int)), (0, 0), false, P_X0_found, [])
def F_X0_found : y_Tr := y_F M_X0_found
theorem nX0_found : y_nL M_X0_found = 2 := rfl
theorem fX0_found_64_4 : y_ffP P_X0_found 64 4 = some (6, .int, true) := rfl
theorem fX0_found_70_0 : y_ffP P_X0_found 70 0 = some (9, .int, false) := rfl
theorem wX0_found_0 : y_w M_X0_found mc ms Q (0, lv, st, ω, c, s) = y_ldA lv 0 (fun v => y_w M_X0_found mc ms Q (1, lv, v :: st, ω, c, s)) := w_aload_n dX0_found_0 rfl rfl
theorem wX0_found_1 : y_w M_X0_found mc ms Q (1, lv, st, ω, c, s) = y_ldA lv 1 (fun v => y_w M_X0_found mc ms Q (2, lv, v :: st, ω, c, s)) := w_aload_n dX0_found_1 rfl rfl
theorem wX0_found_2 : y_w M_X0_found mc ms Q (2, lv, .ref a :: r, ω, c, s) = y_gf P_X0_found 64 (ω.2 a) (fun v => y_w M_X0_found mc ms Q (5, lv, v :: r, ω, c, s)) := w_getfield dX0_found_2 rfl rfl
theorem wX0_found_5 : y_w M_X0_found mc ms Q (5, lv, v :: .ref a :: r, ω, c, s) = y_pf P_X0_found false 70 (ω.2 a) v (fun ci fs => y_w M_X0_found mc ms Q (8, lv, r, y_hup ω a (.inr (ci, fs)), c, s)) := w_putfield dX0_found_5 rfl rfl rfl
theorem wX0_found_8 : y_w M_X0_found mc ms Q (8, lv, st, ω, c, s) = y_w M_X0_found mc ms Q (10, lv, .int (-1000010) :: st, ω, c, s) := w_ldc dX0_found_8 rfl rfl rfl
theorem wX0_found_10 : y_w M_X0_found mc ms Q (10, lv, st, ω, c, s) = y_ldA lv 1 (fun v => y_w M_X0_found mc ms Q (11, lv, v :: st, ω, c, s)) := w_aload_n dX0_found_10 rfl rfl
theorem wX0_found_11 : y_w M_X0_found mc ms Q (11, lv, .ref a :: r, ω, c, s) = y_gf P_X0_found 64 (ω.2 a) (fun v => y_w M_X0_found mc ms Q (14, lv, v :: r, ω, c, s)) := w_getfield dX0_found_11 rfl rfl
theorem wX0_found_14 : y_w M_X0_found mc ms Q (14, lv, .int y :: .int x :: r, ω, c, s) = y_w M_X0_found mc ms Q (15, lv, .int (x - y) :: r, ω, c, s) := w_isub dX0_found_14 rfl
theorem wX0_found_15 : y_w M_X0_found mc ms Q (15, lv, [.int x], ω, c, s) = Q (.returned (some (.int x))) ω c s := w_ireturnI dX0_found_15 rfl
def P_X0_row (ad : y_Ad) : y_Pool := ([(28, 0, 0, (.array (.object "YoungerBack$Row")), true)], [(26, 5, [.int 0, .null])], [(91, .long (lN 2)), (93, .int (-1000001))], [(87, 0, 0, 1, (2, 45), F_X0_isRow), (79, 0, 0, 3, (1, 25), F_X0_isIn), (83, 0, 0, 2, (5, 110), (F_X0_must ad)), (94, 2, 0, 3, (2, 42), (y_ref F_X5_init)), (95, 1, 0, 2, (1, 21), F_X0_well), (99, 1, 0, 2, (1, 21), F_X0_found)], [(65, 4, 3), (65, 7, 2), (65, 17, 2), (65, 18, 2)], [], [])
def M_X0_row (ad : y_Ad) : y_Md := (cX0_row, "YoungerBack", (5, (some FieldType.int)), (5, 110), false, (P_X0_row ad), [(28, 61, 62, 65)])
def F_X0_row (ad : y_Ad) : y_Tr := y_F (M_X0_row ad)
theorem nX0_row : y_nL (M_X0_row ad) = 5 := rfl
theorem tX0_row_65_4 : y_fh (M_X0_row ad) 65 4 = some 3 := rfl
theorem tX0_row_65_7 : y_fh (M_X0_row ad) 65 7 = some 2 := rfl
theorem tX0_row_65_17 : y_fh (M_X0_row ad) 65 17 = some 2 := rfl
theorem tX0_row_65_18 : y_fh (M_X0_row ad) 65 18 = some 2 := rfl
theorem fX0_row_28_0 : y_ffP (P_X0_row ad) 28 0 = some (0, (.array (.object "YoungerBack$Row")), true) := rfl
theorem wX0_row_0 : y_w (M_X0_row ad) mc ms Q (0, lv, st, ω, c, s) = y_ldI lv 1 (fun v => y_w (M_X0_row ad) mc ms Q (1, lv, v :: st, ω, c, s)) := w_iload_n dX0_row_0 rfl rfl
theorem wX0_row_1 : y_w (M_X0_row ad) mc ms Q (1, lv, v0 :: r, ω, c, s) = (y_cat r ≤ 8 ∧ F_X0_isRow mc ms [v0] ω c s (y_aft (M_X0_row ad) 1 3 lv r (y_w (M_X0_row ad) mc ms Q) Q)) := w_call0 (av := [v0]) ⟨Or.inr ⟨rfl, rfl⟩, rfl⟩ dX0_row_1 rfl (y_F_mono _) (y_dle rfl) (y_dle rfl) rfl rfl
theorem wX0_row_4 : y_w (M_X0_row ad) mc ms Q (4, lv, .int x :: r, ω, c, s) = ((x = 0 → y_w (M_X0_row ad) mc ms Q (25, lv, r, ω, c, s)) ∧ (¬ (x = 0) → y_w (M_X0_row ad) mc ms Q (7, lv, r, ω, c, s))) := w_if dX0_row_4 (tgt := 25) rfl rfl rfl
theorem wX0_row_7 : y_w (M_X0_row ad) mc ms Q (7, lv, st, ω, c, s) = y_ldI lv 2 (fun v => y_w (M_X0_row ad) mc ms Q (8, lv, v :: st, ω, c, s)) := w_iload_n dX0_row_7 rfl rfl
theorem wX0_row_8 : y_w (M_X0_row ad) mc ms Q (8, lv, .int x :: r, ω, c, s) = y_w (M_X0_row ad) mc ms Q (9, lv, .long x.toInt64 :: r, ω, c, s) := w_i2l dX0_row_8 rfl
theorem wX0_row_9 : y_w (M_X0_row ad) mc ms Q (9, lv, st, ω, c, s) = y_w (M_X0_row ad) mc ms Q (10, lv, .long 0 :: st, ω, c, s) := w_lconst dX0_row_9 (v := 0) (by decide) rfl
theorem wX0_row_10 : y_w (M_X0_row ad) mc ms Q (10, lv, st, ω, c, s) = y_w (M_X0_row ad) mc ms Q (13, lv, .long (lN 2) :: st, ω, c, s) := w_ldc2_w dX0_row_10 rfl rfl rfl
theorem wX0_row_13 : y_w (M_X0_row ad) mc ms Q (13, lv, v2 :: v1 :: v0 :: r, ω, c, s) = (y_cat r ≤ 8 ∧ F_X0_isIn mc ms [v0, v1, v2] ω c s (y_aft (M_X0_row ad) 13 3 lv r (y_w (M_X0_row ad) mc ms Q) Q)) := w_call0 (av := [v0, v1, v2]) ⟨Or.inr ⟨rfl, rfl⟩, rfl⟩ dX0_row_13 rfl (y_F_mono _) (y_dle rfl) (y_dle rfl) rfl rfl
theorem wX0_row_16 : y_w (M_X0_row ad) mc ms Q (16, lv, .int x :: r, ω, c, s) = ((x = 0 → y_w (M_X0_row ad) mc ms Q (25, lv, r, ω, c, s)) ∧ (¬ (x = 0) → y_w (M_X0_row ad) mc ms Q (19, lv, r, ω, c, s))) := w_if dX0_row_16 (tgt := 25) rfl rfl rfl
theorem wX0_row_19 : y_w (M_X0_row ad) mc ms Q (19, lv, st, ω, c, s) = y_ldI lv 3 (fun v => y_w (M_X0_row ad) mc ms Q (20, lv, v :: st, ω, c, s)) := w_iload_n dX0_row_19 rfl rfl
theorem wX0_row_20 : y_w (M_X0_row ad) mc ms Q (20, lv, st, ω, c, s) = y_w (M_X0_row ad) mc ms Q (22, lv, .int (nI 40) :: st, ω, c, s) := w_bipush dX0_row_20 (v := (nI 40)) (by decide) rfl
theorem wX0_row_22 : y_w (M_X0_row ad) mc ms Q (22, lv, .int y :: .int x :: r, ω, c, s) = ((x ≤ y → y_w (M_X0_row ad) mc ms Q (28, lv, r, ω, c, s)) ∧ (¬ (x ≤ y) → y_w (M_X0_row ad) mc ms Q (25, lv, r, ω, c, s))) := w_icmp dX0_row_22 (tgt := 28) rfl rfl rfl
theorem wX0_row_25 : y_w (M_X0_row ad) mc ms Q (25, lv, st, ω, c, s) = y_w (M_X0_row ad) mc ms Q (27, lv, .int (-1000001) :: st, ω, c, s) := w_ldc dX0_row_25 rfl rfl rfl
theorem wX0_row_27 : y_w (M_X0_row ad) mc ms Q (27, lv, [.int x], ω, c, s) = Q (.returned (some (.int x))) ω c s := w_ireturnI dX0_row_27 rfl
theorem wX0_row_28 : y_w (M_X0_row ad) mc ms Q (28, lv, st, ω, c, s) = y_ldI lv 3 (fun v => y_w (M_X0_row ad) mc ms Q (29, lv, v :: st, ω, c, s)) := w_iload_n dX0_row_28 rfl rfl
theorem wX0_row_29 : y_w (M_X0_row ad) mc ms Q (29, lv, .int x :: r, ω, c, s) = ((x < 0 → y_w (M_X0_row ad) mc ms Q (36, lv, r, ω, c, s)) ∧ (¬ (x < 0) → y_w (M_X0_row ad) mc ms Q (32, lv, r, ω, c, s))) := w_if dX0_row_29 (tgt := 36) rfl rfl rfl
theorem wX0_row_32 : y_w (M_X0_row ad) mc ms Q (32, lv, st, ω, c, s) = y_w (M_X0_row ad) mc ms Q (33, lv, .int 1 :: st, ω, c, s) := w_iconst dX0_row_32 (v := 1) (by decide) rfl
theorem wX0_row_33 : y_w (M_X0_row ad) mc ms Q (33, lv, st, ω, c, s) = y_w (M_X0_row ad) mc ms Q (37, lv, st, ω, c, s) := w_goto dX0_row_33 (tgt := 37) (by decide) rfl
theorem wX0_row_36 : y_w (M_X0_row ad) mc ms Q (36, lv, st, ω, c, s) = y_w (M_X0_row ad) mc ms Q (37, lv, .int 0 :: st, ω, c, s) := w_iconst dX0_row_36 (v := 0) (by decide) rfl
theorem wX0_row_37 : y_w (M_X0_row ad) mc ms Q (37, lv, st, ω, c, s) = y_w (M_X0_row ad) mc ms Q (38, lv, .int (nI 4) :: st, ω, c, s) := w_iconst dX0_row_37 (v := (nI 4)) (by decide) rfl
theorem wX0_row_38 : y_w (M_X0_row ad) mc ms Q (38, lv, v1 :: v0 :: r, ω, c, s) = (y_cat r ≤ 8 ∧ (F_X0_must ad) mc ms [v0, v1] ω c s (y_aft (M_X0_row ad) 38 3 lv r (y_w (M_X0_row ad) mc ms Q) Q)) := w_call0 (av := [v0, v1]) ⟨Or.inr ⟨rfl, rfl⟩, rfl⟩ dX0_row_38 rfl (y_F_mono _) (y_dle rfl) (y_dle rfl) rfl rfl
theorem wX0_row_41 : y_w (M_X0_row ad) mc ms Q (41, lv, st, ω, c, s) = y_ldA lv 0 (fun v => y_w (M_X0_row ad) mc ms Q (42, lv, v :: st, ω, c, s)) := w_aload_n dX0_row_41 rfl rfl
theorem wX0_row_42 : y_w (M_X0_row ad) mc ms Q (42, lv, .ref a :: r, ω, c, s) = y_gf (P_X0_row ad) 28 (ω.2 a) (fun v => y_w (M_X0_row ad) mc ms Q (45, lv, v :: r, ω, c, s)) := w_getfield dX0_row_42 rfl rfl
theorem wX0_row_45 : y_w (M_X0_row ad) mc ms Q (45, lv, st, ω, c, s) = y_ldI lv 1 (fun v => y_w (M_X0_row ad) mc ms Q (46, lv, v :: st, ω, c, s)) := w_iload_n dX0_row_45 rfl rfl
theorem wX0_row_46 : y_w (M_X0_row ad) mc ms Q (46, lv, st, ω, c, s) = (y_room mc ms c s 2 ∧ y_w (M_X0_row ad) mc ms Q (49, lv, .ref ω.1 :: st, y_hnew ω (.inr (5, [.int 0, .null])), c + 1, s + 2)) := w_new dX0_row_46 rfl rfl rfl
theorem wX0_row_49 : y_w (M_X0_row ad) mc ms Q (49, lv, v :: r, ω, c, s) = (v.category = 1 ∧ y_w (M_X0_row ad) mc ms Q (50, lv, v :: v :: r, ω, c, s)) := w_dup dX0_row_49 rfl
theorem wX0_row_50 : y_w (M_X0_row ad) mc ms Q (50, lv, st, ω, c, s) = y_ldI lv 2 (fun v => y_w (M_X0_row ad) mc ms Q (51, lv, v :: st, ω, c, s)) := w_iload_n dX0_row_50 rfl rfl
theorem wX0_row_51 : y_w (M_X0_row ad) mc ms Q (51, lv, st, ω, c, s) = y_ldI lv 3 (fun v => y_w (M_X0_row ad) mc ms Q (52, lv, v :: st, ω, c, s)) := w_iload_n dX0_row_51 rfl rfl
theorem wX0_row_52 : y_w (M_X0_row ad) mc ms Q (52, lv, v2 :: v1 :: v0 :: r, ω, c, s) = (y_cat r ≤ 8 ∧ (y_ref F_X5_init) mc ms [v0, v1, v2] ω c s (y_aft (M_X0_row ad) 52 3 lv r (y_w (M_X0_row ad) mc ms Q) Q)) := w_call0 (av := [v0, v1, v2]) ⟨Or.inl ⟨rfl, rfl⟩, rfl⟩ dX0_row_52 rfl (y_ref_mono (y_F_mono _)) (y_dle rfl) (y_dle rfl) rfl rfl
theorem wX0_row_55 : y_w (M_X0_row ad) mc ms Q (55, lv, v :: .int j :: .ref a :: r, ω, c, s) = y_wA (ω.2 a) j v ω (fun e => y_w (M_X0_row ad) mc ms Q (56, lv, r, y_hup ω a e, c, s)) := w_aastore dX0_row_55 rfl
theorem wX0_row_56 : y_w (M_X0_row ad) mc ms Q (56, lv, st, ω, c, s) = y_ldA lv 0 (fun v => y_w (M_X0_row ad) mc ms Q (57, lv, v :: st, ω, c, s)) := w_aload_n dX0_row_56 rfl rfl
theorem wX0_row_57 : y_w (M_X0_row ad) mc ms Q (57, lv, st, ω, c, s) = y_ldI lv 3 (fun v => y_w (M_X0_row ad) mc ms Q (58, lv, v :: st, ω, c, s)) := w_iload_n dX0_row_57 rfl rfl
theorem wX0_row_58 (hc : y_cls ω a = some 0) : y_w (M_X0_row ad) mc ms Q (58, lv, v1 :: .ref a :: r, ω, c, s) = (y_cat r ≤ 8 ∧ F_X0_well mc ms [.ref a, v1] ω c s (y_aft (M_X0_row ad) 58 3 lv r (y_w (M_X0_row ad) mc ms Q) Q)) := w_call1 (av := [v1]) (Or.inl ⟨⟨rfl, rfl⟩, rfl⟩) dX0_row_58 rfl hc rfl (y_F_mono _) (y_dle rfl) (y_dle rfl) rfl rfl
theorem wX0_row_61 : y_w (M_X0_row ad) mc ms Q (61, lv, [.int x], ω, c, s) = Q (.returned (some (.int x))) ω c s := w_ireturnI dX0_row_61 rfl
theorem wX0_row_62 : y_w (M_X0_row ad) mc ms Q (62, lv, v :: r, ω, c, s) = (y_isA v = true ∧ y_w (M_X0_row ad) mc ms Q (64, (4, v) :: y_kill 4 lv, r, ω, c, s)) := w_astore dX0_row_62 (y_dle rfl) rfl
theorem wX0_row_64 : y_w (M_X0_row ad) mc ms Q (64, lv, st, ω, c, s) = y_ldA lv 0 (fun v => y_w (M_X0_row ad) mc ms Q (65, lv, v :: st, ω, c, s)) := w_aload_n dX0_row_64 rfl rfl
theorem wX0_row_65 : y_w (M_X0_row ad) mc ms Q (65, lv, st, ω, c, s) = y_ldA lv 4 (fun v => y_w (M_X0_row ad) mc ms Q (67, lv, v :: st, ω, c, s)) := w_aload dX0_row_65 rfl
theorem wX0_row_67 (hc : y_cls ω a = some 0) : y_w (M_X0_row ad) mc ms Q (67, lv, v1 :: .ref a :: r, ω, c, s) = (y_cat r ≤ 8 ∧ F_X0_found mc ms [.ref a, v1] ω c s (y_aft (M_X0_row ad) 67 3 lv r (y_w (M_X0_row ad) mc ms Q) Q)) := w_call1 (av := [v1]) (Or.inl ⟨⟨rfl, rfl⟩, rfl⟩) dX0_row_67 rfl hc rfl (y_F_mono _) (y_dle rfl) (y_dle rfl) rfl rfl
theorem wX0_row_70 : y_w (M_X0_row ad) mc ms Q (70, lv, [.int x], ω, c, s) = Q (.returned (some (.int x))) ω c s := w_ireturnI dX0_row_70 rfl
def P_X0_rowAt (ad : y_Ad) : y_Pool := ([(28, 0, 0, (.array (.object "YoungerBack$Row")), true)], [], [], [(83, 0, 0, 2, (5, 110), (F_X0_must ad))], [], [], [])
def M_X0_rowAt (ad : y_Ad) : y_Md := (cX0_rowAt, "YoungerBack", (2, (some (FieldType.object "YoungerBack$Row"))), (5, 110), false, (P_X0_rowAt ad), [])
def F_X0_rowAt (ad : y_Ad) : y_Tr := y_F (M_X0_rowAt ad)
theorem nX0_rowAt : y_nL (M_X0_rowAt ad) = 2 := rfl
theorem fX0_rowAt_28_0 : y_ffP (P_X0_rowAt ad) 28 0 = some (0, (.array (.object "YoungerBack$Row")), true) := rfl
theorem wX0_rowAt_0 : y_w (M_X0_rowAt ad) mc ms Q (0, lv, st, ω, c, s) = y_ldA lv 0 (fun v => y_w (M_X0_rowAt ad) mc ms Q (1, lv, v :: st, ω, c, s)) := w_aload_n dX0_rowAt_0 rfl rfl
theorem wX0_rowAt_1 : y_w (M_X0_rowAt ad) mc ms Q (1, lv, .ref a :: r, ω, c, s) = y_gf (P_X0_rowAt ad) 28 (ω.2 a) (fun v => y_w (M_X0_rowAt ad) mc ms Q (4, lv, v :: r, ω, c, s)) := w_getfield dX0_rowAt_1 rfl rfl
theorem wX0_rowAt_4 : y_w (M_X0_rowAt ad) mc ms Q (4, lv, st, ω, c, s) = y_ldI lv 1 (fun v => y_w (M_X0_rowAt ad) mc ms Q (5, lv, v :: st, ω, c, s)) := w_iload_n dX0_rowAt_4 rfl rfl
theorem wX0_rowAt_5 : y_w (M_X0_rowAt ad) mc ms Q (5, lv, .int j :: .ref a :: r, ω, c, s) = y_rA (ω.2 a) j (fun x => y_w (M_X0_rowAt ad) mc ms Q (6, lv, x :: r, ω, c, s)) := w_aaload dX0_rowAt_5 rfl
theorem wX0_rowAt_6 : y_w (M_X0_rowAt ad) mc ms Q (6, lv, v :: r, ω, c, s) = y_nul v (y_w (M_X0_rowAt ad) mc ms Q (13, lv, r, ω, c, s)) (y_w (M_X0_rowAt ad) mc ms Q (9, lv, r, ω, c, s)) := w_ifnull dX0_rowAt_6 rfl rfl
theorem wX0_rowAt_9 : y_w (M_X0_rowAt ad) mc ms Q (9, lv, st, ω, c, s) = y_w (M_X0_rowAt ad) mc ms Q (10, lv, .int 1 :: st, ω, c, s) := w_iconst dX0_rowAt_9 (v := 1) (by decide) rfl
theorem wX0_rowAt_10 : y_w (M_X0_rowAt ad) mc ms Q (10, lv, st, ω, c, s) = y_w (M_X0_rowAt ad) mc ms Q (14, lv, st, ω, c, s) := w_goto dX0_rowAt_10 (tgt := 14) (by decide) rfl
theorem wX0_rowAt_13 : y_w (M_X0_rowAt ad) mc ms Q (13, lv, st, ω, c, s) = y_w (M_X0_rowAt ad) mc ms Q (14, lv, .int 0 :: st, ω, c, s) := w_iconst dX0_rowAt_13 (v := 0) (by decide) rfl
theorem wX0_rowAt_14 : y_w (M_X0_rowAt ad) mc ms Q (14, lv, st, ω, c, s) = y_w (M_X0_rowAt ad) mc ms Q (15, lv, .int 1 :: st, ω, c, s) := w_iconst dX0_rowAt_14 (v := 1) (by decide) rfl
theorem wX0_rowAt_15 : y_w (M_X0_rowAt ad) mc ms Q (15, lv, v1 :: v0 :: r, ω, c, s) = (y_cat r ≤ 8 ∧ (F_X0_must ad) mc ms [v0, v1] ω c s (y_aft (M_X0_rowAt ad) 15 3 lv r (y_w (M_X0_rowAt ad) mc ms Q) Q)) := w_call0 (av := [v0, v1]) ⟨Or.inr ⟨rfl, rfl⟩, rfl⟩ dX0_rowAt_15 rfl (y_F_mono _) (y_dle rfl) (y_dle rfl) rfl rfl
theorem wX0_rowAt_18 : y_w (M_X0_rowAt ad) mc ms Q (18, lv, st, ω, c, s) = y_ldA lv 0 (fun v => y_w (M_X0_rowAt ad) mc ms Q (19, lv, v :: st, ω, c, s)) := w_aload_n dX0_rowAt_18 rfl rfl
theorem wX0_rowAt_19 : y_w (M_X0_rowAt ad) mc ms Q (19, lv, .ref a :: r, ω, c, s) = y_gf (P_X0_rowAt ad) 28 (ω.2 a) (fun v => y_w (M_X0_rowAt ad) mc ms Q (22, lv, v :: r, ω, c, s)) := w_getfield dX0_rowAt_19 rfl rfl
theorem wX0_rowAt_22 : y_w (M_X0_rowAt ad) mc ms Q (22, lv, st, ω, c, s) = y_ldI lv 1 (fun v => y_w (M_X0_rowAt ad) mc ms Q (23, lv, v :: st, ω, c, s)) := w_iload_n dX0_rowAt_22 rfl rfl
theorem wX0_rowAt_23 : y_w (M_X0_rowAt ad) mc ms Q (23, lv, .int j :: .ref a :: r, ω, c, s) = y_rA (ω.2 a) j (fun x => y_w (M_X0_rowAt ad) mc ms Q (24, lv, x :: r, ω, c, s)) := w_aaload dX0_rowAt_23 rfl
theorem wX0_rowAt_24 : y_w (M_X0_rowAt ad) mc ms Q (24, lv, [.ref a], ω, c, s) = Q (.returned (some (.ref a))) ω c s := w_areturn dX0_rowAt_24 rfl (Or.inl ⟨_, rfl⟩)
def P_X5_cut : y_Pool := ([(9, 5, 0, .int, true)], [], [], [], [], [], [])
def M_X5_cut : y_Md := (cX5_cut, "YoungerBack$Row", (2, (some FieldType.int)), (0, 0), false, P_X5_cut, [])
def F_X5_cut : y_Tr := y_F M_X5_cut
theorem nX5_cut : y_nL M_X5_cut = 2 := rfl
theorem fX5_cut_9_5 : y_ffP P_X5_cut 9 5 = some (0, .int, true) := rfl
theorem wX5_cut_0 : y_w M_X5_cut mc ms Q (0, lv, st, ω, c, s) = y_ldA lv 0 (fun v => y_w M_X5_cut mc ms Q (1, lv, v :: st, ω, c, s)) := w_aload_n dX5_cut_0 rfl rfl
theorem wX5_cut_1 : y_w M_X5_cut mc ms Q (1, lv, .ref a :: r, ω, c, s) = y_gf P_X5_cut 9 (ω.2 a) (fun v => y_w M_X5_cut mc ms Q (4, lv, v :: r, ω, c, s)) := w_getfield dX5_cut_1 rfl rfl
theorem wX5_cut_4 : y_w M_X5_cut mc ms Q (4, lv, .int x :: r, ω, c, s) = ((¬ x = 0 → y_w M_X5_cut mc ms Q (12, lv, r, ω, c, s)) ∧ (¬ (¬ x = 0) → y_w M_X5_cut mc ms Q (7, lv, r, ω, c, s))) := w_if dX5_cut_4 (tgt := 12) rfl rfl rfl
theorem wX5_cut_7 : y_w M_X5_cut mc ms Q (7, lv, st, ω, c, s) = y_ldI lv 1 (fun v => y_w M_X5_cut mc ms Q (8, lv, v :: st, ω, c, s)) := w_iload_n dX5_cut_7 rfl rfl
theorem wX5_cut_8 : y_w M_X5_cut mc ms Q (8, lv, .int x :: r, ω, c, s) = y_w M_X5_cut mc ms Q (9, lv, .int x.toInt8.toInt32 :: r, ω, c, s) := w_i2b dX5_cut_8 rfl
theorem wX5_cut_9 : y_w M_X5_cut mc ms Q (9, lv, st, ω, c, s) = y_w M_X5_cut mc ms Q (26, lv, st, ω, c, s) := w_goto dX5_cut_9 (tgt := 26) (by decide) rfl
theorem wX5_cut_12 : y_w M_X5_cut mc ms Q (12, lv, st, ω, c, s) = y_ldA lv 0 (fun v => y_w M_X5_cut mc ms Q (13, lv, v :: st, ω, c, s)) := w_aload_n dX5_cut_12 rfl rfl
theorem wX5_cut_13 : y_w M_X5_cut mc ms Q (13, lv, .ref a :: r, ω, c, s) = y_gf P_X5_cut 9 (ω.2 a) (fun v => y_w M_X5_cut mc ms Q (16, lv, v :: r, ω, c, s)) := w_getfield dX5_cut_13 rfl rfl
theorem wX5_cut_16 : y_w M_X5_cut mc ms Q (16, lv, st, ω, c, s) = y_w M_X5_cut mc ms Q (17, lv, .int 1 :: st, ω, c, s) := w_iconst dX5_cut_16 (v := 1) (by decide) rfl
theorem wX5_cut_17 : y_w M_X5_cut mc ms Q (17, lv, .int y :: .int x :: r, ω, c, s) = ((¬ x = y → y_w M_X5_cut mc ms Q (25, lv, r, ω, c, s)) ∧ (¬ (¬ x = y) → y_w M_X5_cut mc ms Q (20, lv, r, ω, c, s))) := w_icmp dX5_cut_17 (tgt := 25) rfl rfl rfl
theorem wX5_cut_20 : y_w M_X5_cut mc ms Q (20, lv, st, ω, c, s) = y_ldI lv 1 (fun v => y_w M_X5_cut mc ms Q (21, lv, v :: st, ω, c, s)) := w_iload_n dX5_cut_20 rfl rfl
theorem wX5_cut_21 : y_w M_X5_cut mc ms Q (21, lv, .int x :: r, ω, c, s) = y_w M_X5_cut mc ms Q (22, lv, .int x.toInt16.toInt32 :: r, ω, c, s) := w_i2s dX5_cut_21 rfl
theorem wX5_cut_22 : y_w M_X5_cut mc ms Q (22, lv, st, ω, c, s) = y_w M_X5_cut mc ms Q (26, lv, st, ω, c, s) := w_goto dX5_cut_22 (tgt := 26) (by decide) rfl
theorem wX5_cut_25 : y_w M_X5_cut mc ms Q (25, lv, st, ω, c, s) = y_ldI lv 1 (fun v => y_w M_X5_cut mc ms Q (26, lv, v :: st, ω, c, s)) := w_iload_n dX5_cut_25 rfl rfl
theorem wX5_cut_26 : y_w M_X5_cut mc ms Q (26, lv, [.int x], ω, c, s) = Q (.returned (some (.int x))) ω c s := w_ireturnI dX5_cut_26 rfl
def P_X0_set (ad : y_Ad) : y_Pool := ([(107, 5, 1, (.array .int), true)], [], [(93, .int (-1000001))], [(87, 0, 0, 1, (2, 45), F_X0_isRow), (103, 1, 0, 2, (6, 131), (F_X0_rowAt ad)), (79, 0, 0, 3, (1, 25), F_X0_isIn), (83, 0, 0, 2, (5, 110), (F_X0_must ad)), (111, 1, 5, 2, (1, 21), F_X5_cut), (95, 1, 0, 2, (1, 21), F_X0_well), (99, 1, 0, 2, (1, 21), F_X0_found)], [(65, 4, 3), (65, 7, 2), (65, 17, 2), (65, 18, 2)], [], [])
def M_X0_set (ad : y_Ad) : y_Md := (cX0_set, "YoungerBack", (5, (some FieldType.int)), (6, 131), false, (P_X0_set ad), [(10, 60, 61, 65)])
def F_X0_set (ad : y_Ad) : y_Tr := y_F (M_X0_set ad)
theorem nX0_set : y_nL (M_X0_set ad) = 5 := rfl
theorem tX0_set_65_4 : y_fh (M_X0_set ad) 65 4 = some 3 := rfl
theorem tX0_set_65_7 : y_fh (M_X0_set ad) 65 7 = some 2 := rfl
theorem tX0_set_65_17 : y_fh (M_X0_set ad) 65 17 = some 2 := rfl
theorem tX0_set_65_18 : y_fh (M_X0_set ad) 65 18 = some 2 := rfl
theorem fX0_set_107_5 : y_ffP (P_X0_set ad) 107 5 = some (1, (.array .int), true) := rfl
theorem wX0_set_0 : y_w (M_X0_set ad) mc ms Q (0, lv, st, ω, c, s) = y_ldI lv 1 (fun v => y_w (M_X0_set ad) mc ms Q (1, lv, v :: st, ω, c, s)) := w_iload_n dX0_set_0 rfl rfl
theorem wX0_set_1 : y_w (M_X0_set ad) mc ms Q (1, lv, v0 :: r, ω, c, s) = (y_cat r ≤ 8 ∧ F_X0_isRow mc ms [v0] ω c s (y_aft (M_X0_set ad) 1 3 lv r (y_w (M_X0_set ad) mc ms Q) Q)) := w_call0 (av := [v0]) ⟨Or.inr ⟨rfl, rfl⟩, rfl⟩ dX0_set_1 rfl (y_F_mono _) (y_dle rfl) (y_dle rfl) rfl rfl
theorem wX0_set_4 : y_w (M_X0_set ad) mc ms Q (4, lv, .int x :: r, ω, c, s) = ((¬ x = 0 → y_w (M_X0_set ad) mc ms Q (10, lv, r, ω, c, s)) ∧ (¬ (¬ x = 0) → y_w (M_X0_set ad) mc ms Q (7, lv, r, ω, c, s))) := w_if dX0_set_4 (tgt := 10) rfl rfl rfl
theorem wX0_set_7 : y_w (M_X0_set ad) mc ms Q (7, lv, st, ω, c, s) = y_w (M_X0_set ad) mc ms Q (9, lv, .int (-1000001) :: st, ω, c, s) := w_ldc dX0_set_7 rfl rfl rfl
theorem wX0_set_9 : y_w (M_X0_set ad) mc ms Q (9, lv, [.int x], ω, c, s) = Q (.returned (some (.int x))) ω c s := w_ireturnI dX0_set_9 rfl
theorem wX0_set_10 : y_w (M_X0_set ad) mc ms Q (10, lv, st, ω, c, s) = y_ldA lv 0 (fun v => y_w (M_X0_set ad) mc ms Q (11, lv, v :: st, ω, c, s)) := w_aload_n dX0_set_10 rfl rfl
theorem wX0_set_11 : y_w (M_X0_set ad) mc ms Q (11, lv, st, ω, c, s) = y_ldI lv 1 (fun v => y_w (M_X0_set ad) mc ms Q (12, lv, v :: st, ω, c, s)) := w_iload_n dX0_set_11 rfl rfl
theorem wX0_set_12 (hc : y_cls ω a = some 0) : y_w (M_X0_set ad) mc ms Q (12, lv, v1 :: .ref a :: r, ω, c, s) = (y_cat r ≤ 8 ∧ (F_X0_rowAt ad) mc ms [.ref a, v1] ω c s (y_aft (M_X0_set ad) 12 3 lv r (y_w (M_X0_set ad) mc ms Q) Q)) := w_call1 (av := [v1]) (Or.inl ⟨⟨rfl, rfl⟩, rfl⟩) dX0_set_12 rfl hc rfl (y_F_mono _) (y_dle rfl) (y_dle rfl) rfl rfl
theorem wX0_set_15 : y_w (M_X0_set ad) mc ms Q (15, lv, v :: r, ω, c, s) = (y_isA v = true ∧ y_w (M_X0_set ad) mc ms Q (17, (4, v) :: y_kill 4 lv, r, ω, c, s)) := w_astore dX0_set_15 (y_dle rfl) rfl
theorem wX0_set_17 : y_w (M_X0_set ad) mc ms Q (17, lv, st, ω, c, s) = y_ldI lv 2 (fun v => y_w (M_X0_set ad) mc ms Q (18, lv, v :: st, ω, c, s)) := w_iload_n dX0_set_17 rfl rfl
theorem wX0_set_18 : y_w (M_X0_set ad) mc ms Q (18, lv, .int x :: r, ω, c, s) = y_w (M_X0_set ad) mc ms Q (19, lv, .long x.toInt64 :: r, ω, c, s) := w_i2l dX0_set_18 rfl
theorem wX0_set_19 : y_w (M_X0_set ad) mc ms Q (19, lv, st, ω, c, s) = y_w (M_X0_set ad) mc ms Q (20, lv, .long 0 :: st, ω, c, s) := w_lconst dX0_set_19 (v := 0) (by decide) rfl
theorem wX0_set_20 : y_w (M_X0_set ad) mc ms Q (20, lv, st, ω, c, s) = y_ldA lv 4 (fun v => y_w (M_X0_set ad) mc ms Q (22, lv, v :: st, ω, c, s)) := w_aload dX0_set_20 rfl
theorem wX0_set_22 : y_w (M_X0_set ad) mc ms Q (22, lv, .ref a :: r, ω, c, s) = y_gf (P_X0_set ad) 107 (ω.2 a) (fun v => y_w (M_X0_set ad) mc ms Q (25, lv, v :: r, ω, c, s)) := w_getfield dX0_set_22 rfl rfl
theorem wX0_set_25 : y_w (M_X0_set ad) mc ms Q (25, lv, .ref a :: r, ω, c, s) = y_al (ω.2 a) (fun n => y_w (M_X0_set ad) mc ms Q (26, lv, .int n :: r, ω, c, s)) := w_arraylength dX0_set_25 rfl
theorem wX0_set_26 : y_w (M_X0_set ad) mc ms Q (26, lv, st, ω, c, s) = y_w (M_X0_set ad) mc ms Q (27, lv, .int 1 :: st, ω, c, s) := w_iconst dX0_set_26 (v := 1) (by decide) rfl
theorem wX0_set_27 : y_w (M_X0_set ad) mc ms Q (27, lv, .int y :: .int x :: r, ω, c, s) = y_w (M_X0_set ad) mc ms Q (28, lv, .int (x - y) :: r, ω, c, s) := w_isub dX0_set_27 rfl
theorem wX0_set_28 : y_w (M_X0_set ad) mc ms Q (28, lv, .int x :: r, ω, c, s) = y_w (M_X0_set ad) mc ms Q (29, lv, .long x.toInt64 :: r, ω, c, s) := w_i2l dX0_set_28 rfl
theorem wX0_set_29 : y_w (M_X0_set ad) mc ms Q (29, lv, v2 :: v1 :: v0 :: r, ω, c, s) = (y_cat r ≤ 8 ∧ F_X0_isIn mc ms [v0, v1, v2] ω c s (y_aft (M_X0_set ad) 29 3 lv r (y_w (M_X0_set ad) mc ms Q) Q)) := w_call0 (av := [v0, v1, v2]) ⟨Or.inr ⟨rfl, rfl⟩, rfl⟩ dX0_set_29 rfl (y_F_mono _) (y_dle rfl) (y_dle rfl) rfl rfl
theorem wX0_set_32 : y_w (M_X0_set ad) mc ms Q (32, lv, st, ω, c, s) = y_w (M_X0_set ad) mc ms Q (33, lv, .int (nI 2) :: st, ω, c, s) := w_iconst dX0_set_32 (v := (nI 2)) (by decide) rfl
theorem wX0_set_33 : y_w (M_X0_set ad) mc ms Q (33, lv, v1 :: v0 :: r, ω, c, s) = (y_cat r ≤ 8 ∧ (F_X0_must ad) mc ms [v0, v1] ω c s (y_aft (M_X0_set ad) 33 3 lv r (y_w (M_X0_set ad) mc ms Q) Q)) := w_call0 (av := [v0, v1]) ⟨Or.inr ⟨rfl, rfl⟩, rfl⟩ dX0_set_33 rfl (y_F_mono _) (y_dle rfl) (y_dle rfl) rfl rfl
theorem wX0_set_36 : y_w (M_X0_set ad) mc ms Q (36, lv, st, ω, c, s) = y_ldA lv 4 (fun v => y_w (M_X0_set ad) mc ms Q (38, lv, v :: st, ω, c, s)) := w_aload dX0_set_36 rfl
theorem wX0_set_38 : y_w (M_X0_set ad) mc ms Q (38, lv, .ref a :: r, ω, c, s) = y_gf (P_X0_set ad) 107 (ω.2 a) (fun v => y_w (M_X0_set ad) mc ms Q (41, lv, v :: r, ω, c, s)) := w_getfield dX0_set_38 rfl rfl
theorem wX0_set_41 : y_w (M_X0_set ad) mc ms Q (41, lv, st, ω, c, s) = y_ldI lv 2 (fun v => y_w (M_X0_set ad) mc ms Q (42, lv, v :: st, ω, c, s)) := w_iload_n dX0_set_41 rfl rfl
theorem wX0_set_42 : y_w (M_X0_set ad) mc ms Q (42, lv, st, ω, c, s) = y_ldA lv 4 (fun v => y_w (M_X0_set ad) mc ms Q (44, lv, v :: st, ω, c, s)) := w_aload dX0_set_42 rfl
theorem wX0_set_44 : y_w (M_X0_set ad) mc ms Q (44, lv, st, ω, c, s) = y_ldI lv 3 (fun v => y_w (M_X0_set ad) mc ms Q (45, lv, v :: st, ω, c, s)) := w_iload_n dX0_set_44 rfl rfl
theorem wX0_set_45 (hc : y_cls ω a = some 5) : y_w (M_X0_set ad) mc ms Q (45, lv, v1 :: .ref a :: r, ω, c, s) = (y_cat r ≤ 8 ∧ F_X5_cut mc ms [.ref a, v1] ω c s (y_aft (M_X0_set ad) 45 3 lv r (y_w (M_X0_set ad) mc ms Q) Q)) := w_call1 (av := [v1]) (Or.inl ⟨⟨rfl, rfl⟩, rfl⟩) dX0_set_45 rfl hc rfl (y_F_mono _) (y_dle rfl) (y_dle rfl) rfl rfl
theorem wX0_set_48 : y_w (M_X0_set ad) mc ms Q (48, lv, .int x :: .int j :: .ref a :: r, ω, c, s) = y_wI (ω.2 a) j x (fun e => y_w (M_X0_set ad) mc ms Q (49, lv, r, y_hup ω a e, c, s)) := w_iastore dX0_set_48 rfl
theorem wX0_set_49 : y_w (M_X0_set ad) mc ms Q (49, lv, st, ω, c, s) = y_ldA lv 0 (fun v => y_w (M_X0_set ad) mc ms Q (50, lv, v :: st, ω, c, s)) := w_aload_n dX0_set_49 rfl rfl
theorem wX0_set_50 : y_w (M_X0_set ad) mc ms Q (50, lv, st, ω, c, s) = y_ldA lv 4 (fun v => y_w (M_X0_set ad) mc ms Q (52, lv, v :: st, ω, c, s)) := w_aload dX0_set_50 rfl
theorem wX0_set_52 : y_w (M_X0_set ad) mc ms Q (52, lv, .ref a :: r, ω, c, s) = y_gf (P_X0_set ad) 107 (ω.2 a) (fun v => y_w (M_X0_set ad) mc ms Q (55, lv, v :: r, ω, c, s)) := w_getfield dX0_set_52 rfl rfl
theorem wX0_set_55 : y_w (M_X0_set ad) mc ms Q (55, lv, st, ω, c, s) = y_ldI lv 2 (fun v => y_w (M_X0_set ad) mc ms Q (56, lv, v :: st, ω, c, s)) := w_iload_n dX0_set_55 rfl rfl
theorem wX0_set_56 : y_w (M_X0_set ad) mc ms Q (56, lv, .int j :: .ref a :: r, ω, c, s) = y_rI (ω.2 a) j (fun x => y_w (M_X0_set ad) mc ms Q (57, lv, .int x :: r, ω, c, s)) := w_iaload dX0_set_56 rfl
theorem wX0_set_57 (hc : y_cls ω a = some 0) : y_w (M_X0_set ad) mc ms Q (57, lv, v1 :: .ref a :: r, ω, c, s) = (y_cat r ≤ 8 ∧ F_X0_well mc ms [.ref a, v1] ω c s (y_aft (M_X0_set ad) 57 3 lv r (y_w (M_X0_set ad) mc ms Q) Q)) := w_call1 (av := [v1]) (Or.inl ⟨⟨rfl, rfl⟩, rfl⟩) dX0_set_57 rfl hc rfl (y_F_mono _) (y_dle rfl) (y_dle rfl) rfl rfl
theorem wX0_set_60 : y_w (M_X0_set ad) mc ms Q (60, lv, [.int x], ω, c, s) = Q (.returned (some (.int x))) ω c s := w_ireturnI dX0_set_60 rfl
theorem wX0_set_61 : y_w (M_X0_set ad) mc ms Q (61, lv, v :: r, ω, c, s) = (y_isA v = true ∧ y_w (M_X0_set ad) mc ms Q (63, (4, v) :: y_kill 4 lv, r, ω, c, s)) := w_astore dX0_set_61 (y_dle rfl) rfl
theorem wX0_set_63 : y_w (M_X0_set ad) mc ms Q (63, lv, st, ω, c, s) = y_ldA lv 0 (fun v => y_w (M_X0_set ad) mc ms Q (64, lv, v :: st, ω, c, s)) := w_aload_n dX0_set_63 rfl rfl
theorem wX0_set_64 : y_w (M_X0_set ad) mc ms Q (64, lv, st, ω, c, s) = y_ldA lv 4 (fun v => y_w (M_X0_set ad) mc ms Q (66, lv, v :: st, ω, c, s)) := w_aload dX0_set_64 rfl
theorem wX0_set_66 (hc : y_cls ω a = some 0) : y_w (M_X0_set ad) mc ms Q (66, lv, v1 :: .ref a :: r, ω, c, s) = (y_cat r ≤ 8 ∧ F_X0_found mc ms [.ref a, v1] ω c s (y_aft (M_X0_set ad) 66 3 lv r (y_w (M_X0_set ad) mc ms Q) Q)) := w_call1 (av := [v1]) (Or.inl ⟨⟨rfl, rfl⟩, rfl⟩) dX0_set_66 rfl hc rfl (y_F_mono _) (y_dle rfl) (y_dle rfl) rfl rfl
theorem wX0_set_69 : y_w (M_X0_set ad) mc ms Q (69, lv, [.int x], ω, c, s) = Q (.returned (some (.int x))) ω c s := w_ireturnI dX0_set_69 rfl
def P_X0_copy (ad : y_Ad) : y_Pool := ([(114, 5, 0, .int, true), (107, 5, 1, (.array .int), true)], [(65, 4, [.null, .null, .null, .null, .null, .int 0, .int 0])], [(93, .int (-1000001))], [(87, 0, 0, 1, (2, 45), F_X0_isRow), (103, 1, 0, 2, (6, 131), (F_X0_rowAt ad)), (83, 0, 0, 2, (5, 110), (F_X0_must ad)), (117, 0, 0, 5, (8, 10280), y_acopyT), (74, 2, 0, 2, (4, 89), (y_ref (F_X4_init ad))), (95, 1, 0, 2, (1, 21), F_X0_well), (99, 1, 0, 2, (1, 21), F_X0_found)], [(123, 4, 2), (123, 7, 2), (123, 17, 3), (123, 18, 2), (65, 4, 3), (65, 7, 2), (65, 17, 2), (65, 18, 2)], [], [])
def M_X0_copy (ad : y_Ad) : y_Md := (cX0_copy, "YoungerBack", (9, (some FieldType.int)), (8, 10280), false, (P_X0_copy ad), [(53, 71, 74, 123), (17, 91, 92, 65)])
def F_X0_copy (ad : y_Ad) : y_Tr := y_F (M_X0_copy ad)
theorem nX0_copy : y_nL (M_X0_copy ad) = 9 := rfl
theorem tX0_copy_123_4 : y_fh (M_X0_copy ad) 123 4 = some 2 := rfl
theorem tX0_copy_123_7 : y_fh (M_X0_copy ad) 123 7 = some 2 := rfl
theorem tX0_copy_123_17 : y_fh (M_X0_copy ad) 123 17 = some 3 := rfl
theorem tX0_copy_123_18 : y_fh (M_X0_copy ad) 123 18 = some 2 := rfl
theorem tX0_copy_65_4 : y_fh (M_X0_copy ad) 65 4 = some 3 := rfl
theorem tX0_copy_65_7 : y_fh (M_X0_copy ad) 65 7 = some 2 := rfl
theorem tX0_copy_65_17 : y_fh (M_X0_copy ad) 65 17 = some 2 := rfl
theorem tX0_copy_65_18 : y_fh (M_X0_copy ad) 65 18 = some 2 := rfl
theorem fX0_copy_114_5 : y_ffP (P_X0_copy ad) 114 5 = some (0, .int, true) := rfl
theorem fX0_copy_107_5 : y_ffP (P_X0_copy ad) 107 5 = some (1, (.array .int), true) := rfl
theorem wX0_copy_0 : y_w (M_X0_copy ad) mc ms Q (0, lv, st, ω, c, s) = y_ldI lv 1 (fun v => y_w (M_X0_copy ad) mc ms Q (1, lv, v :: st, ω, c, s)) := w_iload_n dX0_copy_0 rfl rfl
theorem wX0_copy_1 : y_w (M_X0_copy ad) mc ms Q (1, lv, v0 :: r, ω, c, s) = (y_cat r ≤ 8 ∧ F_X0_isRow mc ms [v0] ω c s (y_aft (M_X0_copy ad) 1 3 lv r (y_w (M_X0_copy ad) mc ms Q) Q)) := w_call0 (av := [v0]) ⟨Or.inr ⟨rfl, rfl⟩, rfl⟩ dX0_copy_1 rfl (y_F_mono _) (y_dle rfl) (y_dle rfl) rfl rfl
theorem wX0_copy_4 : y_w (M_X0_copy ad) mc ms Q (4, lv, .int x :: r, ω, c, s) = ((x = 0 → y_w (M_X0_copy ad) mc ms Q (14, lv, r, ω, c, s)) ∧ (¬ (x = 0) → y_w (M_X0_copy ad) mc ms Q (7, lv, r, ω, c, s))) := w_if dX0_copy_4 (tgt := 14) rfl rfl rfl
theorem wX0_copy_7 : y_w (M_X0_copy ad) mc ms Q (7, lv, st, ω, c, s) = y_ldI lv 3 (fun v => y_w (M_X0_copy ad) mc ms Q (8, lv, v :: st, ω, c, s)) := w_iload_n dX0_copy_7 rfl rfl
theorem wX0_copy_8 : y_w (M_X0_copy ad) mc ms Q (8, lv, v0 :: r, ω, c, s) = (y_cat r ≤ 8 ∧ F_X0_isRow mc ms [v0] ω c s (y_aft (M_X0_copy ad) 8 3 lv r (y_w (M_X0_copy ad) mc ms Q) Q)) := w_call0 (av := [v0]) ⟨Or.inr ⟨rfl, rfl⟩, rfl⟩ dX0_copy_8 rfl (y_F_mono _) (y_dle rfl) (y_dle rfl) rfl rfl
theorem wX0_copy_11 : y_w (M_X0_copy ad) mc ms Q (11, lv, .int x :: r, ω, c, s) = ((¬ x = 0 → y_w (M_X0_copy ad) mc ms Q (17, lv, r, ω, c, s)) ∧ (¬ (¬ x = 0) → y_w (M_X0_copy ad) mc ms Q (14, lv, r, ω, c, s))) := w_if dX0_copy_11 (tgt := 17) rfl rfl rfl
theorem wX0_copy_14 : y_w (M_X0_copy ad) mc ms Q (14, lv, st, ω, c, s) = y_w (M_X0_copy ad) mc ms Q (16, lv, .int (-1000001) :: st, ω, c, s) := w_ldc dX0_copy_14 rfl rfl rfl
theorem wX0_copy_16 : y_w (M_X0_copy ad) mc ms Q (16, lv, [.int x], ω, c, s) = Q (.returned (some (.int x))) ω c s := w_ireturnI dX0_copy_16 rfl
theorem wX0_copy_17 : y_w (M_X0_copy ad) mc ms Q (17, lv, st, ω, c, s) = y_ldA lv 0 (fun v => y_w (M_X0_copy ad) mc ms Q (18, lv, v :: st, ω, c, s)) := w_aload_n dX0_copy_17 rfl rfl
theorem wX0_copy_18 : y_w (M_X0_copy ad) mc ms Q (18, lv, st, ω, c, s) = y_ldI lv 1 (fun v => y_w (M_X0_copy ad) mc ms Q (19, lv, v :: st, ω, c, s)) := w_iload_n dX0_copy_18 rfl rfl
theorem wX0_copy_19 (hc : y_cls ω a = some 0) : y_w (M_X0_copy ad) mc ms Q (19, lv, v1 :: .ref a :: r, ω, c, s) = (y_cat r ≤ 8 ∧ (F_X0_rowAt ad) mc ms [.ref a, v1] ω c s (y_aft (M_X0_copy ad) 19 3 lv r (y_w (M_X0_copy ad) mc ms Q) Q)) := w_call1 (av := [v1]) (Or.inl ⟨⟨rfl, rfl⟩, rfl⟩) dX0_copy_19 rfl hc rfl (y_F_mono _) (y_dle rfl) (y_dle rfl) rfl rfl
theorem wX0_copy_22 : y_w (M_X0_copy ad) mc ms Q (22, lv, v :: r, ω, c, s) = (y_isA v = true ∧ y_w (M_X0_copy ad) mc ms Q (24, (6, v) :: y_kill 6 lv, r, ω, c, s)) := w_astore dX0_copy_22 (y_dle rfl) rfl
theorem wX0_copy_24 : y_w (M_X0_copy ad) mc ms Q (24, lv, st, ω, c, s) = y_ldA lv 0 (fun v => y_w (M_X0_copy ad) mc ms Q (25, lv, v :: st, ω, c, s)) := w_aload_n dX0_copy_24 rfl rfl
theorem wX0_copy_25 : y_w (M_X0_copy ad) mc ms Q (25, lv, st, ω, c, s) = y_ldI lv 3 (fun v => y_w (M_X0_copy ad) mc ms Q (26, lv, v :: st, ω, c, s)) := w_iload_n dX0_copy_25 rfl rfl
theorem wX0_copy_26 (hc : y_cls ω a = some 0) : y_w (M_X0_copy ad) mc ms Q (26, lv, v1 :: .ref a :: r, ω, c, s) = (y_cat r ≤ 8 ∧ (F_X0_rowAt ad) mc ms [.ref a, v1] ω c s (y_aft (M_X0_copy ad) 26 3 lv r (y_w (M_X0_copy ad) mc ms Q) Q)) := w_call1 (av := [v1]) (Or.inl ⟨⟨rfl, rfl⟩, rfl⟩) dX0_copy_26 rfl hc rfl (y_F_mono _) (y_dle rfl) (y_dle rfl) rfl rfl
theorem wX0_copy_29 : y_w (M_X0_copy ad) mc ms Q (29, lv, v :: r, ω, c, s) = (y_isA v = true ∧ y_w (M_X0_copy ad) mc ms Q (31, (7, v) :: y_kill 7 lv, r, ω, c, s)) := w_astore dX0_copy_29 (y_dle rfl) rfl
theorem wX0_copy_31 : y_w (M_X0_copy ad) mc ms Q (31, lv, st, ω, c, s) = y_ldA lv 6 (fun v => y_w (M_X0_copy ad) mc ms Q (33, lv, v :: st, ω, c, s)) := w_aload dX0_copy_31 rfl
theorem wX0_copy_33 : y_w (M_X0_copy ad) mc ms Q (33, lv, .ref a :: r, ω, c, s) = y_gf (P_X0_copy ad) 114 (ω.2 a) (fun v => y_w (M_X0_copy ad) mc ms Q (36, lv, v :: r, ω, c, s)) := w_getfield dX0_copy_33 rfl rfl
theorem wX0_copy_36 : y_w (M_X0_copy ad) mc ms Q (36, lv, st, ω, c, s) = y_ldA lv 7 (fun v => y_w (M_X0_copy ad) mc ms Q (38, lv, v :: st, ω, c, s)) := w_aload dX0_copy_36 rfl
theorem wX0_copy_38 : y_w (M_X0_copy ad) mc ms Q (38, lv, .ref a :: r, ω, c, s) = y_gf (P_X0_copy ad) 114 (ω.2 a) (fun v => y_w (M_X0_copy ad) mc ms Q (41, lv, v :: r, ω, c, s)) := w_getfield dX0_copy_38 rfl rfl
theorem wX0_copy_41 : y_w (M_X0_copy ad) mc ms Q (41, lv, .int y :: .int x :: r, ω, c, s) = ((¬ x = y → y_w (M_X0_copy ad) mc ms Q (48, lv, r, ω, c, s)) ∧ (¬ (¬ x = y) → y_w (M_X0_copy ad) mc ms Q (44, lv, r, ω, c, s))) := w_icmp dX0_copy_41 (tgt := 48) rfl rfl rfl
theorem wX0_copy_44 : y_w (M_X0_copy ad) mc ms Q (44, lv, st, ω, c, s) = y_w (M_X0_copy ad) mc ms Q (45, lv, .int 1 :: st, ω, c, s) := w_iconst dX0_copy_44 (v := 1) (by decide) rfl
theorem wX0_copy_45 : y_w (M_X0_copy ad) mc ms Q (45, lv, st, ω, c, s) = y_w (M_X0_copy ad) mc ms Q (49, lv, st, ω, c, s) := w_goto dX0_copy_45 (tgt := 49) (by decide) rfl
theorem wX0_copy_48 : y_w (M_X0_copy ad) mc ms Q (48, lv, st, ω, c, s) = y_w (M_X0_copy ad) mc ms Q (49, lv, .int 0 :: st, ω, c, s) := w_iconst dX0_copy_48 (v := 0) (by decide) rfl
theorem wX0_copy_49 : y_w (M_X0_copy ad) mc ms Q (49, lv, st, ω, c, s) = y_w (M_X0_copy ad) mc ms Q (50, lv, .int (nI 5) :: st, ω, c, s) := w_iconst dX0_copy_49 (v := (nI 5)) (by decide) rfl
theorem wX0_copy_50 : y_w (M_X0_copy ad) mc ms Q (50, lv, v1 :: v0 :: r, ω, c, s) = (y_cat r ≤ 8 ∧ (F_X0_must ad) mc ms [v0, v1] ω c s (y_aft (M_X0_copy ad) 50 3 lv r (y_w (M_X0_copy ad) mc ms Q) Q)) := w_call0 (av := [v0, v1]) ⟨Or.inr ⟨rfl, rfl⟩, rfl⟩ dX0_copy_50 rfl (y_F_mono _) (y_dle rfl) (y_dle rfl) rfl rfl
theorem wX0_copy_53 : y_w (M_X0_copy ad) mc ms Q (53, lv, st, ω, c, s) = y_ldA lv 6 (fun v => y_w (M_X0_copy ad) mc ms Q (55, lv, v :: st, ω, c, s)) := w_aload dX0_copy_53 rfl
theorem wX0_copy_55 : y_w (M_X0_copy ad) mc ms Q (55, lv, .ref a :: r, ω, c, s) = y_gf (P_X0_copy ad) 107 (ω.2 a) (fun v => y_w (M_X0_copy ad) mc ms Q (58, lv, v :: r, ω, c, s)) := w_getfield dX0_copy_55 rfl rfl
theorem wX0_copy_58 : y_w (M_X0_copy ad) mc ms Q (58, lv, st, ω, c, s) = y_ldI lv 2 (fun v => y_w (M_X0_copy ad) mc ms Q (59, lv, v :: st, ω, c, s)) := w_iload_n dX0_copy_58 rfl rfl
theorem wX0_copy_59 : y_w (M_X0_copy ad) mc ms Q (59, lv, st, ω, c, s) = y_ldA lv 7 (fun v => y_w (M_X0_copy ad) mc ms Q (61, lv, v :: st, ω, c, s)) := w_aload dX0_copy_59 rfl
theorem wX0_copy_61 : y_w (M_X0_copy ad) mc ms Q (61, lv, .ref a :: r, ω, c, s) = y_gf (P_X0_copy ad) 107 (ω.2 a) (fun v => y_w (M_X0_copy ad) mc ms Q (64, lv, v :: r, ω, c, s)) := w_getfield dX0_copy_61 rfl rfl
theorem wX0_copy_64 : y_w (M_X0_copy ad) mc ms Q (64, lv, st, ω, c, s) = y_ldI lv 4 (fun v => y_w (M_X0_copy ad) mc ms Q (66, lv, v :: st, ω, c, s)) := w_iload dX0_copy_64 rfl
theorem wX0_copy_66 : y_w (M_X0_copy ad) mc ms Q (66, lv, st, ω, c, s) = y_ldI lv 5 (fun v => y_w (M_X0_copy ad) mc ms Q (68, lv, v :: st, ω, c, s)) := w_iload dX0_copy_66 rfl
theorem wX0_copy_68 : y_w (M_X0_copy ad) mc ms Q (68, lv, v4 :: v3 :: v2 :: v1 :: v0 :: r, ω, c, s) = (y_cat r ≤ 8 ∧ y_acopyT mc ms [v0, v1, v2, v3, v4] ω c s (y_aft (M_X0_copy ad) 68 3 lv r (y_w (M_X0_copy ad) mc ms Q) Q)) := w_call0 (av := [v0, v1, v2, v3, v4]) ⟨Or.inr ⟨rfl, rfl⟩, rfl⟩ dX0_copy_68 rfl y_acopyT_mono (y_dle rfl) (y_dle rfl) rfl rfl
theorem wX0_copy_71 : y_w (M_X0_copy ad) mc ms Q (71, lv, st, ω, c, s) = y_w (M_X0_copy ad) mc ms Q (85, lv, st, ω, c, s) := w_goto dX0_copy_71 (tgt := 85) (by decide) rfl
theorem wX0_copy_74 : y_w (M_X0_copy ad) mc ms Q (74, lv, v :: r, ω, c, s) = (y_isA v = true ∧ y_w (M_X0_copy ad) mc ms Q (76, (8, v) :: y_kill 8 lv, r, ω, c, s)) := w_astore dX0_copy_74 (y_dle rfl) rfl
theorem wX0_copy_76 : y_w (M_X0_copy ad) mc ms Q (76, lv, st, ω, c, s) = (y_room mc ms c s 7 ∧ y_w (M_X0_copy ad) mc ms Q (79, lv, .ref ω.1 :: st, y_hnew ω (.inr (4, [.null, .null, .null, .null, .null, .int 0, .int 0])), c + 1, s + 7)) := w_new dX0_copy_76 rfl rfl rfl
theorem wX0_copy_79 : y_w (M_X0_copy ad) mc ms Q (79, lv, v :: r, ω, c, s) = (v.category = 1 ∧ y_w (M_X0_copy ad) mc ms Q (80, lv, v :: v :: r, ω, c, s)) := w_dup dX0_copy_79 rfl
theorem wX0_copy_80 : y_w (M_X0_copy ad) mc ms Q (80, lv, st, ω, c, s) = y_w (M_X0_copy ad) mc ms Q (81, lv, .int (nI 2) :: st, ω, c, s) := w_iconst dX0_copy_80 (v := (nI 2)) (by decide) rfl
theorem wX0_copy_81 : y_w (M_X0_copy ad) mc ms Q (81, lv, v1 :: v0 :: r, ω, c, s) = (y_cat r ≤ 8 ∧ (y_ref (F_X4_init ad)) mc ms [v0, v1] ω c s (y_aft (M_X0_copy ad) 81 3 lv r (y_w (M_X0_copy ad) mc ms Q) Q)) := w_call0 (av := [v0, v1]) ⟨Or.inl ⟨rfl, rfl⟩, rfl⟩ dX0_copy_81 rfl (y_ref_mono (y_F_mono _)) (y_dle rfl) (y_dle rfl) rfl rfl
theorem wX0_copy_84 : y_w (M_X0_copy ad) mc ms Q (84, lv, .ref a :: r, ω, c, s) = y_thr (M_X0_copy ad) 84 lv ω a c s (y_w (M_X0_copy ad) mc ms Q) Q [(53, 71, 74, 123), (17, 91, 92, 65)] := w_athrow dX0_copy_84
theorem wX0_copy_85 : y_w (M_X0_copy ad) mc ms Q (85, lv, st, ω, c, s) = y_ldA lv 0 (fun v => y_w (M_X0_copy ad) mc ms Q (86, lv, v :: st, ω, c, s)) := w_aload_n dX0_copy_85 rfl rfl
theorem wX0_copy_86 : y_w (M_X0_copy ad) mc ms Q (86, lv, st, ω, c, s) = y_ldI lv 5 (fun v => y_w (M_X0_copy ad) mc ms Q (88, lv, v :: st, ω, c, s)) := w_iload dX0_copy_86 rfl
theorem wX0_copy_88 (hc : y_cls ω a = some 0) : y_w (M_X0_copy ad) mc ms Q (88, lv, v1 :: .ref a :: r, ω, c, s) = (y_cat r ≤ 8 ∧ F_X0_well mc ms [.ref a, v1] ω c s (y_aft (M_X0_copy ad) 88 3 lv r (y_w (M_X0_copy ad) mc ms Q) Q)) := w_call1 (av := [v1]) (Or.inl ⟨⟨rfl, rfl⟩, rfl⟩) dX0_copy_88 rfl hc rfl (y_F_mono _) (y_dle rfl) (y_dle rfl) rfl rfl
theorem wX0_copy_91 : y_w (M_X0_copy ad) mc ms Q (91, lv, [.int x], ω, c, s) = Q (.returned (some (.int x))) ω c s := w_ireturnI dX0_copy_91 rfl
theorem wX0_copy_92 : y_w (M_X0_copy ad) mc ms Q (92, lv, v :: r, ω, c, s) = (y_isA v = true ∧ y_w (M_X0_copy ad) mc ms Q (94, (6, v) :: y_kill 6 lv, r, ω, c, s)) := w_astore dX0_copy_92 (y_dle rfl) rfl
theorem wX0_copy_94 : y_w (M_X0_copy ad) mc ms Q (94, lv, st, ω, c, s) = y_ldA lv 0 (fun v => y_w (M_X0_copy ad) mc ms Q (95, lv, v :: st, ω, c, s)) := w_aload_n dX0_copy_94 rfl rfl
theorem wX0_copy_95 : y_w (M_X0_copy ad) mc ms Q (95, lv, st, ω, c, s) = y_ldA lv 6 (fun v => y_w (M_X0_copy ad) mc ms Q (97, lv, v :: st, ω, c, s)) := w_aload dX0_copy_95 rfl
theorem wX0_copy_97 (hc : y_cls ω a = some 0) : y_w (M_X0_copy ad) mc ms Q (97, lv, v1 :: .ref a :: r, ω, c, s) = (y_cat r ≤ 8 ∧ F_X0_found mc ms [.ref a, v1] ω c s (y_aft (M_X0_copy ad) 97 3 lv r (y_w (M_X0_copy ad) mc ms Q) Q)) := w_call1 (av := [v1]) (Or.inl ⟨⟨rfl, rfl⟩, rfl⟩) dX0_copy_97 rfl hc rfl (y_F_mono _) (y_dle rfl) (y_dle rfl) rfl rfl
theorem wX0_copy_100 : y_w (M_X0_copy ad) mc ms Q (100, lv, [.int x], ω, c, s) = Q (.returned (some (.int x))) ω c s := w_ireturnI dX0_copy_100 rfl
def P_X0_drop (ad : y_Ad) : y_Pool := ([(107, 5, 1, (.array .int), true), (28, 0, 0, (.array (.object "YoungerBack$Row")), true)], [], [(93, .int (-1000001))], [(87, 0, 0, 1, (2, 45), F_X0_isRow), (103, 1, 0, 2, (6, 131), (F_X0_rowAt ad)), (95, 1, 0, 2, (1, 21), F_X0_well), (99, 1, 0, 2, (1, 21), F_X0_found)], [(65, 4, 3), (65, 7, 2), (65, 17, 2), (65, 18, 2)], [], [])
def M_X0_drop (ad : y_Ad) : y_Md := (cX0_drop, "YoungerBack", (3, (some FieldType.int)), (6, 131), false, (P_X0_drop ad), [(10, 32, 33, 65)])
def F_X0_drop (ad : y_Ad) : y_Tr := y_F (M_X0_drop ad)
theorem nX0_drop : y_nL (M_X0_drop ad) = 3 := rfl
theorem tX0_drop_65_4 : y_fh (M_X0_drop ad) 65 4 = some 3 := rfl
theorem tX0_drop_65_7 : y_fh (M_X0_drop ad) 65 7 = some 2 := rfl
theorem tX0_drop_65_17 : y_fh (M_X0_drop ad) 65 17 = some 2 := rfl
theorem tX0_drop_65_18 : y_fh (M_X0_drop ad) 65 18 = some 2 := rfl
theorem fX0_drop_107_5 : y_ffP (P_X0_drop ad) 107 5 = some (1, (.array .int), true) := rfl
theorem fX0_drop_28_0 : y_ffP (P_X0_drop ad) 28 0 = some (0, (.array (.object "YoungerBack$Row")), true) := rfl
theorem wX0_drop_0 : y_w (M_X0_drop ad) mc ms Q (0, lv, st, ω, c, s) = y_ldI lv 1 (fun v => y_w (M_X0_drop ad) mc ms Q (1, lv, v :: st, ω, c, s)) := w_iload_n dX0_drop_0 rfl rfl
theorem wX0_drop_1 : y_w (M_X0_drop ad) mc ms Q (1, lv, v0 :: r, ω, c, s) = (y_cat r ≤ 8 ∧ F_X0_isRow mc ms [v0] ω c s (y_aft (M_X0_drop ad) 1 3 lv r (y_w (M_X0_drop ad) mc ms Q) Q)) := w_call0 (av := [v0]) ⟨Or.inr ⟨rfl, rfl⟩, rfl⟩ dX0_drop_1 rfl (y_F_mono _) (y_dle rfl) (y_dle rfl) rfl rfl
theorem wX0_drop_4 : y_w (M_X0_drop ad) mc ms Q (4, lv, .int x :: r, ω, c, s) = ((¬ x = 0 → y_w (M_X0_drop ad) mc ms Q (10, lv, r, ω, c, s)) ∧ (¬ (¬ x = 0) → y_w (M_X0_drop ad) mc ms Q (7, lv, r, ω, c, s))) := w_if dX0_drop_4 (tgt := 10) rfl rfl rfl
theorem wX0_drop_7 : y_w (M_X0_drop ad) mc ms Q (7, lv, st, ω, c, s) = y_w (M_X0_drop ad) mc ms Q (9, lv, .int (-1000001) :: st, ω, c, s) := w_ldc dX0_drop_7 rfl rfl rfl
theorem wX0_drop_9 : y_w (M_X0_drop ad) mc ms Q (9, lv, [.int x], ω, c, s) = Q (.returned (some (.int x))) ω c s := w_ireturnI dX0_drop_9 rfl
theorem wX0_drop_10 : y_w (M_X0_drop ad) mc ms Q (10, lv, st, ω, c, s) = y_ldA lv 0 (fun v => y_w (M_X0_drop ad) mc ms Q (11, lv, v :: st, ω, c, s)) := w_aload_n dX0_drop_10 rfl rfl
theorem wX0_drop_11 : y_w (M_X0_drop ad) mc ms Q (11, lv, st, ω, c, s) = y_ldI lv 1 (fun v => y_w (M_X0_drop ad) mc ms Q (12, lv, v :: st, ω, c, s)) := w_iload_n dX0_drop_11 rfl rfl
theorem wX0_drop_12 (hc : y_cls ω a = some 0) : y_w (M_X0_drop ad) mc ms Q (12, lv, v1 :: .ref a :: r, ω, c, s) = (y_cat r ≤ 8 ∧ (F_X0_rowAt ad) mc ms [.ref a, v1] ω c s (y_aft (M_X0_drop ad) 12 3 lv r (y_w (M_X0_drop ad) mc ms Q) Q)) := w_call1 (av := [v1]) (Or.inl ⟨⟨rfl, rfl⟩, rfl⟩) dX0_drop_12 rfl hc rfl (y_F_mono _) (y_dle rfl) (y_dle rfl) rfl rfl
theorem wX0_drop_15 : y_w (M_X0_drop ad) mc ms Q (15, lv, .ref a :: r, ω, c, s) = y_gf (P_X0_drop ad) 107 (ω.2 a) (fun v => y_w (M_X0_drop ad) mc ms Q (18, lv, v :: r, ω, c, s)) := w_getfield dX0_drop_15 rfl rfl
theorem wX0_drop_18 : y_w (M_X0_drop ad) mc ms Q (18, lv, .ref a :: r, ω, c, s) = y_al (ω.2 a) (fun n => y_w (M_X0_drop ad) mc ms Q (19, lv, .int n :: r, ω, c, s)) := w_arraylength dX0_drop_18 rfl
theorem wX0_drop_19 : y_w (M_X0_drop ad) mc ms Q (19, lv, .int x :: r, ω, c, s) = y_w (M_X0_drop ad) mc ms Q (20, (2, .int x) :: y_kill 2 lv, r, ω, c, s) := w_istore_n dX0_drop_19 rfl (y_dle rfl) rfl
theorem wX0_drop_20 : y_w (M_X0_drop ad) mc ms Q (20, lv, st, ω, c, s) = y_ldA lv 0 (fun v => y_w (M_X0_drop ad) mc ms Q (21, lv, v :: st, ω, c, s)) := w_aload_n dX0_drop_20 rfl rfl
theorem wX0_drop_21 : y_w (M_X0_drop ad) mc ms Q (21, lv, .ref a :: r, ω, c, s) = y_gf (P_X0_drop ad) 28 (ω.2 a) (fun v => y_w (M_X0_drop ad) mc ms Q (24, lv, v :: r, ω, c, s)) := w_getfield dX0_drop_21 rfl rfl
theorem wX0_drop_24 : y_w (M_X0_drop ad) mc ms Q (24, lv, st, ω, c, s) = y_ldI lv 1 (fun v => y_w (M_X0_drop ad) mc ms Q (25, lv, v :: st, ω, c, s)) := w_iload_n dX0_drop_24 rfl rfl
theorem wX0_drop_25 : y_w (M_X0_drop ad) mc ms Q (25, lv, st, ω, c, s) = y_w (M_X0_drop ad) mc ms Q (26, lv, .null :: st, ω, c, s) := w_aconst_null dX0_drop_25 rfl
theorem wX0_drop_26 : y_w (M_X0_drop ad) mc ms Q (26, lv, v :: .int j :: .ref a :: r, ω, c, s) = y_wA (ω.2 a) j v ω (fun e => y_w (M_X0_drop ad) mc ms Q (27, lv, r, y_hup ω a e, c, s)) := w_aastore dX0_drop_26 rfl
theorem wX0_drop_27 : y_w (M_X0_drop ad) mc ms Q (27, lv, st, ω, c, s) = y_ldA lv 0 (fun v => y_w (M_X0_drop ad) mc ms Q (28, lv, v :: st, ω, c, s)) := w_aload_n dX0_drop_27 rfl rfl
theorem wX0_drop_28 : y_w (M_X0_drop ad) mc ms Q (28, lv, st, ω, c, s) = y_ldI lv 2 (fun v => y_w (M_X0_drop ad) mc ms Q (29, lv, v :: st, ω, c, s)) := w_iload_n dX0_drop_28 rfl rfl
theorem wX0_drop_29 (hc : y_cls ω a = some 0) : y_w (M_X0_drop ad) mc ms Q (29, lv, v1 :: .ref a :: r, ω, c, s) = (y_cat r ≤ 8 ∧ F_X0_well mc ms [.ref a, v1] ω c s (y_aft (M_X0_drop ad) 29 3 lv r (y_w (M_X0_drop ad) mc ms Q) Q)) := w_call1 (av := [v1]) (Or.inl ⟨⟨rfl, rfl⟩, rfl⟩) dX0_drop_29 rfl hc rfl (y_F_mono _) (y_dle rfl) (y_dle rfl) rfl rfl
theorem wX0_drop_32 : y_w (M_X0_drop ad) mc ms Q (32, lv, [.int x], ω, c, s) = Q (.returned (some (.int x))) ω c s := w_ireturnI dX0_drop_32 rfl
theorem wX0_drop_33 : y_w (M_X0_drop ad) mc ms Q (33, lv, v :: r, ω, c, s) = (y_isA v = true ∧ y_w (M_X0_drop ad) mc ms Q (34, (2, v) :: y_kill 2 lv, r, ω, c, s)) := w_astore_n dX0_drop_33 rfl (y_dle rfl) rfl
theorem wX0_drop_34 : y_w (M_X0_drop ad) mc ms Q (34, lv, st, ω, c, s) = y_ldA lv 0 (fun v => y_w (M_X0_drop ad) mc ms Q (35, lv, v :: st, ω, c, s)) := w_aload_n dX0_drop_34 rfl rfl
theorem wX0_drop_35 : y_w (M_X0_drop ad) mc ms Q (35, lv, st, ω, c, s) = y_ldA lv 2 (fun v => y_w (M_X0_drop ad) mc ms Q (36, lv, v :: st, ω, c, s)) := w_aload_n dX0_drop_35 rfl rfl
theorem wX0_drop_36 (hc : y_cls ω a = some 0) : y_w (M_X0_drop ad) mc ms Q (36, lv, v1 :: .ref a :: r, ω, c, s) = (y_cat r ≤ 8 ∧ F_X0_found mc ms [.ref a, v1] ω c s (y_aft (M_X0_drop ad) 36 3 lv r (y_w (M_X0_drop ad) mc ms Q) Q)) := w_call1 (av := [v1]) (Or.inl ⟨⟨rfl, rfl⟩, rfl⟩) dX0_drop_36 rfl hc rfl (y_F_mono _) (y_dle rfl) (y_dle rfl) rfl rfl
theorem wX0_drop_39 : y_w (M_X0_drop ad) mc ms Q (39, lv, [.int x], ω, c, s) = Q (.returned (some (.int x))) ω c s := w_ireturnI dX0_drop_39 rfl
def P_X0_feed : y_Pool := ([(127, 0, 2, .int, false), (32, 0, 1, (.array .byte), true)], [], [(125, .long (lN 8)), (93, .int (-1000001)), (130, .int (-1000003))], [(79, 0, 0, 3, (1, 25), F_X0_isIn)], [], [], [])
def M_X0_feed : y_Md := (cX0_feed, "YoungerBack", (5, (some FieldType.int)), (1, 25), false, P_X0_feed, [])
def F_X0_feed : y_Tr := y_F M_X0_feed
theorem nX0_feed : y_nL M_X0_feed = 5 := rfl
theorem fX0_feed_127_0 : y_ffP P_X0_feed 127 0 = some (2, .int, false) := rfl
theorem fX0_feed_32_0 : y_ffP P_X0_feed 32 0 = some (1, (.array .byte), true) := rfl
theorem wX0_feed_0 : y_w M_X0_feed mc ms Q (0, lv, st, ω, c, s) = y_ldI lv 3 (fun v => y_w M_X0_feed mc ms Q (1, lv, v :: st, ω, c, s)) := w_iload_n dX0_feed_0 rfl rfl
theorem wX0_feed_1 : y_w M_X0_feed mc ms Q (1, lv, .int x :: r, ω, c, s) = y_w M_X0_feed mc ms Q (2, lv, .long x.toInt64 :: r, ω, c, s) := w_i2l dX0_feed_1 rfl
theorem wX0_feed_2 : y_w M_X0_feed mc ms Q (2, lv, st, ω, c, s) = y_w M_X0_feed mc ms Q (3, lv, .long 1 :: st, ω, c, s) := w_lconst dX0_feed_2 (v := 1) (by decide) rfl
theorem wX0_feed_3 : y_w M_X0_feed mc ms Q (3, lv, st, ω, c, s) = y_w M_X0_feed mc ms Q (6, lv, .long (lN 8) :: st, ω, c, s) := w_ldc2_w dX0_feed_3 rfl rfl rfl
theorem wX0_feed_6 : y_w M_X0_feed mc ms Q (6, lv, v2 :: v1 :: v0 :: r, ω, c, s) = (y_cat r ≤ 8 ∧ F_X0_isIn mc ms [v0, v1, v2] ω c s (y_aft M_X0_feed 6 3 lv r (y_w M_X0_feed mc ms Q) Q)) := w_call0 (av := [v0, v1, v2]) ⟨Or.inr ⟨rfl, rfl⟩, rfl⟩ dX0_feed_6 rfl (y_F_mono _) (y_dle rfl) (y_dle rfl) rfl rfl
theorem wX0_feed_9 : y_w M_X0_feed mc ms Q (9, lv, .int x :: r, ω, c, s) = ((¬ x = 0 → y_w M_X0_feed mc ms Q (15, lv, r, ω, c, s)) ∧ (¬ (¬ x = 0) → y_w M_X0_feed mc ms Q (12, lv, r, ω, c, s))) := w_if dX0_feed_9 (tgt := 15) rfl rfl rfl
theorem wX0_feed_12 : y_w M_X0_feed mc ms Q (12, lv, st, ω, c, s) = y_w M_X0_feed mc ms Q (14, lv, .int (-1000001) :: st, ω, c, s) := w_ldc dX0_feed_12 rfl rfl rfl
theorem wX0_feed_14 : y_w M_X0_feed mc ms Q (14, lv, [.int x], ω, c, s) = Q (.returned (some (.int x))) ω c s := w_ireturnI dX0_feed_14 rfl
theorem wX0_feed_15 : y_w M_X0_feed mc ms Q (15, lv, st, ω, c, s) = y_ldA lv 0 (fun v => y_w M_X0_feed mc ms Q (16, lv, v :: st, ω, c, s)) := w_aload_n dX0_feed_15 rfl rfl
theorem wX0_feed_16 : y_w M_X0_feed mc ms Q (16, lv, .ref a :: r, ω, c, s) = y_gf P_X0_feed 127 (ω.2 a) (fun v => y_w M_X0_feed mc ms Q (19, lv, v :: r, ω, c, s)) := w_getfield dX0_feed_16 rfl rfl
theorem wX0_feed_19 : y_w M_X0_feed mc ms Q (19, lv, st, ω, c, s) = y_ldI lv 3 (fun v => y_w M_X0_feed mc ms Q (20, lv, v :: st, ω, c, s)) := w_iload_n dX0_feed_19 rfl rfl
theorem wX0_feed_20 : y_w M_X0_feed mc ms Q (20, lv, .int y :: .int x :: r, ω, c, s) = y_w M_X0_feed mc ms Q (21, lv, .int (x + y) :: r, ω, c, s) := w_iadd dX0_feed_20 rfl
theorem wX0_feed_21 : y_w M_X0_feed mc ms Q (21, lv, st, ω, c, s) = y_w M_X0_feed mc ms Q (24, lv, .int (nI 400) :: st, ω, c, s) := w_sipush dX0_feed_21 (v := (nI 400)) (by decide) rfl
theorem wX0_feed_24 : y_w M_X0_feed mc ms Q (24, lv, .int y :: .int x :: r, ω, c, s) = ((x ≤ y → y_w M_X0_feed mc ms Q (30, lv, r, ω, c, s)) ∧ (¬ (x ≤ y) → y_w M_X0_feed mc ms Q (27, lv, r, ω, c, s))) := w_icmp dX0_feed_24 (tgt := 30) rfl rfl rfl
theorem wX0_feed_27 : y_w M_X0_feed mc ms Q (27, lv, st, ω, c, s) = y_w M_X0_feed mc ms Q (29, lv, .int (-1000003) :: st, ω, c, s) := w_ldc dX0_feed_27 rfl rfl rfl
theorem wX0_feed_29 : y_w M_X0_feed mc ms Q (29, lv, [.int x], ω, c, s) = Q (.returned (some (.int x))) ω c s := w_ireturnI dX0_feed_29 rfl
theorem wX0_feed_30 : y_w M_X0_feed mc ms Q (30, lv, st, ω, c, s) = y_ldI lv 3 (fun v => y_w M_X0_feed mc ms Q (31, lv, v :: st, ω, c, s)) := w_iload_n dX0_feed_30 rfl rfl
theorem wX0_feed_31 : y_w M_X0_feed mc ms Q (31, lv, st, ω, c, s) = y_w M_X0_feed mc ms Q (32, lv, .int 1 :: st, ω, c, s) := w_iconst dX0_feed_31 (v := 1) (by decide) rfl
theorem wX0_feed_32 : y_w M_X0_feed mc ms Q (32, lv, .int y :: .int x :: r, ω, c, s) = y_w M_X0_feed mc ms Q (33, lv, .int (x - y) :: r, ω, c, s) := w_isub dX0_feed_32 rfl
theorem wX0_feed_33 : y_w M_X0_feed mc ms Q (33, lv, .int x :: r, ω, c, s) = y_w M_X0_feed mc ms Q (35, (4, .int x) :: y_kill 4 lv, r, ω, c, s) := w_istore dX0_feed_33 (y_dle rfl) rfl
theorem wX0_feed_35 : y_w M_X0_feed mc ms Q (35, lv, st, ω, c, s) = y_ldI lv 4 (fun v => y_w M_X0_feed mc ms Q (37, lv, v :: st, ω, c, s)) := w_iload dX0_feed_35 rfl
theorem wX0_feed_37 : y_w M_X0_feed mc ms Q (37, lv, .int x :: r, ω, c, s) = ((x < 0 → y_w M_X0_feed mc ms Q (71, lv, r, ω, c, s)) ∧ (¬ (x < 0) → y_w M_X0_feed mc ms Q (40, lv, r, ω, c, s))) := w_if dX0_feed_37 (tgt := 71) rfl rfl rfl
theorem wX0_feed_40 : y_w M_X0_feed mc ms Q (40, lv, st, ω, c, s) = y_ldA lv 0 (fun v => y_w M_X0_feed mc ms Q (41, lv, v :: st, ω, c, s)) := w_aload_n dX0_feed_40 rfl rfl
theorem wX0_feed_41 : y_w M_X0_feed mc ms Q (41, lv, .ref a :: r, ω, c, s) = y_gf P_X0_feed 32 (ω.2 a) (fun v => y_w M_X0_feed mc ms Q (44, lv, v :: r, ω, c, s)) := w_getfield dX0_feed_41 rfl rfl
theorem wX0_feed_44 : y_w M_X0_feed mc ms Q (44, lv, st, ω, c, s) = y_ldA lv 0 (fun v => y_w M_X0_feed mc ms Q (45, lv, v :: st, ω, c, s)) := w_aload_n dX0_feed_44 rfl rfl
theorem wX0_feed_45 : y_w M_X0_feed mc ms Q (45, lv, v :: r, ω, c, s) = (v.category = 1 ∧ y_w M_X0_feed mc ms Q (46, lv, v :: v :: r, ω, c, s)) := w_dup dX0_feed_45 rfl
theorem wX0_feed_46 : y_w M_X0_feed mc ms Q (46, lv, .ref a :: r, ω, c, s) = y_gf P_X0_feed 127 (ω.2 a) (fun v => y_w M_X0_feed mc ms Q (49, lv, v :: r, ω, c, s)) := w_getfield dX0_feed_46 rfl rfl
theorem wX0_feed_49 : y_w M_X0_feed mc ms Q (49, lv, v :: v1 :: r, ω, c, s) = ((v.category = 1 ∧ v1.category = 1) ∧ y_w M_X0_feed mc ms Q (50, lv, v :: v1 :: v :: r, ω, c, s)) := w_dup_x1 dX0_feed_49 rfl
theorem wX0_feed_50 : y_w M_X0_feed mc ms Q (50, lv, st, ω, c, s) = y_w M_X0_feed mc ms Q (51, lv, .int 1 :: st, ω, c, s) := w_iconst dX0_feed_50 (v := 1) (by decide) rfl
theorem wX0_feed_51 : y_w M_X0_feed mc ms Q (51, lv, .int y :: .int x :: r, ω, c, s) = y_w M_X0_feed mc ms Q (52, lv, .int (x + y) :: r, ω, c, s) := w_iadd dX0_feed_51 rfl
theorem wX0_feed_52 : y_w M_X0_feed mc ms Q (52, lv, v :: .ref a :: r, ω, c, s) = y_pf P_X0_feed false 127 (ω.2 a) v (fun ci fs => y_w M_X0_feed mc ms Q (55, lv, r, y_hup ω a (.inr (ci, fs)), c, s)) := w_putfield dX0_feed_52 rfl rfl rfl
theorem wX0_feed_55 : y_w M_X0_feed mc ms Q (55, lv, st, ω, c, s) = y_ldL lv 1 (fun v => y_w M_X0_feed mc ms Q (56, lv, v :: st, ω, c, s)) := w_lload_n dX0_feed_55 rfl rfl
theorem wX0_feed_56 : y_w M_X0_feed mc ms Q (56, lv, st, ω, c, s) = y_w M_X0_feed mc ms Q (58, lv, .int (nI 8) :: st, ω, c, s) := w_bipush dX0_feed_56 (v := (nI 8)) (by decide) rfl
theorem wX0_feed_58 : y_w M_X0_feed mc ms Q (58, lv, st, ω, c, s) = y_ldI lv 4 (fun v => y_w M_X0_feed mc ms Q (60, lv, v :: st, ω, c, s)) := w_iload dX0_feed_58 rfl
theorem wX0_feed_60 : y_w M_X0_feed mc ms Q (60, lv, .int y :: .int x :: r, ω, c, s) = y_w M_X0_feed mc ms Q (61, lv, .int (x * y) :: r, ω, c, s) := w_imul dX0_feed_60 rfl
theorem wX0_feed_61 : y_w M_X0_feed mc ms Q (61, lv, .int y :: .long z :: r, ω, c, s) = y_w M_X0_feed mc ms Q (62, lv, .long (z >>> (y.toInt64 &&& 63)) :: r, ω, c, s) := w_lshr dX0_feed_61 rfl
theorem wX0_feed_62 : y_w M_X0_feed mc ms Q (62, lv, .long z :: r, ω, c, s) = y_w M_X0_feed mc ms Q (63, lv, .int z.toInt32 :: r, ω, c, s) := w_l2i dX0_feed_62 rfl
theorem wX0_feed_63 : y_w M_X0_feed mc ms Q (63, lv, .int x :: r, ω, c, s) = y_w M_X0_feed mc ms Q (64, lv, .int x.toInt8.toInt32 :: r, ω, c, s) := w_i2b dX0_feed_63 rfl
theorem wX0_feed_64 : y_w M_X0_feed mc ms Q (64, lv, .int x :: .int j :: .ref a :: r, ω, c, s) = y_wB (ω.2 a) j x (fun e => y_w M_X0_feed mc ms Q (65, lv, r, y_hup ω a e, c, s)) := w_bastore dX0_feed_64 rfl
theorem wX0_feed_65 : y_w M_X0_feed mc ms Q (65, lv, st, ω, c, s) = y_inc lv 4 (fun x => y_w M_X0_feed mc ms Q (68, (4, .int (x + (-1))) :: y_kill 4 lv, st, ω, c, s)) := w_iinc dX0_feed_65 (d := (-1)) (by decide) (y_dle rfl) rfl
theorem wX0_feed_68 : y_w M_X0_feed mc ms Q (68, lv, st, ω, c, s) = ∃ lv2, y_lsub lv2 lv ∧ y_w M_X0_feed mc ms Q (35, lv2, st, ω, c, s) := w_back dX0_feed_68 (tgt := 35) (by decide) rfl
theorem wX0_feed_71 : y_w M_X0_feed mc ms Q (71, lv, st, ω, c, s) = y_ldA lv 0 (fun v => y_w M_X0_feed mc ms Q (72, lv, v :: st, ω, c, s)) := w_aload_n dX0_feed_71 rfl rfl
theorem wX0_feed_72 : y_w M_X0_feed mc ms Q (72, lv, .ref a :: r, ω, c, s) = y_gf P_X0_feed 127 (ω.2 a) (fun v => y_w M_X0_feed mc ms Q (75, lv, v :: r, ω, c, s)) := w_getfield dX0_feed_72 rfl rfl
theorem wX0_feed_75 : y_w M_X0_feed mc ms Q (75, lv, [.int x], ω, c, s) = Q (.returned (some (.int x))) ω c s := w_ireturnI dX0_feed_75 rfl
def P_X6_init (ad : y_Ad) : y_Pool := ([(11, 6, 6, (.object "java/lang/String"), false), (20, 6, 7, (.object "YoungerBack$League"), true), (24, 6, 0, (.array .byte), true), (28, 6, 1, .int, true)], [(17, 1, [.int 0, .int 0, .int 0, .null, .null, .null, .null, .null, .null, .null, .null, .null, .null, .null])], [(9, .ref (ad.1 2))], [(3, 2, 0, 1, (1, 20), y_oinit), (19, 2, 0, 1, (5, 100), (y_ref (F_X1_init ad)))], [], [], [])
def M_X6_init (ad : y_Ad) : y_Md := (cX6_init, "YoungerBack$Reader", (3, none), (5, 100), true, (P_X6_init ad), [])
def F_X6_init (ad : y_Ad) : y_Tr := y_F (M_X6_init ad)
theorem nX6_init : y_nL (M_X6_init ad) = 3 := rfl
theorem fX6_init_11_6 : y_ffP (P_X6_init ad) 11 6 = some (6, (.object "java/lang/String"), false) := rfl
theorem fX6_init_20_6 : y_ffP (P_X6_init ad) 20 6 = some (7, (.object "YoungerBack$League"), true) := rfl
theorem fX6_init_24_6 : y_ffP (P_X6_init ad) 24 6 = some (0, (.array .byte), true) := rfl
theorem fX6_init_28_6 : y_ffP (P_X6_init ad) 28 6 = some (1, .int, true) := rfl
theorem wX6_init_0 : y_w (M_X6_init ad) mc ms Q (0, lv, st, ω, c, s) = y_ldA lv 0 (fun v => y_w (M_X6_init ad) mc ms Q (1, lv, v :: st, ω, c, s)) := w_aload_n dX6_init_0 rfl rfl
theorem wX6_init_1 : y_w (M_X6_init ad) mc ms Q (1, lv, v0 :: r, ω, c, s) = (y_cat r ≤ 8 ∧ y_oinit mc ms [v0] ω c s (y_aft (M_X6_init ad) 1 3 lv r (y_w (M_X6_init ad) mc ms Q) Q)) := w_call0 (av := [v0]) ⟨Or.inl ⟨rfl, rfl⟩, rfl⟩ dX6_init_1 rfl y_oinit_mono (y_dle rfl) (y_dle rfl) rfl rfl
theorem wX6_init_4 : y_w (M_X6_init ad) mc ms Q (4, lv, st, ω, c, s) = y_ldA lv 0 (fun v => y_w (M_X6_init ad) mc ms Q (5, lv, v :: st, ω, c, s)) := w_aload_n dX6_init_4 rfl rfl
theorem wX6_init_5 : y_w (M_X6_init ad) mc ms Q (5, lv, st, ω, c, s) = y_w (M_X6_init ad) mc ms Q (7, lv, .ref (ad.1 2) :: st, ω, c, s) := w_ldc dX6_init_5 rfl rfl rfl
theorem wX6_init_7 : y_w (M_X6_init ad) mc ms Q (7, lv, v :: .ref a :: r, ω, c, s) = y_pf (P_X6_init ad) true 11 (ω.2 a) v (fun ci fs => y_w (M_X6_init ad) mc ms Q (10, lv, r, y_hup ω a (.inr (ci, fs)), c, s)) := w_putfield dX6_init_7 rfl rfl rfl
theorem wX6_init_10 : y_w (M_X6_init ad) mc ms Q (10, lv, st, ω, c, s) = y_ldA lv 0 (fun v => y_w (M_X6_init ad) mc ms Q (11, lv, v :: st, ω, c, s)) := w_aload_n dX6_init_10 rfl rfl
theorem wX6_init_11 : y_w (M_X6_init ad) mc ms Q (11, lv, st, ω, c, s) = (y_room mc ms c s 14 ∧ y_w (M_X6_init ad) mc ms Q (14, lv, .ref ω.1 :: st, y_hnew ω (.inr (1, [.int 0, .int 0, .int 0, .null, .null, .null, .null, .null, .null, .null, .null, .null, .null, .null])), c + 1, s + 14)) := w_new dX6_init_11 rfl rfl rfl
theorem wX6_init_14 : y_w (M_X6_init ad) mc ms Q (14, lv, v :: r, ω, c, s) = (v.category = 1 ∧ y_w (M_X6_init ad) mc ms Q (15, lv, v :: v :: r, ω, c, s)) := w_dup dX6_init_14 rfl
theorem wX6_init_15 : y_w (M_X6_init ad) mc ms Q (15, lv, v0 :: r, ω, c, s) = (y_cat r ≤ 8 ∧ (y_ref (F_X1_init ad)) mc ms [v0] ω c s (y_aft (M_X6_init ad) 15 3 lv r (y_w (M_X6_init ad) mc ms Q) Q)) := w_call0 (av := [v0]) ⟨Or.inl ⟨rfl, rfl⟩, rfl⟩ dX6_init_15 rfl (y_ref_mono (y_F_mono _)) (y_dle rfl) (y_dle rfl) rfl rfl
theorem wX6_init_18 : y_w (M_X6_init ad) mc ms Q (18, lv, v :: .ref a :: r, ω, c, s) = y_pf (P_X6_init ad) true 20 (ω.2 a) v (fun ci fs => y_w (M_X6_init ad) mc ms Q (21, lv, r, y_hup ω a (.inr (ci, fs)), c, s)) := w_putfield dX6_init_18 rfl rfl rfl
theorem wX6_init_21 : y_w (M_X6_init ad) mc ms Q (21, lv, st, ω, c, s) = y_ldA lv 0 (fun v => y_w (M_X6_init ad) mc ms Q (22, lv, v :: st, ω, c, s)) := w_aload_n dX6_init_21 rfl rfl
theorem wX6_init_22 : y_w (M_X6_init ad) mc ms Q (22, lv, st, ω, c, s) = y_ldA lv 1 (fun v => y_w (M_X6_init ad) mc ms Q (23, lv, v :: st, ω, c, s)) := w_aload_n dX6_init_22 rfl rfl
theorem wX6_init_23 : y_w (M_X6_init ad) mc ms Q (23, lv, v :: .ref a :: r, ω, c, s) = y_pf (P_X6_init ad) true 24 (ω.2 a) v (fun ci fs => y_w (M_X6_init ad) mc ms Q (26, lv, r, y_hup ω a (.inr (ci, fs)), c, s)) := w_putfield dX6_init_23 rfl rfl rfl
theorem wX6_init_26 : y_w (M_X6_init ad) mc ms Q (26, lv, st, ω, c, s) = y_ldA lv 0 (fun v => y_w (M_X6_init ad) mc ms Q (27, lv, v :: st, ω, c, s)) := w_aload_n dX6_init_26 rfl rfl
theorem wX6_init_27 : y_w (M_X6_init ad) mc ms Q (27, lv, st, ω, c, s) = y_ldI lv 2 (fun v => y_w (M_X6_init ad) mc ms Q (28, lv, v :: st, ω, c, s)) := w_iload_n dX6_init_27 rfl rfl
theorem wX6_init_28 : y_w (M_X6_init ad) mc ms Q (28, lv, v :: .ref a :: r, ω, c, s) = y_pf (P_X6_init ad) true 28 (ω.2 a) v (fun ci fs => y_w (M_X6_init ad) mc ms Q (31, lv, r, y_hup ω a (.inr (ci, fs)), c, s)) := w_putfield dX6_init_28 rfl rfl rfl
theorem wX6_init_31 : y_w (M_X6_init ad) mc ms Q (31, lv, [], ω, c, s) = Q (.returned none) ω c s := w_return dX6_init_31 rfl
def P_X6_look : y_Pool := ([(32, 6, 2, .int, false), (28, 6, 1, .int, true), (24, 6, 0, (.array .byte), true)], [], [(35, .int (-1000000))], [], [], [], [])
def M_X6_look : y_Md := (cX6_look, "YoungerBack$Reader", (1, (some FieldType.int)), (0, 0), false, P_X6_look, [])
def F_X6_look : y_Tr := y_F M_X6_look
theorem nX6_look : y_nL M_X6_look = 1 := rfl
theorem fX6_look_32_6 : y_ffP P_X6_look 32 6 = some (2, .int, false) := rfl
theorem fX6_look_28_6 : y_ffP P_X6_look 28 6 = some (1, .int, true) := rfl
theorem fX6_look_24_6 : y_ffP P_X6_look 24 6 = some (0, (.array .byte), true) := rfl
theorem wX6_look_0 : y_w M_X6_look mc ms Q (0, lv, st, ω, c, s) = y_ldA lv 0 (fun v => y_w M_X6_look mc ms Q (1, lv, v :: st, ω, c, s)) := w_aload_n dX6_look_0 rfl rfl
theorem wX6_look_1 : y_w M_X6_look mc ms Q (1, lv, .ref a :: r, ω, c, s) = y_gf P_X6_look 32 (ω.2 a) (fun v => y_w M_X6_look mc ms Q (4, lv, v :: r, ω, c, s)) := w_getfield dX6_look_1 rfl rfl
theorem wX6_look_4 : y_w M_X6_look mc ms Q (4, lv, st, ω, c, s) = y_ldA lv 0 (fun v => y_w M_X6_look mc ms Q (5, lv, v :: st, ω, c, s)) := w_aload_n dX6_look_4 rfl rfl
theorem wX6_look_5 : y_w M_X6_look mc ms Q (5, lv, .ref a :: r, ω, c, s) = y_gf P_X6_look 28 (ω.2 a) (fun v => y_w M_X6_look mc ms Q (8, lv, v :: r, ω, c, s)) := w_getfield dX6_look_5 rfl rfl
theorem wX6_look_8 : y_w M_X6_look mc ms Q (8, lv, .int y :: .int x :: r, ω, c, s) = ((y ≤ x → y_w M_X6_look mc ms Q (27, lv, r, ω, c, s)) ∧ (¬ (y ≤ x) → y_w M_X6_look mc ms Q (11, lv, r, ω, c, s))) := w_icmp dX6_look_8 (tgt := 27) rfl rfl rfl
theorem wX6_look_11 : y_w M_X6_look mc ms Q (11, lv, st, ω, c, s) = y_ldA lv 0 (fun v => y_w M_X6_look mc ms Q (12, lv, v :: st, ω, c, s)) := w_aload_n dX6_look_11 rfl rfl
theorem wX6_look_12 : y_w M_X6_look mc ms Q (12, lv, .ref a :: r, ω, c, s) = y_gf P_X6_look 24 (ω.2 a) (fun v => y_w M_X6_look mc ms Q (15, lv, v :: r, ω, c, s)) := w_getfield dX6_look_12 rfl rfl
theorem wX6_look_15 : y_w M_X6_look mc ms Q (15, lv, st, ω, c, s) = y_ldA lv 0 (fun v => y_w M_X6_look mc ms Q (16, lv, v :: st, ω, c, s)) := w_aload_n dX6_look_15 rfl rfl
theorem wX6_look_16 : y_w M_X6_look mc ms Q (16, lv, .ref a :: r, ω, c, s) = y_gf P_X6_look 32 (ω.2 a) (fun v => y_w M_X6_look mc ms Q (19, lv, v :: r, ω, c, s)) := w_getfield dX6_look_16 rfl rfl
theorem wX6_look_19 : y_w M_X6_look mc ms Q (19, lv, .int j :: .ref a :: r, ω, c, s) = y_rB (ω.2 a) j (fun x => y_w M_X6_look mc ms Q (20, lv, .int x :: r, ω, c, s)) := w_baload dX6_look_19 rfl
theorem wX6_look_20 : y_w M_X6_look mc ms Q (20, lv, st, ω, c, s) = y_w M_X6_look mc ms Q (23, lv, .int (nI 255) :: st, ω, c, s) := w_sipush dX6_look_20 (v := (nI 255)) (by decide) rfl
theorem wX6_look_23 : y_w M_X6_look mc ms Q (23, lv, .int y :: .int x :: r, ω, c, s) = y_w M_X6_look mc ms Q (24, lv, .int (x &&& y) :: r, ω, c, s) := w_iand dX6_look_23 rfl
theorem wX6_look_24 : y_w M_X6_look mc ms Q (24, lv, st, ω, c, s) = y_w M_X6_look mc ms Q (29, lv, st, ω, c, s) := w_goto dX6_look_24 (tgt := 29) (by decide) rfl
theorem wX6_look_27 : y_w M_X6_look mc ms Q (27, lv, st, ω, c, s) = y_w M_X6_look mc ms Q (29, lv, .int (-1000000) :: st, ω, c, s) := w_ldc dX6_look_27 rfl rfl rfl
theorem wX6_look_29 : y_w M_X6_look mc ms Q (29, lv, [.int x], ω, c, s) = Q (.returned (some (.int x))) ω c s := w_ireturnI dX6_look_29 rfl
def P_X6_next : y_Pool := ([(32, 6, 2, .int, false), (40, 6, 4, .int, false), (43, 6, 3, .int, false), (24, 6, 0, (.array .byte), true), (11, 6, 6, (.object "java/lang/String"), false), (69, 6, 5, .int, false)], [(54, 16, [.null, .int 0, .int 0, .int 0])], [(35, .int (-1000000)), (46, .long (lN 97)), (48, .long (lN 122)), (65, .long (lN 48)), (67, .long (lN 57))], [(36, 1, 6, 1, (1, 20), F_X6_look), (50, 0, 0, 3, (1, 25), F_X0_isIn), (56, 2, 0, 1, (3, 61), (y_ref F_J10_init)), (57, 1, 16, 2, (6, 146), F_J10_append), (61, 1, 16, 1, (6, 171), F_J10_toString)], [], [], [])
def M_X6_next : y_Md := (cX6_next, "YoungerBack$Reader", (3, none), (6, 171), false, P_X6_next, [])
def F_X6_next : y_Tr := y_F M_X6_next
theorem nX6_next : y_nL M_X6_next = 3 := rfl
theorem fX6_next_32_6 : y_ffP P_X6_next 32 6 = some (2, .int, false) := rfl
theorem fX6_next_40_6 : y_ffP P_X6_next 40 6 = some (4, .int, false) := rfl
theorem fX6_next_43_6 : y_ffP P_X6_next 43 6 = some (3, .int, false) := rfl
theorem fX6_next_24_6 : y_ffP P_X6_next 24 6 = some (0, (.array .byte), true) := rfl
theorem fX6_next_11_6 : y_ffP P_X6_next 11 6 = some (6, (.object "java/lang/String"), false) := rfl
theorem fX6_next_69_6 : y_ffP P_X6_next 69 6 = some (5, .int, false) := rfl
theorem wX6_next_0 : y_w M_X6_next mc ms Q (0, lv, st, ω, c, s) = y_ldA lv 0 (fun v => y_w M_X6_next mc ms Q (1, lv, v :: st, ω, c, s)) := w_aload_n dX6_next_0 rfl rfl
theorem wX6_next_1 (hc : y_cls ω a = some 6) : y_w M_X6_next mc ms Q (1, lv, .ref a :: r, ω, c, s) = (y_cat r ≤ 8 ∧ F_X6_look mc ms [.ref a] ω c s (y_aft M_X6_next 1 3 lv r (y_w M_X6_next mc ms Q) Q)) := w_call1 (av := []) (Or.inl ⟨⟨rfl, rfl⟩, rfl⟩) dX6_next_1 rfl hc rfl (y_F_mono _) (y_dle rfl) (y_dle rfl) rfl rfl
theorem wX6_next_4 : y_w M_X6_next mc ms Q (4, lv, st, ω, c, s) = y_w M_X6_next mc ms Q (6, lv, .int (nI 32) :: st, ω, c, s) := w_bipush dX6_next_4 (v := (nI 32)) (by decide) rfl
theorem wX6_next_6 : y_w M_X6_next mc ms Q (6, lv, .int y :: .int x :: r, ω, c, s) = ((x = y → y_w M_X6_next mc ms Q (18, lv, r, ω, c, s)) ∧ (¬ (x = y) → y_w M_X6_next mc ms Q (9, lv, r, ω, c, s))) := w_icmp dX6_next_6 (tgt := 18) rfl rfl rfl
theorem wX6_next_9 : y_w M_X6_next mc ms Q (9, lv, st, ω, c, s) = y_ldA lv 0 (fun v => y_w M_X6_next mc ms Q (10, lv, v :: st, ω, c, s)) := w_aload_n dX6_next_9 rfl rfl
theorem wX6_next_10 (hc : y_cls ω a = some 6) : y_w M_X6_next mc ms Q (10, lv, .ref a :: r, ω, c, s) = (y_cat r ≤ 8 ∧ F_X6_look mc ms [.ref a] ω c s (y_aft M_X6_next 10 3 lv r (y_w M_X6_next mc ms Q) Q)) := w_call1 (av := []) (Or.inl ⟨⟨rfl, rfl⟩, rfl⟩) dX6_next_10 rfl hc rfl (y_F_mono _) (y_dle rfl) (y_dle rfl) rfl rfl
theorem wX6_next_13 : y_w M_X6_next mc ms Q (13, lv, st, ω, c, s) = y_w M_X6_next mc ms Q (15, lv, .int (nI 10) :: st, ω, c, s) := w_bipush dX6_next_13 (v := (nI 10)) (by decide) rfl
theorem wX6_next_15 : y_w M_X6_next mc ms Q (15, lv, .int y :: .int x :: r, ω, c, s) = ((¬ x = y → y_w M_X6_next mc ms Q (31, lv, r, ω, c, s)) ∧ (¬ (¬ x = y) → y_w M_X6_next mc ms Q (18, lv, r, ω, c, s))) := w_icmp dX6_next_15 (tgt := 31) rfl rfl rfl
theorem wX6_next_18 : y_w M_X6_next mc ms Q (18, lv, st, ω, c, s) = y_ldA lv 0 (fun v => y_w M_X6_next mc ms Q (19, lv, v :: st, ω, c, s)) := w_aload_n dX6_next_18 rfl rfl
theorem wX6_next_19 : y_w M_X6_next mc ms Q (19, lv, v :: r, ω, c, s) = (v.category = 1 ∧ y_w M_X6_next mc ms Q (20, lv, v :: v :: r, ω, c, s)) := w_dup dX6_next_19 rfl
theorem wX6_next_20 : y_w M_X6_next mc ms Q (20, lv, .ref a :: r, ω, c, s) = y_gf P_X6_next 32 (ω.2 a) (fun v => y_w M_X6_next mc ms Q (23, lv, v :: r, ω, c, s)) := w_getfield dX6_next_20 rfl rfl
theorem wX6_next_23 : y_w M_X6_next mc ms Q (23, lv, st, ω, c, s) = y_w M_X6_next mc ms Q (24, lv, .int 1 :: st, ω, c, s) := w_iconst dX6_next_23 (v := 1) (by decide) rfl
theorem wX6_next_24 : y_w M_X6_next mc ms Q (24, lv, .int y :: .int x :: r, ω, c, s) = y_w M_X6_next mc ms Q (25, lv, .int (x + y) :: r, ω, c, s) := w_iadd dX6_next_24 rfl
theorem wX6_next_25 : y_w M_X6_next mc ms Q (25, lv, v :: .ref a :: r, ω, c, s) = y_pf P_X6_next false 32 (ω.2 a) v (fun ci fs => y_w M_X6_next mc ms Q (28, lv, r, y_hup ω a (.inr (ci, fs)), c, s)) := w_putfield dX6_next_25 rfl rfl rfl
theorem wX6_next_28 : y_w M_X6_next mc ms Q (28, lv, st, ω, c, s) = ∃ lv2, y_lsub lv2 lv ∧ y_w M_X6_next mc ms Q (0, lv2, st, ω, c, s) := w_back dX6_next_28 (tgt := 0) (by decide) rfl
theorem wX6_next_31 : y_w M_X6_next mc ms Q (31, lv, st, ω, c, s) = y_ldA lv 0 (fun v => y_w M_X6_next mc ms Q (32, lv, v :: st, ω, c, s)) := w_aload_n dX6_next_31 rfl rfl
theorem wX6_next_32 : y_w M_X6_next mc ms Q (32, lv, st, ω, c, s) = y_ldA lv 0 (fun v => y_w M_X6_next mc ms Q (33, lv, v :: st, ω, c, s)) := w_aload_n dX6_next_32 rfl rfl
theorem wX6_next_33 : y_w M_X6_next mc ms Q (33, lv, .ref a :: r, ω, c, s) = y_gf P_X6_next 32 (ω.2 a) (fun v => y_w M_X6_next mc ms Q (36, lv, v :: r, ω, c, s)) := w_getfield dX6_next_33 rfl rfl
theorem wX6_next_36 : y_w M_X6_next mc ms Q (36, lv, v :: .ref a :: r, ω, c, s) = y_pf P_X6_next false 40 (ω.2 a) v (fun ci fs => y_w M_X6_next mc ms Q (39, lv, r, y_hup ω a (.inr (ci, fs)), c, s)) := w_putfield dX6_next_36 rfl rfl rfl
theorem wX6_next_39 : y_w M_X6_next mc ms Q (39, lv, st, ω, c, s) = y_ldA lv 0 (fun v => y_w M_X6_next mc ms Q (40, lv, v :: st, ω, c, s)) := w_aload_n dX6_next_39 rfl rfl
theorem wX6_next_40 (hc : y_cls ω a = some 6) : y_w M_X6_next mc ms Q (40, lv, .ref a :: r, ω, c, s) = (y_cat r ≤ 8 ∧ F_X6_look mc ms [.ref a] ω c s (y_aft M_X6_next 40 3 lv r (y_w M_X6_next mc ms Q) Q)) := w_call1 (av := []) (Or.inl ⟨⟨rfl, rfl⟩, rfl⟩) dX6_next_40 rfl hc rfl (y_F_mono _) (y_dle rfl) (y_dle rfl) rfl rfl
theorem wX6_next_43 : y_w M_X6_next mc ms Q (43, lv, .int x :: r, ω, c, s) = y_w M_X6_next mc ms Q (44, (1, .int x) :: y_kill 1 lv, r, ω, c, s) := w_istore_n dX6_next_43 rfl (y_dle rfl) rfl
theorem wX6_next_44 : y_w M_X6_next mc ms Q (44, lv, st, ω, c, s) = y_ldI lv 1 (fun v => y_w M_X6_next mc ms Q (45, lv, v :: st, ω, c, s)) := w_iload_n dX6_next_44 rfl rfl
theorem wX6_next_45 : y_w M_X6_next mc ms Q (45, lv, st, ω, c, s) = y_w M_X6_next mc ms Q (47, lv, .int (-1000000) :: st, ω, c, s) := w_ldc dX6_next_45 rfl rfl rfl
theorem wX6_next_47 : y_w M_X6_next mc ms Q (47, lv, .int y :: .int x :: r, ω, c, s) = ((¬ x = y → y_w M_X6_next mc ms Q (58, lv, r, ω, c, s)) ∧ (¬ (¬ x = y) → y_w M_X6_next mc ms Q (50, lv, r, ω, c, s))) := w_icmp dX6_next_47 (tgt := 58) rfl rfl rfl
theorem wX6_next_50 : y_w M_X6_next mc ms Q (50, lv, st, ω, c, s) = y_ldA lv 0 (fun v => y_w M_X6_next mc ms Q (51, lv, v :: st, ω, c, s)) := w_aload_n dX6_next_50 rfl rfl
theorem wX6_next_51 : y_w M_X6_next mc ms Q (51, lv, st, ω, c, s) = y_w M_X6_next mc ms Q (52, lv, .int 0 :: st, ω, c, s) := w_iconst dX6_next_51 (v := 0) (by decide) rfl
theorem wX6_next_52 : y_w M_X6_next mc ms Q (52, lv, v :: .ref a :: r, ω, c, s) = y_pf P_X6_next false 43 (ω.2 a) v (fun ci fs => y_w M_X6_next mc ms Q (55, lv, r, y_hup ω a (.inr (ci, fs)), c, s)) := w_putfield dX6_next_52 rfl rfl rfl
theorem wX6_next_55 : y_w M_X6_next mc ms Q (55, lv, st, ω, c, s) = y_w M_X6_next mc ms Q (280, lv, st, ω, c, s) := w_goto dX6_next_55 (tgt := 280) (by decide) rfl
theorem wX6_next_58 : y_w M_X6_next mc ms Q (58, lv, st, ω, c, s) = y_ldI lv 1 (fun v => y_w M_X6_next mc ms Q (59, lv, v :: st, ω, c, s)) := w_iload_n dX6_next_58 rfl rfl
theorem wX6_next_59 : y_w M_X6_next mc ms Q (59, lv, .int x :: r, ω, c, s) = y_w M_X6_next mc ms Q (60, lv, .long x.toInt64 :: r, ω, c, s) := w_i2l dX6_next_59 rfl
theorem wX6_next_60 : y_w M_X6_next mc ms Q (60, lv, st, ω, c, s) = y_w M_X6_next mc ms Q (63, lv, .long (lN 97) :: st, ω, c, s) := w_ldc2_w dX6_next_60 rfl rfl rfl
theorem wX6_next_63 : y_w M_X6_next mc ms Q (63, lv, st, ω, c, s) = y_w M_X6_next mc ms Q (66, lv, .long (lN 122) :: st, ω, c, s) := w_ldc2_w dX6_next_63 rfl rfl rfl
theorem wX6_next_66 : y_w M_X6_next mc ms Q (66, lv, v2 :: v1 :: v0 :: r, ω, c, s) = (y_cat r ≤ 8 ∧ F_X0_isIn mc ms [v0, v1, v2] ω c s (y_aft M_X6_next 66 3 lv r (y_w M_X6_next mc ms Q) Q)) := w_call0 (av := [v0, v1, v2]) ⟨Or.inr ⟨rfl, rfl⟩, rfl⟩ dX6_next_66 rfl (y_F_mono _) (y_dle rfl) (y_dle rfl) rfl rfl
theorem wX6_next_69 : y_w M_X6_next mc ms Q (69, lv, .int x :: r, ω, c, s) = ((x = 0 → y_w M_X6_next mc ms Q (142, lv, r, ω, c, s)) ∧ (¬ (x = 0) → y_w M_X6_next mc ms Q (72, lv, r, ω, c, s))) := w_if dX6_next_69 (tgt := 142) rfl rfl rfl
theorem wX6_next_72 : y_w M_X6_next mc ms Q (72, lv, st, ω, c, s) = (y_room mc ms c s 4 ∧ y_w M_X6_next mc ms Q (75, lv, .ref ω.1 :: st, y_hnew ω (.inr (16, [.null, .int 0, .int 0, .int 0])), c + 1, s + 4)) := w_new dX6_next_72 rfl rfl rfl
theorem wX6_next_75 : y_w M_X6_next mc ms Q (75, lv, v :: r, ω, c, s) = (v.category = 1 ∧ y_w M_X6_next mc ms Q (76, lv, v :: v :: r, ω, c, s)) := w_dup dX6_next_75 rfl
theorem wX6_next_76 : y_w M_X6_next mc ms Q (76, lv, v0 :: r, ω, c, s) = (y_cat r ≤ 8 ∧ (y_ref F_J10_init) mc ms [v0] ω c s (y_aft M_X6_next 76 3 lv r (y_w M_X6_next mc ms Q) Q)) := w_call0 (av := [v0]) ⟨Or.inl ⟨rfl, rfl⟩, rfl⟩ dX6_next_76 rfl (y_ref_mono (y_F_mono _)) (y_dle rfl) (y_dle rfl) rfl rfl
theorem wX6_next_79 : y_w M_X6_next mc ms Q (79, lv, v :: r, ω, c, s) = (y_isA v = true ∧ y_w M_X6_next mc ms Q (80, (2, v) :: y_kill 2 lv, r, ω, c, s)) := w_astore_n dX6_next_79 rfl (y_dle rfl) rfl
theorem wX6_next_80 : y_w M_X6_next mc ms Q (80, lv, st, ω, c, s) = y_ldA lv 0 (fun v => y_w M_X6_next mc ms Q (81, lv, v :: st, ω, c, s)) := w_aload_n dX6_next_80 rfl rfl
theorem wX6_next_81 (hc : y_cls ω a = some 6) : y_w M_X6_next mc ms Q (81, lv, .ref a :: r, ω, c, s) = (y_cat r ≤ 8 ∧ F_X6_look mc ms [.ref a] ω c s (y_aft M_X6_next 81 3 lv r (y_w M_X6_next mc ms Q) Q)) := w_call1 (av := []) (Or.inl ⟨⟨rfl, rfl⟩, rfl⟩) dX6_next_81 rfl hc rfl (y_F_mono _) (y_dle rfl) (y_dle rfl) rfl rfl
theorem wX6_next_84 : y_w M_X6_next mc ms Q (84, lv, .int x :: r, ω, c, s) = y_w M_X6_next mc ms Q (85, lv, .long x.toInt64 :: r, ω, c, s) := w_i2l dX6_next_84 rfl
theorem wX6_next_85 : y_w M_X6_next mc ms Q (85, lv, st, ω, c, s) = y_w M_X6_next mc ms Q (88, lv, .long (lN 97) :: st, ω, c, s) := w_ldc2_w dX6_next_85 rfl rfl rfl
theorem wX6_next_88 : y_w M_X6_next mc ms Q (88, lv, st, ω, c, s) = y_w M_X6_next mc ms Q (91, lv, .long (lN 122) :: st, ω, c, s) := w_ldc2_w dX6_next_88 rfl rfl rfl
theorem wX6_next_91 : y_w M_X6_next mc ms Q (91, lv, v2 :: v1 :: v0 :: r, ω, c, s) = (y_cat r ≤ 8 ∧ F_X0_isIn mc ms [v0, v1, v2] ω c s (y_aft M_X6_next 91 3 lv r (y_w M_X6_next mc ms Q) Q)) := w_call0 (av := [v0, v1, v2]) ⟨Or.inr ⟨rfl, rfl⟩, rfl⟩ dX6_next_91 rfl (y_F_mono _) (y_dle rfl) (y_dle rfl) rfl rfl
theorem wX6_next_94 : y_w M_X6_next mc ms Q (94, lv, .int x :: r, ω, c, s) = ((x = 0 → y_w M_X6_next mc ms Q (126, lv, r, ω, c, s)) ∧ (¬ (x = 0) → y_w M_X6_next mc ms Q (97, lv, r, ω, c, s))) := w_if dX6_next_94 (tgt := 126) rfl rfl rfl
theorem wX6_next_97 : y_w M_X6_next mc ms Q (97, lv, st, ω, c, s) = y_ldA lv 2 (fun v => y_w M_X6_next mc ms Q (98, lv, v :: st, ω, c, s)) := w_aload_n dX6_next_97 rfl rfl
theorem wX6_next_98 : y_w M_X6_next mc ms Q (98, lv, st, ω, c, s) = y_ldA lv 0 (fun v => y_w M_X6_next mc ms Q (99, lv, v :: st, ω, c, s)) := w_aload_n dX6_next_98 rfl rfl
theorem wX6_next_99 : y_w M_X6_next mc ms Q (99, lv, .ref a :: r, ω, c, s) = y_gf P_X6_next 24 (ω.2 a) (fun v => y_w M_X6_next mc ms Q (102, lv, v :: r, ω, c, s)) := w_getfield dX6_next_99 rfl rfl
theorem wX6_next_102 : y_w M_X6_next mc ms Q (102, lv, st, ω, c, s) = y_ldA lv 0 (fun v => y_w M_X6_next mc ms Q (103, lv, v :: st, ω, c, s)) := w_aload_n dX6_next_102 rfl rfl
theorem wX6_next_103 : y_w M_X6_next mc ms Q (103, lv, v :: r, ω, c, s) = (v.category = 1 ∧ y_w M_X6_next mc ms Q (104, lv, v :: v :: r, ω, c, s)) := w_dup dX6_next_103 rfl
theorem wX6_next_104 : y_w M_X6_next mc ms Q (104, lv, .ref a :: r, ω, c, s) = y_gf P_X6_next 32 (ω.2 a) (fun v => y_w M_X6_next mc ms Q (107, lv, v :: r, ω, c, s)) := w_getfield dX6_next_104 rfl rfl
theorem wX6_next_107 : y_w M_X6_next mc ms Q (107, lv, v :: v1 :: r, ω, c, s) = ((v.category = 1 ∧ v1.category = 1) ∧ y_w M_X6_next mc ms Q (108, lv, v :: v1 :: v :: r, ω, c, s)) := w_dup_x1 dX6_next_107 rfl
theorem wX6_next_108 : y_w M_X6_next mc ms Q (108, lv, st, ω, c, s) = y_w M_X6_next mc ms Q (109, lv, .int 1 :: st, ω, c, s) := w_iconst dX6_next_108 (v := 1) (by decide) rfl
theorem wX6_next_109 : y_w M_X6_next mc ms Q (109, lv, .int y :: .int x :: r, ω, c, s) = y_w M_X6_next mc ms Q (110, lv, .int (x + y) :: r, ω, c, s) := w_iadd dX6_next_109 rfl
theorem wX6_next_110 : y_w M_X6_next mc ms Q (110, lv, v :: .ref a :: r, ω, c, s) = y_pf P_X6_next false 32 (ω.2 a) v (fun ci fs => y_w M_X6_next mc ms Q (113, lv, r, y_hup ω a (.inr (ci, fs)), c, s)) := w_putfield dX6_next_110 rfl rfl rfl
theorem wX6_next_113 : y_w M_X6_next mc ms Q (113, lv, .int j :: .ref a :: r, ω, c, s) = y_rB (ω.2 a) j (fun x => y_w M_X6_next mc ms Q (114, lv, .int x :: r, ω, c, s)) := w_baload dX6_next_113 rfl
theorem wX6_next_114 : y_w M_X6_next mc ms Q (114, lv, st, ω, c, s) = y_w M_X6_next mc ms Q (117, lv, .int (nI 255) :: st, ω, c, s) := w_sipush dX6_next_114 (v := (nI 255)) (by decide) rfl
theorem wX6_next_117 : y_w M_X6_next mc ms Q (117, lv, .int y :: .int x :: r, ω, c, s) = y_w M_X6_next mc ms Q (118, lv, .int (x &&& y) :: r, ω, c, s) := w_iand dX6_next_117 rfl
theorem wX6_next_118 : y_w M_X6_next mc ms Q (118, lv, .int x :: r, ω, c, s) = y_w M_X6_next mc ms Q (119, lv, .int (x.toUInt32 % 65536).toInt32 :: r, ω, c, s) := w_i2c dX6_next_118 rfl
theorem wX6_next_119 (hc : y_cls ω a = some 16) : y_w M_X6_next mc ms Q (119, lv, v1 :: .ref a :: r, ω, c, s) = (y_cat r ≤ 8 ∧ F_J10_append mc ms [.ref a, v1] ω c s (y_aft M_X6_next 119 3 lv r (y_w M_X6_next mc ms Q) Q)) := w_call1 (av := [v1]) (Or.inl ⟨⟨rfl, rfl⟩, rfl⟩) dX6_next_119 rfl hc rfl (y_F_mono _) (y_dle rfl) (y_dle rfl) rfl rfl
theorem wX6_next_122 : y_w M_X6_next mc ms Q (122, lv, v :: r, ω, c, s) = (v.category = 1 ∧ y_w M_X6_next mc ms Q (123, lv, r, ω, c, s)) := w_pop dX6_next_122 rfl
theorem wX6_next_123 : y_w M_X6_next mc ms Q (123, lv, st, ω, c, s) = ∃ lv2, y_lsub lv2 lv ∧ y_w M_X6_next mc ms Q (80, lv2, st, ω, c, s) := w_back dX6_next_123 (tgt := 80) (by decide) rfl
theorem wX6_next_126 : y_w M_X6_next mc ms Q (126, lv, st, ω, c, s) = y_ldA lv 0 (fun v => y_w M_X6_next mc ms Q (127, lv, v :: st, ω, c, s)) := w_aload_n dX6_next_126 rfl rfl
theorem wX6_next_127 : y_w M_X6_next mc ms Q (127, lv, st, ω, c, s) = y_ldA lv 2 (fun v => y_w M_X6_next mc ms Q (128, lv, v :: st, ω, c, s)) := w_aload_n dX6_next_127 rfl rfl
theorem wX6_next_128 (hc : y_cls ω a = some 16) : y_w M_X6_next mc ms Q (128, lv, .ref a :: r, ω, c, s) = (y_cat r ≤ 8 ∧ F_J10_toString mc ms [.ref a] ω c s (y_aft M_X6_next 128 3 lv r (y_w M_X6_next mc ms Q) Q)) := w_call1 (av := []) (Or.inl ⟨⟨rfl, rfl⟩, rfl⟩) dX6_next_128 rfl hc rfl (y_F_mono _) (y_dle rfl) (y_dle rfl) rfl rfl
theorem wX6_next_131 : y_w M_X6_next mc ms Q (131, lv, v :: .ref a :: r, ω, c, s) = y_pf P_X6_next false 11 (ω.2 a) v (fun ci fs => y_w M_X6_next mc ms Q (134, lv, r, y_hup ω a (.inr (ci, fs)), c, s)) := w_putfield dX6_next_131 rfl rfl rfl
theorem wX6_next_134 : y_w M_X6_next mc ms Q (134, lv, st, ω, c, s) = y_ldA lv 0 (fun v => y_w M_X6_next mc ms Q (135, lv, v :: st, ω, c, s)) := w_aload_n dX6_next_134 rfl rfl
theorem wX6_next_135 : y_w M_X6_next mc ms Q (135, lv, st, ω, c, s) = y_w M_X6_next mc ms Q (136, lv, .int 1 :: st, ω, c, s) := w_iconst dX6_next_135 (v := 1) (by decide) rfl
theorem wX6_next_136 : y_w M_X6_next mc ms Q (136, lv, v :: .ref a :: r, ω, c, s) = y_pf P_X6_next false 43 (ω.2 a) v (fun ci fs => y_w M_X6_next mc ms Q (139, lv, r, y_hup ω a (.inr (ci, fs)), c, s)) := w_putfield dX6_next_136 rfl rfl rfl
theorem wX6_next_139 : y_w M_X6_next mc ms Q (139, lv, st, ω, c, s) = y_w M_X6_next mc ms Q (280, lv, st, ω, c, s) := w_goto dX6_next_139 (tgt := 280) (by decide) rfl
theorem wX6_next_142 : y_w M_X6_next mc ms Q (142, lv, st, ω, c, s) = y_ldI lv 1 (fun v => y_w M_X6_next mc ms Q (143, lv, v :: st, ω, c, s)) := w_iload_n dX6_next_142 rfl rfl
theorem wX6_next_143 : y_w M_X6_next mc ms Q (143, lv, .int x :: r, ω, c, s) = y_w M_X6_next mc ms Q (144, lv, .long x.toInt64 :: r, ω, c, s) := w_i2l dX6_next_143 rfl
theorem wX6_next_144 : y_w M_X6_next mc ms Q (144, lv, st, ω, c, s) = y_w M_X6_next mc ms Q (147, lv, .long (lN 48) :: st, ω, c, s) := w_ldc2_w dX6_next_144 rfl rfl rfl
theorem wX6_next_147 : y_w M_X6_next mc ms Q (147, lv, st, ω, c, s) = y_w M_X6_next mc ms Q (150, lv, .long (lN 57) :: st, ω, c, s) := w_ldc2_w dX6_next_147 rfl rfl rfl
theorem wX6_next_150 : y_w M_X6_next mc ms Q (150, lv, v2 :: v1 :: v0 :: r, ω, c, s) = (y_cat r ≤ 8 ∧ F_X0_isIn mc ms [v0, v1, v2] ω c s (y_aft M_X6_next 150 3 lv r (y_w M_X6_next mc ms Q) Q)) := w_call0 (av := [v0, v1, v2]) ⟨Or.inr ⟨rfl, rfl⟩, rfl⟩ dX6_next_150 rfl (y_F_mono _) (y_dle rfl) (y_dle rfl) rfl rfl
theorem wX6_next_153 : y_w M_X6_next mc ms Q (153, lv, .int x :: r, ω, c, s) = ((x = 0 → y_w M_X6_next mc ms Q (255, lv, r, ω, c, s)) ∧ (¬ (x = 0) → y_w M_X6_next mc ms Q (156, lv, r, ω, c, s))) := w_if dX6_next_153 (tgt := 255) rfl rfl rfl
theorem wX6_next_156 : y_w M_X6_next mc ms Q (156, lv, st, ω, c, s) = y_ldA lv 0 (fun v => y_w M_X6_next mc ms Q (157, lv, v :: st, ω, c, s)) := w_aload_n dX6_next_156 rfl rfl
theorem wX6_next_157 : y_w M_X6_next mc ms Q (157, lv, st, ω, c, s) = y_w M_X6_next mc ms Q (158, lv, .int 0 :: st, ω, c, s) := w_iconst dX6_next_157 (v := 0) (by decide) rfl
theorem wX6_next_158 : y_w M_X6_next mc ms Q (158, lv, v :: .ref a :: r, ω, c, s) = y_pf P_X6_next false 69 (ω.2 a) v (fun ci fs => y_w M_X6_next mc ms Q (161, lv, r, y_hup ω a (.inr (ci, fs)), c, s)) := w_putfield dX6_next_158 rfl rfl rfl
theorem wX6_next_161 : y_w M_X6_next mc ms Q (161, lv, st, ω, c, s) = y_ldA lv 0 (fun v => y_w M_X6_next mc ms Q (162, lv, v :: st, ω, c, s)) := w_aload_n dX6_next_161 rfl rfl
theorem wX6_next_162 (hc : y_cls ω a = some 6) : y_w M_X6_next mc ms Q (162, lv, .ref a :: r, ω, c, s) = (y_cat r ≤ 8 ∧ F_X6_look mc ms [.ref a] ω c s (y_aft M_X6_next 162 3 lv r (y_w M_X6_next mc ms Q) Q)) := w_call1 (av := []) (Or.inl ⟨⟨rfl, rfl⟩, rfl⟩) dX6_next_162 rfl hc rfl (y_F_mono _) (y_dle rfl) (y_dle rfl) rfl rfl
theorem wX6_next_165 : y_w M_X6_next mc ms Q (165, lv, .int x :: r, ω, c, s) = y_w M_X6_next mc ms Q (166, lv, .long x.toInt64 :: r, ω, c, s) := w_i2l dX6_next_165 rfl
theorem wX6_next_166 : y_w M_X6_next mc ms Q (166, lv, st, ω, c, s) = y_w M_X6_next mc ms Q (169, lv, .long (lN 48) :: st, ω, c, s) := w_ldc2_w dX6_next_166 rfl rfl rfl
theorem wX6_next_169 : y_w M_X6_next mc ms Q (169, lv, st, ω, c, s) = y_w M_X6_next mc ms Q (172, lv, .long (lN 57) :: st, ω, c, s) := w_ldc2_w dX6_next_169 rfl rfl rfl
theorem wX6_next_172 : y_w M_X6_next mc ms Q (172, lv, v2 :: v1 :: v0 :: r, ω, c, s) = (y_cat r ≤ 8 ∧ F_X0_isIn mc ms [v0, v1, v2] ω c s (y_aft M_X6_next 172 3 lv r (y_w M_X6_next mc ms Q) Q)) := w_call0 (av := [v0, v1, v2]) ⟨Or.inr ⟨rfl, rfl⟩, rfl⟩ dX6_next_172 rfl (y_F_mono _) (y_dle rfl) (y_dle rfl) rfl rfl
theorem wX6_next_175 : y_w M_X6_next mc ms Q (175, lv, .int x :: r, ω, c, s) = ((x = 0 → y_w M_X6_next mc ms Q (230, lv, r, ω, c, s)) ∧ (¬ (x = 0) → y_w M_X6_next mc ms Q (178, lv, r, ω, c, s))) := w_if dX6_next_175 (tgt := 230) rfl rfl rfl
theorem wX6_next_178 : y_w M_X6_next mc ms Q (178, lv, st, ω, c, s) = y_ldA lv 0 (fun v => y_w M_X6_next mc ms Q (179, lv, v :: st, ω, c, s)) := w_aload_n dX6_next_178 rfl rfl
theorem wX6_next_179 : y_w M_X6_next mc ms Q (179, lv, st, ω, c, s) = y_ldA lv 0 (fun v => y_w M_X6_next mc ms Q (180, lv, v :: st, ω, c, s)) := w_aload_n dX6_next_179 rfl rfl
theorem wX6_next_180 : y_w M_X6_next mc ms Q (180, lv, .ref a :: r, ω, c, s) = y_gf P_X6_next 32 (ω.2 a) (fun v => y_w M_X6_next mc ms Q (183, lv, v :: r, ω, c, s)) := w_getfield dX6_next_180 rfl rfl
theorem wX6_next_183 : y_w M_X6_next mc ms Q (183, lv, st, ω, c, s) = y_ldA lv 0 (fun v => y_w M_X6_next mc ms Q (184, lv, v :: st, ω, c, s)) := w_aload_n dX6_next_183 rfl rfl
theorem wX6_next_184 : y_w M_X6_next mc ms Q (184, lv, .ref a :: r, ω, c, s) = y_gf P_X6_next 40 (ω.2 a) (fun v => y_w M_X6_next mc ms Q (187, lv, v :: r, ω, c, s)) := w_getfield dX6_next_184 rfl rfl
theorem wX6_next_187 : y_w M_X6_next mc ms Q (187, lv, .int y :: .int x :: r, ω, c, s) = y_w M_X6_next mc ms Q (188, lv, .int (x - y) :: r, ω, c, s) := w_isub dX6_next_187 rfl
theorem wX6_next_188 : y_w M_X6_next mc ms Q (188, lv, st, ω, c, s) = y_w M_X6_next mc ms Q (189, lv, .int (nI 3) :: st, ω, c, s) := w_iconst dX6_next_188 (v := (nI 3)) (by decide) rfl
theorem wX6_next_189 : y_w M_X6_next mc ms Q (189, lv, .int y :: .int x :: r, ω, c, s) = ((y ≤ x → y_w M_X6_next mc ms Q (210, lv, r, ω, c, s)) ∧ (¬ (y ≤ x) → y_w M_X6_next mc ms Q (192, lv, r, ω, c, s))) := w_icmp dX6_next_189 (tgt := 210) rfl rfl rfl
theorem wX6_next_192 : y_w M_X6_next mc ms Q (192, lv, st, ω, c, s) = y_w M_X6_next mc ms Q (194, lv, .int (nI 10) :: st, ω, c, s) := w_bipush dX6_next_192 (v := (nI 10)) (by decide) rfl
theorem wX6_next_194 : y_w M_X6_next mc ms Q (194, lv, st, ω, c, s) = y_ldA lv 0 (fun v => y_w M_X6_next mc ms Q (195, lv, v :: st, ω, c, s)) := w_aload_n dX6_next_194 rfl rfl
theorem wX6_next_195 : y_w M_X6_next mc ms Q (195, lv, .ref a :: r, ω, c, s) = y_gf P_X6_next 69 (ω.2 a) (fun v => y_w M_X6_next mc ms Q (198, lv, v :: r, ω, c, s)) := w_getfield dX6_next_195 rfl rfl
theorem wX6_next_198 : y_w M_X6_next mc ms Q (198, lv, .int y :: .int x :: r, ω, c, s) = y_w M_X6_next mc ms Q (199, lv, .int (x * y) :: r, ω, c, s) := w_imul dX6_next_198 rfl
theorem wX6_next_199 : y_w M_X6_next mc ms Q (199, lv, st, ω, c, s) = y_ldA lv 0 (fun v => y_w M_X6_next mc ms Q (200, lv, v :: st, ω, c, s)) := w_aload_n dX6_next_199 rfl rfl
theorem wX6_next_200 (hc : y_cls ω a = some 6) : y_w M_X6_next mc ms Q (200, lv, .ref a :: r, ω, c, s) = (y_cat r ≤ 8 ∧ F_X6_look mc ms [.ref a] ω c s (y_aft M_X6_next 200 3 lv r (y_w M_X6_next mc ms Q) Q)) := w_call1 (av := []) (Or.inl ⟨⟨rfl, rfl⟩, rfl⟩) dX6_next_200 rfl hc rfl (y_F_mono _) (y_dle rfl) (y_dle rfl) rfl rfl
theorem wX6_next_203 : y_w M_X6_next mc ms Q (203, lv, .int y :: .int x :: r, ω, c, s) = y_w M_X6_next mc ms Q (204, lv, .int (x + y) :: r, ω, c, s) := w_iadd dX6_next_203 rfl
theorem wX6_next_204 : y_w M_X6_next mc ms Q (204, lv, st, ω, c, s) = y_w M_X6_next mc ms Q (206, lv, .int (nI 48) :: st, ω, c, s) := w_bipush dX6_next_204 (v := (nI 48)) (by decide) rfl
theorem wX6_next_206 : y_w M_X6_next mc ms Q (206, lv, .int y :: .int x :: r, ω, c, s) = y_w M_X6_next mc ms Q (207, lv, .int (x - y) :: r, ω, c, s) := w_isub dX6_next_206 rfl
theorem wX6_next_207 : y_w M_X6_next mc ms Q (207, lv, st, ω, c, s) = y_w M_X6_next mc ms Q (214, lv, st, ω, c, s) := w_goto dX6_next_207 (tgt := 214) (by decide) rfl
theorem wX6_next_210 : y_w M_X6_next mc ms Q (210, lv, st, ω, c, s) = y_ldA lv 0 (fun v => y_w M_X6_next mc ms Q (211, lv, v :: st, ω, c, s)) := w_aload_n dX6_next_210 rfl rfl
theorem wX6_next_211 : y_w M_X6_next mc ms Q (211, lv, .ref a :: r, ω, c, s) = y_gf P_X6_next 69 (ω.2 a) (fun v => y_w M_X6_next mc ms Q (214, lv, v :: r, ω, c, s)) := w_getfield dX6_next_211 rfl rfl
theorem wX6_next_214 : y_w M_X6_next mc ms Q (214, lv, v :: .ref a :: r, ω, c, s) = y_pf P_X6_next false 69 (ω.2 a) v (fun ci fs => y_w M_X6_next mc ms Q (217, lv, r, y_hup ω a (.inr (ci, fs)), c, s)) := w_putfield dX6_next_214 rfl rfl rfl
theorem wX6_next_217 : y_w M_X6_next mc ms Q (217, lv, st, ω, c, s) = y_ldA lv 0 (fun v => y_w M_X6_next mc ms Q (218, lv, v :: st, ω, c, s)) := w_aload_n dX6_next_217 rfl rfl
theorem wX6_next_218 : y_w M_X6_next mc ms Q (218, lv, v :: r, ω, c, s) = (v.category = 1 ∧ y_w M_X6_next mc ms Q (219, lv, v :: v :: r, ω, c, s)) := w_dup dX6_next_218 rfl
theorem wX6_next_219 : y_w M_X6_next mc ms Q (219, lv, .ref a :: r, ω, c, s) = y_gf P_X6_next 32 (ω.2 a) (fun v => y_w M_X6_next mc ms Q (222, lv, v :: r, ω, c, s)) := w_getfield dX6_next_219 rfl rfl
theorem wX6_next_222 : y_w M_X6_next mc ms Q (222, lv, st, ω, c, s) = y_w M_X6_next mc ms Q (223, lv, .int 1 :: st, ω, c, s) := w_iconst dX6_next_222 (v := 1) (by decide) rfl
theorem wX6_next_223 : y_w M_X6_next mc ms Q (223, lv, .int y :: .int x :: r, ω, c, s) = y_w M_X6_next mc ms Q (224, lv, .int (x + y) :: r, ω, c, s) := w_iadd dX6_next_223 rfl
theorem wX6_next_224 : y_w M_X6_next mc ms Q (224, lv, v :: .ref a :: r, ω, c, s) = y_pf P_X6_next false 32 (ω.2 a) v (fun ci fs => y_w M_X6_next mc ms Q (227, lv, r, y_hup ω a (.inr (ci, fs)), c, s)) := w_putfield dX6_next_224 rfl rfl rfl
theorem wX6_next_227 : y_w M_X6_next mc ms Q (227, lv, st, ω, c, s) = ∃ lv2, y_lsub lv2 lv ∧ y_w M_X6_next mc ms Q (161, lv2, st, ω, c, s) := w_back dX6_next_227 (tgt := 161) (by decide) rfl
theorem wX6_next_230 : y_w M_X6_next mc ms Q (230, lv, st, ω, c, s) = y_ldA lv 0 (fun v => y_w M_X6_next mc ms Q (231, lv, v :: st, ω, c, s)) := w_aload_n dX6_next_230 rfl rfl
theorem wX6_next_231 : y_w M_X6_next mc ms Q (231, lv, st, ω, c, s) = y_ldA lv 0 (fun v => y_w M_X6_next mc ms Q (232, lv, v :: st, ω, c, s)) := w_aload_n dX6_next_231 rfl rfl
theorem wX6_next_232 : y_w M_X6_next mc ms Q (232, lv, .ref a :: r, ω, c, s) = y_gf P_X6_next 32 (ω.2 a) (fun v => y_w M_X6_next mc ms Q (235, lv, v :: r, ω, c, s)) := w_getfield dX6_next_232 rfl rfl
theorem wX6_next_235 : y_w M_X6_next mc ms Q (235, lv, st, ω, c, s) = y_ldA lv 0 (fun v => y_w M_X6_next mc ms Q (236, lv, v :: st, ω, c, s)) := w_aload_n dX6_next_235 rfl rfl
theorem wX6_next_236 : y_w M_X6_next mc ms Q (236, lv, .ref a :: r, ω, c, s) = y_gf P_X6_next 40 (ω.2 a) (fun v => y_w M_X6_next mc ms Q (239, lv, v :: r, ω, c, s)) := w_getfield dX6_next_236 rfl rfl
theorem wX6_next_239 : y_w M_X6_next mc ms Q (239, lv, .int y :: .int x :: r, ω, c, s) = y_w M_X6_next mc ms Q (240, lv, .int (x - y) :: r, ω, c, s) := w_isub dX6_next_239 rfl
theorem wX6_next_240 : y_w M_X6_next mc ms Q (240, lv, st, ω, c, s) = y_w M_X6_next mc ms Q (241, lv, .int (nI 3) :: st, ω, c, s) := w_iconst dX6_next_240 (v := (nI 3)) (by decide) rfl
theorem wX6_next_241 : y_w M_X6_next mc ms Q (241, lv, .int y :: .int x :: r, ω, c, s) = ((y < x → y_w M_X6_next mc ms Q (248, lv, r, ω, c, s)) ∧ (¬ (y < x) → y_w M_X6_next mc ms Q (244, lv, r, ω, c, s))) := w_icmp dX6_next_241 (tgt := 248) rfl rfl rfl
theorem wX6_next_244 : y_w M_X6_next mc ms Q (244, lv, st, ω, c, s) = y_w M_X6_next mc ms Q (245, lv, .int (nI 2) :: st, ω, c, s) := w_iconst dX6_next_244 (v := (nI 2)) (by decide) rfl
theorem wX6_next_245 : y_w M_X6_next mc ms Q (245, lv, st, ω, c, s) = y_w M_X6_next mc ms Q (249, lv, st, ω, c, s) := w_goto dX6_next_245 (tgt := 249) (by decide) rfl
theorem wX6_next_248 : y_w M_X6_next mc ms Q (248, lv, st, ω, c, s) = y_w M_X6_next mc ms Q (249, lv, .int (nI 4) :: st, ω, c, s) := w_iconst dX6_next_248 (v := (nI 4)) (by decide) rfl
theorem wX6_next_249 : y_w M_X6_next mc ms Q (249, lv, v :: .ref a :: r, ω, c, s) = y_pf P_X6_next false 43 (ω.2 a) v (fun ci fs => y_w M_X6_next mc ms Q (252, lv, r, y_hup ω a (.inr (ci, fs)), c, s)) := w_putfield dX6_next_249 rfl rfl rfl
theorem wX6_next_252 : y_w M_X6_next mc ms Q (252, lv, st, ω, c, s) = y_w M_X6_next mc ms Q (280, lv, st, ω, c, s) := w_goto dX6_next_252 (tgt := 280) (by decide) rfl
theorem wX6_next_255 : y_w M_X6_next mc ms Q (255, lv, st, ω, c, s) = y_ldA lv 0 (fun v => y_w M_X6_next mc ms Q (256, lv, v :: st, ω, c, s)) := w_aload_n dX6_next_255 rfl rfl
theorem wX6_next_256 : y_w M_X6_next mc ms Q (256, lv, v :: r, ω, c, s) = (v.category = 1 ∧ y_w M_X6_next mc ms Q (257, lv, v :: v :: r, ω, c, s)) := w_dup dX6_next_256 rfl
theorem wX6_next_257 : y_w M_X6_next mc ms Q (257, lv, .ref a :: r, ω, c, s) = y_gf P_X6_next 32 (ω.2 a) (fun v => y_w M_X6_next mc ms Q (260, lv, v :: r, ω, c, s)) := w_getfield dX6_next_257 rfl rfl
theorem wX6_next_260 : y_w M_X6_next mc ms Q (260, lv, st, ω, c, s) = y_w M_X6_next mc ms Q (261, lv, .int 1 :: st, ω, c, s) := w_iconst dX6_next_260 (v := 1) (by decide) rfl
theorem wX6_next_261 : y_w M_X6_next mc ms Q (261, lv, .int y :: .int x :: r, ω, c, s) = y_w M_X6_next mc ms Q (262, lv, .int (x + y) :: r, ω, c, s) := w_iadd dX6_next_261 rfl
theorem wX6_next_262 : y_w M_X6_next mc ms Q (262, lv, v :: .ref a :: r, ω, c, s) = y_pf P_X6_next false 32 (ω.2 a) v (fun ci fs => y_w M_X6_next mc ms Q (265, lv, r, y_hup ω a (.inr (ci, fs)), c, s)) := w_putfield dX6_next_262 rfl rfl rfl
theorem wX6_next_265 : y_w M_X6_next mc ms Q (265, lv, st, ω, c, s) = y_ldA lv 0 (fun v => y_w M_X6_next mc ms Q (266, lv, v :: st, ω, c, s)) := w_aload_n dX6_next_265 rfl rfl
theorem wX6_next_266 : y_w M_X6_next mc ms Q (266, lv, st, ω, c, s) = y_ldI lv 1 (fun v => y_w M_X6_next mc ms Q (267, lv, v :: st, ω, c, s)) := w_iload_n dX6_next_266 rfl rfl
theorem wX6_next_267 : y_w M_X6_next mc ms Q (267, lv, st, ω, c, s) = y_w M_X6_next mc ms Q (269, lv, .int (nI 59) :: st, ω, c, s) := w_bipush dX6_next_267 (v := (nI 59)) (by decide) rfl
theorem wX6_next_269 : y_w M_X6_next mc ms Q (269, lv, .int y :: .int x :: r, ω, c, s) = ((¬ x = y → y_w M_X6_next mc ms Q (276, lv, r, ω, c, s)) ∧ (¬ (¬ x = y) → y_w M_X6_next mc ms Q (272, lv, r, ω, c, s))) := w_icmp dX6_next_269 (tgt := 276) rfl rfl rfl
theorem wX6_next_272 : y_w M_X6_next mc ms Q (272, lv, st, ω, c, s) = y_w M_X6_next mc ms Q (273, lv, .int (nI 3) :: st, ω, c, s) := w_iconst dX6_next_272 (v := (nI 3)) (by decide) rfl
theorem wX6_next_273 : y_w M_X6_next mc ms Q (273, lv, st, ω, c, s) = y_w M_X6_next mc ms Q (277, lv, st, ω, c, s) := w_goto dX6_next_273 (tgt := 277) (by decide) rfl
theorem wX6_next_276 : y_w M_X6_next mc ms Q (276, lv, st, ω, c, s) = y_w M_X6_next mc ms Q (277, lv, .int (nI 4) :: st, ω, c, s) := w_iconst dX6_next_276 (v := (nI 4)) (by decide) rfl
theorem wX6_next_277 : y_w M_X6_next mc ms Q (277, lv, v :: .ref a :: r, ω, c, s) = y_pf P_X6_next false 43 (ω.2 a) v (fun ci fs => y_w M_X6_next mc ms Q (280, lv, r, y_hup ω a (.inr (ci, fs)), c, s)) := w_putfield dX6_next_277 rfl rfl rfl
theorem wX6_next_280 : y_w M_X6_next mc ms Q (280, lv, [], ω, c, s) = Q (.returned none) ω c s := w_return dX6_next_280 rfl
def P_X6_isWord : y_Pool := ([(43, 6, 3, .int, false), (11, 6, 6, (.object "java/lang/String"), false)], [], [], [(77, 1, 15, 2, (2, 44), F_J8_equals)], [], [], [])
def M_X6_isWord : y_Md := (cX6_isWord, "YoungerBack$Reader", (2, (some FieldType.boolean)), (2, 44), false, P_X6_isWord, [])
def F_X6_isWord : y_Tr := y_F M_X6_isWord
theorem nX6_isWord : y_nL M_X6_isWord = 2 := rfl
theorem fX6_isWord_43_6 : y_ffP P_X6_isWord 43 6 = some (3, .int, false) := rfl
theorem fX6_isWord_11_6 : y_ffP P_X6_isWord 11 6 = some (6, (.object "java/lang/String"), false) := rfl
theorem wX6_isWord_0 : y_w M_X6_isWord mc ms Q (0, lv, st, ω, c, s) = y_ldA lv 0 (fun v => y_w M_X6_isWord mc ms Q (1, lv, v :: st, ω, c, s)) := w_aload_n dX6_isWord_0 rfl rfl
theorem wX6_isWord_1 : y_w M_X6_isWord mc ms Q (1, lv, .ref a :: r, ω, c, s) = y_gf P_X6_isWord 43 (ω.2 a) (fun v => y_w M_X6_isWord mc ms Q (4, lv, v :: r, ω, c, s)) := w_getfield dX6_isWord_1 rfl rfl
theorem wX6_isWord_4 : y_w M_X6_isWord mc ms Q (4, lv, st, ω, c, s) = y_w M_X6_isWord mc ms Q (5, lv, .int 1 :: st, ω, c, s) := w_iconst dX6_isWord_4 (v := 1) (by decide) rfl
theorem wX6_isWord_5 : y_w M_X6_isWord mc ms Q (5, lv, .int y :: .int x :: r, ω, c, s) = ((¬ x = y → y_w M_X6_isWord mc ms Q (23, lv, r, ω, c, s)) ∧ (¬ (¬ x = y) → y_w M_X6_isWord mc ms Q (8, lv, r, ω, c, s))) := w_icmp dX6_isWord_5 (tgt := 23) rfl rfl rfl
theorem wX6_isWord_8 : y_w M_X6_isWord mc ms Q (8, lv, st, ω, c, s) = y_ldA lv 0 (fun v => y_w M_X6_isWord mc ms Q (9, lv, v :: st, ω, c, s)) := w_aload_n dX6_isWord_8 rfl rfl
theorem wX6_isWord_9 : y_w M_X6_isWord mc ms Q (9, lv, .ref a :: r, ω, c, s) = y_gf P_X6_isWord 11 (ω.2 a) (fun v => y_w M_X6_isWord mc ms Q (12, lv, v :: r, ω, c, s)) := w_getfield dX6_isWord_9 rfl rfl
theorem wX6_isWord_12 : y_w M_X6_isWord mc ms Q (12, lv, st, ω, c, s) = y_ldA lv 1 (fun v => y_w M_X6_isWord mc ms Q (13, lv, v :: st, ω, c, s)) := w_aload_n dX6_isWord_12 rfl rfl
theorem wX6_isWord_13 (hc : y_cls ω a = some 15) : y_w M_X6_isWord mc ms Q (13, lv, v1 :: .ref a :: r, ω, c, s) = (y_cat r ≤ 8 ∧ F_J8_equals mc ms [.ref a, v1] ω c s (y_aft M_X6_isWord 13 3 lv r (y_w M_X6_isWord mc ms Q) Q)) := w_call1 (av := [v1]) (Or.inl ⟨⟨rfl, rfl⟩, rfl⟩) dX6_isWord_13 rfl hc rfl (y_F_mono _) (y_dle rfl) (y_dle rfl) rfl rfl
theorem wX6_isWord_16 : y_w M_X6_isWord mc ms Q (16, lv, .int x :: r, ω, c, s) = ((x = 0 → y_w M_X6_isWord mc ms Q (23, lv, r, ω, c, s)) ∧ (¬ (x = 0) → y_w M_X6_isWord mc ms Q (19, lv, r, ω, c, s))) := w_if dX6_isWord_16 (tgt := 23) rfl rfl rfl
theorem wX6_isWord_19 : y_w M_X6_isWord mc ms Q (19, lv, st, ω, c, s) = y_w M_X6_isWord mc ms Q (20, lv, .int 1 :: st, ω, c, s) := w_iconst dX6_isWord_19 (v := 1) (by decide) rfl
theorem wX6_isWord_20 : y_w M_X6_isWord mc ms Q (20, lv, st, ω, c, s) = y_w M_X6_isWord mc ms Q (24, lv, st, ω, c, s) := w_goto dX6_isWord_20 (tgt := 24) (by decide) rfl
theorem wX6_isWord_23 : y_w M_X6_isWord mc ms Q (23, lv, st, ω, c, s) = y_w M_X6_isWord mc ms Q (24, lv, .int 0 :: st, ω, c, s) := w_iconst dX6_isWord_23 (v := 0) (by decide) rfl
theorem wX6_isWord_24 : y_w M_X6_isWord mc ms Q (24, lv, [.int x], ω, c, s) = (narrow FieldType.boolean (.int x) = .int x ∧ Q (.returned (some (.int x))) ω c s) := w_ireturn dX6_isWord_24 rfl
def P_X7_init (ad : y_Ad) : y_Pool := ([(7, 7, 6, .int, true), (13, 7, 7, .int, true)], [], [], [(1, 2, 0, 5, (3, 68), (y_ref (F_J4_init ad)))], [], [], [])
def M_X7_init (ad : y_Ad) : y_Md := (cX7_init, "YoungerBack$Fault", (3, none), (3, 68), true, (P_X7_init ad), [])
def F_X7_init (ad : y_Ad) : y_Tr := y_F (M_X7_init ad)
theorem nX7_init : y_nL (M_X7_init ad) = 3 := rfl
theorem fX7_init_7_7 : y_ffP (P_X7_init ad) 7 7 = some (6, .int, true) := rfl
theorem fX7_init_13_7 : y_ffP (P_X7_init ad) 13 7 = some (7, .int, true) := rfl
theorem wX7_init_0 : y_w (M_X7_init ad) mc ms Q (0, lv, st, ω, c, s) = y_ldA lv 0 (fun v => y_w (M_X7_init ad) mc ms Q (1, lv, v :: st, ω, c, s)) := w_aload_n dX7_init_0 rfl rfl
theorem wX7_init_1 : y_w (M_X7_init ad) mc ms Q (1, lv, st, ω, c, s) = y_w (M_X7_init ad) mc ms Q (2, lv, .null :: st, ω, c, s) := w_aconst_null dX7_init_1 rfl
theorem wX7_init_2 : y_w (M_X7_init ad) mc ms Q (2, lv, st, ω, c, s) = y_w (M_X7_init ad) mc ms Q (3, lv, .null :: st, ω, c, s) := w_aconst_null dX7_init_2 rfl
theorem wX7_init_3 : y_w (M_X7_init ad) mc ms Q (3, lv, st, ω, c, s) = y_w (M_X7_init ad) mc ms Q (4, lv, .int 0 :: st, ω, c, s) := w_iconst dX7_init_3 (v := 0) (by decide) rfl
theorem wX7_init_4 : y_w (M_X7_init ad) mc ms Q (4, lv, st, ω, c, s) = y_w (M_X7_init ad) mc ms Q (5, lv, .int 0 :: st, ω, c, s) := w_iconst dX7_init_4 (v := 0) (by decide) rfl
theorem wX7_init_5 : y_w (M_X7_init ad) mc ms Q (5, lv, v4 :: v3 :: v2 :: v1 :: v0 :: r, ω, c, s) = (y_cat r ≤ 8 ∧ (y_ref (F_J4_init ad)) mc ms [v0, v1, v2, v3, v4] ω c s (y_aft (M_X7_init ad) 5 3 lv r (y_w (M_X7_init ad) mc ms Q) Q)) := w_call0 (av := [v0, v1, v2, v3, v4]) ⟨Or.inl ⟨rfl, rfl⟩, rfl⟩ dX7_init_5 rfl (y_ref_mono (y_F_mono _)) (y_dle rfl) (y_dle rfl) rfl rfl
theorem wX7_init_8 : y_w (M_X7_init ad) mc ms Q (8, lv, st, ω, c, s) = y_ldA lv 0 (fun v => y_w (M_X7_init ad) mc ms Q (9, lv, v :: st, ω, c, s)) := w_aload_n dX7_init_8 rfl rfl
theorem wX7_init_9 : y_w (M_X7_init ad) mc ms Q (9, lv, st, ω, c, s) = y_ldI lv 1 (fun v => y_w (M_X7_init ad) mc ms Q (10, lv, v :: st, ω, c, s)) := w_iload_n dX7_init_9 rfl rfl
theorem wX7_init_10 : y_w (M_X7_init ad) mc ms Q (10, lv, v :: .ref a :: r, ω, c, s) = y_pf (P_X7_init ad) true 7 (ω.2 a) v (fun ci fs => y_w (M_X7_init ad) mc ms Q (13, lv, r, y_hup ω a (.inr (ci, fs)), c, s)) := w_putfield dX7_init_10 rfl rfl rfl
theorem wX7_init_13 : y_w (M_X7_init ad) mc ms Q (13, lv, st, ω, c, s) = y_ldA lv 0 (fun v => y_w (M_X7_init ad) mc ms Q (14, lv, v :: st, ω, c, s)) := w_aload_n dX7_init_13 rfl rfl
theorem wX7_init_14 : y_w (M_X7_init ad) mc ms Q (14, lv, st, ω, c, s) = y_ldI lv 2 (fun v => y_w (M_X7_init ad) mc ms Q (15, lv, v :: st, ω, c, s)) := w_iload_n dX7_init_14 rfl rfl
theorem wX7_init_15 : y_w (M_X7_init ad) mc ms Q (15, lv, v :: .ref a :: r, ω, c, s) = y_pf (P_X7_init ad) true 13 (ω.2 a) v (fun ci fs => y_w (M_X7_init ad) mc ms Q (18, lv, r, y_hup ω a (.inr (ci, fs)), c, s)) := w_putfield dX7_init_15 rfl rfl rfl
theorem wX7_init_18 : y_w (M_X7_init ad) mc ms Q (18, lv, [], ω, c, s) = Q (.returned none) ω c s := w_return dX7_init_18 rfl
def P_X6_must (ad : y_Ad) : y_Pool := ([(40, 6, 4, .int, false)], [(72, 7, [.null, .null, .null, .null, .null, .int 0, .int 0, .int 0])], [], [(74, 2, 0, 3, (4, 90), (y_ref (F_X7_init ad)))], [], [], [])
def M_X6_must (ad : y_Ad) : y_Md := (cX6_must, "YoungerBack$Reader", (3, none), (4, 90), false, (P_X6_must ad), [])
def F_X6_must (ad : y_Ad) : y_Tr := y_F (M_X6_must ad)
theorem nX6_must : y_nL (M_X6_must ad) = 3 := rfl
theorem fX6_must_40_6 : y_ffP (P_X6_must ad) 40 6 = some (4, .int, false) := rfl
theorem wX6_must_0 : y_w (M_X6_must ad) mc ms Q (0, lv, st, ω, c, s) = y_ldI lv 1 (fun v => y_w (M_X6_must ad) mc ms Q (1, lv, v :: st, ω, c, s)) := w_iload_n dX6_must_0 rfl rfl
theorem wX6_must_1 : y_w (M_X6_must ad) mc ms Q (1, lv, .int x :: r, ω, c, s) = ((¬ x = 0 → y_w (M_X6_must ad) mc ms Q (17, lv, r, ω, c, s)) ∧ (¬ (¬ x = 0) → y_w (M_X6_must ad) mc ms Q (4, lv, r, ω, c, s))) := w_if dX6_must_1 (tgt := 17) rfl rfl rfl
theorem wX6_must_4 : y_w (M_X6_must ad) mc ms Q (4, lv, st, ω, c, s) = (y_room mc ms c s 8 ∧ y_w (M_X6_must ad) mc ms Q (7, lv, .ref ω.1 :: st, y_hnew ω (.inr (7, [.null, .null, .null, .null, .null, .int 0, .int 0, .int 0])), c + 1, s + 8)) := w_new dX6_must_4 rfl rfl rfl
theorem wX6_must_7 : y_w (M_X6_must ad) mc ms Q (7, lv, v :: r, ω, c, s) = (v.category = 1 ∧ y_w (M_X6_must ad) mc ms Q (8, lv, v :: v :: r, ω, c, s)) := w_dup dX6_must_7 rfl
theorem wX6_must_8 : y_w (M_X6_must ad) mc ms Q (8, lv, st, ω, c, s) = y_ldI lv 2 (fun v => y_w (M_X6_must ad) mc ms Q (9, lv, v :: st, ω, c, s)) := w_iload_n dX6_must_8 rfl rfl
theorem wX6_must_9 : y_w (M_X6_must ad) mc ms Q (9, lv, st, ω, c, s) = y_ldA lv 0 (fun v => y_w (M_X6_must ad) mc ms Q (10, lv, v :: st, ω, c, s)) := w_aload_n dX6_must_9 rfl rfl
theorem wX6_must_10 : y_w (M_X6_must ad) mc ms Q (10, lv, .ref a :: r, ω, c, s) = y_gf (P_X6_must ad) 40 (ω.2 a) (fun v => y_w (M_X6_must ad) mc ms Q (13, lv, v :: r, ω, c, s)) := w_getfield dX6_must_10 rfl rfl
theorem wX6_must_13 : y_w (M_X6_must ad) mc ms Q (13, lv, v2 :: v1 :: v0 :: r, ω, c, s) = (y_cat r ≤ 8 ∧ (y_ref (F_X7_init ad)) mc ms [v0, v1, v2] ω c s (y_aft (M_X6_must ad) 13 3 lv r (y_w (M_X6_must ad) mc ms Q) Q)) := w_call0 (av := [v0, v1, v2]) ⟨Or.inl ⟨rfl, rfl⟩, rfl⟩ dX6_must_13 rfl (y_ref_mono (y_F_mono _)) (y_dle rfl) (y_dle rfl) rfl rfl
theorem wX6_must_16 : y_w (M_X6_must ad) mc ms Q (16, lv, .ref a :: r, ω, c, s) = y_thr (M_X6_must ad) 16 lv ω a c s (y_w (M_X6_must ad) mc ms Q) Q [] := w_athrow dX6_must_16
theorem wX6_must_17 : y_w (M_X6_must ad) mc ms Q (17, lv, [], ω, c, s) = Q (.returned none) ω c s := w_return dX6_must_17 rfl
def P_X6_figure (ad : y_Ad) : y_Pool := ([(43, 6, 3, .int, false), (69, 6, 5, .int, false)], [], [], [(83, 1, 6, 3, (5, 112), (F_X6_must ad)), (50, 0, 0, 3, (1, 25), F_X0_isIn), (87, 1, 6, 1, (7, 193), F_X6_next)], [], [], [])
def M_X6_figure (ad : y_Ad) : y_Md := (cX6_figure, "YoungerBack$Reader", (4, (some FieldType.int)), (7, 193), false, (P_X6_figure ad), [])
def F_X6_figure (ad : y_Ad) : y_Tr := y_F (M_X6_figure ad)
theorem nX6_figure : y_nL (M_X6_figure ad) = 4 := rfl
theorem fX6_figure_43_6 : y_ffP (P_X6_figure ad) 43 6 = some (3, .int, false) := rfl
theorem fX6_figure_69_6 : y_ffP (P_X6_figure ad) 69 6 = some (5, .int, false) := rfl
theorem wX6_figure_0 : y_w (M_X6_figure ad) mc ms Q (0, lv, st, ω, c, s) = y_ldA lv 0 (fun v => y_w (M_X6_figure ad) mc ms Q (1, lv, v :: st, ω, c, s)) := w_aload_n dX6_figure_0 rfl rfl
theorem wX6_figure_1 : y_w (M_X6_figure ad) mc ms Q (1, lv, st, ω, c, s) = y_ldA lv 0 (fun v => y_w (M_X6_figure ad) mc ms Q (2, lv, v :: st, ω, c, s)) := w_aload_n dX6_figure_1 rfl rfl
theorem wX6_figure_2 : y_w (M_X6_figure ad) mc ms Q (2, lv, .ref a :: r, ω, c, s) = y_gf (P_X6_figure ad) 43 (ω.2 a) (fun v => y_w (M_X6_figure ad) mc ms Q (5, lv, v :: r, ω, c, s)) := w_getfield dX6_figure_2 rfl rfl
theorem wX6_figure_5 : y_w (M_X6_figure ad) mc ms Q (5, lv, st, ω, c, s) = y_w (M_X6_figure ad) mc ms Q (6, lv, .int (nI 2) :: st, ω, c, s) := w_iconst dX6_figure_5 (v := (nI 2)) (by decide) rfl
theorem wX6_figure_6 : y_w (M_X6_figure ad) mc ms Q (6, lv, .int y :: .int x :: r, ω, c, s) = ((¬ x = y → y_w (M_X6_figure ad) mc ms Q (13, lv, r, ω, c, s)) ∧ (¬ (¬ x = y) → y_w (M_X6_figure ad) mc ms Q (9, lv, r, ω, c, s))) := w_icmp dX6_figure_6 (tgt := 13) rfl rfl rfl
theorem wX6_figure_9 : y_w (M_X6_figure ad) mc ms Q (9, lv, st, ω, c, s) = y_w (M_X6_figure ad) mc ms Q (10, lv, .int 1 :: st, ω, c, s) := w_iconst dX6_figure_9 (v := 1) (by decide) rfl
theorem wX6_figure_10 : y_w (M_X6_figure ad) mc ms Q (10, lv, st, ω, c, s) = y_w (M_X6_figure ad) mc ms Q (14, lv, st, ω, c, s) := w_goto dX6_figure_10 (tgt := 14) (by decide) rfl
theorem wX6_figure_13 : y_w (M_X6_figure ad) mc ms Q (13, lv, st, ω, c, s) = y_w (M_X6_figure ad) mc ms Q (14, lv, .int 0 :: st, ω, c, s) := w_iconst dX6_figure_13 (v := 0) (by decide) rfl
theorem wX6_figure_14 : y_w (M_X6_figure ad) mc ms Q (14, lv, st, ω, c, s) = y_w (M_X6_figure ad) mc ms Q (15, lv, .int 1 :: st, ω, c, s) := w_iconst dX6_figure_14 (v := 1) (by decide) rfl
theorem wX6_figure_15 (hc : y_cls ω a = some 6) : y_w (M_X6_figure ad) mc ms Q (15, lv, v2 :: v1 :: .ref a :: r, ω, c, s) = (y_cat r ≤ 8 ∧ (F_X6_must ad) mc ms [.ref a, v1, v2] ω c s (y_aft (M_X6_figure ad) 15 3 lv r (y_w (M_X6_figure ad) mc ms Q) Q)) := w_call1 (av := [v1, v2]) (Or.inl ⟨⟨rfl, rfl⟩, rfl⟩) dX6_figure_15 rfl hc rfl (y_F_mono _) (y_dle rfl) (y_dle rfl) rfl rfl
theorem wX6_figure_18 : y_w (M_X6_figure ad) mc ms Q (18, lv, st, ω, c, s) = y_ldA lv 0 (fun v => y_w (M_X6_figure ad) mc ms Q (19, lv, v :: st, ω, c, s)) := w_aload_n dX6_figure_18 rfl rfl
theorem wX6_figure_19 : y_w (M_X6_figure ad) mc ms Q (19, lv, st, ω, c, s) = y_ldA lv 0 (fun v => y_w (M_X6_figure ad) mc ms Q (20, lv, v :: st, ω, c, s)) := w_aload_n dX6_figure_19 rfl rfl
theorem wX6_figure_20 : y_w (M_X6_figure ad) mc ms Q (20, lv, .ref a :: r, ω, c, s) = y_gf (P_X6_figure ad) 69 (ω.2 a) (fun v => y_w (M_X6_figure ad) mc ms Q (23, lv, v :: r, ω, c, s)) := w_getfield dX6_figure_20 rfl rfl
theorem wX6_figure_23 : y_w (M_X6_figure ad) mc ms Q (23, lv, .int x :: r, ω, c, s) = y_w (M_X6_figure ad) mc ms Q (24, lv, .long x.toInt64 :: r, ω, c, s) := w_i2l dX6_figure_23 rfl
theorem wX6_figure_24 : y_w (M_X6_figure ad) mc ms Q (24, lv, st, ω, c, s) = y_ldI lv 1 (fun v => y_w (M_X6_figure ad) mc ms Q (25, lv, v :: st, ω, c, s)) := w_iload_n dX6_figure_24 rfl rfl
theorem wX6_figure_25 : y_w (M_X6_figure ad) mc ms Q (25, lv, .int x :: r, ω, c, s) = y_w (M_X6_figure ad) mc ms Q (26, lv, .long x.toInt64 :: r, ω, c, s) := w_i2l dX6_figure_25 rfl
theorem wX6_figure_26 : y_w (M_X6_figure ad) mc ms Q (26, lv, st, ω, c, s) = y_ldI lv 2 (fun v => y_w (M_X6_figure ad) mc ms Q (27, lv, v :: st, ω, c, s)) := w_iload_n dX6_figure_26 rfl rfl
theorem wX6_figure_27 : y_w (M_X6_figure ad) mc ms Q (27, lv, .int x :: r, ω, c, s) = y_w (M_X6_figure ad) mc ms Q (28, lv, .long x.toInt64 :: r, ω, c, s) := w_i2l dX6_figure_27 rfl
theorem wX6_figure_28 : y_w (M_X6_figure ad) mc ms Q (28, lv, v2 :: v1 :: v0 :: r, ω, c, s) = (y_cat r ≤ 8 ∧ F_X0_isIn mc ms [v0, v1, v2] ω c s (y_aft (M_X6_figure ad) 28 3 lv r (y_w (M_X6_figure ad) mc ms Q) Q)) := w_call0 (av := [v0, v1, v2]) ⟨Or.inr ⟨rfl, rfl⟩, rfl⟩ dX6_figure_28 rfl (y_F_mono _) (y_dle rfl) (y_dle rfl) rfl rfl
theorem wX6_figure_31 : y_w (M_X6_figure ad) mc ms Q (31, lv, st, ω, c, s) = y_w (M_X6_figure ad) mc ms Q (32, lv, .int (nI 2) :: st, ω, c, s) := w_iconst dX6_figure_31 (v := (nI 2)) (by decide) rfl
theorem wX6_figure_32 (hc : y_cls ω a = some 6) : y_w (M_X6_figure ad) mc ms Q (32, lv, v2 :: v1 :: .ref a :: r, ω, c, s) = (y_cat r ≤ 8 ∧ (F_X6_must ad) mc ms [.ref a, v1, v2] ω c s (y_aft (M_X6_figure ad) 32 3 lv r (y_w (M_X6_figure ad) mc ms Q) Q)) := w_call1 (av := [v1, v2]) (Or.inl ⟨⟨rfl, rfl⟩, rfl⟩) dX6_figure_32 rfl hc rfl (y_F_mono _) (y_dle rfl) (y_dle rfl) rfl rfl
theorem wX6_figure_35 : y_w (M_X6_figure ad) mc ms Q (35, lv, st, ω, c, s) = y_ldA lv 0 (fun v => y_w (M_X6_figure ad) mc ms Q (36, lv, v :: st, ω, c, s)) := w_aload_n dX6_figure_35 rfl rfl
theorem wX6_figure_36 : y_w (M_X6_figure ad) mc ms Q (36, lv, .ref a :: r, ω, c, s) = y_gf (P_X6_figure ad) 69 (ω.2 a) (fun v => y_w (M_X6_figure ad) mc ms Q (39, lv, v :: r, ω, c, s)) := w_getfield dX6_figure_36 rfl rfl
theorem wX6_figure_39 : y_w (M_X6_figure ad) mc ms Q (39, lv, .int x :: r, ω, c, s) = y_w (M_X6_figure ad) mc ms Q (40, (3, .int x) :: y_kill 3 lv, r, ω, c, s) := w_istore_n dX6_figure_39 rfl (y_dle rfl) rfl
theorem wX6_figure_40 : y_w (M_X6_figure ad) mc ms Q (40, lv, st, ω, c, s) = y_ldA lv 0 (fun v => y_w (M_X6_figure ad) mc ms Q (41, lv, v :: st, ω, c, s)) := w_aload_n dX6_figure_40 rfl rfl
theorem wX6_figure_41 (hc : y_cls ω a = some 6) : y_w (M_X6_figure ad) mc ms Q (41, lv, .ref a :: r, ω, c, s) = (y_cat r ≤ 8 ∧ F_X6_next mc ms [.ref a] ω c s (y_aft (M_X6_figure ad) 41 3 lv r (y_w (M_X6_figure ad) mc ms Q) Q)) := w_call1 (av := []) (Or.inl ⟨⟨rfl, rfl⟩, rfl⟩) dX6_figure_41 rfl hc rfl (y_F_mono _) (y_dle rfl) (y_dle rfl) rfl rfl
theorem wX6_figure_44 : y_w (M_X6_figure ad) mc ms Q (44, lv, st, ω, c, s) = y_ldI lv 3 (fun v => y_w (M_X6_figure ad) mc ms Q (45, lv, v :: st, ω, c, s)) := w_iload_n dX6_figure_44 rfl rfl
theorem wX6_figure_45 : y_w (M_X6_figure ad) mc ms Q (45, lv, [.int x], ω, c, s) = Q (.returned (some (.int x))) ω c s := w_ireturnI dX6_figure_45 rfl
def P_X6_sign (ad : y_Ad) : y_Pool := ([(43, 6, 3, .int, false)], [], [], [(83, 1, 6, 3, (5, 112), (F_X6_must ad)), (87, 1, 6, 1, (7, 193), F_X6_next)], [], [], [])
def M_X6_sign (ad : y_Ad) : y_Md := (cX6_sign, "YoungerBack$Reader", (1, none), (7, 193), false, (P_X6_sign ad), [])
def F_X6_sign (ad : y_Ad) : y_Tr := y_F (M_X6_sign ad)
theorem nX6_sign : y_nL (M_X6_sign ad) = 1 := rfl
theorem fX6_sign_43_6 : y_ffP (P_X6_sign ad) 43 6 = some (3, .int, false) := rfl
theorem wX6_sign_0 : y_w (M_X6_sign ad) mc ms Q (0, lv, st, ω, c, s) = y_ldA lv 0 (fun v => y_w (M_X6_sign ad) mc ms Q (1, lv, v :: st, ω, c, s)) := w_aload_n dX6_sign_0 rfl rfl
theorem wX6_sign_1 : y_w (M_X6_sign ad) mc ms Q (1, lv, st, ω, c, s) = y_ldA lv 0 (fun v => y_w (M_X6_sign ad) mc ms Q (2, lv, v :: st, ω, c, s)) := w_aload_n dX6_sign_1 rfl rfl
theorem wX6_sign_2 : y_w (M_X6_sign ad) mc ms Q (2, lv, .ref a :: r, ω, c, s) = y_gf (P_X6_sign ad) 43 (ω.2 a) (fun v => y_w (M_X6_sign ad) mc ms Q (5, lv, v :: r, ω, c, s)) := w_getfield dX6_sign_2 rfl rfl
theorem wX6_sign_5 : y_w (M_X6_sign ad) mc ms Q (5, lv, st, ω, c, s) = y_w (M_X6_sign ad) mc ms Q (6, lv, .int (nI 3) :: st, ω, c, s) := w_iconst dX6_sign_5 (v := (nI 3)) (by decide) rfl
theorem wX6_sign_6 : y_w (M_X6_sign ad) mc ms Q (6, lv, .int y :: .int x :: r, ω, c, s) = ((¬ x = y → y_w (M_X6_sign ad) mc ms Q (13, lv, r, ω, c, s)) ∧ (¬ (¬ x = y) → y_w (M_X6_sign ad) mc ms Q (9, lv, r, ω, c, s))) := w_icmp dX6_sign_6 (tgt := 13) rfl rfl rfl
theorem wX6_sign_9 : y_w (M_X6_sign ad) mc ms Q (9, lv, st, ω, c, s) = y_w (M_X6_sign ad) mc ms Q (10, lv, .int 1 :: st, ω, c, s) := w_iconst dX6_sign_9 (v := 1) (by decide) rfl
theorem wX6_sign_10 : y_w (M_X6_sign ad) mc ms Q (10, lv, st, ω, c, s) = y_w (M_X6_sign ad) mc ms Q (14, lv, st, ω, c, s) := w_goto dX6_sign_10 (tgt := 14) (by decide) rfl
theorem wX6_sign_13 : y_w (M_X6_sign ad) mc ms Q (13, lv, st, ω, c, s) = y_w (M_X6_sign ad) mc ms Q (14, lv, .int 0 :: st, ω, c, s) := w_iconst dX6_sign_13 (v := 0) (by decide) rfl
theorem wX6_sign_14 : y_w (M_X6_sign ad) mc ms Q (14, lv, st, ω, c, s) = y_w (M_X6_sign ad) mc ms Q (15, lv, .int 1 :: st, ω, c, s) := w_iconst dX6_sign_14 (v := 1) (by decide) rfl
theorem wX6_sign_15 (hc : y_cls ω a = some 6) : y_w (M_X6_sign ad) mc ms Q (15, lv, v2 :: v1 :: .ref a :: r, ω, c, s) = (y_cat r ≤ 8 ∧ (F_X6_must ad) mc ms [.ref a, v1, v2] ω c s (y_aft (M_X6_sign ad) 15 3 lv r (y_w (M_X6_sign ad) mc ms Q) Q)) := w_call1 (av := [v1, v2]) (Or.inl ⟨⟨rfl, rfl⟩, rfl⟩) dX6_sign_15 rfl hc rfl (y_F_mono _) (y_dle rfl) (y_dle rfl) rfl rfl
theorem wX6_sign_18 : y_w (M_X6_sign ad) mc ms Q (18, lv, st, ω, c, s) = y_ldA lv 0 (fun v => y_w (M_X6_sign ad) mc ms Q (19, lv, v :: st, ω, c, s)) := w_aload_n dX6_sign_18 rfl rfl
theorem wX6_sign_19 (hc : y_cls ω a = some 6) : y_w (M_X6_sign ad) mc ms Q (19, lv, .ref a :: r, ω, c, s) = (y_cat r ≤ 8 ∧ F_X6_next mc ms [.ref a] ω c s (y_aft (M_X6_sign ad) 19 3 lv r (y_w (M_X6_sign ad) mc ms Q) Q)) := w_call1 (av := []) (Or.inl ⟨⟨rfl, rfl⟩, rfl⟩) dX6_sign_19 rfl hc rfl (y_F_mono _) (y_dle rfl) (y_dle rfl) rfl rfl
theorem wX6_sign_22 : y_w (M_X6_sign ad) mc ms Q (22, lv, [], ω, c, s) = Q (.returned none) ω c s := w_return dX6_sign_22 rfl
def P_X6_begin (ad : y_Ad) : y_Pool := ([], [], [], [(83, 1, 6, 3, (5, 112), (F_X6_must ad)), (87, 1, 6, 1, (7, 193), F_X6_next)], [], [], [])
def M_X6_begin (ad : y_Ad) : y_Md := (cX6_begin, "YoungerBack$Reader", (3, none), (7, 193), false, (P_X6_begin ad), [])
def F_X6_begin (ad : y_Ad) : y_Tr := y_F (M_X6_begin ad)
theorem nX6_begin : y_nL (M_X6_begin ad) = 3 := rfl
theorem wX6_begin_0 : y_w (M_X6_begin ad) mc ms Q (0, lv, st, ω, c, s) = y_ldA lv 0 (fun v => y_w (M_X6_begin ad) mc ms Q (1, lv, v :: st, ω, c, s)) := w_aload_n dX6_begin_0 rfl rfl
theorem wX6_begin_1 : y_w (M_X6_begin ad) mc ms Q (1, lv, st, ω, c, s) = y_ldI lv 1 (fun v => y_w (M_X6_begin ad) mc ms Q (2, lv, v :: st, ω, c, s)) := w_iload_n dX6_begin_1 rfl rfl
theorem wX6_begin_2 : y_w (M_X6_begin ad) mc ms Q (2, lv, st, ω, c, s) = y_ldI lv 2 (fun v => y_w (M_X6_begin ad) mc ms Q (3, lv, v :: st, ω, c, s)) := w_iload_n dX6_begin_2 rfl rfl
theorem wX6_begin_3 : y_w (M_X6_begin ad) mc ms Q (3, lv, .int y :: .int x :: r, ω, c, s) = ((y ≤ x → y_w (M_X6_begin ad) mc ms Q (10, lv, r, ω, c, s)) ∧ (¬ (y ≤ x) → y_w (M_X6_begin ad) mc ms Q (6, lv, r, ω, c, s))) := w_icmp dX6_begin_3 (tgt := 10) rfl rfl rfl
theorem wX6_begin_6 : y_w (M_X6_begin ad) mc ms Q (6, lv, st, ω, c, s) = y_w (M_X6_begin ad) mc ms Q (7, lv, .int 1 :: st, ω, c, s) := w_iconst dX6_begin_6 (v := 1) (by decide) rfl
theorem wX6_begin_7 : y_w (M_X6_begin ad) mc ms Q (7, lv, st, ω, c, s) = y_w (M_X6_begin ad) mc ms Q (11, lv, st, ω, c, s) := w_goto dX6_begin_7 (tgt := 11) (by decide) rfl
theorem wX6_begin_10 : y_w (M_X6_begin ad) mc ms Q (10, lv, st, ω, c, s) = y_w (M_X6_begin ad) mc ms Q (11, lv, .int 0 :: st, ω, c, s) := w_iconst dX6_begin_10 (v := 0) (by decide) rfl
theorem wX6_begin_11 : y_w (M_X6_begin ad) mc ms Q (11, lv, st, ω, c, s) = y_w (M_X6_begin ad) mc ms Q (12, lv, .int (nI 3) :: st, ω, c, s) := w_iconst dX6_begin_11 (v := (nI 3)) (by decide) rfl
theorem wX6_begin_12 (hc : y_cls ω a = some 6) : y_w (M_X6_begin ad) mc ms Q (12, lv, v2 :: v1 :: .ref a :: r, ω, c, s) = (y_cat r ≤ 8 ∧ (F_X6_must ad) mc ms [.ref a, v1, v2] ω c s (y_aft (M_X6_begin ad) 12 3 lv r (y_w (M_X6_begin ad) mc ms Q) Q)) := w_call1 (av := [v1, v2]) (Or.inl ⟨⟨rfl, rfl⟩, rfl⟩) dX6_begin_12 rfl hc rfl (y_F_mono _) (y_dle rfl) (y_dle rfl) rfl rfl
theorem wX6_begin_15 : y_w (M_X6_begin ad) mc ms Q (15, lv, st, ω, c, s) = y_ldA lv 0 (fun v => y_w (M_X6_begin ad) mc ms Q (16, lv, v :: st, ω, c, s)) := w_aload_n dX6_begin_15 rfl rfl
theorem wX6_begin_16 (hc : y_cls ω a = some 6) : y_w (M_X6_begin ad) mc ms Q (16, lv, .ref a :: r, ω, c, s) = (y_cat r ≤ 8 ∧ F_X6_next mc ms [.ref a] ω c s (y_aft (M_X6_begin ad) 16 3 lv r (y_w (M_X6_begin ad) mc ms Q) Q)) := w_call1 (av := []) (Or.inl ⟨⟨rfl, rfl⟩, rfl⟩) dX6_begin_16 rfl hc rfl (y_F_mono _) (y_dle rfl) (y_dle rfl) rfl rfl
theorem wX6_begin_19 : y_w (M_X6_begin ad) mc ms Q (19, lv, [], ω, c, s) = Q (.returned none) ω c s := w_return dX6_begin_19 rfl
def P_X6_way (ad : y_Ad) : y_Pool := ([(20, 6, 7, (.object "YoungerBack$League"), true), (117, 1, 2, .int, false), (123, 1, 3, (.array .int), true), (100, 1, 0, .int, false), (43, 6, 3, .int, false), (69, 6, 5, .int, false), (127, 1, 4, (.array .int), true), (130, 1, 5, (.array .int), true), (133, 1, 6, (.array .int), true)], [], [], [(120, 1, 6, 3, (8, 215), (F_X6_begin ad)), (96, 1, 6, 3, (8, 216), (F_X6_figure ad)), (83, 1, 6, 3, (5, 112), (F_X6_must ad)), (87, 1, 6, 1, (7, 193), F_X6_next), (106, 1, 6, 1, (8, 213), (F_X6_sign ad))], [], [], [])
def M_X6_way (ad : y_Ad) : y_Md := (cX6_way, "YoungerBack$Reader", (2, none), (8, 216), false, (P_X6_way ad), [])
def F_X6_way (ad : y_Ad) : y_Tr := y_F (M_X6_way ad)
theorem nX6_way : y_nL (M_X6_way ad) = 2 := rfl
theorem fX6_way_20_6 : y_ffP (P_X6_way ad) 20 6 = some (7, (.object "YoungerBack$League"), true) := rfl
theorem fX6_way_117_1 : y_ffP (P_X6_way ad) 117 1 = some (2, .int, false) := rfl
theorem fX6_way_123_1 : y_ffP (P_X6_way ad) 123 1 = some (3, (.array .int), true) := rfl
theorem fX6_way_100_1 : y_ffP (P_X6_way ad) 100 1 = some (0, .int, false) := rfl
theorem fX6_way_43_6 : y_ffP (P_X6_way ad) 43 6 = some (3, .int, false) := rfl
theorem fX6_way_69_6 : y_ffP (P_X6_way ad) 69 6 = some (5, .int, false) := rfl
theorem fX6_way_127_1 : y_ffP (P_X6_way ad) 127 1 = some (4, (.array .int), true) := rfl
theorem fX6_way_130_1 : y_ffP (P_X6_way ad) 130 1 = some (5, (.array .int), true) := rfl
theorem fX6_way_133_1 : y_ffP (P_X6_way ad) 133 1 = some (6, (.array .int), true) := rfl
theorem wX6_way_0 : y_w (M_X6_way ad) mc ms Q (0, lv, st, ω, c, s) = y_ldA lv 0 (fun v => y_w (M_X6_way ad) mc ms Q (1, lv, v :: st, ω, c, s)) := w_aload_n dX6_way_0 rfl rfl
theorem wX6_way_1 : y_w (M_X6_way ad) mc ms Q (1, lv, st, ω, c, s) = y_ldA lv 0 (fun v => y_w (M_X6_way ad) mc ms Q (2, lv, v :: st, ω, c, s)) := w_aload_n dX6_way_1 rfl rfl
theorem wX6_way_2 : y_w (M_X6_way ad) mc ms Q (2, lv, .ref a :: r, ω, c, s) = y_gf (P_X6_way ad) 20 (ω.2 a) (fun v => y_w (M_X6_way ad) mc ms Q (5, lv, v :: r, ω, c, s)) := w_getfield dX6_way_2 rfl rfl
theorem wX6_way_5 : y_w (M_X6_way ad) mc ms Q (5, lv, .ref a :: r, ω, c, s) = y_gf (P_X6_way ad) 117 (ω.2 a) (fun v => y_w (M_X6_way ad) mc ms Q (8, lv, v :: r, ω, c, s)) := w_getfield dX6_way_5 rfl rfl
theorem wX6_way_8 : y_w (M_X6_way ad) mc ms Q (8, lv, st, ω, c, s) = y_w (M_X6_way ad) mc ms Q (10, lv, .int (nI 8) :: st, ω, c, s) := w_bipush dX6_way_8 (v := (nI 8)) (by decide) rfl
theorem wX6_way_10 (hc : y_cls ω a = some 6) : y_w (M_X6_way ad) mc ms Q (10, lv, v2 :: v1 :: .ref a :: r, ω, c, s) = (y_cat r ≤ 8 ∧ (F_X6_begin ad) mc ms [.ref a, v1, v2] ω c s (y_aft (M_X6_way ad) 10 3 lv r (y_w (M_X6_way ad) mc ms Q) Q)) := w_call1 (av := [v1, v2]) (Or.inl ⟨⟨rfl, rfl⟩, rfl⟩) dX6_way_10 rfl hc rfl (y_F_mono _) (y_dle rfl) (y_dle rfl) rfl rfl
theorem wX6_way_13 : y_w (M_X6_way ad) mc ms Q (13, lv, st, ω, c, s) = y_ldA lv 0 (fun v => y_w (M_X6_way ad) mc ms Q (14, lv, v :: st, ω, c, s)) := w_aload_n dX6_way_13 rfl rfl
theorem wX6_way_14 : y_w (M_X6_way ad) mc ms Q (14, lv, .ref a :: r, ω, c, s) = y_gf (P_X6_way ad) 20 (ω.2 a) (fun v => y_w (M_X6_way ad) mc ms Q (17, lv, v :: r, ω, c, s)) := w_getfield dX6_way_14 rfl rfl
theorem wX6_way_17 : y_w (M_X6_way ad) mc ms Q (17, lv, .ref a :: r, ω, c, s) = y_gf (P_X6_way ad) 117 (ω.2 a) (fun v => y_w (M_X6_way ad) mc ms Q (20, lv, v :: r, ω, c, s)) := w_getfield dX6_way_17 rfl rfl
theorem wX6_way_20 : y_w (M_X6_way ad) mc ms Q (20, lv, .int x :: r, ω, c, s) = y_w (M_X6_way ad) mc ms Q (21, (1, .int x) :: y_kill 1 lv, r, ω, c, s) := w_istore_n dX6_way_20 rfl (y_dle rfl) rfl
theorem wX6_way_21 : y_w (M_X6_way ad) mc ms Q (21, lv, st, ω, c, s) = y_ldA lv 0 (fun v => y_w (M_X6_way ad) mc ms Q (22, lv, v :: st, ω, c, s)) := w_aload_n dX6_way_21 rfl rfl
theorem wX6_way_22 : y_w (M_X6_way ad) mc ms Q (22, lv, .ref a :: r, ω, c, s) = y_gf (P_X6_way ad) 20 (ω.2 a) (fun v => y_w (M_X6_way ad) mc ms Q (25, lv, v :: r, ω, c, s)) := w_getfield dX6_way_22 rfl rfl
theorem wX6_way_25 : y_w (M_X6_way ad) mc ms Q (25, lv, .ref a :: r, ω, c, s) = y_gf (P_X6_way ad) 123 (ω.2 a) (fun v => y_w (M_X6_way ad) mc ms Q (28, lv, v :: r, ω, c, s)) := w_getfield dX6_way_25 rfl rfl
theorem wX6_way_28 : y_w (M_X6_way ad) mc ms Q (28, lv, st, ω, c, s) = y_ldI lv 1 (fun v => y_w (M_X6_way ad) mc ms Q (29, lv, v :: st, ω, c, s)) := w_iload_n dX6_way_28 rfl rfl
theorem wX6_way_29 : y_w (M_X6_way ad) mc ms Q (29, lv, st, ω, c, s) = y_ldA lv 0 (fun v => y_w (M_X6_way ad) mc ms Q (30, lv, v :: st, ω, c, s)) := w_aload_n dX6_way_29 rfl rfl
theorem wX6_way_30 : y_w (M_X6_way ad) mc ms Q (30, lv, st, ω, c, s) = y_w (M_X6_way ad) mc ms Q (31, lv, .int 0 :: st, ω, c, s) := w_iconst dX6_way_30 (v := 0) (by decide) rfl
theorem wX6_way_31 : y_w (M_X6_way ad) mc ms Q (31, lv, st, ω, c, s) = y_ldA lv 0 (fun v => y_w (M_X6_way ad) mc ms Q (32, lv, v :: st, ω, c, s)) := w_aload_n dX6_way_31 rfl rfl
theorem wX6_way_32 : y_w (M_X6_way ad) mc ms Q (32, lv, .ref a :: r, ω, c, s) = y_gf (P_X6_way ad) 20 (ω.2 a) (fun v => y_w (M_X6_way ad) mc ms Q (35, lv, v :: r, ω, c, s)) := w_getfield dX6_way_32 rfl rfl
theorem wX6_way_35 : y_w (M_X6_way ad) mc ms Q (35, lv, .ref a :: r, ω, c, s) = y_gf (P_X6_way ad) 100 (ω.2 a) (fun v => y_w (M_X6_way ad) mc ms Q (38, lv, v :: r, ω, c, s)) := w_getfield dX6_way_35 rfl rfl
theorem wX6_way_38 : y_w (M_X6_way ad) mc ms Q (38, lv, st, ω, c, s) = y_w (M_X6_way ad) mc ms Q (39, lv, .int 1 :: st, ω, c, s) := w_iconst dX6_way_38 (v := 1) (by decide) rfl
theorem wX6_way_39 : y_w (M_X6_way ad) mc ms Q (39, lv, .int y :: .int x :: r, ω, c, s) = y_w (M_X6_way ad) mc ms Q (40, lv, .int (x - y) :: r, ω, c, s) := w_isub dX6_way_39 rfl
theorem wX6_way_40 (hc : y_cls ω a = some 6) : y_w (M_X6_way ad) mc ms Q (40, lv, v2 :: v1 :: .ref a :: r, ω, c, s) = (y_cat r ≤ 8 ∧ (F_X6_figure ad) mc ms [.ref a, v1, v2] ω c s (y_aft (M_X6_way ad) 40 3 lv r (y_w (M_X6_way ad) mc ms Q) Q)) := w_call1 (av := [v1, v2]) (Or.inl ⟨⟨rfl, rfl⟩, rfl⟩) dX6_way_40 rfl hc rfl (y_F_mono _) (y_dle rfl) (y_dle rfl) rfl rfl
theorem wX6_way_43 : y_w (M_X6_way ad) mc ms Q (43, lv, .int x :: .int j :: .ref a :: r, ω, c, s) = y_wI (ω.2 a) j x (fun e => y_w (M_X6_way ad) mc ms Q (44, lv, r, y_hup ω a e, c, s)) := w_iastore dX6_way_43 rfl
theorem wX6_way_44 : y_w (M_X6_way ad) mc ms Q (44, lv, st, ω, c, s) = y_ldA lv 0 (fun v => y_w (M_X6_way ad) mc ms Q (45, lv, v :: st, ω, c, s)) := w_aload_n dX6_way_44 rfl rfl
theorem wX6_way_45 : y_w (M_X6_way ad) mc ms Q (45, lv, st, ω, c, s) = y_ldA lv 0 (fun v => y_w (M_X6_way ad) mc ms Q (46, lv, v :: st, ω, c, s)) := w_aload_n dX6_way_45 rfl rfl
theorem wX6_way_46 : y_w (M_X6_way ad) mc ms Q (46, lv, .ref a :: r, ω, c, s) = y_gf (P_X6_way ad) 43 (ω.2 a) (fun v => y_w (M_X6_way ad) mc ms Q (49, lv, v :: r, ω, c, s)) := w_getfield dX6_way_46 rfl rfl
theorem wX6_way_49 : y_w (M_X6_way ad) mc ms Q (49, lv, st, ω, c, s) = y_w (M_X6_way ad) mc ms Q (50, lv, .int (nI 2) :: st, ω, c, s) := w_iconst dX6_way_49 (v := (nI 2)) (by decide) rfl
theorem wX6_way_50 : y_w (M_X6_way ad) mc ms Q (50, lv, .int y :: .int x :: r, ω, c, s) = ((¬ x = y → y_w (M_X6_way ad) mc ms Q (57, lv, r, ω, c, s)) ∧ (¬ (¬ x = y) → y_w (M_X6_way ad) mc ms Q (53, lv, r, ω, c, s))) := w_icmp dX6_way_50 (tgt := 57) rfl rfl rfl
theorem wX6_way_53 : y_w (M_X6_way ad) mc ms Q (53, lv, st, ω, c, s) = y_w (M_X6_way ad) mc ms Q (54, lv, .int 1 :: st, ω, c, s) := w_iconst dX6_way_53 (v := 1) (by decide) rfl
theorem wX6_way_54 : y_w (M_X6_way ad) mc ms Q (54, lv, st, ω, c, s) = y_w (M_X6_way ad) mc ms Q (58, lv, st, ω, c, s) := w_goto dX6_way_54 (tgt := 58) (by decide) rfl
theorem wX6_way_57 : y_w (M_X6_way ad) mc ms Q (57, lv, st, ω, c, s) = y_w (M_X6_way ad) mc ms Q (58, lv, .int 0 :: st, ω, c, s) := w_iconst dX6_way_57 (v := 0) (by decide) rfl
theorem wX6_way_58 : y_w (M_X6_way ad) mc ms Q (58, lv, st, ω, c, s) = y_w (M_X6_way ad) mc ms Q (59, lv, .int 1 :: st, ω, c, s) := w_iconst dX6_way_58 (v := 1) (by decide) rfl
theorem wX6_way_59 (hc : y_cls ω a = some 6) : y_w (M_X6_way ad) mc ms Q (59, lv, v2 :: v1 :: .ref a :: r, ω, c, s) = (y_cat r ≤ 8 ∧ (F_X6_must ad) mc ms [.ref a, v1, v2] ω c s (y_aft (M_X6_way ad) 59 3 lv r (y_w (M_X6_way ad) mc ms Q) Q)) := w_call1 (av := [v1, v2]) (Or.inl ⟨⟨rfl, rfl⟩, rfl⟩) dX6_way_59 rfl hc rfl (y_F_mono _) (y_dle rfl) (y_dle rfl) rfl rfl
theorem wX6_way_62 : y_w (M_X6_way ad) mc ms Q (62, lv, st, ω, c, s) = y_ldA lv 0 (fun v => y_w (M_X6_way ad) mc ms Q (63, lv, v :: st, ω, c, s)) := w_aload_n dX6_way_62 rfl rfl
theorem wX6_way_63 : y_w (M_X6_way ad) mc ms Q (63, lv, st, ω, c, s) = y_ldA lv 0 (fun v => y_w (M_X6_way ad) mc ms Q (64, lv, v :: st, ω, c, s)) := w_aload_n dX6_way_63 rfl rfl
theorem wX6_way_64 : y_w (M_X6_way ad) mc ms Q (64, lv, .ref a :: r, ω, c, s) = y_gf (P_X6_way ad) 69 (ω.2 a) (fun v => y_w (M_X6_way ad) mc ms Q (67, lv, v :: r, ω, c, s)) := w_getfield dX6_way_64 rfl rfl
theorem wX6_way_67 : y_w (M_X6_way ad) mc ms Q (67, lv, st, ω, c, s) = y_ldA lv 0 (fun v => y_w (M_X6_way ad) mc ms Q (68, lv, v :: st, ω, c, s)) := w_aload_n dX6_way_67 rfl rfl
theorem wX6_way_68 : y_w (M_X6_way ad) mc ms Q (68, lv, .ref a :: r, ω, c, s) = y_gf (P_X6_way ad) 20 (ω.2 a) (fun v => y_w (M_X6_way ad) mc ms Q (71, lv, v :: r, ω, c, s)) := w_getfield dX6_way_68 rfl rfl
theorem wX6_way_71 : y_w (M_X6_way ad) mc ms Q (71, lv, .ref a :: r, ω, c, s) = y_gf (P_X6_way ad) 100 (ω.2 a) (fun v => y_w (M_X6_way ad) mc ms Q (74, lv, v :: r, ω, c, s)) := w_getfield dX6_way_71 rfl rfl
theorem wX6_way_74 : y_w (M_X6_way ad) mc ms Q (74, lv, .int y :: .int x :: r, ω, c, s) = ((y ≤ x → y_w (M_X6_way ad) mc ms Q (97, lv, r, ω, c, s)) ∧ (¬ (y ≤ x) → y_w (M_X6_way ad) mc ms Q (77, lv, r, ω, c, s))) := w_icmp dX6_way_74 (tgt := 97) rfl rfl rfl
theorem wX6_way_77 : y_w (M_X6_way ad) mc ms Q (77, lv, st, ω, c, s) = y_ldA lv 0 (fun v => y_w (M_X6_way ad) mc ms Q (78, lv, v :: st, ω, c, s)) := w_aload_n dX6_way_77 rfl rfl
theorem wX6_way_78 : y_w (M_X6_way ad) mc ms Q (78, lv, .ref a :: r, ω, c, s) = y_gf (P_X6_way ad) 69 (ω.2 a) (fun v => y_w (M_X6_way ad) mc ms Q (81, lv, v :: r, ω, c, s)) := w_getfield dX6_way_78 rfl rfl
theorem wX6_way_81 : y_w (M_X6_way ad) mc ms Q (81, lv, st, ω, c, s) = y_ldA lv 0 (fun v => y_w (M_X6_way ad) mc ms Q (82, lv, v :: st, ω, c, s)) := w_aload_n dX6_way_81 rfl rfl
theorem wX6_way_82 : y_w (M_X6_way ad) mc ms Q (82, lv, .ref a :: r, ω, c, s) = y_gf (P_X6_way ad) 20 (ω.2 a) (fun v => y_w (M_X6_way ad) mc ms Q (85, lv, v :: r, ω, c, s)) := w_getfield dX6_way_82 rfl rfl
theorem wX6_way_85 : y_w (M_X6_way ad) mc ms Q (85, lv, .ref a :: r, ω, c, s) = y_gf (P_X6_way ad) 123 (ω.2 a) (fun v => y_w (M_X6_way ad) mc ms Q (88, lv, v :: r, ω, c, s)) := w_getfield dX6_way_85 rfl rfl
theorem wX6_way_88 : y_w (M_X6_way ad) mc ms Q (88, lv, st, ω, c, s) = y_ldI lv 1 (fun v => y_w (M_X6_way ad) mc ms Q (89, lv, v :: st, ω, c, s)) := w_iload_n dX6_way_88 rfl rfl
theorem wX6_way_89 : y_w (M_X6_way ad) mc ms Q (89, lv, .int j :: .ref a :: r, ω, c, s) = y_rI (ω.2 a) j (fun x => y_w (M_X6_way ad) mc ms Q (90, lv, .int x :: r, ω, c, s)) := w_iaload dX6_way_89 rfl
theorem wX6_way_90 : y_w (M_X6_way ad) mc ms Q (90, lv, .int y :: .int x :: r, ω, c, s) = ((x = y → y_w (M_X6_way ad) mc ms Q (97, lv, r, ω, c, s)) ∧ (¬ (x = y) → y_w (M_X6_way ad) mc ms Q (93, lv, r, ω, c, s))) := w_icmp dX6_way_90 (tgt := 97) rfl rfl rfl
theorem wX6_way_93 : y_w (M_X6_way ad) mc ms Q (93, lv, st, ω, c, s) = y_w (M_X6_way ad) mc ms Q (94, lv, .int 1 :: st, ω, c, s) := w_iconst dX6_way_93 (v := 1) (by decide) rfl
theorem wX6_way_94 : y_w (M_X6_way ad) mc ms Q (94, lv, st, ω, c, s) = y_w (M_X6_way ad) mc ms Q (98, lv, st, ω, c, s) := w_goto dX6_way_94 (tgt := 98) (by decide) rfl
theorem wX6_way_97 : y_w (M_X6_way ad) mc ms Q (97, lv, st, ω, c, s) = y_w (M_X6_way ad) mc ms Q (98, lv, .int 0 :: st, ω, c, s) := w_iconst dX6_way_97 (v := 0) (by decide) rfl
theorem wX6_way_98 : y_w (M_X6_way ad) mc ms Q (98, lv, st, ω, c, s) = y_w (M_X6_way ad) mc ms Q (99, lv, .int (nI 2) :: st, ω, c, s) := w_iconst dX6_way_98 (v := (nI 2)) (by decide) rfl
theorem wX6_way_99 (hc : y_cls ω a = some 6) : y_w (M_X6_way ad) mc ms Q (99, lv, v2 :: v1 :: .ref a :: r, ω, c, s) = (y_cat r ≤ 8 ∧ (F_X6_must ad) mc ms [.ref a, v1, v2] ω c s (y_aft (M_X6_way ad) 99 3 lv r (y_w (M_X6_way ad) mc ms Q) Q)) := w_call1 (av := [v1, v2]) (Or.inl ⟨⟨rfl, rfl⟩, rfl⟩) dX6_way_99 rfl hc rfl (y_F_mono _) (y_dle rfl) (y_dle rfl) rfl rfl
theorem wX6_way_102 : y_w (M_X6_way ad) mc ms Q (102, lv, st, ω, c, s) = y_ldA lv 0 (fun v => y_w (M_X6_way ad) mc ms Q (103, lv, v :: st, ω, c, s)) := w_aload_n dX6_way_102 rfl rfl
theorem wX6_way_103 : y_w (M_X6_way ad) mc ms Q (103, lv, .ref a :: r, ω, c, s) = y_gf (P_X6_way ad) 20 (ω.2 a) (fun v => y_w (M_X6_way ad) mc ms Q (106, lv, v :: r, ω, c, s)) := w_getfield dX6_way_103 rfl rfl
theorem wX6_way_106 : y_w (M_X6_way ad) mc ms Q (106, lv, .ref a :: r, ω, c, s) = y_gf (P_X6_way ad) 127 (ω.2 a) (fun v => y_w (M_X6_way ad) mc ms Q (109, lv, v :: r, ω, c, s)) := w_getfield dX6_way_106 rfl rfl
theorem wX6_way_109 : y_w (M_X6_way ad) mc ms Q (109, lv, st, ω, c, s) = y_ldI lv 1 (fun v => y_w (M_X6_way ad) mc ms Q (110, lv, v :: st, ω, c, s)) := w_iload_n dX6_way_109 rfl rfl
theorem wX6_way_110 : y_w (M_X6_way ad) mc ms Q (110, lv, st, ω, c, s) = y_ldA lv 0 (fun v => y_w (M_X6_way ad) mc ms Q (111, lv, v :: st, ω, c, s)) := w_aload_n dX6_way_110 rfl rfl
theorem wX6_way_111 : y_w (M_X6_way ad) mc ms Q (111, lv, .ref a :: r, ω, c, s) = y_gf (P_X6_way ad) 69 (ω.2 a) (fun v => y_w (M_X6_way ad) mc ms Q (114, lv, v :: r, ω, c, s)) := w_getfield dX6_way_111 rfl rfl
theorem wX6_way_114 : y_w (M_X6_way ad) mc ms Q (114, lv, .int x :: .int j :: .ref a :: r, ω, c, s) = y_wI (ω.2 a) j x (fun e => y_w (M_X6_way ad) mc ms Q (115, lv, r, y_hup ω a e, c, s)) := w_iastore dX6_way_114 rfl
theorem wX6_way_115 : y_w (M_X6_way ad) mc ms Q (115, lv, st, ω, c, s) = y_ldA lv 0 (fun v => y_w (M_X6_way ad) mc ms Q (116, lv, v :: st, ω, c, s)) := w_aload_n dX6_way_115 rfl rfl
theorem wX6_way_116 (hc : y_cls ω a = some 6) : y_w (M_X6_way ad) mc ms Q (116, lv, .ref a :: r, ω, c, s) = (y_cat r ≤ 8 ∧ F_X6_next mc ms [.ref a] ω c s (y_aft (M_X6_way ad) 116 3 lv r (y_w (M_X6_way ad) mc ms Q) Q)) := w_call1 (av := []) (Or.inl ⟨⟨rfl, rfl⟩, rfl⟩) dX6_way_116 rfl hc rfl (y_F_mono _) (y_dle rfl) (y_dle rfl) rfl rfl
theorem wX6_way_119 : y_w (M_X6_way ad) mc ms Q (119, lv, st, ω, c, s) = y_ldA lv 0 (fun v => y_w (M_X6_way ad) mc ms Q (120, lv, v :: st, ω, c, s)) := w_aload_n dX6_way_119 rfl rfl
theorem wX6_way_120 : y_w (M_X6_way ad) mc ms Q (120, lv, .ref a :: r, ω, c, s) = y_gf (P_X6_way ad) 20 (ω.2 a) (fun v => y_w (M_X6_way ad) mc ms Q (123, lv, v :: r, ω, c, s)) := w_getfield dX6_way_120 rfl rfl
theorem wX6_way_123 : y_w (M_X6_way ad) mc ms Q (123, lv, .ref a :: r, ω, c, s) = y_gf (P_X6_way ad) 130 (ω.2 a) (fun v => y_w (M_X6_way ad) mc ms Q (126, lv, v :: r, ω, c, s)) := w_getfield dX6_way_123 rfl rfl
theorem wX6_way_126 : y_w (M_X6_way ad) mc ms Q (126, lv, st, ω, c, s) = y_ldI lv 1 (fun v => y_w (M_X6_way ad) mc ms Q (127, lv, v :: st, ω, c, s)) := w_iload_n dX6_way_126 rfl rfl
theorem wX6_way_127 : y_w (M_X6_way ad) mc ms Q (127, lv, st, ω, c, s) = y_ldA lv 0 (fun v => y_w (M_X6_way ad) mc ms Q (128, lv, v :: st, ω, c, s)) := w_aload_n dX6_way_127 rfl rfl
theorem wX6_way_128 : y_w (M_X6_way ad) mc ms Q (128, lv, st, ω, c, s) = y_w (M_X6_way ad) mc ms Q (129, lv, .int 1 :: st, ω, c, s) := w_iconst dX6_way_128 (v := 1) (by decide) rfl
theorem wX6_way_129 : y_w (M_X6_way ad) mc ms Q (129, lv, st, ω, c, s) = y_w (M_X6_way ad) mc ms Q (131, lv, .int (nI 20) :: st, ω, c, s) := w_bipush dX6_way_129 (v := (nI 20)) (by decide) rfl
theorem wX6_way_131 (hc : y_cls ω a = some 6) : y_w (M_X6_way ad) mc ms Q (131, lv, v2 :: v1 :: .ref a :: r, ω, c, s) = (y_cat r ≤ 8 ∧ (F_X6_figure ad) mc ms [.ref a, v1, v2] ω c s (y_aft (M_X6_way ad) 131 3 lv r (y_w (M_X6_way ad) mc ms Q) Q)) := w_call1 (av := [v1, v2]) (Or.inl ⟨⟨rfl, rfl⟩, rfl⟩) dX6_way_131 rfl hc rfl (y_F_mono _) (y_dle rfl) (y_dle rfl) rfl rfl
theorem wX6_way_134 : y_w (M_X6_way ad) mc ms Q (134, lv, .int x :: .int j :: .ref a :: r, ω, c, s) = y_wI (ω.2 a) j x (fun e => y_w (M_X6_way ad) mc ms Q (135, lv, r, y_hup ω a e, c, s)) := w_iastore dX6_way_134 rfl
theorem wX6_way_135 : y_w (M_X6_way ad) mc ms Q (135, lv, st, ω, c, s) = y_ldA lv 0 (fun v => y_w (M_X6_way ad) mc ms Q (136, lv, v :: st, ω, c, s)) := w_aload_n dX6_way_135 rfl rfl
theorem wX6_way_136 : y_w (M_X6_way ad) mc ms Q (136, lv, .ref a :: r, ω, c, s) = y_gf (P_X6_way ad) 20 (ω.2 a) (fun v => y_w (M_X6_way ad) mc ms Q (139, lv, v :: r, ω, c, s)) := w_getfield dX6_way_136 rfl rfl
theorem wX6_way_139 : y_w (M_X6_way ad) mc ms Q (139, lv, .ref a :: r, ω, c, s) = y_gf (P_X6_way ad) 133 (ω.2 a) (fun v => y_w (M_X6_way ad) mc ms Q (142, lv, v :: r, ω, c, s)) := w_getfield dX6_way_139 rfl rfl
theorem wX6_way_142 : y_w (M_X6_way ad) mc ms Q (142, lv, st, ω, c, s) = y_ldI lv 1 (fun v => y_w (M_X6_way ad) mc ms Q (143, lv, v :: st, ω, c, s)) := w_iload_n dX6_way_142 rfl rfl
theorem wX6_way_143 : y_w (M_X6_way ad) mc ms Q (143, lv, st, ω, c, s) = y_ldA lv 0 (fun v => y_w (M_X6_way ad) mc ms Q (144, lv, v :: st, ω, c, s)) := w_aload_n dX6_way_143 rfl rfl
theorem wX6_way_144 : y_w (M_X6_way ad) mc ms Q (144, lv, st, ω, c, s) = y_w (M_X6_way ad) mc ms Q (145, lv, .int 0 :: st, ω, c, s) := w_iconst dX6_way_144 (v := 0) (by decide) rfl
theorem wX6_way_145 : y_w (M_X6_way ad) mc ms Q (145, lv, st, ω, c, s) = y_ldA lv 0 (fun v => y_w (M_X6_way ad) mc ms Q (146, lv, v :: st, ω, c, s)) := w_aload_n dX6_way_145 rfl rfl
theorem wX6_way_146 : y_w (M_X6_way ad) mc ms Q (146, lv, .ref a :: r, ω, c, s) = y_gf (P_X6_way ad) 20 (ω.2 a) (fun v => y_w (M_X6_way ad) mc ms Q (149, lv, v :: r, ω, c, s)) := w_getfield dX6_way_146 rfl rfl
theorem wX6_way_149 : y_w (M_X6_way ad) mc ms Q (149, lv, .ref a :: r, ω, c, s) = y_gf (P_X6_way ad) 130 (ω.2 a) (fun v => y_w (M_X6_way ad) mc ms Q (152, lv, v :: r, ω, c, s)) := w_getfield dX6_way_149 rfl rfl
theorem wX6_way_152 : y_w (M_X6_way ad) mc ms Q (152, lv, st, ω, c, s) = y_ldI lv 1 (fun v => y_w (M_X6_way ad) mc ms Q (153, lv, v :: st, ω, c, s)) := w_iload_n dX6_way_152 rfl rfl
theorem wX6_way_153 : y_w (M_X6_way ad) mc ms Q (153, lv, .int j :: .ref a :: r, ω, c, s) = y_rI (ω.2 a) j (fun x => y_w (M_X6_way ad) mc ms Q (154, lv, .int x :: r, ω, c, s)) := w_iaload dX6_way_153 rfl
theorem wX6_way_154 (hc : y_cls ω a = some 6) : y_w (M_X6_way ad) mc ms Q (154, lv, v2 :: v1 :: .ref a :: r, ω, c, s) = (y_cat r ≤ 8 ∧ (F_X6_figure ad) mc ms [.ref a, v1, v2] ω c s (y_aft (M_X6_way ad) 154 3 lv r (y_w (M_X6_way ad) mc ms Q) Q)) := w_call1 (av := [v1, v2]) (Or.inl ⟨⟨rfl, rfl⟩, rfl⟩) dX6_way_154 rfl hc rfl (y_F_mono _) (y_dle rfl) (y_dle rfl) rfl rfl
theorem wX6_way_157 : y_w (M_X6_way ad) mc ms Q (157, lv, .int x :: .int j :: .ref a :: r, ω, c, s) = y_wI (ω.2 a) j x (fun e => y_w (M_X6_way ad) mc ms Q (158, lv, r, y_hup ω a e, c, s)) := w_iastore dX6_way_157 rfl
theorem wX6_way_158 : y_w (M_X6_way ad) mc ms Q (158, lv, st, ω, c, s) = y_ldA lv 0 (fun v => y_w (M_X6_way ad) mc ms Q (159, lv, v :: st, ω, c, s)) := w_aload_n dX6_way_158 rfl rfl
theorem wX6_way_159 : y_w (M_X6_way ad) mc ms Q (159, lv, .ref a :: r, ω, c, s) = y_gf (P_X6_way ad) 20 (ω.2 a) (fun v => y_w (M_X6_way ad) mc ms Q (162, lv, v :: r, ω, c, s)) := w_getfield dX6_way_159 rfl rfl
theorem wX6_way_162 : y_w (M_X6_way ad) mc ms Q (162, lv, v :: r, ω, c, s) = (v.category = 1 ∧ y_w (M_X6_way ad) mc ms Q (163, lv, v :: v :: r, ω, c, s)) := w_dup dX6_way_162 rfl
theorem wX6_way_163 : y_w (M_X6_way ad) mc ms Q (163, lv, .ref a :: r, ω, c, s) = y_gf (P_X6_way ad) 117 (ω.2 a) (fun v => y_w (M_X6_way ad) mc ms Q (166, lv, v :: r, ω, c, s)) := w_getfield dX6_way_163 rfl rfl
theorem wX6_way_166 : y_w (M_X6_way ad) mc ms Q (166, lv, st, ω, c, s) = y_w (M_X6_way ad) mc ms Q (167, lv, .int 1 :: st, ω, c, s) := w_iconst dX6_way_166 (v := 1) (by decide) rfl
theorem wX6_way_167 : y_w (M_X6_way ad) mc ms Q (167, lv, .int y :: .int x :: r, ω, c, s) = y_w (M_X6_way ad) mc ms Q (168, lv, .int (x + y) :: r, ω, c, s) := w_iadd dX6_way_167 rfl
theorem wX6_way_168 : y_w (M_X6_way ad) mc ms Q (168, lv, v :: .ref a :: r, ω, c, s) = y_pf (P_X6_way ad) false 117 (ω.2 a) v (fun ci fs => y_w (M_X6_way ad) mc ms Q (171, lv, r, y_hup ω a (.inr (ci, fs)), c, s)) := w_putfield dX6_way_168 rfl rfl rfl
theorem wX6_way_171 : y_w (M_X6_way ad) mc ms Q (171, lv, st, ω, c, s) = y_ldA lv 0 (fun v => y_w (M_X6_way ad) mc ms Q (172, lv, v :: st, ω, c, s)) := w_aload_n dX6_way_171 rfl rfl
theorem wX6_way_172 (hc : y_cls ω a = some 6) : y_w (M_X6_way ad) mc ms Q (172, lv, .ref a :: r, ω, c, s) = (y_cat r ≤ 8 ∧ (F_X6_sign ad) mc ms [.ref a] ω c s (y_aft (M_X6_way ad) 172 3 lv r (y_w (M_X6_way ad) mc ms Q) Q)) := w_call1 (av := []) (Or.inl ⟨⟨rfl, rfl⟩, rfl⟩) dX6_way_172 rfl hc rfl (y_F_mono _) (y_dle rfl) (y_dle rfl) rfl rfl
theorem wX6_way_175 : y_w (M_X6_way ad) mc ms Q (175, lv, [], ω, c, s) = Q (.returned none) ω c s := w_return dX6_way_175 rfl
def P_X1_many : y_Pool := ([(27, 1, 7, (.object "java/util/List"), false)], [], [], [(65, 3, 14, 1, (1, 20), F_J2_size)], [], [], [])
def M_X1_many : y_Md := (cX1_many, "YoungerBack$League", (1, (some FieldType.int)), (1, 20), false, P_X1_many, [])
def F_X1_many : y_Tr := y_F M_X1_many
theorem nX1_many : y_nL M_X1_many = 1 := rfl
theorem fX1_many_27_1 : y_ffP P_X1_many 27 1 = some (7, (.object "java/util/List"), false) := rfl
theorem wX1_many_0 : y_w M_X1_many mc ms Q (0, lv, st, ω, c, s) = y_ldA lv 0 (fun v => y_w M_X1_many mc ms Q (1, lv, v :: st, ω, c, s)) := w_aload_n dX1_many_0 rfl rfl
theorem wX1_many_1 : y_w M_X1_many mc ms Q (1, lv, .ref a :: r, ω, c, s) = y_gf P_X1_many 27 (ω.2 a) (fun v => y_w M_X1_many mc ms Q (4, lv, v :: r, ω, c, s)) := w_getfield dX1_many_1 rfl rfl
theorem wX1_many_4 (hc : y_cls ω a = some 14) : y_w M_X1_many mc ms Q (4, lv, .ref a :: r, ω, c, s) = (y_cat r ≤ 8 ∧ F_J2_size mc ms [.ref a] ω c s (y_aft M_X1_many 4 5 lv r (y_w M_X1_many mc ms Q) Q)) := w_call1 (av := []) (Or.inr ⟨⟨⟨_, rfl⟩, rfl⟩, rfl⟩) dX1_many_4 rfl hc rfl (y_F_mono _) (y_dle rfl) (y_dle rfl) rfl rfl
theorem wX1_many_9 : y_w M_X1_many mc ms Q (9, lv, [.int x], ω, c, s) = Q (.returned (some (.int x))) ω c s := w_ireturnI dX1_many_9 rfl
def P_X8_init : y_Pool := ([(7, 9, 0, .int, true), (7, 10, 0, .int, true), (7, 11, 0, .int, true), (7, 12, 0, .int, true), (7, 13, 0, .int, true), (13, 9, 1, .int, true), (13, 10, 1, .int, true), (13, 11, 1, .int, true), (13, 12, 1, .int, true), (13, 13, 1, .int, true)], [], [], [(1, 2, 0, 1, (1, 20), y_oinit)], [], [], [])
def M_X8_init : y_Md := (cX8_init, "YoungerBack$Person", (3, none), (1, 20), true, P_X8_init, [])
def F_X8_init : y_Tr := y_F M_X8_init
theorem nX8_init : y_nL M_X8_init = 3 := rfl
theorem fX8_init_7_9 : y_ffP P_X8_init 7 9 = some (0, .int, true) := rfl
theorem fX8_init_7_10 : y_ffP P_X8_init 7 10 = some (0, .int, true) := rfl
theorem fX8_init_7_11 : y_ffP P_X8_init 7 11 = some (0, .int, true) := rfl
theorem fX8_init_7_12 : y_ffP P_X8_init 7 12 = some (0, .int, true) := rfl
theorem fX8_init_7_13 : y_ffP P_X8_init 7 13 = some (0, .int, true) := rfl
theorem fX8_init_13_9 : y_ffP P_X8_init 13 9 = some (1, .int, true) := rfl
theorem fX8_init_13_10 : y_ffP P_X8_init 13 10 = some (1, .int, true) := rfl
theorem fX8_init_13_11 : y_ffP P_X8_init 13 11 = some (1, .int, true) := rfl
theorem fX8_init_13_12 : y_ffP P_X8_init 13 12 = some (1, .int, true) := rfl
theorem fX8_init_13_13 : y_ffP P_X8_init 13 13 = some (1, .int, true) := rfl
theorem wX8_init_0 : y_w M_X8_init mc ms Q (0, lv, st, ω, c, s) = y_ldA lv 0 (fun v => y_w M_X8_init mc ms Q (1, lv, v :: st, ω, c, s)) := w_aload_n dX8_init_0 rfl rfl
theorem wX8_init_1 : y_w M_X8_init mc ms Q (1, lv, v0 :: r, ω, c, s) = (y_cat r ≤ 8 ∧ y_oinit mc ms [v0] ω c s (y_aft M_X8_init 1 3 lv r (y_w M_X8_init mc ms Q) Q)) := w_call0 (av := [v0]) ⟨Or.inl ⟨rfl, rfl⟩, rfl⟩ dX8_init_1 rfl y_oinit_mono (y_dle rfl) (y_dle rfl) rfl rfl
theorem wX8_init_4 : y_w M_X8_init mc ms Q (4, lv, st, ω, c, s) = y_ldA lv 0 (fun v => y_w M_X8_init mc ms Q (5, lv, v :: st, ω, c, s)) := w_aload_n dX8_init_4 rfl rfl
theorem wX8_init_5 : y_w M_X8_init mc ms Q (5, lv, st, ω, c, s) = y_ldI lv 1 (fun v => y_w M_X8_init mc ms Q (6, lv, v :: st, ω, c, s)) := w_iload_n dX8_init_5 rfl rfl
theorem wX8_init_6 : y_w M_X8_init mc ms Q (6, lv, v :: .ref a :: r, ω, c, s) = y_pf P_X8_init true 7 (ω.2 a) v (fun ci fs => y_w M_X8_init mc ms Q (9, lv, r, y_hup ω a (.inr (ci, fs)), c, s)) := w_putfield dX8_init_6 rfl rfl rfl
theorem wX8_init_9 : y_w M_X8_init mc ms Q (9, lv, st, ω, c, s) = y_ldA lv 0 (fun v => y_w M_X8_init mc ms Q (10, lv, v :: st, ω, c, s)) := w_aload_n dX8_init_9 rfl rfl
theorem wX8_init_10 : y_w M_X8_init mc ms Q (10, lv, st, ω, c, s) = y_ldI lv 2 (fun v => y_w M_X8_init mc ms Q (11, lv, v :: st, ω, c, s)) := w_iload_n dX8_init_10 rfl rfl
theorem wX8_init_11 : y_w M_X8_init mc ms Q (11, lv, v :: .ref a :: r, ω, c, s) = y_pf P_X8_init true 13 (ω.2 a) v (fun ci fs => y_w M_X8_init mc ms Q (14, lv, r, y_hup ω a (.inr (ci, fs)), c, s)) := w_putfield dX8_init_11 rfl rfl rfl
theorem wX8_init_14 : y_w M_X8_init mc ms Q (14, lv, [], ω, c, s) = Q (.returned none) ω c s := w_return dX8_init_14 rfl
def P_X9_init : y_Pool := ([], [], [], [(3, 2, 0, 3, (2, 42), (y_ref F_X8_init))], [], [], [])
def M_X9_init : y_Md := (cX9_init, "YoungerBack$Captain", (3, none), (2, 42), true, P_X9_init, [])
def F_X9_init : y_Tr := y_F M_X9_init
theorem nX9_init : y_nL M_X9_init = 3 := rfl
theorem wX9_init_0 : y_w M_X9_init mc ms Q (0, lv, st, ω, c, s) = y_ldA lv 0 (fun v => y_w M_X9_init mc ms Q (1, lv, v :: st, ω, c, s)) := w_aload_n dX9_init_0 rfl rfl
theorem wX9_init_1 : y_w M_X9_init mc ms Q (1, lv, st, ω, c, s) = y_ldI lv 1 (fun v => y_w M_X9_init mc ms Q (2, lv, v :: st, ω, c, s)) := w_iload_n dX9_init_1 rfl rfl
theorem wX9_init_2 : y_w M_X9_init mc ms Q (2, lv, st, ω, c, s) = y_ldI lv 2 (fun v => y_w M_X9_init mc ms Q (3, lv, v :: st, ω, c, s)) := w_iload_n dX9_init_2 rfl rfl
theorem wX9_init_3 : y_w M_X9_init mc ms Q (3, lv, v2 :: v1 :: v0 :: r, ω, c, s) = (y_cat r ≤ 8 ∧ (y_ref F_X8_init) mc ms [v0, v1, v2] ω c s (y_aft M_X9_init 3 3 lv r (y_w M_X9_init mc ms Q) Q)) := w_call0 (av := [v0, v1, v2]) ⟨Or.inl ⟨rfl, rfl⟩, rfl⟩ dX9_init_3 rfl (y_ref_mono (y_F_mono _)) (y_dle rfl) (y_dle rfl) rfl rfl
theorem wX9_init_6 : y_w M_X9_init mc ms Q (6, lv, [], ω, c, s) = Q (.returned none) ω c s := w_return dX9_init_6 rfl
def P_X10_init : y_Pool := ([], [], [], [(3, 2, 0, 3, (3, 64), (y_ref F_X9_init))], [], [], [])
def M_X10_init : y_Md := (cX10_init, "YoungerBack$Pilot", (3, none), (3, 64), true, P_X10_init, [])
def F_X10_init : y_Tr := y_F M_X10_init
theorem nX10_init : y_nL M_X10_init = 3 := rfl
theorem wX10_init_0 : y_w M_X10_init mc ms Q (0, lv, st, ω, c, s) = y_ldA lv 0 (fun v => y_w M_X10_init mc ms Q (1, lv, v :: st, ω, c, s)) := w_aload_n dX10_init_0 rfl rfl
theorem wX10_init_1 : y_w M_X10_init mc ms Q (1, lv, st, ω, c, s) = y_ldI lv 1 (fun v => y_w M_X10_init mc ms Q (2, lv, v :: st, ω, c, s)) := w_iload_n dX10_init_1 rfl rfl
theorem wX10_init_2 : y_w M_X10_init mc ms Q (2, lv, st, ω, c, s) = y_ldI lv 2 (fun v => y_w M_X10_init mc ms Q (3, lv, v :: st, ω, c, s)) := w_iload_n dX10_init_2 rfl rfl
theorem wX10_init_3 : y_w M_X10_init mc ms Q (3, lv, v2 :: v1 :: v0 :: r, ω, c, s) = (y_cat r ≤ 8 ∧ (y_ref F_X9_init) mc ms [v0, v1, v2] ω c s (y_aft M_X10_init 3 3 lv r (y_w M_X10_init mc ms Q) Q)) := w_call0 (av := [v0, v1, v2]) ⟨Or.inl ⟨rfl, rfl⟩, rfl⟩ dX10_init_3 rfl (y_ref_mono (y_F_mono _)) (y_dle rfl) (y_dle rfl) rfl rfl
theorem wX10_init_6 : y_w M_X10_init mc ms Q (6, lv, [], ω, c, s) = Q (.returned none) ω c s := w_return dX10_init_6 rfl
def P_X11_init : y_Pool := ([], [], [], [(3, 2, 0, 3, (3, 64), (y_ref F_X9_init))], [], [], [])
def M_X11_init : y_Md := (cX11_init, "YoungerBack$Monk", (3, none), (3, 64), true, P_X11_init, [])
def F_X11_init : y_Tr := y_F M_X11_init
theorem nX11_init : y_nL M_X11_init = 3 := rfl
theorem wX11_init_0 : y_w M_X11_init mc ms Q (0, lv, st, ω, c, s) = y_ldA lv 0 (fun v => y_w M_X11_init mc ms Q (1, lv, v :: st, ω, c, s)) := w_aload_n dX11_init_0 rfl rfl
theorem wX11_init_1 : y_w M_X11_init mc ms Q (1, lv, st, ω, c, s) = y_ldI lv 1 (fun v => y_w M_X11_init mc ms Q (2, lv, v :: st, ω, c, s)) := w_iload_n dX11_init_1 rfl rfl
theorem wX11_init_2 : y_w M_X11_init mc ms Q (2, lv, st, ω, c, s) = y_ldI lv 2 (fun v => y_w M_X11_init mc ms Q (3, lv, v :: st, ω, c, s)) := w_iload_n dX11_init_2 rfl rfl
theorem wX11_init_3 : y_w M_X11_init mc ms Q (3, lv, v2 :: v1 :: v0 :: r, ω, c, s) = (y_cat r ≤ 8 ∧ (y_ref F_X9_init) mc ms [v0, v1, v2] ω c s (y_aft M_X11_init 3 3 lv r (y_w M_X11_init mc ms Q) Q)) := w_call0 (av := [v0, v1, v2]) ⟨Or.inl ⟨rfl, rfl⟩, rfl⟩ dX11_init_3 rfl (y_ref_mono (y_F_mono _)) (y_dle rfl) (y_dle rfl) rfl rfl
theorem wX11_init_6 : y_w M_X11_init mc ms Q (6, lv, [], ω, c, s) = Q (.returned none) ω c s := w_return dX11_init_6 rfl
def P_X12_init : y_Pool := ([], [], [], [(3, 2, 0, 3, (2, 42), (y_ref F_X8_init))], [], [], [])
def M_X12_init : y_Md := (cX12_init, "YoungerBack$Clerk", (3, none), (2, 42), true, P_X12_init, [])
def F_X12_init : y_Tr := y_F M_X12_init
theorem nX12_init : y_nL M_X12_init = 3 := rfl
theorem wX12_init_0 : y_w M_X12_init mc ms Q (0, lv, st, ω, c, s) = y_ldA lv 0 (fun v => y_w M_X12_init mc ms Q (1, lv, v :: st, ω, c, s)) := w_aload_n dX12_init_0 rfl rfl
theorem wX12_init_1 : y_w M_X12_init mc ms Q (1, lv, st, ω, c, s) = y_ldI lv 1 (fun v => y_w M_X12_init mc ms Q (2, lv, v :: st, ω, c, s)) := w_iload_n dX12_init_1 rfl rfl
theorem wX12_init_2 : y_w M_X12_init mc ms Q (2, lv, st, ω, c, s) = y_ldI lv 2 (fun v => y_w M_X12_init mc ms Q (3, lv, v :: st, ω, c, s)) := w_iload_n dX12_init_2 rfl rfl
theorem wX12_init_3 : y_w M_X12_init mc ms Q (3, lv, v2 :: v1 :: v0 :: r, ω, c, s) = (y_cat r ≤ 8 ∧ (y_ref F_X8_init) mc ms [v0, v1, v2] ω c s (y_aft M_X12_init 3 3 lv r (y_w M_X12_init mc ms Q) Q)) := w_call0 (av := [v0, v1, v2]) ⟨Or.inl ⟨rfl, rfl⟩, rfl⟩ dX12_init_3 rfl (y_ref_mono (y_F_mono _)) (y_dle rfl) (y_dle rfl) rfl rfl
theorem wX12_init_6 : y_w M_X12_init mc ms Q (6, lv, [], ω, c, s) = Q (.returned none) ω c s := w_return dX12_init_6 rfl
def P_X13_init : y_Pool := ([], [], [], [(3, 2, 0, 3, (3, 64), (y_ref F_X12_init))], [], [], [])
def M_X13_init : y_Md := (cX13_init, "YoungerBack$Boy", (3, none), (3, 64), true, P_X13_init, [])
def F_X13_init : y_Tr := y_F M_X13_init
theorem nX13_init : y_nL M_X13_init = 3 := rfl
theorem wX13_init_0 : y_w M_X13_init mc ms Q (0, lv, st, ω, c, s) = y_ldA lv 0 (fun v => y_w M_X13_init mc ms Q (1, lv, v :: st, ω, c, s)) := w_aload_n dX13_init_0 rfl rfl
theorem wX13_init_1 : y_w M_X13_init mc ms Q (1, lv, st, ω, c, s) = y_ldI lv 1 (fun v => y_w M_X13_init mc ms Q (2, lv, v :: st, ω, c, s)) := w_iload_n dX13_init_1 rfl rfl
theorem wX13_init_2 : y_w M_X13_init mc ms Q (2, lv, st, ω, c, s) = y_ldI lv 2 (fun v => y_w M_X13_init mc ms Q (3, lv, v :: st, ω, c, s)) := w_iload_n dX13_init_2 rfl rfl
theorem wX13_init_3 : y_w M_X13_init mc ms Q (3, lv, v2 :: v1 :: v0 :: r, ω, c, s) = (y_cat r ≤ 8 ∧ (y_ref F_X12_init) mc ms [v0, v1, v2] ω c s (y_aft M_X13_init 3 3 lv r (y_w M_X13_init mc ms Q) Q)) := w_call0 (av := [v0, v1, v2]) ⟨Or.inl ⟨rfl, rfl⟩, rfl⟩ dX13_init_3 rfl (y_ref_mono (y_F_mono _)) (y_dle rfl) (y_dle rfl) rfl rfl
theorem wX13_init_6 : y_w M_X13_init mc ms Q (6, lv, [], ω, c, s) = Q (.returned none) ω c s := w_return dX13_init_6 rfl
def P_X0_personBy : y_Pool := ([], [(3, 9, [.int 0, .int 0]), (9, 10, [.int 0, .int 0]), (12, 11, [.int 0, .int 0]), (15, 12, [.int 0, .int 0]), (18, 13, [.int 0, .int 0])], [], [(5, 2, 0, 3, (3, 64), (y_ref F_X9_init)), (11, 2, 0, 3, (4, 86), (y_ref F_X10_init)), (14, 2, 0, 3, (4, 86), (y_ref F_X11_init)), (17, 2, 0, 3, (3, 64), (y_ref F_X12_init)), (20, 2, 0, 3, (4, 86), (y_ref F_X13_init))], [], [], [])
def M_X0_personBy : y_Md := (cX0_personBy, "YoungerBack", (3, (some (FieldType.object "YoungerBack$Person"))), (4, 86), false, P_X0_personBy, [])
def F_X0_personBy : y_Tr := y_F M_X0_personBy
theorem nX0_personBy : y_nL M_X0_personBy = 3 := rfl
theorem wX0_personBy_0 : y_w M_X0_personBy mc ms Q (0, lv, st, ω, c, s) = y_ldI lv 0 (fun v => y_w M_X0_personBy mc ms Q (1, lv, v :: st, ω, c, s)) := w_iload_n dX0_personBy_0 rfl rfl
theorem wX0_personBy_1 : y_w M_X0_personBy mc ms Q (1, lv, .int x :: r, ω, c, s) = y_sw x 0 [32, 42, 52, 62] 72 (fun t => y_w M_X0_personBy mc ms Q (t, lv, r, ω, c, s)) := w_tsw dX0_personBy_1 (dt := 72) (ts := [32, 42, 52, 62]) rfl (by decide) (by decide)
theorem wX0_personBy_32 : y_w M_X0_personBy mc ms Q (32, lv, st, ω, c, s) = (y_room mc ms c s 2 ∧ y_w M_X0_personBy mc ms Q (35, lv, .ref ω.1 :: st, y_hnew ω (.inr (9, [.int 0, .int 0])), c + 1, s + 2)) := w_new dX0_personBy_32 rfl rfl rfl
theorem wX0_personBy_35 : y_w M_X0_personBy mc ms Q (35, lv, v :: r, ω, c, s) = (v.category = 1 ∧ y_w M_X0_personBy mc ms Q (36, lv, v :: v :: r, ω, c, s)) := w_dup dX0_personBy_35 rfl
theorem wX0_personBy_36 : y_w M_X0_personBy mc ms Q (36, lv, st, ω, c, s) = y_ldI lv 1 (fun v => y_w M_X0_personBy mc ms Q (37, lv, v :: st, ω, c, s)) := w_iload_n dX0_personBy_36 rfl rfl
theorem wX0_personBy_37 : y_w M_X0_personBy mc ms Q (37, lv, st, ω, c, s) = y_ldI lv 2 (fun v => y_w M_X0_personBy mc ms Q (38, lv, v :: st, ω, c, s)) := w_iload_n dX0_personBy_37 rfl rfl
theorem wX0_personBy_38 : y_w M_X0_personBy mc ms Q (38, lv, v2 :: v1 :: v0 :: r, ω, c, s) = (y_cat r ≤ 8 ∧ (y_ref F_X9_init) mc ms [v0, v1, v2] ω c s (y_aft M_X0_personBy 38 3 lv r (y_w M_X0_personBy mc ms Q) Q)) := w_call0 (av := [v0, v1, v2]) ⟨Or.inl ⟨rfl, rfl⟩, rfl⟩ dX0_personBy_38 rfl (y_ref_mono (y_F_mono _)) (y_dle rfl) (y_dle rfl) rfl rfl
theorem wX0_personBy_41 : y_w M_X0_personBy mc ms Q (41, lv, [.ref a], ω, c, s) = Q (.returned (some (.ref a))) ω c s := w_areturn dX0_personBy_41 rfl (Or.inl ⟨_, rfl⟩)
theorem wX0_personBy_42 : y_w M_X0_personBy mc ms Q (42, lv, st, ω, c, s) = (y_room mc ms c s 2 ∧ y_w M_X0_personBy mc ms Q (45, lv, .ref ω.1 :: st, y_hnew ω (.inr (10, [.int 0, .int 0])), c + 1, s + 2)) := w_new dX0_personBy_42 rfl rfl rfl
theorem wX0_personBy_45 : y_w M_X0_personBy mc ms Q (45, lv, v :: r, ω, c, s) = (v.category = 1 ∧ y_w M_X0_personBy mc ms Q (46, lv, v :: v :: r, ω, c, s)) := w_dup dX0_personBy_45 rfl
theorem wX0_personBy_46 : y_w M_X0_personBy mc ms Q (46, lv, st, ω, c, s) = y_ldI lv 1 (fun v => y_w M_X0_personBy mc ms Q (47, lv, v :: st, ω, c, s)) := w_iload_n dX0_personBy_46 rfl rfl
theorem wX0_personBy_47 : y_w M_X0_personBy mc ms Q (47, lv, st, ω, c, s) = y_ldI lv 2 (fun v => y_w M_X0_personBy mc ms Q (48, lv, v :: st, ω, c, s)) := w_iload_n dX0_personBy_47 rfl rfl
theorem wX0_personBy_48 : y_w M_X0_personBy mc ms Q (48, lv, v2 :: v1 :: v0 :: r, ω, c, s) = (y_cat r ≤ 8 ∧ (y_ref F_X10_init) mc ms [v0, v1, v2] ω c s (y_aft M_X0_personBy 48 3 lv r (y_w M_X0_personBy mc ms Q) Q)) := w_call0 (av := [v0, v1, v2]) ⟨Or.inl ⟨rfl, rfl⟩, rfl⟩ dX0_personBy_48 rfl (y_ref_mono (y_F_mono _)) (y_dle rfl) (y_dle rfl) rfl rfl
theorem wX0_personBy_51 : y_w M_X0_personBy mc ms Q (51, lv, [.ref a], ω, c, s) = Q (.returned (some (.ref a))) ω c s := w_areturn dX0_personBy_51 rfl (Or.inl ⟨_, rfl⟩)
theorem wX0_personBy_52 : y_w M_X0_personBy mc ms Q (52, lv, st, ω, c, s) = (y_room mc ms c s 2 ∧ y_w M_X0_personBy mc ms Q (55, lv, .ref ω.1 :: st, y_hnew ω (.inr (11, [.int 0, .int 0])), c + 1, s + 2)) := w_new dX0_personBy_52 rfl rfl rfl
theorem wX0_personBy_55 : y_w M_X0_personBy mc ms Q (55, lv, v :: r, ω, c, s) = (v.category = 1 ∧ y_w M_X0_personBy mc ms Q (56, lv, v :: v :: r, ω, c, s)) := w_dup dX0_personBy_55 rfl
theorem wX0_personBy_56 : y_w M_X0_personBy mc ms Q (56, lv, st, ω, c, s) = y_ldI lv 1 (fun v => y_w M_X0_personBy mc ms Q (57, lv, v :: st, ω, c, s)) := w_iload_n dX0_personBy_56 rfl rfl
theorem wX0_personBy_57 : y_w M_X0_personBy mc ms Q (57, lv, st, ω, c, s) = y_ldI lv 2 (fun v => y_w M_X0_personBy mc ms Q (58, lv, v :: st, ω, c, s)) := w_iload_n dX0_personBy_57 rfl rfl
theorem wX0_personBy_58 : y_w M_X0_personBy mc ms Q (58, lv, v2 :: v1 :: v0 :: r, ω, c, s) = (y_cat r ≤ 8 ∧ (y_ref F_X11_init) mc ms [v0, v1, v2] ω c s (y_aft M_X0_personBy 58 3 lv r (y_w M_X0_personBy mc ms Q) Q)) := w_call0 (av := [v0, v1, v2]) ⟨Or.inl ⟨rfl, rfl⟩, rfl⟩ dX0_personBy_58 rfl (y_ref_mono (y_F_mono _)) (y_dle rfl) (y_dle rfl) rfl rfl
theorem wX0_personBy_61 : y_w M_X0_personBy mc ms Q (61, lv, [.ref a], ω, c, s) = Q (.returned (some (.ref a))) ω c s := w_areturn dX0_personBy_61 rfl (Or.inl ⟨_, rfl⟩)
theorem wX0_personBy_62 : y_w M_X0_personBy mc ms Q (62, lv, st, ω, c, s) = (y_room mc ms c s 2 ∧ y_w M_X0_personBy mc ms Q (65, lv, .ref ω.1 :: st, y_hnew ω (.inr (12, [.int 0, .int 0])), c + 1, s + 2)) := w_new dX0_personBy_62 rfl rfl rfl
theorem wX0_personBy_65 : y_w M_X0_personBy mc ms Q (65, lv, v :: r, ω, c, s) = (v.category = 1 ∧ y_w M_X0_personBy mc ms Q (66, lv, v :: v :: r, ω, c, s)) := w_dup dX0_personBy_65 rfl
theorem wX0_personBy_66 : y_w M_X0_personBy mc ms Q (66, lv, st, ω, c, s) = y_ldI lv 1 (fun v => y_w M_X0_personBy mc ms Q (67, lv, v :: st, ω, c, s)) := w_iload_n dX0_personBy_66 rfl rfl
theorem wX0_personBy_67 : y_w M_X0_personBy mc ms Q (67, lv, st, ω, c, s) = y_ldI lv 2 (fun v => y_w M_X0_personBy mc ms Q (68, lv, v :: st, ω, c, s)) := w_iload_n dX0_personBy_67 rfl rfl
theorem wX0_personBy_68 : y_w M_X0_personBy mc ms Q (68, lv, v2 :: v1 :: v0 :: r, ω, c, s) = (y_cat r ≤ 8 ∧ (y_ref F_X12_init) mc ms [v0, v1, v2] ω c s (y_aft M_X0_personBy 68 3 lv r (y_w M_X0_personBy mc ms Q) Q)) := w_call0 (av := [v0, v1, v2]) ⟨Or.inl ⟨rfl, rfl⟩, rfl⟩ dX0_personBy_68 rfl (y_ref_mono (y_F_mono _)) (y_dle rfl) (y_dle rfl) rfl rfl
theorem wX0_personBy_71 : y_w M_X0_personBy mc ms Q (71, lv, [.ref a], ω, c, s) = Q (.returned (some (.ref a))) ω c s := w_areturn dX0_personBy_71 rfl (Or.inl ⟨_, rfl⟩)
theorem wX0_personBy_72 : y_w M_X0_personBy mc ms Q (72, lv, st, ω, c, s) = (y_room mc ms c s 2 ∧ y_w M_X0_personBy mc ms Q (75, lv, .ref ω.1 :: st, y_hnew ω (.inr (13, [.int 0, .int 0])), c + 1, s + 2)) := w_new dX0_personBy_72 rfl rfl rfl
theorem wX0_personBy_75 : y_w M_X0_personBy mc ms Q (75, lv, v :: r, ω, c, s) = (v.category = 1 ∧ y_w M_X0_personBy mc ms Q (76, lv, v :: v :: r, ω, c, s)) := w_dup dX0_personBy_75 rfl
theorem wX0_personBy_76 : y_w M_X0_personBy mc ms Q (76, lv, st, ω, c, s) = y_ldI lv 1 (fun v => y_w M_X0_personBy mc ms Q (77, lv, v :: st, ω, c, s)) := w_iload_n dX0_personBy_76 rfl rfl
theorem wX0_personBy_77 : y_w M_X0_personBy mc ms Q (77, lv, st, ω, c, s) = y_ldI lv 2 (fun v => y_w M_X0_personBy mc ms Q (78, lv, v :: st, ω, c, s)) := w_iload_n dX0_personBy_77 rfl rfl
theorem wX0_personBy_78 : y_w M_X0_personBy mc ms Q (78, lv, v2 :: v1 :: v0 :: r, ω, c, s) = (y_cat r ≤ 8 ∧ (y_ref F_X13_init) mc ms [v0, v1, v2] ω c s (y_aft M_X0_personBy 78 3 lv r (y_w M_X0_personBy mc ms Q) Q)) := w_call0 (av := [v0, v1, v2]) ⟨Or.inl ⟨rfl, rfl⟩, rfl⟩ dX0_personBy_78 rfl (y_ref_mono (y_F_mono _)) (y_dle rfl) (y_dle rfl) rfl rfl
theorem wX0_personBy_81 : y_w M_X0_personBy mc ms Q (81, lv, [.ref a], ω, c, s) = Q (.returned (some (.ref a))) ω c s := w_areturn dX0_personBy_81 rfl (Or.inl ⟨_, rfl⟩)
def P_X6_person (ad : y_Ad) : y_Pool := ([(20, 6, 7, (.object "YoungerBack$League"), true), (143, 1, 8, (.array .int), true), (100, 1, 0, .int, false), (145, 1, 10, (.array .int), true), (148, 1, 7, (.object "java/util/List"), false)], [], [], [(136, 1, 1, 1, (2, 40), F_X1_many), (120, 1, 6, 3, (8, 215), (F_X6_begin ad)), (92, 1, 6, 2, (3, 65), F_X6_isWord), (83, 1, 6, 3, (5, 112), (F_X6_must ad)), (87, 1, 6, 1, (7, 193), F_X6_next), (96, 1, 6, 3, (8, 216), (F_X6_figure ad)), (152, 0, 0, 3, (5, 108), F_X0_personBy), (156, 3, 14, 2, (6, 131), (F_J2_add ad)), (106, 1, 6, 1, (8, 213), (F_X6_sign ad))], [], [], [(139, .ref (ad.1 1))])
def M_X6_person (ad : y_Ad) : y_Md := (cX6_person, "YoungerBack$Reader", (3, none), (8, 216), false, (P_X6_person ad), [])
def F_X6_person (ad : y_Ad) : y_Tr := y_F (M_X6_person ad)
theorem nX6_person : y_nL (M_X6_person ad) = 3 := rfl
theorem fX6_person_20_6 : y_ffP (P_X6_person ad) 20 6 = some (7, (.object "YoungerBack$League"), true) := rfl
theorem fX6_person_143_1 : y_ffP (P_X6_person ad) 143 1 = some (8, (.array .int), true) := rfl
theorem fX6_person_100_1 : y_ffP (P_X6_person ad) 100 1 = some (0, .int, false) := rfl
theorem fX6_person_145_1 : y_ffP (P_X6_person ad) 145 1 = some (10, (.array .int), true) := rfl
theorem fX6_person_148_1 : y_ffP (P_X6_person ad) 148 1 = some (7, (.object "java/util/List"), false) := rfl
theorem wX6_person_0 : y_w (M_X6_person ad) mc ms Q (0, lv, st, ω, c, s) = y_ldA lv 0 (fun v => y_w (M_X6_person ad) mc ms Q (1, lv, v :: st, ω, c, s)) := w_aload_n dX6_person_0 rfl rfl
theorem wX6_person_1 : y_w (M_X6_person ad) mc ms Q (1, lv, .ref a :: r, ω, c, s) = y_gf (P_X6_person ad) 20 (ω.2 a) (fun v => y_w (M_X6_person ad) mc ms Q (4, lv, v :: r, ω, c, s)) := w_getfield dX6_person_1 rfl rfl
theorem wX6_person_4 (hc : y_cls ω a = some 1) : y_w (M_X6_person ad) mc ms Q (4, lv, .ref a :: r, ω, c, s) = (y_cat r ≤ 8 ∧ F_X1_many mc ms [.ref a] ω c s (y_aft (M_X6_person ad) 4 3 lv r (y_w (M_X6_person ad) mc ms Q) Q)) := w_call1 (av := []) (Or.inl ⟨⟨rfl, rfl⟩, rfl⟩) dX6_person_4 rfl hc rfl (y_F_mono _) (y_dle rfl) (y_dle rfl) rfl rfl
theorem wX6_person_7 : y_w (M_X6_person ad) mc ms Q (7, lv, .int x :: r, ω, c, s) = y_w (M_X6_person ad) mc ms Q (8, (1, .int x) :: y_kill 1 lv, r, ω, c, s) := w_istore_n dX6_person_7 rfl (y_dle rfl) rfl
theorem wX6_person_8 : y_w (M_X6_person ad) mc ms Q (8, lv, st, ω, c, s) = y_ldA lv 0 (fun v => y_w (M_X6_person ad) mc ms Q (9, lv, v :: st, ω, c, s)) := w_aload_n dX6_person_8 rfl rfl
theorem wX6_person_9 : y_w (M_X6_person ad) mc ms Q (9, lv, st, ω, c, s) = y_ldI lv 1 (fun v => y_w (M_X6_person ad) mc ms Q (10, lv, v :: st, ω, c, s)) := w_iload_n dX6_person_9 rfl rfl
theorem wX6_person_10 : y_w (M_X6_person ad) mc ms Q (10, lv, st, ω, c, s) = y_w (M_X6_person ad) mc ms Q (11, lv, .int (nI 4) :: st, ω, c, s) := w_iconst dX6_person_10 (v := (nI 4)) (by decide) rfl
theorem wX6_person_11 (hc : y_cls ω a = some 6) : y_w (M_X6_person ad) mc ms Q (11, lv, v2 :: v1 :: .ref a :: r, ω, c, s) = (y_cat r ≤ 8 ∧ (F_X6_begin ad) mc ms [.ref a, v1, v2] ω c s (y_aft (M_X6_person ad) 11 3 lv r (y_w (M_X6_person ad) mc ms Q) Q)) := w_call1 (av := [v1, v2]) (Or.inl ⟨⟨rfl, rfl⟩, rfl⟩) dX6_person_11 rfl hc rfl (y_F_mono _) (y_dle rfl) (y_dle rfl) rfl rfl
theorem wX6_person_14 : y_w (M_X6_person ad) mc ms Q (14, lv, st, ω, c, s) = y_w (M_X6_person ad) mc ms Q (15, lv, .int 0 :: st, ω, c, s) := w_iconst dX6_person_14 (v := 0) (by decide) rfl
theorem wX6_person_15 : y_w (M_X6_person ad) mc ms Q (15, lv, .int x :: r, ω, c, s) = y_w (M_X6_person ad) mc ms Q (16, (2, .int x) :: y_kill 2 lv, r, ω, c, s) := w_istore_n dX6_person_15 rfl (y_dle rfl) rfl
theorem wX6_person_16 : y_w (M_X6_person ad) mc ms Q (16, lv, st, ω, c, s) = y_ldI lv 2 (fun v => y_w (M_X6_person ad) mc ms Q (17, lv, v :: st, ω, c, s)) := w_iload_n dX6_person_16 rfl rfl
theorem wX6_person_17 : y_w (M_X6_person ad) mc ms Q (17, lv, st, ω, c, s) = y_w (M_X6_person ad) mc ms Q (20, lv, .ref (ad.1 1) :: st, ω, c, s) := w_getstatic dX6_person_17 rfl rfl
theorem wX6_person_20 : y_w (M_X6_person ad) mc ms Q (20, lv, .ref a :: r, ω, c, s) = y_al (ω.2 a) (fun n => y_w (M_X6_person ad) mc ms Q (21, lv, .int n :: r, ω, c, s)) := w_arraylength dX6_person_20 rfl
theorem wX6_person_21 : y_w (M_X6_person ad) mc ms Q (21, lv, .int y :: .int x :: r, ω, c, s) = ((y ≤ x → y_w (M_X6_person ad) mc ms Q (42, lv, r, ω, c, s)) ∧ (¬ (y ≤ x) → y_w (M_X6_person ad) mc ms Q (24, lv, r, ω, c, s))) := w_icmp dX6_person_21 (tgt := 42) rfl rfl rfl
theorem wX6_person_24 : y_w (M_X6_person ad) mc ms Q (24, lv, st, ω, c, s) = y_ldA lv 0 (fun v => y_w (M_X6_person ad) mc ms Q (25, lv, v :: st, ω, c, s)) := w_aload_n dX6_person_24 rfl rfl
theorem wX6_person_25 : y_w (M_X6_person ad) mc ms Q (25, lv, st, ω, c, s) = y_w (M_X6_person ad) mc ms Q (28, lv, .ref (ad.1 1) :: st, ω, c, s) := w_getstatic dX6_person_25 rfl rfl
theorem wX6_person_28 : y_w (M_X6_person ad) mc ms Q (28, lv, st, ω, c, s) = y_ldI lv 2 (fun v => y_w (M_X6_person ad) mc ms Q (29, lv, v :: st, ω, c, s)) := w_iload_n dX6_person_28 rfl rfl
theorem wX6_person_29 : y_w (M_X6_person ad) mc ms Q (29, lv, .int j :: .ref a :: r, ω, c, s) = y_rA (ω.2 a) j (fun x => y_w (M_X6_person ad) mc ms Q (30, lv, x :: r, ω, c, s)) := w_aaload dX6_person_29 rfl
theorem wX6_person_30 (hc : y_cls ω a = some 6) : y_w (M_X6_person ad) mc ms Q (30, lv, v1 :: .ref a :: r, ω, c, s) = (y_cat r ≤ 8 ∧ F_X6_isWord mc ms [.ref a, v1] ω c s (y_aft (M_X6_person ad) 30 3 lv r (y_w (M_X6_person ad) mc ms Q) Q)) := w_call1 (av := [v1]) (Or.inl ⟨⟨rfl, rfl⟩, rfl⟩) dX6_person_30 rfl hc rfl (y_F_mono _) (y_dle rfl) (y_dle rfl) rfl rfl
theorem wX6_person_33 : y_w (M_X6_person ad) mc ms Q (33, lv, .int x :: r, ω, c, s) = ((¬ x = 0 → y_w (M_X6_person ad) mc ms Q (42, lv, r, ω, c, s)) ∧ (¬ (¬ x = 0) → y_w (M_X6_person ad) mc ms Q (36, lv, r, ω, c, s))) := w_if dX6_person_33 (tgt := 42) rfl rfl rfl
theorem wX6_person_36 : y_w (M_X6_person ad) mc ms Q (36, lv, st, ω, c, s) = y_inc lv 2 (fun x => y_w (M_X6_person ad) mc ms Q (39, (2, .int (x + 1)) :: y_kill 2 lv, st, ω, c, s)) := w_iinc dX6_person_36 (d := 1) (by decide) (y_dle rfl) rfl
theorem wX6_person_39 : y_w (M_X6_person ad) mc ms Q (39, lv, st, ω, c, s) = ∃ lv2, y_lsub lv2 lv ∧ y_w (M_X6_person ad) mc ms Q (16, lv2, st, ω, c, s) := w_back dX6_person_39 (tgt := 16) (by decide) rfl
theorem wX6_person_42 : y_w (M_X6_person ad) mc ms Q (42, lv, st, ω, c, s) = y_ldA lv 0 (fun v => y_w (M_X6_person ad) mc ms Q (43, lv, v :: st, ω, c, s)) := w_aload_n dX6_person_42 rfl rfl
theorem wX6_person_43 : y_w (M_X6_person ad) mc ms Q (43, lv, st, ω, c, s) = y_ldI lv 2 (fun v => y_w (M_X6_person ad) mc ms Q (44, lv, v :: st, ω, c, s)) := w_iload_n dX6_person_43 rfl rfl
theorem wX6_person_44 : y_w (M_X6_person ad) mc ms Q (44, lv, st, ω, c, s) = y_w (M_X6_person ad) mc ms Q (47, lv, .ref (ad.1 1) :: st, ω, c, s) := w_getstatic dX6_person_44 rfl rfl
theorem wX6_person_47 : y_w (M_X6_person ad) mc ms Q (47, lv, .ref a :: r, ω, c, s) = y_al (ω.2 a) (fun n => y_w (M_X6_person ad) mc ms Q (48, lv, .int n :: r, ω, c, s)) := w_arraylength dX6_person_47 rfl
theorem wX6_person_48 : y_w (M_X6_person ad) mc ms Q (48, lv, .int y :: .int x :: r, ω, c, s) = ((y ≤ x → y_w (M_X6_person ad) mc ms Q (55, lv, r, ω, c, s)) ∧ (¬ (y ≤ x) → y_w (M_X6_person ad) mc ms Q (51, lv, r, ω, c, s))) := w_icmp dX6_person_48 (tgt := 55) rfl rfl rfl
theorem wX6_person_51 : y_w (M_X6_person ad) mc ms Q (51, lv, st, ω, c, s) = y_w (M_X6_person ad) mc ms Q (52, lv, .int 1 :: st, ω, c, s) := w_iconst dX6_person_51 (v := 1) (by decide) rfl
theorem wX6_person_52 : y_w (M_X6_person ad) mc ms Q (52, lv, st, ω, c, s) = y_w (M_X6_person ad) mc ms Q (56, lv, st, ω, c, s) := w_goto dX6_person_52 (tgt := 56) (by decide) rfl
theorem wX6_person_55 : y_w (M_X6_person ad) mc ms Q (55, lv, st, ω, c, s) = y_w (M_X6_person ad) mc ms Q (56, lv, .int 0 :: st, ω, c, s) := w_iconst dX6_person_55 (v := 0) (by decide) rfl
theorem wX6_person_56 : y_w (M_X6_person ad) mc ms Q (56, lv, st, ω, c, s) = y_w (M_X6_person ad) mc ms Q (57, lv, .int 1 :: st, ω, c, s) := w_iconst dX6_person_56 (v := 1) (by decide) rfl
theorem wX6_person_57 (hc : y_cls ω a = some 6) : y_w (M_X6_person ad) mc ms Q (57, lv, v2 :: v1 :: .ref a :: r, ω, c, s) = (y_cat r ≤ 8 ∧ (F_X6_must ad) mc ms [.ref a, v1, v2] ω c s (y_aft (M_X6_person ad) 57 3 lv r (y_w (M_X6_person ad) mc ms Q) Q)) := w_call1 (av := [v1, v2]) (Or.inl ⟨⟨rfl, rfl⟩, rfl⟩) dX6_person_57 rfl hc rfl (y_F_mono _) (y_dle rfl) (y_dle rfl) rfl rfl
theorem wX6_person_60 : y_w (M_X6_person ad) mc ms Q (60, lv, st, ω, c, s) = y_ldA lv 0 (fun v => y_w (M_X6_person ad) mc ms Q (61, lv, v :: st, ω, c, s)) := w_aload_n dX6_person_60 rfl rfl
theorem wX6_person_61 (hc : y_cls ω a = some 6) : y_w (M_X6_person ad) mc ms Q (61, lv, .ref a :: r, ω, c, s) = (y_cat r ≤ 8 ∧ F_X6_next mc ms [.ref a] ω c s (y_aft (M_X6_person ad) 61 3 lv r (y_w (M_X6_person ad) mc ms Q) Q)) := w_call1 (av := []) (Or.inl ⟨⟨rfl, rfl⟩, rfl⟩) dX6_person_61 rfl hc rfl (y_F_mono _) (y_dle rfl) (y_dle rfl) rfl rfl
theorem wX6_person_64 : y_w (M_X6_person ad) mc ms Q (64, lv, st, ω, c, s) = y_ldA lv 0 (fun v => y_w (M_X6_person ad) mc ms Q (65, lv, v :: st, ω, c, s)) := w_aload_n dX6_person_64 rfl rfl
theorem wX6_person_65 : y_w (M_X6_person ad) mc ms Q (65, lv, .ref a :: r, ω, c, s) = y_gf (P_X6_person ad) 20 (ω.2 a) (fun v => y_w (M_X6_person ad) mc ms Q (68, lv, v :: r, ω, c, s)) := w_getfield dX6_person_65 rfl rfl
theorem wX6_person_68 : y_w (M_X6_person ad) mc ms Q (68, lv, .ref a :: r, ω, c, s) = y_gf (P_X6_person ad) 143 (ω.2 a) (fun v => y_w (M_X6_person ad) mc ms Q (71, lv, v :: r, ω, c, s)) := w_getfield dX6_person_68 rfl rfl
theorem wX6_person_71 : y_w (M_X6_person ad) mc ms Q (71, lv, st, ω, c, s) = y_ldI lv 1 (fun v => y_w (M_X6_person ad) mc ms Q (72, lv, v :: st, ω, c, s)) := w_iload_n dX6_person_71 rfl rfl
theorem wX6_person_72 : y_w (M_X6_person ad) mc ms Q (72, lv, st, ω, c, s) = y_ldA lv 0 (fun v => y_w (M_X6_person ad) mc ms Q (73, lv, v :: st, ω, c, s)) := w_aload_n dX6_person_72 rfl rfl
theorem wX6_person_73 : y_w (M_X6_person ad) mc ms Q (73, lv, st, ω, c, s) = y_w (M_X6_person ad) mc ms Q (74, lv, .int 0 :: st, ω, c, s) := w_iconst dX6_person_73 (v := 0) (by decide) rfl
theorem wX6_person_74 : y_w (M_X6_person ad) mc ms Q (74, lv, st, ω, c, s) = y_ldA lv 0 (fun v => y_w (M_X6_person ad) mc ms Q (75, lv, v :: st, ω, c, s)) := w_aload_n dX6_person_74 rfl rfl
theorem wX6_person_75 : y_w (M_X6_person ad) mc ms Q (75, lv, .ref a :: r, ω, c, s) = y_gf (P_X6_person ad) 20 (ω.2 a) (fun v => y_w (M_X6_person ad) mc ms Q (78, lv, v :: r, ω, c, s)) := w_getfield dX6_person_75 rfl rfl
theorem wX6_person_78 : y_w (M_X6_person ad) mc ms Q (78, lv, .ref a :: r, ω, c, s) = y_gf (P_X6_person ad) 100 (ω.2 a) (fun v => y_w (M_X6_person ad) mc ms Q (81, lv, v :: r, ω, c, s)) := w_getfield dX6_person_78 rfl rfl
theorem wX6_person_81 : y_w (M_X6_person ad) mc ms Q (81, lv, st, ω, c, s) = y_w (M_X6_person ad) mc ms Q (82, lv, .int 1 :: st, ω, c, s) := w_iconst dX6_person_81 (v := 1) (by decide) rfl
theorem wX6_person_82 : y_w (M_X6_person ad) mc ms Q (82, lv, .int y :: .int x :: r, ω, c, s) = y_w (M_X6_person ad) mc ms Q (83, lv, .int (x - y) :: r, ω, c, s) := w_isub dX6_person_82 rfl
theorem wX6_person_83 (hc : y_cls ω a = some 6) : y_w (M_X6_person ad) mc ms Q (83, lv, v2 :: v1 :: .ref a :: r, ω, c, s) = (y_cat r ≤ 8 ∧ (F_X6_figure ad) mc ms [.ref a, v1, v2] ω c s (y_aft (M_X6_person ad) 83 3 lv r (y_w (M_X6_person ad) mc ms Q) Q)) := w_call1 (av := [v1, v2]) (Or.inl ⟨⟨rfl, rfl⟩, rfl⟩) dX6_person_83 rfl hc rfl (y_F_mono _) (y_dle rfl) (y_dle rfl) rfl rfl
theorem wX6_person_86 : y_w (M_X6_person ad) mc ms Q (86, lv, .int x :: .int j :: .ref a :: r, ω, c, s) = y_wI (ω.2 a) j x (fun e => y_w (M_X6_person ad) mc ms Q (87, lv, r, y_hup ω a e, c, s)) := w_iastore dX6_person_86 rfl
theorem wX6_person_87 : y_w (M_X6_person ad) mc ms Q (87, lv, st, ω, c, s) = y_ldA lv 0 (fun v => y_w (M_X6_person ad) mc ms Q (88, lv, v :: st, ω, c, s)) := w_aload_n dX6_person_87 rfl rfl
theorem wX6_person_88 : y_w (M_X6_person ad) mc ms Q (88, lv, .ref a :: r, ω, c, s) = y_gf (P_X6_person ad) 20 (ω.2 a) (fun v => y_w (M_X6_person ad) mc ms Q (91, lv, v :: r, ω, c, s)) := w_getfield dX6_person_88 rfl rfl
theorem wX6_person_91 : y_w (M_X6_person ad) mc ms Q (91, lv, .ref a :: r, ω, c, s) = y_gf (P_X6_person ad) 145 (ω.2 a) (fun v => y_w (M_X6_person ad) mc ms Q (94, lv, v :: r, ω, c, s)) := w_getfield dX6_person_91 rfl rfl
theorem wX6_person_94 : y_w (M_X6_person ad) mc ms Q (94, lv, st, ω, c, s) = y_ldI lv 1 (fun v => y_w (M_X6_person ad) mc ms Q (95, lv, v :: st, ω, c, s)) := w_iload_n dX6_person_94 rfl rfl
theorem wX6_person_95 : y_w (M_X6_person ad) mc ms Q (95, lv, st, ω, c, s) = y_ldA lv 0 (fun v => y_w (M_X6_person ad) mc ms Q (96, lv, v :: st, ω, c, s)) := w_aload_n dX6_person_95 rfl rfl
theorem wX6_person_96 : y_w (M_X6_person ad) mc ms Q (96, lv, st, ω, c, s) = y_w (M_X6_person ad) mc ms Q (97, lv, .int 0 :: st, ω, c, s) := w_iconst dX6_person_96 (v := 0) (by decide) rfl
theorem wX6_person_97 : y_w (M_X6_person ad) mc ms Q (97, lv, st, ω, c, s) = y_w (M_X6_person ad) mc ms Q (99, lv, .int (nI 99) :: st, ω, c, s) := w_bipush dX6_person_97 (v := (nI 99)) (by decide) rfl
theorem wX6_person_99 (hc : y_cls ω a = some 6) : y_w (M_X6_person ad) mc ms Q (99, lv, v2 :: v1 :: .ref a :: r, ω, c, s) = (y_cat r ≤ 8 ∧ (F_X6_figure ad) mc ms [.ref a, v1, v2] ω c s (y_aft (M_X6_person ad) 99 3 lv r (y_w (M_X6_person ad) mc ms Q) Q)) := w_call1 (av := [v1, v2]) (Or.inl ⟨⟨rfl, rfl⟩, rfl⟩) dX6_person_99 rfl hc rfl (y_F_mono _) (y_dle rfl) (y_dle rfl) rfl rfl
theorem wX6_person_102 : y_w (M_X6_person ad) mc ms Q (102, lv, .int x :: .int j :: .ref a :: r, ω, c, s) = y_wI (ω.2 a) j x (fun e => y_w (M_X6_person ad) mc ms Q (103, lv, r, y_hup ω a e, c, s)) := w_iastore dX6_person_102 rfl
theorem wX6_person_103 : y_w (M_X6_person ad) mc ms Q (103, lv, st, ω, c, s) = y_ldA lv 0 (fun v => y_w (M_X6_person ad) mc ms Q (104, lv, v :: st, ω, c, s)) := w_aload_n dX6_person_103 rfl rfl
theorem wX6_person_104 : y_w (M_X6_person ad) mc ms Q (104, lv, .ref a :: r, ω, c, s) = y_gf (P_X6_person ad) 20 (ω.2 a) (fun v => y_w (M_X6_person ad) mc ms Q (107, lv, v :: r, ω, c, s)) := w_getfield dX6_person_104 rfl rfl
theorem wX6_person_107 : y_w (M_X6_person ad) mc ms Q (107, lv, .ref a :: r, ω, c, s) = y_gf (P_X6_person ad) 148 (ω.2 a) (fun v => y_w (M_X6_person ad) mc ms Q (110, lv, v :: r, ω, c, s)) := w_getfield dX6_person_107 rfl rfl
theorem wX6_person_110 : y_w (M_X6_person ad) mc ms Q (110, lv, st, ω, c, s) = y_ldI lv 2 (fun v => y_w (M_X6_person ad) mc ms Q (111, lv, v :: st, ω, c, s)) := w_iload_n dX6_person_110 rfl rfl
theorem wX6_person_111 : y_w (M_X6_person ad) mc ms Q (111, lv, st, ω, c, s) = y_ldI lv 1 (fun v => y_w (M_X6_person ad) mc ms Q (112, lv, v :: st, ω, c, s)) := w_iload_n dX6_person_111 rfl rfl
theorem wX6_person_112 : y_w (M_X6_person ad) mc ms Q (112, lv, st, ω, c, s) = y_ldA lv 0 (fun v => y_w (M_X6_person ad) mc ms Q (113, lv, v :: st, ω, c, s)) := w_aload_n dX6_person_112 rfl rfl
theorem wX6_person_113 : y_w (M_X6_person ad) mc ms Q (113, lv, .ref a :: r, ω, c, s) = y_gf (P_X6_person ad) 20 (ω.2 a) (fun v => y_w (M_X6_person ad) mc ms Q (116, lv, v :: r, ω, c, s)) := w_getfield dX6_person_113 rfl rfl
theorem wX6_person_116 : y_w (M_X6_person ad) mc ms Q (116, lv, .ref a :: r, ω, c, s) = y_gf (P_X6_person ad) 145 (ω.2 a) (fun v => y_w (M_X6_person ad) mc ms Q (119, lv, v :: r, ω, c, s)) := w_getfield dX6_person_116 rfl rfl
theorem wX6_person_119 : y_w (M_X6_person ad) mc ms Q (119, lv, st, ω, c, s) = y_ldI lv 1 (fun v => y_w (M_X6_person ad) mc ms Q (120, lv, v :: st, ω, c, s)) := w_iload_n dX6_person_119 rfl rfl
theorem wX6_person_120 : y_w (M_X6_person ad) mc ms Q (120, lv, .int j :: .ref a :: r, ω, c, s) = y_rI (ω.2 a) j (fun x => y_w (M_X6_person ad) mc ms Q (121, lv, .int x :: r, ω, c, s)) := w_iaload dX6_person_120 rfl
theorem wX6_person_121 : y_w (M_X6_person ad) mc ms Q (121, lv, v2 :: v1 :: v0 :: r, ω, c, s) = (y_cat r ≤ 8 ∧ F_X0_personBy mc ms [v0, v1, v2] ω c s (y_aft (M_X6_person ad) 121 3 lv r (y_w (M_X6_person ad) mc ms Q) Q)) := w_call0 (av := [v0, v1, v2]) ⟨Or.inr ⟨rfl, rfl⟩, rfl⟩ dX6_person_121 rfl (y_F_mono _) (y_dle rfl) (y_dle rfl) rfl rfl
theorem wX6_person_124 (hc : y_cls ω a = some 14) : y_w (M_X6_person ad) mc ms Q (124, lv, v1 :: .ref a :: r, ω, c, s) = (y_cat r ≤ 8 ∧ (F_J2_add ad) mc ms [.ref a, v1] ω c s (y_aft (M_X6_person ad) 124 5 lv r (y_w (M_X6_person ad) mc ms Q) Q)) := w_call1 (av := [v1]) (Or.inr ⟨⟨⟨_, rfl⟩, rfl⟩, rfl⟩) dX6_person_124 rfl hc rfl (y_F_mono _) (y_dle rfl) (y_dle rfl) rfl rfl
theorem wX6_person_129 : y_w (M_X6_person ad) mc ms Q (129, lv, v :: r, ω, c, s) = (v.category = 1 ∧ y_w (M_X6_person ad) mc ms Q (130, lv, r, ω, c, s)) := w_pop dX6_person_129 rfl
theorem wX6_person_130 : y_w (M_X6_person ad) mc ms Q (130, lv, st, ω, c, s) = y_ldA lv 0 (fun v => y_w (M_X6_person ad) mc ms Q (131, lv, v :: st, ω, c, s)) := w_aload_n dX6_person_130 rfl rfl
theorem wX6_person_131 (hc : y_cls ω a = some 6) : y_w (M_X6_person ad) mc ms Q (131, lv, .ref a :: r, ω, c, s) = (y_cat r ≤ 8 ∧ (F_X6_sign ad) mc ms [.ref a] ω c s (y_aft (M_X6_person ad) 131 3 lv r (y_w (M_X6_person ad) mc ms Q) Q)) := w_call1 (av := []) (Or.inl ⟨⟨rfl, rfl⟩, rfl⟩) dX6_person_131 rfl hc rfl (y_F_mono _) (y_dle rfl) (y_dle rfl) rfl rfl
theorem wX6_person_134 : y_w (M_X6_person ad) mc ms Q (134, lv, [], ω, c, s) = Q (.returned none) ω c s := w_return dX6_person_134 rfl
def P_X6_all (ad : y_Ad) : y_Pool := ([(20, 6, 7, (.object "YoungerBack$League"), true), (100, 1, 0, .int, false), (103, 1, 1, .int, false), (43, 6, 3, .int, false)], [], [(90, .ref (ad.1 3)), (109, .ref (ad.1 4)), (113, .ref (ad.1 5))], [(87, 1, 6, 1, (7, 193), F_X6_next), (92, 1, 6, 2, (3, 65), F_X6_isWord), (83, 1, 6, 3, (5, 112), (F_X6_must ad)), (96, 1, 6, 3, (8, 216), (F_X6_figure ad)), (106, 1, 6, 1, (8, 213), (F_X6_sign ad)), (111, 1, 6, 1, (9, 237), (F_X6_way ad)), (115, 1, 6, 1, (9, 238), (F_X6_person ad))], [], [], [])
def M_X6_all (ad : y_Ad) : y_Md := (cX6_all, "YoungerBack$Reader", (1, none), (9, 238), false, (P_X6_all ad), [])
def F_X6_all (ad : y_Ad) : y_Tr := y_F (M_X6_all ad)
theorem nX6_all : y_nL (M_X6_all ad) = 1 := rfl
theorem fX6_all_20_6 : y_ffP (P_X6_all ad) 20 6 = some (7, (.object "YoungerBack$League"), true) := rfl
theorem fX6_all_100_1 : y_ffP (P_X6_all ad) 100 1 = some (0, .int, false) := rfl
theorem fX6_all_103_1 : y_ffP (P_X6_all ad) 103 1 = some (1, .int, false) := rfl
theorem fX6_all_43_6 : y_ffP (P_X6_all ad) 43 6 = some (3, .int, false) := rfl
theorem wX6_all_0 : y_w (M_X6_all ad) mc ms Q (0, lv, st, ω, c, s) = y_ldA lv 0 (fun v => y_w (M_X6_all ad) mc ms Q (1, lv, v :: st, ω, c, s)) := w_aload_n dX6_all_0 rfl rfl
theorem wX6_all_1 (hc : y_cls ω a = some 6) : y_w (M_X6_all ad) mc ms Q (1, lv, .ref a :: r, ω, c, s) = (y_cat r ≤ 8 ∧ F_X6_next mc ms [.ref a] ω c s (y_aft (M_X6_all ad) 1 3 lv r (y_w (M_X6_all ad) mc ms Q) Q)) := w_call1 (av := []) (Or.inl ⟨⟨rfl, rfl⟩, rfl⟩) dX6_all_1 rfl hc rfl (y_F_mono _) (y_dle rfl) (y_dle rfl) rfl rfl
theorem wX6_all_4 : y_w (M_X6_all ad) mc ms Q (4, lv, st, ω, c, s) = y_ldA lv 0 (fun v => y_w (M_X6_all ad) mc ms Q (5, lv, v :: st, ω, c, s)) := w_aload_n dX6_all_4 rfl rfl
theorem wX6_all_5 : y_w (M_X6_all ad) mc ms Q (5, lv, st, ω, c, s) = y_ldA lv 0 (fun v => y_w (M_X6_all ad) mc ms Q (6, lv, v :: st, ω, c, s)) := w_aload_n dX6_all_5 rfl rfl
theorem wX6_all_6 : y_w (M_X6_all ad) mc ms Q (6, lv, st, ω, c, s) = y_w (M_X6_all ad) mc ms Q (8, lv, .ref (ad.1 3) :: st, ω, c, s) := w_ldc dX6_all_6 rfl rfl rfl
theorem wX6_all_8 (hc : y_cls ω a = some 6) : y_w (M_X6_all ad) mc ms Q (8, lv, v1 :: .ref a :: r, ω, c, s) = (y_cat r ≤ 8 ∧ F_X6_isWord mc ms [.ref a, v1] ω c s (y_aft (M_X6_all ad) 8 3 lv r (y_w (M_X6_all ad) mc ms Q) Q)) := w_call1 (av := [v1]) (Or.inl ⟨⟨rfl, rfl⟩, rfl⟩) dX6_all_8 rfl hc rfl (y_F_mono _) (y_dle rfl) (y_dle rfl) rfl rfl
theorem wX6_all_11 : y_w (M_X6_all ad) mc ms Q (11, lv, st, ω, c, s) = y_w (M_X6_all ad) mc ms Q (12, lv, .int 1 :: st, ω, c, s) := w_iconst dX6_all_11 (v := 1) (by decide) rfl
theorem wX6_all_12 (hc : y_cls ω a = some 6) : y_w (M_X6_all ad) mc ms Q (12, lv, v2 :: v1 :: .ref a :: r, ω, c, s) = (y_cat r ≤ 8 ∧ (F_X6_must ad) mc ms [.ref a, v1, v2] ω c s (y_aft (M_X6_all ad) 12 3 lv r (y_w (M_X6_all ad) mc ms Q) Q)) := w_call1 (av := [v1, v2]) (Or.inl ⟨⟨rfl, rfl⟩, rfl⟩) dX6_all_12 rfl hc rfl (y_F_mono _) (y_dle rfl) (y_dle rfl) rfl rfl
theorem wX6_all_15 : y_w (M_X6_all ad) mc ms Q (15, lv, st, ω, c, s) = y_ldA lv 0 (fun v => y_w (M_X6_all ad) mc ms Q (16, lv, v :: st, ω, c, s)) := w_aload_n dX6_all_15 rfl rfl
theorem wX6_all_16 (hc : y_cls ω a = some 6) : y_w (M_X6_all ad) mc ms Q (16, lv, .ref a :: r, ω, c, s) = (y_cat r ≤ 8 ∧ F_X6_next mc ms [.ref a] ω c s (y_aft (M_X6_all ad) 16 3 lv r (y_w (M_X6_all ad) mc ms Q) Q)) := w_call1 (av := []) (Or.inl ⟨⟨rfl, rfl⟩, rfl⟩) dX6_all_16 rfl hc rfl (y_F_mono _) (y_dle rfl) (y_dle rfl) rfl rfl
theorem wX6_all_19 : y_w (M_X6_all ad) mc ms Q (19, lv, st, ω, c, s) = y_ldA lv 0 (fun v => y_w (M_X6_all ad) mc ms Q (20, lv, v :: st, ω, c, s)) := w_aload_n dX6_all_19 rfl rfl
theorem wX6_all_20 : y_w (M_X6_all ad) mc ms Q (20, lv, .ref a :: r, ω, c, s) = y_gf (P_X6_all ad) 20 (ω.2 a) (fun v => y_w (M_X6_all ad) mc ms Q (23, lv, v :: r, ω, c, s)) := w_getfield dX6_all_20 rfl rfl
theorem wX6_all_23 : y_w (M_X6_all ad) mc ms Q (23, lv, st, ω, c, s) = y_ldA lv 0 (fun v => y_w (M_X6_all ad) mc ms Q (24, lv, v :: st, ω, c, s)) := w_aload_n dX6_all_23 rfl rfl
theorem wX6_all_24 : y_w (M_X6_all ad) mc ms Q (24, lv, st, ω, c, s) = y_w (M_X6_all ad) mc ms Q (25, lv, .int 1 :: st, ω, c, s) := w_iconst dX6_all_24 (v := 1) (by decide) rfl
theorem wX6_all_25 : y_w (M_X6_all ad) mc ms Q (25, lv, st, ω, c, s) = y_w (M_X6_all ad) mc ms Q (26, lv, .int (nI 5) :: st, ω, c, s) := w_iconst dX6_all_25 (v := (nI 5)) (by decide) rfl
theorem wX6_all_26 (hc : y_cls ω a = some 6) : y_w (M_X6_all ad) mc ms Q (26, lv, v2 :: v1 :: .ref a :: r, ω, c, s) = (y_cat r ≤ 8 ∧ (F_X6_figure ad) mc ms [.ref a, v1, v2] ω c s (y_aft (M_X6_all ad) 26 3 lv r (y_w (M_X6_all ad) mc ms Q) Q)) := w_call1 (av := [v1, v2]) (Or.inl ⟨⟨rfl, rfl⟩, rfl⟩) dX6_all_26 rfl hc rfl (y_F_mono _) (y_dle rfl) (y_dle rfl) rfl rfl
theorem wX6_all_29 : y_w (M_X6_all ad) mc ms Q (29, lv, v :: .ref a :: r, ω, c, s) = y_pf (P_X6_all ad) false 100 (ω.2 a) v (fun ci fs => y_w (M_X6_all ad) mc ms Q (32, lv, r, y_hup ω a (.inr (ci, fs)), c, s)) := w_putfield dX6_all_29 rfl rfl rfl
theorem wX6_all_32 : y_w (M_X6_all ad) mc ms Q (32, lv, st, ω, c, s) = y_ldA lv 0 (fun v => y_w (M_X6_all ad) mc ms Q (33, lv, v :: st, ω, c, s)) := w_aload_n dX6_all_32 rfl rfl
theorem wX6_all_33 : y_w (M_X6_all ad) mc ms Q (33, lv, .ref a :: r, ω, c, s) = y_gf (P_X6_all ad) 20 (ω.2 a) (fun v => y_w (M_X6_all ad) mc ms Q (36, lv, v :: r, ω, c, s)) := w_getfield dX6_all_33 rfl rfl
theorem wX6_all_36 : y_w (M_X6_all ad) mc ms Q (36, lv, st, ω, c, s) = y_ldA lv 0 (fun v => y_w (M_X6_all ad) mc ms Q (37, lv, v :: st, ω, c, s)) := w_aload_n dX6_all_36 rfl rfl
theorem wX6_all_37 : y_w (M_X6_all ad) mc ms Q (37, lv, st, ω, c, s) = y_w (M_X6_all ad) mc ms Q (38, lv, .int 0 :: st, ω, c, s) := w_iconst dX6_all_37 (v := 0) (by decide) rfl
theorem wX6_all_38 : y_w (M_X6_all ad) mc ms Q (38, lv, st, ω, c, s) = y_w (M_X6_all ad) mc ms Q (40, lv, .int (nI 20) :: st, ω, c, s) := w_bipush dX6_all_38 (v := (nI 20)) (by decide) rfl
theorem wX6_all_40 (hc : y_cls ω a = some 6) : y_w (M_X6_all ad) mc ms Q (40, lv, v2 :: v1 :: .ref a :: r, ω, c, s) = (y_cat r ≤ 8 ∧ (F_X6_figure ad) mc ms [.ref a, v1, v2] ω c s (y_aft (M_X6_all ad) 40 3 lv r (y_w (M_X6_all ad) mc ms Q) Q)) := w_call1 (av := [v1, v2]) (Or.inl ⟨⟨rfl, rfl⟩, rfl⟩) dX6_all_40 rfl hc rfl (y_F_mono _) (y_dle rfl) (y_dle rfl) rfl rfl
theorem wX6_all_43 : y_w (M_X6_all ad) mc ms Q (43, lv, v :: .ref a :: r, ω, c, s) = y_pf (P_X6_all ad) false 103 (ω.2 a) v (fun ci fs => y_w (M_X6_all ad) mc ms Q (46, lv, r, y_hup ω a (.inr (ci, fs)), c, s)) := w_putfield dX6_all_43 rfl rfl rfl
theorem wX6_all_46 : y_w (M_X6_all ad) mc ms Q (46, lv, st, ω, c, s) = y_ldA lv 0 (fun v => y_w (M_X6_all ad) mc ms Q (47, lv, v :: st, ω, c, s)) := w_aload_n dX6_all_46 rfl rfl
theorem wX6_all_47 (hc : y_cls ω a = some 6) : y_w (M_X6_all ad) mc ms Q (47, lv, .ref a :: r, ω, c, s) = (y_cat r ≤ 8 ∧ (F_X6_sign ad) mc ms [.ref a] ω c s (y_aft (M_X6_all ad) 47 3 lv r (y_w (M_X6_all ad) mc ms Q) Q)) := w_call1 (av := []) (Or.inl ⟨⟨rfl, rfl⟩, rfl⟩) dX6_all_47 rfl hc rfl (y_F_mono _) (y_dle rfl) (y_dle rfl) rfl rfl
theorem wX6_all_50 : y_w (M_X6_all ad) mc ms Q (50, lv, st, ω, c, s) = y_ldA lv 0 (fun v => y_w (M_X6_all ad) mc ms Q (51, lv, v :: st, ω, c, s)) := w_aload_n dX6_all_50 rfl rfl
theorem wX6_all_51 : y_w (M_X6_all ad) mc ms Q (51, lv, st, ω, c, s) = y_w (M_X6_all ad) mc ms Q (53, lv, .ref (ad.1 4) :: st, ω, c, s) := w_ldc dX6_all_51 rfl rfl rfl
theorem wX6_all_53 (hc : y_cls ω a = some 6) : y_w (M_X6_all ad) mc ms Q (53, lv, v1 :: .ref a :: r, ω, c, s) = (y_cat r ≤ 8 ∧ F_X6_isWord mc ms [.ref a, v1] ω c s (y_aft (M_X6_all ad) 53 3 lv r (y_w (M_X6_all ad) mc ms Q) Q)) := w_call1 (av := [v1]) (Or.inl ⟨⟨rfl, rfl⟩, rfl⟩) dX6_all_53 rfl hc rfl (y_F_mono _) (y_dle rfl) (y_dle rfl) rfl rfl
theorem wX6_all_56 : y_w (M_X6_all ad) mc ms Q (56, lv, .int x :: r, ω, c, s) = ((x = 0 → y_w (M_X6_all ad) mc ms Q (66, lv, r, ω, c, s)) ∧ (¬ (x = 0) → y_w (M_X6_all ad) mc ms Q (59, lv, r, ω, c, s))) := w_if dX6_all_56 (tgt := 66) rfl rfl rfl
theorem wX6_all_59 : y_w (M_X6_all ad) mc ms Q (59, lv, st, ω, c, s) = y_ldA lv 0 (fun v => y_w (M_X6_all ad) mc ms Q (60, lv, v :: st, ω, c, s)) := w_aload_n dX6_all_59 rfl rfl
theorem wX6_all_60 (hc : y_cls ω a = some 6) : y_w (M_X6_all ad) mc ms Q (60, lv, .ref a :: r, ω, c, s) = (y_cat r ≤ 8 ∧ (F_X6_way ad) mc ms [.ref a] ω c s (y_aft (M_X6_all ad) 60 3 lv r (y_w (M_X6_all ad) mc ms Q) Q)) := w_call1 (av := []) (Or.inl ⟨⟨rfl, rfl⟩, rfl⟩) dX6_all_60 rfl hc rfl (y_F_mono _) (y_dle rfl) (y_dle rfl) rfl rfl
theorem wX6_all_63 : y_w (M_X6_all ad) mc ms Q (63, lv, st, ω, c, s) = ∃ lv2, y_lsub lv2 lv ∧ y_w (M_X6_all ad) mc ms Q (50, lv2, st, ω, c, s) := w_back dX6_all_63 (tgt := 50) (by decide) rfl
theorem wX6_all_66 : y_w (M_X6_all ad) mc ms Q (66, lv, st, ω, c, s) = y_ldA lv 0 (fun v => y_w (M_X6_all ad) mc ms Q (67, lv, v :: st, ω, c, s)) := w_aload_n dX6_all_66 rfl rfl
theorem wX6_all_67 : y_w (M_X6_all ad) mc ms Q (67, lv, st, ω, c, s) = y_w (M_X6_all ad) mc ms Q (69, lv, .ref (ad.1 5) :: st, ω, c, s) := w_ldc dX6_all_67 rfl rfl rfl
theorem wX6_all_69 (hc : y_cls ω a = some 6) : y_w (M_X6_all ad) mc ms Q (69, lv, v1 :: .ref a :: r, ω, c, s) = (y_cat r ≤ 8 ∧ F_X6_isWord mc ms [.ref a, v1] ω c s (y_aft (M_X6_all ad) 69 3 lv r (y_w (M_X6_all ad) mc ms Q) Q)) := w_call1 (av := [v1]) (Or.inl ⟨⟨rfl, rfl⟩, rfl⟩) dX6_all_69 rfl hc rfl (y_F_mono _) (y_dle rfl) (y_dle rfl) rfl rfl
theorem wX6_all_72 : y_w (M_X6_all ad) mc ms Q (72, lv, .int x :: r, ω, c, s) = ((x = 0 → y_w (M_X6_all ad) mc ms Q (82, lv, r, ω, c, s)) ∧ (¬ (x = 0) → y_w (M_X6_all ad) mc ms Q (75, lv, r, ω, c, s))) := w_if dX6_all_72 (tgt := 82) rfl rfl rfl
theorem wX6_all_75 : y_w (M_X6_all ad) mc ms Q (75, lv, st, ω, c, s) = y_ldA lv 0 (fun v => y_w (M_X6_all ad) mc ms Q (76, lv, v :: st, ω, c, s)) := w_aload_n dX6_all_75 rfl rfl
theorem wX6_all_76 (hc : y_cls ω a = some 6) : y_w (M_X6_all ad) mc ms Q (76, lv, .ref a :: r, ω, c, s) = (y_cat r ≤ 8 ∧ (F_X6_person ad) mc ms [.ref a] ω c s (y_aft (M_X6_all ad) 76 3 lv r (y_w (M_X6_all ad) mc ms Q) Q)) := w_call1 (av := []) (Or.inl ⟨⟨rfl, rfl⟩, rfl⟩) dX6_all_76 rfl hc rfl (y_F_mono _) (y_dle rfl) (y_dle rfl) rfl rfl
theorem wX6_all_79 : y_w (M_X6_all ad) mc ms Q (79, lv, st, ω, c, s) = ∃ lv2, y_lsub lv2 lv ∧ y_w (M_X6_all ad) mc ms Q (66, lv2, st, ω, c, s) := w_back dX6_all_79 (tgt := 66) (by decide) rfl
theorem wX6_all_82 : y_w (M_X6_all ad) mc ms Q (82, lv, st, ω, c, s) = y_ldA lv 0 (fun v => y_w (M_X6_all ad) mc ms Q (83, lv, v :: st, ω, c, s)) := w_aload_n dX6_all_82 rfl rfl
theorem wX6_all_83 : y_w (M_X6_all ad) mc ms Q (83, lv, st, ω, c, s) = y_ldA lv 0 (fun v => y_w (M_X6_all ad) mc ms Q (84, lv, v :: st, ω, c, s)) := w_aload_n dX6_all_83 rfl rfl
theorem wX6_all_84 : y_w (M_X6_all ad) mc ms Q (84, lv, .ref a :: r, ω, c, s) = y_gf (P_X6_all ad) 43 (ω.2 a) (fun v => y_w (M_X6_all ad) mc ms Q (87, lv, v :: r, ω, c, s)) := w_getfield dX6_all_84 rfl rfl
theorem wX6_all_87 : y_w (M_X6_all ad) mc ms Q (87, lv, .int x :: r, ω, c, s) = ((¬ x = 0 → y_w (M_X6_all ad) mc ms Q (94, lv, r, ω, c, s)) ∧ (¬ (¬ x = 0) → y_w (M_X6_all ad) mc ms Q (90, lv, r, ω, c, s))) := w_if dX6_all_87 (tgt := 94) rfl rfl rfl
theorem wX6_all_90 : y_w (M_X6_all ad) mc ms Q (90, lv, st, ω, c, s) = y_w (M_X6_all ad) mc ms Q (91, lv, .int 1 :: st, ω, c, s) := w_iconst dX6_all_90 (v := 1) (by decide) rfl
theorem wX6_all_91 : y_w (M_X6_all ad) mc ms Q (91, lv, st, ω, c, s) = y_w (M_X6_all ad) mc ms Q (95, lv, st, ω, c, s) := w_goto dX6_all_91 (tgt := 95) (by decide) rfl
theorem wX6_all_94 : y_w (M_X6_all ad) mc ms Q (94, lv, st, ω, c, s) = y_w (M_X6_all ad) mc ms Q (95, lv, .int 0 :: st, ω, c, s) := w_iconst dX6_all_94 (v := 0) (by decide) rfl
theorem wX6_all_95 : y_w (M_X6_all ad) mc ms Q (95, lv, st, ω, c, s) = y_w (M_X6_all ad) mc ms Q (96, lv, .int 1 :: st, ω, c, s) := w_iconst dX6_all_95 (v := 1) (by decide) rfl
theorem wX6_all_96 (hc : y_cls ω a = some 6) : y_w (M_X6_all ad) mc ms Q (96, lv, v2 :: v1 :: .ref a :: r, ω, c, s) = (y_cat r ≤ 8 ∧ (F_X6_must ad) mc ms [.ref a, v1, v2] ω c s (y_aft (M_X6_all ad) 96 3 lv r (y_w (M_X6_all ad) mc ms Q) Q)) := w_call1 (av := [v1, v2]) (Or.inl ⟨⟨rfl, rfl⟩, rfl⟩) dX6_all_96 rfl hc rfl (y_F_mono _) (y_dle rfl) (y_dle rfl) rfl rfl
theorem wX6_all_99 : y_w (M_X6_all ad) mc ms Q (99, lv, [], ω, c, s) = Q (.returned none) ω c s := w_return dX6_all_99 rfl
def P_X1_become : y_Pool := ([(49, 1, 0, .int, false), (53, 1, 1, .int, false), (56, 1, 2, .int, false), (27, 1, 7, (.object "java/util/List"), false), (9, 1, 3, (.array .int), true), (15, 1, 4, (.array .int), true), (18, 1, 5, (.array .int), true), (21, 1, 6, (.array .int), true), (31, 1, 8, (.array .int), true), (34, 1, 9, (.array .int), true), (37, 1, 10, (.array .int), true), (40, 1, 11, (.array .int), true), (43, 1, 12, (.array .int), true), (46, 1, 13, (.array .int), true)], [], [], [(59, 0, 0, 5, (1, 60), y_acopy)], [], [], [])
def M_X1_become : y_Md := (cX1_become, "YoungerBack$League", (2, (some (FieldType.object "YoungerBack$League"))), (1, 60), false, P_X1_become, [])
def F_X1_become : y_Tr := y_F M_X1_become
theorem nX1_become : y_nL M_X1_become = 2 := rfl
theorem fX1_become_49_1 : y_ffP P_X1_become 49 1 = some (0, .int, false) := rfl
theorem fX1_become_53_1 : y_ffP P_X1_become 53 1 = some (1, .int, false) := rfl
theorem fX1_become_56_1 : y_ffP P_X1_become 56 1 = some (2, .int, false) := rfl
theorem fX1_become_27_1 : y_ffP P_X1_become 27 1 = some (7, (.object "java/util/List"), false) := rfl
theorem fX1_become_9_1 : y_ffP P_X1_become 9 1 = some (3, (.array .int), true) := rfl
theorem fX1_become_15_1 : y_ffP P_X1_become 15 1 = some (4, (.array .int), true) := rfl
theorem fX1_become_18_1 : y_ffP P_X1_become 18 1 = some (5, (.array .int), true) := rfl
theorem fX1_become_21_1 : y_ffP P_X1_become 21 1 = some (6, (.array .int), true) := rfl
theorem fX1_become_31_1 : y_ffP P_X1_become 31 1 = some (8, (.array .int), true) := rfl
theorem fX1_become_34_1 : y_ffP P_X1_become 34 1 = some (9, (.array .int), true) := rfl
theorem fX1_become_37_1 : y_ffP P_X1_become 37 1 = some (10, (.array .int), true) := rfl
theorem fX1_become_40_1 : y_ffP P_X1_become 40 1 = some (11, (.array .int), true) := rfl
theorem fX1_become_43_1 : y_ffP P_X1_become 43 1 = some (12, (.array .int), true) := rfl
theorem fX1_become_46_1 : y_ffP P_X1_become 46 1 = some (13, (.array .int), true) := rfl
theorem wX1_become_0 : y_w M_X1_become mc ms Q (0, lv, st, ω, c, s) = y_ldA lv 0 (fun v => y_w M_X1_become mc ms Q (1, lv, v :: st, ω, c, s)) := w_aload_n dX1_become_0 rfl rfl
theorem wX1_become_1 : y_w M_X1_become mc ms Q (1, lv, st, ω, c, s) = y_ldA lv 1 (fun v => y_w M_X1_become mc ms Q (2, lv, v :: st, ω, c, s)) := w_aload_n dX1_become_1 rfl rfl
theorem wX1_become_2 : y_w M_X1_become mc ms Q (2, lv, .ref a :: r, ω, c, s) = y_gf P_X1_become 49 (ω.2 a) (fun v => y_w M_X1_become mc ms Q (5, lv, v :: r, ω, c, s)) := w_getfield dX1_become_2 rfl rfl
theorem wX1_become_5 : y_w M_X1_become mc ms Q (5, lv, v :: .ref a :: r, ω, c, s) = y_pf P_X1_become false 49 (ω.2 a) v (fun ci fs => y_w M_X1_become mc ms Q (8, lv, r, y_hup ω a (.inr (ci, fs)), c, s)) := w_putfield dX1_become_5 rfl rfl rfl
theorem wX1_become_8 : y_w M_X1_become mc ms Q (8, lv, st, ω, c, s) = y_ldA lv 0 (fun v => y_w M_X1_become mc ms Q (9, lv, v :: st, ω, c, s)) := w_aload_n dX1_become_8 rfl rfl
theorem wX1_become_9 : y_w M_X1_become mc ms Q (9, lv, st, ω, c, s) = y_ldA lv 1 (fun v => y_w M_X1_become mc ms Q (10, lv, v :: st, ω, c, s)) := w_aload_n dX1_become_9 rfl rfl
theorem wX1_become_10 : y_w M_X1_become mc ms Q (10, lv, .ref a :: r, ω, c, s) = y_gf P_X1_become 53 (ω.2 a) (fun v => y_w M_X1_become mc ms Q (13, lv, v :: r, ω, c, s)) := w_getfield dX1_become_10 rfl rfl
theorem wX1_become_13 : y_w M_X1_become mc ms Q (13, lv, v :: .ref a :: r, ω, c, s) = y_pf P_X1_become false 53 (ω.2 a) v (fun ci fs => y_w M_X1_become mc ms Q (16, lv, r, y_hup ω a (.inr (ci, fs)), c, s)) := w_putfield dX1_become_13 rfl rfl rfl
theorem wX1_become_16 : y_w M_X1_become mc ms Q (16, lv, st, ω, c, s) = y_ldA lv 0 (fun v => y_w M_X1_become mc ms Q (17, lv, v :: st, ω, c, s)) := w_aload_n dX1_become_16 rfl rfl
theorem wX1_become_17 : y_w M_X1_become mc ms Q (17, lv, st, ω, c, s) = y_ldA lv 1 (fun v => y_w M_X1_become mc ms Q (18, lv, v :: st, ω, c, s)) := w_aload_n dX1_become_17 rfl rfl
theorem wX1_become_18 : y_w M_X1_become mc ms Q (18, lv, .ref a :: r, ω, c, s) = y_gf P_X1_become 56 (ω.2 a) (fun v => y_w M_X1_become mc ms Q (21, lv, v :: r, ω, c, s)) := w_getfield dX1_become_18 rfl rfl
theorem wX1_become_21 : y_w M_X1_become mc ms Q (21, lv, v :: .ref a :: r, ω, c, s) = y_pf P_X1_become false 56 (ω.2 a) v (fun ci fs => y_w M_X1_become mc ms Q (24, lv, r, y_hup ω a (.inr (ci, fs)), c, s)) := w_putfield dX1_become_21 rfl rfl rfl
theorem wX1_become_24 : y_w M_X1_become mc ms Q (24, lv, st, ω, c, s) = y_ldA lv 0 (fun v => y_w M_X1_become mc ms Q (25, lv, v :: st, ω, c, s)) := w_aload_n dX1_become_24 rfl rfl
theorem wX1_become_25 : y_w M_X1_become mc ms Q (25, lv, st, ω, c, s) = y_ldA lv 1 (fun v => y_w M_X1_become mc ms Q (26, lv, v :: st, ω, c, s)) := w_aload_n dX1_become_25 rfl rfl
theorem wX1_become_26 : y_w M_X1_become mc ms Q (26, lv, .ref a :: r, ω, c, s) = y_gf P_X1_become 27 (ω.2 a) (fun v => y_w M_X1_become mc ms Q (29, lv, v :: r, ω, c, s)) := w_getfield dX1_become_26 rfl rfl
theorem wX1_become_29 : y_w M_X1_become mc ms Q (29, lv, v :: .ref a :: r, ω, c, s) = y_pf P_X1_become false 27 (ω.2 a) v (fun ci fs => y_w M_X1_become mc ms Q (32, lv, r, y_hup ω a (.inr (ci, fs)), c, s)) := w_putfield dX1_become_29 rfl rfl rfl
theorem wX1_become_32 : y_w M_X1_become mc ms Q (32, lv, st, ω, c, s) = y_ldA lv 1 (fun v => y_w M_X1_become mc ms Q (33, lv, v :: st, ω, c, s)) := w_aload_n dX1_become_32 rfl rfl
theorem wX1_become_33 : y_w M_X1_become mc ms Q (33, lv, .ref a :: r, ω, c, s) = y_gf P_X1_become 9 (ω.2 a) (fun v => y_w M_X1_become mc ms Q (36, lv, v :: r, ω, c, s)) := w_getfield dX1_become_33 rfl rfl
theorem wX1_become_36 : y_w M_X1_become mc ms Q (36, lv, st, ω, c, s) = y_w M_X1_become mc ms Q (37, lv, .int 0 :: st, ω, c, s) := w_iconst dX1_become_36 (v := 0) (by decide) rfl
theorem wX1_become_37 : y_w M_X1_become mc ms Q (37, lv, st, ω, c, s) = y_ldA lv 0 (fun v => y_w M_X1_become mc ms Q (38, lv, v :: st, ω, c, s)) := w_aload_n dX1_become_37 rfl rfl
theorem wX1_become_38 : y_w M_X1_become mc ms Q (38, lv, .ref a :: r, ω, c, s) = y_gf P_X1_become 9 (ω.2 a) (fun v => y_w M_X1_become mc ms Q (41, lv, v :: r, ω, c, s)) := w_getfield dX1_become_38 rfl rfl
theorem wX1_become_41 : y_w M_X1_become mc ms Q (41, lv, st, ω, c, s) = y_w M_X1_become mc ms Q (42, lv, .int 0 :: st, ω, c, s) := w_iconst dX1_become_41 (v := 0) (by decide) rfl
theorem wX1_become_42 : y_w M_X1_become mc ms Q (42, lv, st, ω, c, s) = y_w M_X1_become mc ms Q (44, lv, .int (nI 8) :: st, ω, c, s) := w_bipush dX1_become_42 (v := (nI 8)) (by decide) rfl
theorem wX1_become_44 : y_w M_X1_become mc ms Q (44, lv, v4 :: v3 :: v2 :: v1 :: v0 :: r, ω, c, s) = (y_cat r ≤ 8 ∧ y_acopy mc ms [v0, v1, v2, v3, v4] ω c s (y_aft M_X1_become 44 3 lv r (y_w M_X1_become mc ms Q) Q)) := w_call0 (av := [v0, v1, v2, v3, v4]) ⟨Or.inr ⟨rfl, rfl⟩, rfl⟩ dX1_become_44 rfl y_acopy_mono (y_dle rfl) (y_dle rfl) rfl rfl
theorem wX1_become_47 : y_w M_X1_become mc ms Q (47, lv, st, ω, c, s) = y_ldA lv 1 (fun v => y_w M_X1_become mc ms Q (48, lv, v :: st, ω, c, s)) := w_aload_n dX1_become_47 rfl rfl
theorem wX1_become_48 : y_w M_X1_become mc ms Q (48, lv, .ref a :: r, ω, c, s) = y_gf P_X1_become 15 (ω.2 a) (fun v => y_w M_X1_become mc ms Q (51, lv, v :: r, ω, c, s)) := w_getfield dX1_become_48 rfl rfl
theorem wX1_become_51 : y_w M_X1_become mc ms Q (51, lv, st, ω, c, s) = y_w M_X1_become mc ms Q (52, lv, .int 0 :: st, ω, c, s) := w_iconst dX1_become_51 (v := 0) (by decide) rfl
theorem wX1_become_52 : y_w M_X1_become mc ms Q (52, lv, st, ω, c, s) = y_ldA lv 0 (fun v => y_w M_X1_become mc ms Q (53, lv, v :: st, ω, c, s)) := w_aload_n dX1_become_52 rfl rfl
theorem wX1_become_53 : y_w M_X1_become mc ms Q (53, lv, .ref a :: r, ω, c, s) = y_gf P_X1_become 15 (ω.2 a) (fun v => y_w M_X1_become mc ms Q (56, lv, v :: r, ω, c, s)) := w_getfield dX1_become_53 rfl rfl
theorem wX1_become_56 : y_w M_X1_become mc ms Q (56, lv, st, ω, c, s) = y_w M_X1_become mc ms Q (57, lv, .int 0 :: st, ω, c, s) := w_iconst dX1_become_56 (v := 0) (by decide) rfl
theorem wX1_become_57 : y_w M_X1_become mc ms Q (57, lv, st, ω, c, s) = y_w M_X1_become mc ms Q (59, lv, .int (nI 8) :: st, ω, c, s) := w_bipush dX1_become_57 (v := (nI 8)) (by decide) rfl
theorem wX1_become_59 : y_w M_X1_become mc ms Q (59, lv, v4 :: v3 :: v2 :: v1 :: v0 :: r, ω, c, s) = (y_cat r ≤ 8 ∧ y_acopy mc ms [v0, v1, v2, v3, v4] ω c s (y_aft M_X1_become 59 3 lv r (y_w M_X1_become mc ms Q) Q)) := w_call0 (av := [v0, v1, v2, v3, v4]) ⟨Or.inr ⟨rfl, rfl⟩, rfl⟩ dX1_become_59 rfl y_acopy_mono (y_dle rfl) (y_dle rfl) rfl rfl
theorem wX1_become_62 : y_w M_X1_become mc ms Q (62, lv, st, ω, c, s) = y_ldA lv 1 (fun v => y_w M_X1_become mc ms Q (63, lv, v :: st, ω, c, s)) := w_aload_n dX1_become_62 rfl rfl
theorem wX1_become_63 : y_w M_X1_become mc ms Q (63, lv, .ref a :: r, ω, c, s) = y_gf P_X1_become 18 (ω.2 a) (fun v => y_w M_X1_become mc ms Q (66, lv, v :: r, ω, c, s)) := w_getfield dX1_become_63 rfl rfl
theorem wX1_become_66 : y_w M_X1_become mc ms Q (66, lv, st, ω, c, s) = y_w M_X1_become mc ms Q (67, lv, .int 0 :: st, ω, c, s) := w_iconst dX1_become_66 (v := 0) (by decide) rfl
theorem wX1_become_67 : y_w M_X1_become mc ms Q (67, lv, st, ω, c, s) = y_ldA lv 0 (fun v => y_w M_X1_become mc ms Q (68, lv, v :: st, ω, c, s)) := w_aload_n dX1_become_67 rfl rfl
theorem wX1_become_68 : y_w M_X1_become mc ms Q (68, lv, .ref a :: r, ω, c, s) = y_gf P_X1_become 18 (ω.2 a) (fun v => y_w M_X1_become mc ms Q (71, lv, v :: r, ω, c, s)) := w_getfield dX1_become_68 rfl rfl
theorem wX1_become_71 : y_w M_X1_become mc ms Q (71, lv, st, ω, c, s) = y_w M_X1_become mc ms Q (72, lv, .int 0 :: st, ω, c, s) := w_iconst dX1_become_71 (v := 0) (by decide) rfl
theorem wX1_become_72 : y_w M_X1_become mc ms Q (72, lv, st, ω, c, s) = y_w M_X1_become mc ms Q (74, lv, .int (nI 8) :: st, ω, c, s) := w_bipush dX1_become_72 (v := (nI 8)) (by decide) rfl
theorem wX1_become_74 : y_w M_X1_become mc ms Q (74, lv, v4 :: v3 :: v2 :: v1 :: v0 :: r, ω, c, s) = (y_cat r ≤ 8 ∧ y_acopy mc ms [v0, v1, v2, v3, v4] ω c s (y_aft M_X1_become 74 3 lv r (y_w M_X1_become mc ms Q) Q)) := w_call0 (av := [v0, v1, v2, v3, v4]) ⟨Or.inr ⟨rfl, rfl⟩, rfl⟩ dX1_become_74 rfl y_acopy_mono (y_dle rfl) (y_dle rfl) rfl rfl
theorem wX1_become_77 : y_w M_X1_become mc ms Q (77, lv, st, ω, c, s) = y_ldA lv 1 (fun v => y_w M_X1_become mc ms Q (78, lv, v :: st, ω, c, s)) := w_aload_n dX1_become_77 rfl rfl
theorem wX1_become_78 : y_w M_X1_become mc ms Q (78, lv, .ref a :: r, ω, c, s) = y_gf P_X1_become 21 (ω.2 a) (fun v => y_w M_X1_become mc ms Q (81, lv, v :: r, ω, c, s)) := w_getfield dX1_become_78 rfl rfl
theorem wX1_become_81 : y_w M_X1_become mc ms Q (81, lv, st, ω, c, s) = y_w M_X1_become mc ms Q (82, lv, .int 0 :: st, ω, c, s) := w_iconst dX1_become_81 (v := 0) (by decide) rfl
theorem wX1_become_82 : y_w M_X1_become mc ms Q (82, lv, st, ω, c, s) = y_ldA lv 0 (fun v => y_w M_X1_become mc ms Q (83, lv, v :: st, ω, c, s)) := w_aload_n dX1_become_82 rfl rfl
theorem wX1_become_83 : y_w M_X1_become mc ms Q (83, lv, .ref a :: r, ω, c, s) = y_gf P_X1_become 21 (ω.2 a) (fun v => y_w M_X1_become mc ms Q (86, lv, v :: r, ω, c, s)) := w_getfield dX1_become_83 rfl rfl
theorem wX1_become_86 : y_w M_X1_become mc ms Q (86, lv, st, ω, c, s) = y_w M_X1_become mc ms Q (87, lv, .int 0 :: st, ω, c, s) := w_iconst dX1_become_86 (v := 0) (by decide) rfl
theorem wX1_become_87 : y_w M_X1_become mc ms Q (87, lv, st, ω, c, s) = y_w M_X1_become mc ms Q (89, lv, .int (nI 8) :: st, ω, c, s) := w_bipush dX1_become_87 (v := (nI 8)) (by decide) rfl
theorem wX1_become_89 : y_w M_X1_become mc ms Q (89, lv, v4 :: v3 :: v2 :: v1 :: v0 :: r, ω, c, s) = (y_cat r ≤ 8 ∧ y_acopy mc ms [v0, v1, v2, v3, v4] ω c s (y_aft M_X1_become 89 3 lv r (y_w M_X1_become mc ms Q) Q)) := w_call0 (av := [v0, v1, v2, v3, v4]) ⟨Or.inr ⟨rfl, rfl⟩, rfl⟩ dX1_become_89 rfl y_acopy_mono (y_dle rfl) (y_dle rfl) rfl rfl
theorem wX1_become_92 : y_w M_X1_become mc ms Q (92, lv, st, ω, c, s) = y_ldA lv 1 (fun v => y_w M_X1_become mc ms Q (93, lv, v :: st, ω, c, s)) := w_aload_n dX1_become_92 rfl rfl
theorem wX1_become_93 : y_w M_X1_become mc ms Q (93, lv, .ref a :: r, ω, c, s) = y_gf P_X1_become 31 (ω.2 a) (fun v => y_w M_X1_become mc ms Q (96, lv, v :: r, ω, c, s)) := w_getfield dX1_become_93 rfl rfl
theorem wX1_become_96 : y_w M_X1_become mc ms Q (96, lv, st, ω, c, s) = y_w M_X1_become mc ms Q (97, lv, .int 0 :: st, ω, c, s) := w_iconst dX1_become_96 (v := 0) (by decide) rfl
theorem wX1_become_97 : y_w M_X1_become mc ms Q (97, lv, st, ω, c, s) = y_ldA lv 0 (fun v => y_w M_X1_become mc ms Q (98, lv, v :: st, ω, c, s)) := w_aload_n dX1_become_97 rfl rfl
theorem wX1_become_98 : y_w M_X1_become mc ms Q (98, lv, .ref a :: r, ω, c, s) = y_gf P_X1_become 31 (ω.2 a) (fun v => y_w M_X1_become mc ms Q (101, lv, v :: r, ω, c, s)) := w_getfield dX1_become_98 rfl rfl
theorem wX1_become_101 : y_w M_X1_become mc ms Q (101, lv, st, ω, c, s) = y_w M_X1_become mc ms Q (102, lv, .int 0 :: st, ω, c, s) := w_iconst dX1_become_101 (v := 0) (by decide) rfl
theorem wX1_become_102 : y_w M_X1_become mc ms Q (102, lv, st, ω, c, s) = y_w M_X1_become mc ms Q (103, lv, .int (nI 4) :: st, ω, c, s) := w_iconst dX1_become_102 (v := (nI 4)) (by decide) rfl
theorem wX1_become_103 : y_w M_X1_become mc ms Q (103, lv, v4 :: v3 :: v2 :: v1 :: v0 :: r, ω, c, s) = (y_cat r ≤ 8 ∧ y_acopy mc ms [v0, v1, v2, v3, v4] ω c s (y_aft M_X1_become 103 3 lv r (y_w M_X1_become mc ms Q) Q)) := w_call0 (av := [v0, v1, v2, v3, v4]) ⟨Or.inr ⟨rfl, rfl⟩, rfl⟩ dX1_become_103 rfl y_acopy_mono (y_dle rfl) (y_dle rfl) rfl rfl
theorem wX1_become_106 : y_w M_X1_become mc ms Q (106, lv, st, ω, c, s) = y_ldA lv 1 (fun v => y_w M_X1_become mc ms Q (107, lv, v :: st, ω, c, s)) := w_aload_n dX1_become_106 rfl rfl
theorem wX1_become_107 : y_w M_X1_become mc ms Q (107, lv, .ref a :: r, ω, c, s) = y_gf P_X1_become 34 (ω.2 a) (fun v => y_w M_X1_become mc ms Q (110, lv, v :: r, ω, c, s)) := w_getfield dX1_become_107 rfl rfl
theorem wX1_become_110 : y_w M_X1_become mc ms Q (110, lv, st, ω, c, s) = y_w M_X1_become mc ms Q (111, lv, .int 0 :: st, ω, c, s) := w_iconst dX1_become_110 (v := 0) (by decide) rfl
theorem wX1_become_111 : y_w M_X1_become mc ms Q (111, lv, st, ω, c, s) = y_ldA lv 0 (fun v => y_w M_X1_become mc ms Q (112, lv, v :: st, ω, c, s)) := w_aload_n dX1_become_111 rfl rfl
theorem wX1_become_112 : y_w M_X1_become mc ms Q (112, lv, .ref a :: r, ω, c, s) = y_gf P_X1_become 34 (ω.2 a) (fun v => y_w M_X1_become mc ms Q (115, lv, v :: r, ω, c, s)) := w_getfield dX1_become_112 rfl rfl
theorem wX1_become_115 : y_w M_X1_become mc ms Q (115, lv, st, ω, c, s) = y_w M_X1_become mc ms Q (116, lv, .int 0 :: st, ω, c, s) := w_iconst dX1_become_115 (v := 0) (by decide) rfl
theorem wX1_become_116 : y_w M_X1_become mc ms Q (116, lv, st, ω, c, s) = y_w M_X1_become mc ms Q (117, lv, .int (nI 4) :: st, ω, c, s) := w_iconst dX1_become_116 (v := (nI 4)) (by decide) rfl
theorem wX1_become_117 : y_w M_X1_become mc ms Q (117, lv, v4 :: v3 :: v2 :: v1 :: v0 :: r, ω, c, s) = (y_cat r ≤ 8 ∧ y_acopy mc ms [v0, v1, v2, v3, v4] ω c s (y_aft M_X1_become 117 3 lv r (y_w M_X1_become mc ms Q) Q)) := w_call0 (av := [v0, v1, v2, v3, v4]) ⟨Or.inr ⟨rfl, rfl⟩, rfl⟩ dX1_become_117 rfl y_acopy_mono (y_dle rfl) (y_dle rfl) rfl rfl
theorem wX1_become_120 : y_w M_X1_become mc ms Q (120, lv, st, ω, c, s) = y_ldA lv 1 (fun v => y_w M_X1_become mc ms Q (121, lv, v :: st, ω, c, s)) := w_aload_n dX1_become_120 rfl rfl
theorem wX1_become_121 : y_w M_X1_become mc ms Q (121, lv, .ref a :: r, ω, c, s) = y_gf P_X1_become 37 (ω.2 a) (fun v => y_w M_X1_become mc ms Q (124, lv, v :: r, ω, c, s)) := w_getfield dX1_become_121 rfl rfl
theorem wX1_become_124 : y_w M_X1_become mc ms Q (124, lv, st, ω, c, s) = y_w M_X1_become mc ms Q (125, lv, .int 0 :: st, ω, c, s) := w_iconst dX1_become_124 (v := 0) (by decide) rfl
theorem wX1_become_125 : y_w M_X1_become mc ms Q (125, lv, st, ω, c, s) = y_ldA lv 0 (fun v => y_w M_X1_become mc ms Q (126, lv, v :: st, ω, c, s)) := w_aload_n dX1_become_125 rfl rfl
theorem wX1_become_126 : y_w M_X1_become mc ms Q (126, lv, .ref a :: r, ω, c, s) = y_gf P_X1_become 37 (ω.2 a) (fun v => y_w M_X1_become mc ms Q (129, lv, v :: r, ω, c, s)) := w_getfield dX1_become_126 rfl rfl
theorem wX1_become_129 : y_w M_X1_become mc ms Q (129, lv, st, ω, c, s) = y_w M_X1_become mc ms Q (130, lv, .int 0 :: st, ω, c, s) := w_iconst dX1_become_129 (v := 0) (by decide) rfl
theorem wX1_become_130 : y_w M_X1_become mc ms Q (130, lv, st, ω, c, s) = y_w M_X1_become mc ms Q (131, lv, .int (nI 4) :: st, ω, c, s) := w_iconst dX1_become_130 (v := (nI 4)) (by decide) rfl
theorem wX1_become_131 : y_w M_X1_become mc ms Q (131, lv, v4 :: v3 :: v2 :: v1 :: v0 :: r, ω, c, s) = (y_cat r ≤ 8 ∧ y_acopy mc ms [v0, v1, v2, v3, v4] ω c s (y_aft M_X1_become 131 3 lv r (y_w M_X1_become mc ms Q) Q)) := w_call0 (av := [v0, v1, v2, v3, v4]) ⟨Or.inr ⟨rfl, rfl⟩, rfl⟩ dX1_become_131 rfl y_acopy_mono (y_dle rfl) (y_dle rfl) rfl rfl
theorem wX1_become_134 : y_w M_X1_become mc ms Q (134, lv, st, ω, c, s) = y_ldA lv 1 (fun v => y_w M_X1_become mc ms Q (135, lv, v :: st, ω, c, s)) := w_aload_n dX1_become_134 rfl rfl
theorem wX1_become_135 : y_w M_X1_become mc ms Q (135, lv, .ref a :: r, ω, c, s) = y_gf P_X1_become 40 (ω.2 a) (fun v => y_w M_X1_become mc ms Q (138, lv, v :: r, ω, c, s)) := w_getfield dX1_become_135 rfl rfl
theorem wX1_become_138 : y_w M_X1_become mc ms Q (138, lv, st, ω, c, s) = y_w M_X1_become mc ms Q (139, lv, .int 0 :: st, ω, c, s) := w_iconst dX1_become_138 (v := 0) (by decide) rfl
theorem wX1_become_139 : y_w M_X1_become mc ms Q (139, lv, st, ω, c, s) = y_ldA lv 0 (fun v => y_w M_X1_become mc ms Q (140, lv, v :: st, ω, c, s)) := w_aload_n dX1_become_139 rfl rfl
theorem wX1_become_140 : y_w M_X1_become mc ms Q (140, lv, .ref a :: r, ω, c, s) = y_gf P_X1_become 40 (ω.2 a) (fun v => y_w M_X1_become mc ms Q (143, lv, v :: r, ω, c, s)) := w_getfield dX1_become_140 rfl rfl
theorem wX1_become_143 : y_w M_X1_become mc ms Q (143, lv, st, ω, c, s) = y_w M_X1_become mc ms Q (144, lv, .int 0 :: st, ω, c, s) := w_iconst dX1_become_143 (v := 0) (by decide) rfl
theorem wX1_become_144 : y_w M_X1_become mc ms Q (144, lv, st, ω, c, s) = y_w M_X1_become mc ms Q (145, lv, .int (nI 4) :: st, ω, c, s) := w_iconst dX1_become_144 (v := (nI 4)) (by decide) rfl
theorem wX1_become_145 : y_w M_X1_become mc ms Q (145, lv, v4 :: v3 :: v2 :: v1 :: v0 :: r, ω, c, s) = (y_cat r ≤ 8 ∧ y_acopy mc ms [v0, v1, v2, v3, v4] ω c s (y_aft M_X1_become 145 3 lv r (y_w M_X1_become mc ms Q) Q)) := w_call0 (av := [v0, v1, v2, v3, v4]) ⟨Or.inr ⟨rfl, rfl⟩, rfl⟩ dX1_become_145 rfl y_acopy_mono (y_dle rfl) (y_dle rfl) rfl rfl
theorem wX1_become_148 : y_w M_X1_become mc ms Q (148, lv, st, ω, c, s) = y_ldA lv 1 (fun v => y_w M_X1_become mc ms Q (149, lv, v :: st, ω, c, s)) := w_aload_n dX1_become_148 rfl rfl
theorem wX1_become_149 : y_w M_X1_become mc ms Q (149, lv, .ref a :: r, ω, c, s) = y_gf P_X1_become 43 (ω.2 a) (fun v => y_w M_X1_become mc ms Q (152, lv, v :: r, ω, c, s)) := w_getfield dX1_become_149 rfl rfl
theorem wX1_become_152 : y_w M_X1_become mc ms Q (152, lv, st, ω, c, s) = y_w M_X1_become mc ms Q (153, lv, .int 0 :: st, ω, c, s) := w_iconst dX1_become_152 (v := 0) (by decide) rfl
theorem wX1_become_153 : y_w M_X1_become mc ms Q (153, lv, st, ω, c, s) = y_ldA lv 0 (fun v => y_w M_X1_become mc ms Q (154, lv, v :: st, ω, c, s)) := w_aload_n dX1_become_153 rfl rfl
theorem wX1_become_154 : y_w M_X1_become mc ms Q (154, lv, .ref a :: r, ω, c, s) = y_gf P_X1_become 43 (ω.2 a) (fun v => y_w M_X1_become mc ms Q (157, lv, v :: r, ω, c, s)) := w_getfield dX1_become_154 rfl rfl
theorem wX1_become_157 : y_w M_X1_become mc ms Q (157, lv, st, ω, c, s) = y_w M_X1_become mc ms Q (158, lv, .int 0 :: st, ω, c, s) := w_iconst dX1_become_157 (v := 0) (by decide) rfl
theorem wX1_become_158 : y_w M_X1_become mc ms Q (158, lv, st, ω, c, s) = y_w M_X1_become mc ms Q (159, lv, .int (nI 4) :: st, ω, c, s) := w_iconst dX1_become_158 (v := (nI 4)) (by decide) rfl
theorem wX1_become_159 : y_w M_X1_become mc ms Q (159, lv, v4 :: v3 :: v2 :: v1 :: v0 :: r, ω, c, s) = (y_cat r ≤ 8 ∧ y_acopy mc ms [v0, v1, v2, v3, v4] ω c s (y_aft M_X1_become 159 3 lv r (y_w M_X1_become mc ms Q) Q)) := w_call0 (av := [v0, v1, v2, v3, v4]) ⟨Or.inr ⟨rfl, rfl⟩, rfl⟩ dX1_become_159 rfl y_acopy_mono (y_dle rfl) (y_dle rfl) rfl rfl
theorem wX1_become_162 : y_w M_X1_become mc ms Q (162, lv, st, ω, c, s) = y_ldA lv 1 (fun v => y_w M_X1_become mc ms Q (163, lv, v :: st, ω, c, s)) := w_aload_n dX1_become_162 rfl rfl
theorem wX1_become_163 : y_w M_X1_become mc ms Q (163, lv, .ref a :: r, ω, c, s) = y_gf P_X1_become 46 (ω.2 a) (fun v => y_w M_X1_become mc ms Q (166, lv, v :: r, ω, c, s)) := w_getfield dX1_become_163 rfl rfl
theorem wX1_become_166 : y_w M_X1_become mc ms Q (166, lv, st, ω, c, s) = y_w M_X1_become mc ms Q (167, lv, .int 0 :: st, ω, c, s) := w_iconst dX1_become_166 (v := 0) (by decide) rfl
theorem wX1_become_167 : y_w M_X1_become mc ms Q (167, lv, st, ω, c, s) = y_ldA lv 0 (fun v => y_w M_X1_become mc ms Q (168, lv, v :: st, ω, c, s)) := w_aload_n dX1_become_167 rfl rfl
theorem wX1_become_168 : y_w M_X1_become mc ms Q (168, lv, .ref a :: r, ω, c, s) = y_gf P_X1_become 46 (ω.2 a) (fun v => y_w M_X1_become mc ms Q (171, lv, v :: r, ω, c, s)) := w_getfield dX1_become_168 rfl rfl
theorem wX1_become_171 : y_w M_X1_become mc ms Q (171, lv, st, ω, c, s) = y_w M_X1_become mc ms Q (172, lv, .int 0 :: st, ω, c, s) := w_iconst dX1_become_171 (v := 0) (by decide) rfl
theorem wX1_become_172 : y_w M_X1_become mc ms Q (172, lv, st, ω, c, s) = y_w M_X1_become mc ms Q (173, lv, .int (nI 4) :: st, ω, c, s) := w_iconst dX1_become_172 (v := (nI 4)) (by decide) rfl
theorem wX1_become_173 : y_w M_X1_become mc ms Q (173, lv, v4 :: v3 :: v2 :: v1 :: v0 :: r, ω, c, s) = (y_cat r ≤ 8 ∧ y_acopy mc ms [v0, v1, v2, v3, v4] ω c s (y_aft M_X1_become 173 3 lv r (y_w M_X1_become mc ms Q) Q)) := w_call0 (av := [v0, v1, v2, v3, v4]) ⟨Or.inr ⟨rfl, rfl⟩, rfl⟩ dX1_become_173 rfl y_acopy_mono (y_dle rfl) (y_dle rfl) rfl rfl
theorem wX1_become_176 : y_w M_X1_become mc ms Q (176, lv, st, ω, c, s) = y_ldA lv 0 (fun v => y_w M_X1_become mc ms Q (177, lv, v :: st, ω, c, s)) := w_aload_n dX1_become_176 rfl rfl
theorem wX1_become_177 : y_w M_X1_become mc ms Q (177, lv, [.ref a], ω, c, s) = Q (.returned (some (.ref a))) ω c s := w_areturn dX1_become_177 rfl (Or.inl ⟨_, rfl⟩)
def P_X0_league (ad : y_Ad) : y_Pool := ([(32, 0, 1, (.array .byte), true), (127, 0, 2, .int, false), (141, 7, 6, .int, true), (144, 0, 3, .int, false), (148, 7, 7, .int, true), (39, 0, 4, (.object "YoungerBack$League"), true), (151, 6, 7, (.object "YoungerBack$League"), true), (158, 0, 6, .int, false)], [(131, 6, [.null, .int 0, .int 0, .int 0, .int 0, .int 0, .null, .null])], [(147, .int (-1000100))], [(133, 2, 0, 3, (6, 122), (y_ref (F_X6_init ad))), (136, 1, 6, 1, (10, 258), (F_X6_all ad)), (154, 1, 1, 2, (2, 81), F_X1_become), (161, 1, 1, 1, (2, 40), F_X1_many)], [(139, 4, 2), (139, 7, 3), (139, 17, 2), (139, 18, 2)], [], [])
def M_X0_league (ad : y_Ad) : y_Md := (cX0_league, "YoungerBack", (3, (some FieldType.int)), (10, 258), false, (P_X0_league ad), [(21, 25, 28, 139)])
def F_X0_league (ad : y_Ad) : y_Tr := y_F (M_X0_league ad)
theorem nX0_league : y_nL (M_X0_league ad) = 3 := rfl
theorem tX0_league_139_4 : y_fh (M_X0_league ad) 139 4 = some 2 := rfl
theorem tX0_league_139_7 : y_fh (M_X0_league ad) 139 7 = some 3 := rfl
theorem tX0_league_139_17 : y_fh (M_X0_league ad) 139 17 = some 2 := rfl
theorem tX0_league_139_18 : y_fh (M_X0_league ad) 139 18 = some 2 := rfl
theorem fX0_league_32_0 : y_ffP (P_X0_league ad) 32 0 = some (1, (.array .byte), true) := rfl
theorem fX0_league_127_0 : y_ffP (P_X0_league ad) 127 0 = some (2, .int, false) := rfl
theorem fX0_league_141_7 : y_ffP (P_X0_league ad) 141 7 = some (6, .int, true) := rfl
theorem fX0_league_144_0 : y_ffP (P_X0_league ad) 144 0 = some (3, .int, false) := rfl
theorem fX0_league_148_7 : y_ffP (P_X0_league ad) 148 7 = some (7, .int, true) := rfl
theorem fX0_league_39_0 : y_ffP (P_X0_league ad) 39 0 = some (4, (.object "YoungerBack$League"), true) := rfl
theorem fX0_league_151_6 : y_ffP (P_X0_league ad) 151 6 = some (7, (.object "YoungerBack$League"), true) := rfl
theorem fX0_league_158_0 : y_ffP (P_X0_league ad) 158 0 = some (6, .int, false) := rfl
theorem wX0_league_0 : y_w (M_X0_league ad) mc ms Q (0, lv, st, ω, c, s) = (y_room mc ms c s 8 ∧ y_w (M_X0_league ad) mc ms Q (3, lv, .ref ω.1 :: st, y_hnew ω (.inr (6, [.null, .int 0, .int 0, .int 0, .int 0, .int 0, .null, .null])), c + 1, s + 8)) := w_new dX0_league_0 rfl rfl rfl
theorem wX0_league_3 : y_w (M_X0_league ad) mc ms Q (3, lv, v :: r, ω, c, s) = (v.category = 1 ∧ y_w (M_X0_league ad) mc ms Q (4, lv, v :: v :: r, ω, c, s)) := w_dup dX0_league_3 rfl
theorem wX0_league_4 : y_w (M_X0_league ad) mc ms Q (4, lv, st, ω, c, s) = y_ldA lv 0 (fun v => y_w (M_X0_league ad) mc ms Q (5, lv, v :: st, ω, c, s)) := w_aload_n dX0_league_4 rfl rfl
theorem wX0_league_5 : y_w (M_X0_league ad) mc ms Q (5, lv, .ref a :: r, ω, c, s) = y_gf (P_X0_league ad) 32 (ω.2 a) (fun v => y_w (M_X0_league ad) mc ms Q (8, lv, v :: r, ω, c, s)) := w_getfield dX0_league_5 rfl rfl
theorem wX0_league_8 : y_w (M_X0_league ad) mc ms Q (8, lv, st, ω, c, s) = y_ldA lv 0 (fun v => y_w (M_X0_league ad) mc ms Q (9, lv, v :: st, ω, c, s)) := w_aload_n dX0_league_8 rfl rfl
theorem wX0_league_9 : y_w (M_X0_league ad) mc ms Q (9, lv, .ref a :: r, ω, c, s) = y_gf (P_X0_league ad) 127 (ω.2 a) (fun v => y_w (M_X0_league ad) mc ms Q (12, lv, v :: r, ω, c, s)) := w_getfield dX0_league_9 rfl rfl
theorem wX0_league_12 : y_w (M_X0_league ad) mc ms Q (12, lv, v2 :: v1 :: v0 :: r, ω, c, s) = (y_cat r ≤ 8 ∧ (y_ref (F_X6_init ad)) mc ms [v0, v1, v2] ω c s (y_aft (M_X0_league ad) 12 3 lv r (y_w (M_X0_league ad) mc ms Q) Q)) := w_call0 (av := [v0, v1, v2]) ⟨Or.inl ⟨rfl, rfl⟩, rfl⟩ dX0_league_12 rfl (y_ref_mono (y_F_mono _)) (y_dle rfl) (y_dle rfl) rfl rfl
theorem wX0_league_15 : y_w (M_X0_league ad) mc ms Q (15, lv, v :: r, ω, c, s) = (y_isA v = true ∧ y_w (M_X0_league ad) mc ms Q (16, (1, v) :: y_kill 1 lv, r, ω, c, s)) := w_astore_n dX0_league_15 rfl (y_dle rfl) rfl
theorem wX0_league_16 : y_w (M_X0_league ad) mc ms Q (16, lv, st, ω, c, s) = y_ldA lv 0 (fun v => y_w (M_X0_league ad) mc ms Q (17, lv, v :: st, ω, c, s)) := w_aload_n dX0_league_16 rfl rfl
theorem wX0_league_17 : y_w (M_X0_league ad) mc ms Q (17, lv, st, ω, c, s) = y_w (M_X0_league ad) mc ms Q (18, lv, .int 0 :: st, ω, c, s) := w_iconst dX0_league_17 (v := 0) (by decide) rfl
theorem wX0_league_18 : y_w (M_X0_league ad) mc ms Q (18, lv, v :: .ref a :: r, ω, c, s) = y_pf (P_X0_league ad) false 127 (ω.2 a) v (fun ci fs => y_w (M_X0_league ad) mc ms Q (21, lv, r, y_hup ω a (.inr (ci, fs)), c, s)) := w_putfield dX0_league_18 rfl rfl rfl
theorem wX0_league_21 : y_w (M_X0_league ad) mc ms Q (21, lv, st, ω, c, s) = y_ldA lv 1 (fun v => y_w (M_X0_league ad) mc ms Q (22, lv, v :: st, ω, c, s)) := w_aload_n dX0_league_21 rfl rfl
theorem wX0_league_22 (hc : y_cls ω a = some 6) : y_w (M_X0_league ad) mc ms Q (22, lv, .ref a :: r, ω, c, s) = (y_cat r ≤ 8 ∧ (F_X6_all ad) mc ms [.ref a] ω c s (y_aft (M_X0_league ad) 22 3 lv r (y_w (M_X0_league ad) mc ms Q) Q)) := w_call1 (av := []) (Or.inl ⟨⟨rfl, rfl⟩, rfl⟩) dX0_league_22 rfl hc rfl (y_F_mono _) (y_dle rfl) (y_dle rfl) rfl rfl
theorem wX0_league_25 : y_w (M_X0_league ad) mc ms Q (25, lv, st, ω, c, s) = y_w (M_X0_league ad) mc ms Q (45, lv, st, ω, c, s) := w_goto dX0_league_25 (tgt := 45) (by decide) rfl
theorem wX0_league_28 : y_w (M_X0_league ad) mc ms Q (28, lv, v :: r, ω, c, s) = (y_isA v = true ∧ y_w (M_X0_league ad) mc ms Q (29, (2, v) :: y_kill 2 lv, r, ω, c, s)) := w_astore_n dX0_league_28 rfl (y_dle rfl) rfl
theorem wX0_league_29 : y_w (M_X0_league ad) mc ms Q (29, lv, st, ω, c, s) = y_ldA lv 0 (fun v => y_w (M_X0_league ad) mc ms Q (30, lv, v :: st, ω, c, s)) := w_aload_n dX0_league_29 rfl rfl
theorem wX0_league_30 : y_w (M_X0_league ad) mc ms Q (30, lv, st, ω, c, s) = y_ldA lv 2 (fun v => y_w (M_X0_league ad) mc ms Q (31, lv, v :: st, ω, c, s)) := w_aload_n dX0_league_30 rfl rfl
theorem wX0_league_31 : y_w (M_X0_league ad) mc ms Q (31, lv, .ref a :: r, ω, c, s) = y_gf (P_X0_league ad) 141 (ω.2 a) (fun v => y_w (M_X0_league ad) mc ms Q (34, lv, v :: r, ω, c, s)) := w_getfield dX0_league_31 rfl rfl
theorem wX0_league_34 : y_w (M_X0_league ad) mc ms Q (34, lv, v :: .ref a :: r, ω, c, s) = y_pf (P_X0_league ad) false 144 (ω.2 a) v (fun ci fs => y_w (M_X0_league ad) mc ms Q (37, lv, r, y_hup ω a (.inr (ci, fs)), c, s)) := w_putfield dX0_league_34 rfl rfl rfl
theorem wX0_league_37 : y_w (M_X0_league ad) mc ms Q (37, lv, st, ω, c, s) = y_w (M_X0_league ad) mc ms Q (39, lv, .int (-1000100) :: st, ω, c, s) := w_ldc dX0_league_37 rfl rfl rfl
theorem wX0_league_39 : y_w (M_X0_league ad) mc ms Q (39, lv, st, ω, c, s) = y_ldA lv 2 (fun v => y_w (M_X0_league ad) mc ms Q (40, lv, v :: st, ω, c, s)) := w_aload_n dX0_league_39 rfl rfl
theorem wX0_league_40 : y_w (M_X0_league ad) mc ms Q (40, lv, .ref a :: r, ω, c, s) = y_gf (P_X0_league ad) 148 (ω.2 a) (fun v => y_w (M_X0_league ad) mc ms Q (43, lv, v :: r, ω, c, s)) := w_getfield dX0_league_40 rfl rfl
theorem wX0_league_43 : y_w (M_X0_league ad) mc ms Q (43, lv, .int y :: .int x :: r, ω, c, s) = y_w (M_X0_league ad) mc ms Q (44, lv, .int (x - y) :: r, ω, c, s) := w_isub dX0_league_43 rfl
theorem wX0_league_44 : y_w (M_X0_league ad) mc ms Q (44, lv, [.int x], ω, c, s) = Q (.returned (some (.int x))) ω c s := w_ireturnI dX0_league_44 rfl
theorem wX0_league_45 : y_w (M_X0_league ad) mc ms Q (45, lv, st, ω, c, s) = y_ldA lv 0 (fun v => y_w (M_X0_league ad) mc ms Q (46, lv, v :: st, ω, c, s)) := w_aload_n dX0_league_45 rfl rfl
theorem wX0_league_46 : y_w (M_X0_league ad) mc ms Q (46, lv, .ref a :: r, ω, c, s) = y_gf (P_X0_league ad) 39 (ω.2 a) (fun v => y_w (M_X0_league ad) mc ms Q (49, lv, v :: r, ω, c, s)) := w_getfield dX0_league_46 rfl rfl
theorem wX0_league_49 : y_w (M_X0_league ad) mc ms Q (49, lv, st, ω, c, s) = y_ldA lv 1 (fun v => y_w (M_X0_league ad) mc ms Q (50, lv, v :: st, ω, c, s)) := w_aload_n dX0_league_49 rfl rfl
theorem wX0_league_50 : y_w (M_X0_league ad) mc ms Q (50, lv, .ref a :: r, ω, c, s) = y_gf (P_X0_league ad) 151 (ω.2 a) (fun v => y_w (M_X0_league ad) mc ms Q (53, lv, v :: r, ω, c, s)) := w_getfield dX0_league_50 rfl rfl
theorem wX0_league_53 (hc : y_cls ω a = some 1) : y_w (M_X0_league ad) mc ms Q (53, lv, v1 :: .ref a :: r, ω, c, s) = (y_cat r ≤ 8 ∧ F_X1_become mc ms [.ref a, v1] ω c s (y_aft (M_X0_league ad) 53 3 lv r (y_w (M_X0_league ad) mc ms Q) Q)) := w_call1 (av := [v1]) (Or.inl ⟨⟨rfl, rfl⟩, rfl⟩) dX0_league_53 rfl hc rfl (y_F_mono _) (y_dle rfl) (y_dle rfl) rfl rfl
theorem wX0_league_56 : y_w (M_X0_league ad) mc ms Q (56, lv, v :: r, ω, c, s) = (v.category = 1 ∧ y_w (M_X0_league ad) mc ms Q (57, lv, r, ω, c, s)) := w_pop dX0_league_56 rfl
theorem wX0_league_57 : y_w (M_X0_league ad) mc ms Q (57, lv, st, ω, c, s) = y_ldA lv 0 (fun v => y_w (M_X0_league ad) mc ms Q (58, lv, v :: st, ω, c, s)) := w_aload_n dX0_league_57 rfl rfl
theorem wX0_league_58 : y_w (M_X0_league ad) mc ms Q (58, lv, st, ω, c, s) = y_w (M_X0_league ad) mc ms Q (59, lv, .int 0 :: st, ω, c, s) := w_iconst dX0_league_58 (v := 0) (by decide) rfl
theorem wX0_league_59 : y_w (M_X0_league ad) mc ms Q (59, lv, v :: .ref a :: r, ω, c, s) = y_pf (P_X0_league ad) false 158 (ω.2 a) v (fun ci fs => y_w (M_X0_league ad) mc ms Q (62, lv, r, y_hup ω a (.inr (ci, fs)), c, s)) := w_putfield dX0_league_59 rfl rfl rfl
theorem wX0_league_62 : y_w (M_X0_league ad) mc ms Q (62, lv, st, ω, c, s) = y_ldA lv 0 (fun v => y_w (M_X0_league ad) mc ms Q (63, lv, v :: st, ω, c, s)) := w_aload_n dX0_league_62 rfl rfl
theorem wX0_league_63 : y_w (M_X0_league ad) mc ms Q (63, lv, .ref a :: r, ω, c, s) = y_gf (P_X0_league ad) 39 (ω.2 a) (fun v => y_w (M_X0_league ad) mc ms Q (66, lv, v :: r, ω, c, s)) := w_getfield dX0_league_63 rfl rfl
theorem wX0_league_66 (hc : y_cls ω a = some 1) : y_w (M_X0_league ad) mc ms Q (66, lv, .ref a :: r, ω, c, s) = (y_cat r ≤ 8 ∧ F_X1_many mc ms [.ref a] ω c s (y_aft (M_X0_league ad) 66 3 lv r (y_w (M_X0_league ad) mc ms Q) Q)) := w_call1 (av := []) (Or.inl ⟨⟨rfl, rfl⟩, rfl⟩) dX0_league_66 rfl hc rfl (y_F_mono _) (y_dle rfl) (y_dle rfl) rfl rfl
theorem wX0_league_69 : y_w (M_X0_league ad) mc ms Q (69, lv, [.int x], ω, c, s) = Q (.returned (some (.int x))) ω c s := w_ireturnI dX0_league_69 rfl
def P_X0_fault : y_Pool := ([(144, 0, 3, .int, false)], [], [], [], [], [], [])
def M_X0_fault : y_Md := (cX0_fault, "YoungerBack", (1, (some FieldType.int)), (0, 0), false, P_X0_fault, [])
def F_X0_fault : y_Tr := y_F M_X0_fault
theorem nX0_fault : y_nL M_X0_fault = 1 := rfl
theorem fX0_fault_144_0 : y_ffP P_X0_fault 144 0 = some (3, .int, false) := rfl
theorem wX0_fault_0 : y_w M_X0_fault mc ms Q (0, lv, st, ω, c, s) = y_ldA lv 0 (fun v => y_w M_X0_fault mc ms Q (1, lv, v :: st, ω, c, s)) := w_aload_n dX0_fault_0 rfl rfl
theorem wX0_fault_1 : y_w M_X0_fault mc ms Q (1, lv, .ref a :: r, ω, c, s) = y_gf P_X0_fault 144 (ω.2 a) (fun v => y_w M_X0_fault mc ms Q (4, lv, v :: r, ω, c, s)) := w_getfield dX0_fault_1 rfl rfl
theorem wX0_fault_4 : y_w M_X0_fault mc ms Q (4, lv, [.int x], ω, c, s) = Q (.returned (some (.int x))) ω c s := w_ireturnI dX0_fault_4 rfl
def P_X0_isPerson : y_Pool := ([(39, 0, 4, (.object "YoungerBack$League"), true)], [], [], [(161, 1, 1, 1, (2, 40), F_X1_many), (79, 0, 0, 3, (1, 25), F_X0_isIn)], [], [], [])
def M_X0_isPerson : y_Md := (cX0_isPerson, "YoungerBack", (2, (some FieldType.boolean)), (2, 40), false, P_X0_isPerson, [])
def F_X0_isPerson : y_Tr := y_F M_X0_isPerson
theorem nX0_isPerson : y_nL M_X0_isPerson = 2 := rfl
theorem fX0_isPerson_39_0 : y_ffP P_X0_isPerson 39 0 = some (4, (.object "YoungerBack$League"), true) := rfl
theorem wX0_isPerson_0 : y_w M_X0_isPerson mc ms Q (0, lv, st, ω, c, s) = y_ldI lv 1 (fun v => y_w M_X0_isPerson mc ms Q (1, lv, v :: st, ω, c, s)) := w_iload_n dX0_isPerson_0 rfl rfl
theorem wX0_isPerson_1 : y_w M_X0_isPerson mc ms Q (1, lv, .int x :: r, ω, c, s) = y_w M_X0_isPerson mc ms Q (2, lv, .long x.toInt64 :: r, ω, c, s) := w_i2l dX0_isPerson_1 rfl
theorem wX0_isPerson_2 : y_w M_X0_isPerson mc ms Q (2, lv, st, ω, c, s) = y_w M_X0_isPerson mc ms Q (3, lv, .long 0 :: st, ω, c, s) := w_lconst dX0_isPerson_2 (v := 0) (by decide) rfl
theorem wX0_isPerson_3 : y_w M_X0_isPerson mc ms Q (3, lv, st, ω, c, s) = y_ldA lv 0 (fun v => y_w M_X0_isPerson mc ms Q (4, lv, v :: st, ω, c, s)) := w_aload_n dX0_isPerson_3 rfl rfl
theorem wX0_isPerson_4 : y_w M_X0_isPerson mc ms Q (4, lv, .ref a :: r, ω, c, s) = y_gf P_X0_isPerson 39 (ω.2 a) (fun v => y_w M_X0_isPerson mc ms Q (7, lv, v :: r, ω, c, s)) := w_getfield dX0_isPerson_4 rfl rfl
theorem wX0_isPerson_7 (hc : y_cls ω a = some 1) : y_w M_X0_isPerson mc ms Q (7, lv, .ref a :: r, ω, c, s) = (y_cat r ≤ 8 ∧ F_X1_many mc ms [.ref a] ω c s (y_aft M_X0_isPerson 7 3 lv r (y_w M_X0_isPerson mc ms Q) Q)) := w_call1 (av := []) (Or.inl ⟨⟨rfl, rfl⟩, rfl⟩) dX0_isPerson_7 rfl hc rfl (y_F_mono _) (y_dle rfl) (y_dle rfl) rfl rfl
theorem wX0_isPerson_10 : y_w M_X0_isPerson mc ms Q (10, lv, st, ω, c, s) = y_w M_X0_isPerson mc ms Q (11, lv, .int 1 :: st, ω, c, s) := w_iconst dX0_isPerson_10 (v := 1) (by decide) rfl
theorem wX0_isPerson_11 : y_w M_X0_isPerson mc ms Q (11, lv, .int y :: .int x :: r, ω, c, s) = y_w M_X0_isPerson mc ms Q (12, lv, .int (x - y) :: r, ω, c, s) := w_isub dX0_isPerson_11 rfl
theorem wX0_isPerson_12 : y_w M_X0_isPerson mc ms Q (12, lv, .int x :: r, ω, c, s) = y_w M_X0_isPerson mc ms Q (13, lv, .long x.toInt64 :: r, ω, c, s) := w_i2l dX0_isPerson_12 rfl
theorem wX0_isPerson_13 : y_w M_X0_isPerson mc ms Q (13, lv, v2 :: v1 :: v0 :: r, ω, c, s) = (y_cat r ≤ 8 ∧ F_X0_isIn mc ms [v0, v1, v2] ω c s (y_aft M_X0_isPerson 13 3 lv r (y_w M_X0_isPerson mc ms Q) Q)) := w_call0 (av := [v0, v1, v2]) ⟨Or.inr ⟨rfl, rfl⟩, rfl⟩ dX0_isPerson_13 rfl (y_F_mono _) (y_dle rfl) (y_dle rfl) rfl rfl
theorem wX0_isPerson_16 : y_w M_X0_isPerson mc ms Q (16, lv, [.int x], ω, c, s) = (narrow FieldType.boolean (.int x) = .int x ∧ Q (.returned (some (.int x))) ω c s) := w_ireturn dX0_isPerson_16 rfl
def P_X0_isWay : y_Pool := ([(39, 0, 4, (.object "YoungerBack$League"), true), (171, 1, 2, .int, false)], [], [], [(79, 0, 0, 3, (1, 25), F_X0_isIn)], [], [], [])
def M_X0_isWay : y_Md := (cX0_isWay, "YoungerBack", (2, (some FieldType.boolean)), (1, 25), false, P_X0_isWay, [])
def F_X0_isWay : y_Tr := y_F M_X0_isWay
theorem nX0_isWay : y_nL M_X0_isWay = 2 := rfl
theorem fX0_isWay_39_0 : y_ffP P_X0_isWay 39 0 = some (4, (.object "YoungerBack$League"), true) := rfl
theorem fX0_isWay_171_1 : y_ffP P_X0_isWay 171 1 = some (2, .int, false) := rfl
theorem wX0_isWay_0 : y_w M_X0_isWay mc ms Q (0, lv, st, ω, c, s) = y_ldI lv 1 (fun v => y_w M_X0_isWay mc ms Q (1, lv, v :: st, ω, c, s)) := w_iload_n dX0_isWay_0 rfl rfl
theorem wX0_isWay_1 : y_w M_X0_isWay mc ms Q (1, lv, .int x :: r, ω, c, s) = y_w M_X0_isWay mc ms Q (2, lv, .long x.toInt64 :: r, ω, c, s) := w_i2l dX0_isWay_1 rfl
theorem wX0_isWay_2 : y_w M_X0_isWay mc ms Q (2, lv, st, ω, c, s) = y_w M_X0_isWay mc ms Q (3, lv, .long 0 :: st, ω, c, s) := w_lconst dX0_isWay_2 (v := 0) (by decide) rfl
theorem wX0_isWay_3 : y_w M_X0_isWay mc ms Q (3, lv, st, ω, c, s) = y_ldA lv 0 (fun v => y_w M_X0_isWay mc ms Q (4, lv, v :: st, ω, c, s)) := w_aload_n dX0_isWay_3 rfl rfl
theorem wX0_isWay_4 : y_w M_X0_isWay mc ms Q (4, lv, .ref a :: r, ω, c, s) = y_gf P_X0_isWay 39 (ω.2 a) (fun v => y_w M_X0_isWay mc ms Q (7, lv, v :: r, ω, c, s)) := w_getfield dX0_isWay_4 rfl rfl
theorem wX0_isWay_7 : y_w M_X0_isWay mc ms Q (7, lv, .ref a :: r, ω, c, s) = y_gf P_X0_isWay 171 (ω.2 a) (fun v => y_w M_X0_isWay mc ms Q (10, lv, v :: r, ω, c, s)) := w_getfield dX0_isWay_7 rfl rfl
theorem wX0_isWay_10 : y_w M_X0_isWay mc ms Q (10, lv, st, ω, c, s) = y_w M_X0_isWay mc ms Q (11, lv, .int 1 :: st, ω, c, s) := w_iconst dX0_isWay_10 (v := 1) (by decide) rfl
theorem wX0_isWay_11 : y_w M_X0_isWay mc ms Q (11, lv, .int y :: .int x :: r, ω, c, s) = y_w M_X0_isWay mc ms Q (12, lv, .int (x - y) :: r, ω, c, s) := w_isub dX0_isWay_11 rfl
theorem wX0_isWay_12 : y_w M_X0_isWay mc ms Q (12, lv, .int x :: r, ω, c, s) = y_w M_X0_isWay mc ms Q (13, lv, .long x.toInt64 :: r, ω, c, s) := w_i2l dX0_isWay_12 rfl
theorem wX0_isWay_13 : y_w M_X0_isWay mc ms Q (13, lv, v2 :: v1 :: v0 :: r, ω, c, s) = (y_cat r ≤ 8 ∧ F_X0_isIn mc ms [v0, v1, v2] ω c s (y_aft M_X0_isWay 13 3 lv r (y_w M_X0_isWay mc ms Q) Q)) := w_call0 (av := [v0, v1, v2]) ⟨Or.inr ⟨rfl, rfl⟩, rfl⟩ dX0_isWay_13 rfl (y_F_mono _) (y_dle rfl) (y_dle rfl) rfl rfl
theorem wX0_isWay_16 : y_w M_X0_isWay mc ms Q (16, lv, [.int x], ω, c, s) = (narrow FieldType.boolean (.int x) = .int x ∧ Q (.returned (some (.int x))) ω c s) := w_ireturn dX0_isWay_16 rfl
def P_X8_may : y_Pool := ([], [], [], [], [], [], [])
def M_X8_may : y_Md := (cX8_may, "YoungerBack$Person", (2, (some FieldType.boolean)), (0, 0), false, P_X8_may, [])
def F_X8_may : y_Tr := y_F M_X8_may
theorem nX8_may : y_nL M_X8_may = 2 := rfl
theorem wX8_may_0 : y_w M_X8_may mc ms Q (0, lv, st, ω, c, s) = y_w M_X8_may mc ms Q (1, lv, .int 1 :: st, ω, c, s) := w_iconst dX8_may_0 (v := 1) (by decide) rfl
theorem wX8_may_1 : y_w M_X8_may mc ms Q (1, lv, [.int x], ω, c, s) = (narrow FieldType.boolean (.int x) = .int x ∧ Q (.returned (some (.int x))) ω c s) := w_ireturn dX8_may_1 rfl
def P_X13_may : y_Pool := ([], [], [], [], [], [], [])
def M_X13_may : y_Md := (cX13_may, "YoungerBack$Boy", (2, (some FieldType.boolean)), (0, 0), false, P_X13_may, [])
def F_X13_may : y_Tr := y_F M_X13_may
theorem nX13_may : y_nL M_X13_may = 2 := rfl
theorem wX13_may_0 : y_w M_X13_may mc ms Q (0, lv, st, ω, c, s) = y_ldI lv 1 (fun v => y_w M_X13_may mc ms Q (1, lv, v :: st, ω, c, s)) := w_iload_n dX13_may_0 rfl rfl
theorem wX13_may_1 : y_w M_X13_may mc ms Q (1, lv, st, ω, c, s) = y_w M_X13_may mc ms Q (3, lv, .int (nI 10) :: st, ω, c, s) := w_bipush dX13_may_1 (v := (nI 10)) (by decide) rfl
theorem wX13_may_3 : y_w M_X13_may mc ms Q (3, lv, .int y :: .int x :: r, ω, c, s) = ((y < x → y_w M_X13_may mc ms Q (10, lv, r, ω, c, s)) ∧ (¬ (y < x) → y_w M_X13_may mc ms Q (6, lv, r, ω, c, s))) := w_icmp dX13_may_3 (tgt := 10) rfl rfl rfl
theorem wX13_may_6 : y_w M_X13_may mc ms Q (6, lv, st, ω, c, s) = y_w M_X13_may mc ms Q (7, lv, .int 1 :: st, ω, c, s) := w_iconst dX13_may_6 (v := 1) (by decide) rfl
theorem wX13_may_7 : y_w M_X13_may mc ms Q (7, lv, st, ω, c, s) = y_w M_X13_may mc ms Q (11, lv, st, ω, c, s) := w_goto dX13_may_7 (tgt := 11) (by decide) rfl
theorem wX13_may_10 : y_w M_X13_may mc ms Q (10, lv, st, ω, c, s) = y_w M_X13_may mc ms Q (11, lv, .int 0 :: st, ω, c, s) := w_iconst dX13_may_10 (v := 0) (by decide) rfl
theorem wX13_may_11 : y_w M_X13_may mc ms Q (11, lv, [.int x], ω, c, s) = (narrow FieldType.boolean (.int x) = .int x ∧ Q (.returned (some (.int x))) ω c s) := w_ireturn dX13_may_11 rfl
def P_X1_end : y_Pool := ([(27, 1, 7, (.object "java/util/List"), false), (18, 1, 5, (.array .int), true), (9, 1, 3, (.array .int), true), (15, 1, 4, (.array .int), true)], [], [(81, .int (-1000000))], [(71, 3, 14, 2, (3, 64), F_J2_get), (77, 1, 9, 2, (1, 21), F_X8_may), (77, 1, 10, 2, (1, 21), F_X8_may), (77, 1, 11, 2, (1, 21), F_X8_may), (77, 1, 12, 2, (1, 21), F_X8_may), (77, 1, 13, 2, (1, 21), F_X13_may)], [(75, 9, 1), (75, 10, 1), (75, 11, 1), (75, 12, 1), (75, 13, 1)], [], [])
def M_X1_end : y_Md := (cX1_end, "YoungerBack$League", (4, (some FieldType.int)), (3, 64), false, P_X1_end, [])
def F_X1_end : y_Tr := y_F M_X1_end
theorem nX1_end : y_nL M_X1_end = 4 := rfl
theorem tX1_end_75_9 : y_ft M_X1_end 75 9 = some 1 := rfl
theorem tX1_end_75_10 : y_ft M_X1_end 75 10 = some 1 := rfl
theorem tX1_end_75_11 : y_ft M_X1_end 75 11 = some 1 := rfl
theorem tX1_end_75_12 : y_ft M_X1_end 75 12 = some 1 := rfl
theorem tX1_end_75_13 : y_ft M_X1_end 75 13 = some 1 := rfl
theorem fX1_end_27_1 : y_ffP P_X1_end 27 1 = some (7, (.object "java/util/List"), false) := rfl
theorem fX1_end_18_1 : y_ffP P_X1_end 18 1 = some (5, (.array .int), true) := rfl
theorem fX1_end_9_1 : y_ffP P_X1_end 9 1 = some (3, (.array .int), true) := rfl
theorem fX1_end_15_1 : y_ffP P_X1_end 15 1 = some (4, (.array .int), true) := rfl
theorem wX1_end_0 : y_w M_X1_end mc ms Q (0, lv, st, ω, c, s) = y_ldA lv 0 (fun v => y_w M_X1_end mc ms Q (1, lv, v :: st, ω, c, s)) := w_aload_n dX1_end_0 rfl rfl
theorem wX1_end_1 : y_w M_X1_end mc ms Q (1, lv, .ref a :: r, ω, c, s) = y_gf P_X1_end 27 (ω.2 a) (fun v => y_w M_X1_end mc ms Q (4, lv, v :: r, ω, c, s)) := w_getfield dX1_end_1 rfl rfl
theorem wX1_end_4 : y_w M_X1_end mc ms Q (4, lv, st, ω, c, s) = y_ldI lv 1 (fun v => y_w M_X1_end mc ms Q (5, lv, v :: st, ω, c, s)) := w_iload_n dX1_end_4 rfl rfl
theorem wX1_end_5 (hc : y_cls ω a = some 14) : y_w M_X1_end mc ms Q (5, lv, v1 :: .ref a :: r, ω, c, s) = (y_cat r ≤ 8 ∧ F_J2_get mc ms [.ref a, v1] ω c s (y_aft M_X1_end 5 5 lv r (y_w M_X1_end mc ms Q) Q)) := w_call1 (av := [v1]) (Or.inr ⟨⟨⟨_, rfl⟩, rfl⟩, rfl⟩) dX1_end_5 rfl hc rfl (y_F_mono _) (y_dle rfl) (y_dle rfl) rfl rfl
theorem wX1_end_10 : y_w M_X1_end mc ms Q (10, lv, .ref a :: r, ω, c, s) = y_tsc M_X1_end 75 (ω.2 a) (y_w M_X1_end mc ms Q (13, lv, .ref a :: r, ω, c, s)) (y_vmt M_X1_end mc ms 18 10 lv ω c s (y_w M_X1_end mc ms Q) Q) := w_checkcast dX1_end_10 rfl
theorem wX1_end_13 : y_w M_X1_end mc ms Q (13, lv, st, ω, c, s) = y_ldA lv 0 (fun v => y_w M_X1_end mc ms Q (14, lv, v :: st, ω, c, s)) := w_aload_n dX1_end_13 rfl rfl
theorem wX1_end_14 : y_w M_X1_end mc ms Q (14, lv, .ref a :: r, ω, c, s) = y_gf P_X1_end 18 (ω.2 a) (fun v => y_w M_X1_end mc ms Q (17, lv, v :: r, ω, c, s)) := w_getfield dX1_end_14 rfl rfl
theorem wX1_end_17 : y_w M_X1_end mc ms Q (17, lv, st, ω, c, s) = y_ldI lv 2 (fun v => y_w M_X1_end mc ms Q (18, lv, v :: st, ω, c, s)) := w_iload_n dX1_end_17 rfl rfl
theorem wX1_end_18 : y_w M_X1_end mc ms Q (18, lv, .int j :: .ref a :: r, ω, c, s) = y_rI (ω.2 a) j (fun x => y_w M_X1_end mc ms Q (19, lv, .int x :: r, ω, c, s)) := w_iaload dX1_end_18 rfl
theorem wX1_end_19_c9 (hc : y_cls ω a = some 9) : y_w M_X1_end mc ms Q (19, lv, v1 :: .ref a :: r, ω, c, s) = (y_cat r ≤ 8 ∧ F_X8_may mc ms [.ref a, v1] ω c s (y_aft M_X1_end 19 3 lv r (y_w M_X1_end mc ms Q) Q)) := w_call1 (av := [v1]) (Or.inl ⟨⟨rfl, rfl⟩, rfl⟩) dX1_end_19 rfl hc rfl (y_F_mono _) (y_dle rfl) (y_dle rfl) rfl rfl
theorem wX1_end_19_c10 (hc : y_cls ω a = some 10) : y_w M_X1_end mc ms Q (19, lv, v1 :: .ref a :: r, ω, c, s) = (y_cat r ≤ 8 ∧ F_X8_may mc ms [.ref a, v1] ω c s (y_aft M_X1_end 19 3 lv r (y_w M_X1_end mc ms Q) Q)) := w_call1 (av := [v1]) (Or.inl ⟨⟨rfl, rfl⟩, rfl⟩) dX1_end_19 rfl hc rfl (y_F_mono _) (y_dle rfl) (y_dle rfl) rfl rfl
theorem wX1_end_19_c11 (hc : y_cls ω a = some 11) : y_w M_X1_end mc ms Q (19, lv, v1 :: .ref a :: r, ω, c, s) = (y_cat r ≤ 8 ∧ F_X8_may mc ms [.ref a, v1] ω c s (y_aft M_X1_end 19 3 lv r (y_w M_X1_end mc ms Q) Q)) := w_call1 (av := [v1]) (Or.inl ⟨⟨rfl, rfl⟩, rfl⟩) dX1_end_19 rfl hc rfl (y_F_mono _) (y_dle rfl) (y_dle rfl) rfl rfl
theorem wX1_end_19_c12 (hc : y_cls ω a = some 12) : y_w M_X1_end mc ms Q (19, lv, v1 :: .ref a :: r, ω, c, s) = (y_cat r ≤ 8 ∧ F_X8_may mc ms [.ref a, v1] ω c s (y_aft M_X1_end 19 3 lv r (y_w M_X1_end mc ms Q) Q)) := w_call1 (av := [v1]) (Or.inl ⟨⟨rfl, rfl⟩, rfl⟩) dX1_end_19 rfl hc rfl (y_F_mono _) (y_dle rfl) (y_dle rfl) rfl rfl
theorem wX1_end_19_c13 (hc : y_cls ω a = some 13) : y_w M_X1_end mc ms Q (19, lv, v1 :: .ref a :: r, ω, c, s) = (y_cat r ≤ 8 ∧ F_X13_may mc ms [.ref a, v1] ω c s (y_aft M_X1_end 19 3 lv r (y_w M_X1_end mc ms Q) Q)) := w_call1 (av := [v1]) (Or.inl ⟨⟨rfl, rfl⟩, rfl⟩) dX1_end_19 rfl hc rfl (y_F_mono _) (y_dle rfl) (y_dle rfl) rfl rfl
theorem wX1_end_22 : y_w M_X1_end mc ms Q (22, lv, .int x :: r, ω, c, s) = ((¬ x = 0 → y_w M_X1_end mc ms Q (28, lv, r, ω, c, s)) ∧ (¬ (¬ x = 0) → y_w M_X1_end mc ms Q (25, lv, r, ω, c, s))) := w_if dX1_end_22 (tgt := 28) rfl rfl rfl
theorem wX1_end_25 : y_w M_X1_end mc ms Q (25, lv, st, ω, c, s) = y_w M_X1_end mc ms Q (27, lv, .int (-1000000) :: st, ω, c, s) := w_ldc dX1_end_25 rfl rfl rfl
theorem wX1_end_27 : y_w M_X1_end mc ms Q (27, lv, [.int x], ω, c, s) = Q (.returned (some (.int x))) ω c s := w_ireturnI dX1_end_27 rfl
theorem wX1_end_28 : y_w M_X1_end mc ms Q (28, lv, st, ω, c, s) = y_ldI lv 3 (fun v => y_w M_X1_end mc ms Q (29, lv, v :: st, ω, c, s)) := w_iload_n dX1_end_28 rfl rfl
theorem wX1_end_29 : y_w M_X1_end mc ms Q (29, lv, st, ω, c, s) = y_ldA lv 0 (fun v => y_w M_X1_end mc ms Q (30, lv, v :: st, ω, c, s)) := w_aload_n dX1_end_29 rfl rfl
theorem wX1_end_30 : y_w M_X1_end mc ms Q (30, lv, .ref a :: r, ω, c, s) = y_gf P_X1_end 9 (ω.2 a) (fun v => y_w M_X1_end mc ms Q (33, lv, v :: r, ω, c, s)) := w_getfield dX1_end_30 rfl rfl
theorem wX1_end_33 : y_w M_X1_end mc ms Q (33, lv, st, ω, c, s) = y_ldI lv 2 (fun v => y_w M_X1_end mc ms Q (34, lv, v :: st, ω, c, s)) := w_iload_n dX1_end_33 rfl rfl
theorem wX1_end_34 : y_w M_X1_end mc ms Q (34, lv, .int j :: .ref a :: r, ω, c, s) = y_rI (ω.2 a) j (fun x => y_w M_X1_end mc ms Q (35, lv, .int x :: r, ω, c, s)) := w_iaload dX1_end_34 rfl
theorem wX1_end_35 : y_w M_X1_end mc ms Q (35, lv, .int y :: .int x :: r, ω, c, s) = ((¬ x = y → y_w M_X1_end mc ms Q (47, lv, r, ω, c, s)) ∧ (¬ (¬ x = y) → y_w M_X1_end mc ms Q (38, lv, r, ω, c, s))) := w_icmp dX1_end_35 (tgt := 47) rfl rfl rfl
theorem wX1_end_38 : y_w M_X1_end mc ms Q (38, lv, st, ω, c, s) = y_ldA lv 0 (fun v => y_w M_X1_end mc ms Q (39, lv, v :: st, ω, c, s)) := w_aload_n dX1_end_38 rfl rfl
theorem wX1_end_39 : y_w M_X1_end mc ms Q (39, lv, .ref a :: r, ω, c, s) = y_gf P_X1_end 15 (ω.2 a) (fun v => y_w M_X1_end mc ms Q (42, lv, v :: r, ω, c, s)) := w_getfield dX1_end_39 rfl rfl
theorem wX1_end_42 : y_w M_X1_end mc ms Q (42, lv, st, ω, c, s) = y_ldI lv 2 (fun v => y_w M_X1_end mc ms Q (43, lv, v :: st, ω, c, s)) := w_iload_n dX1_end_42 rfl rfl
theorem wX1_end_43 : y_w M_X1_end mc ms Q (43, lv, .int j :: .ref a :: r, ω, c, s) = y_rI (ω.2 a) j (fun x => y_w M_X1_end mc ms Q (44, lv, .int x :: r, ω, c, s)) := w_iaload dX1_end_43 rfl
theorem wX1_end_44 : y_w M_X1_end mc ms Q (44, lv, st, ω, c, s) = y_w M_X1_end mc ms Q (68, lv, st, ω, c, s) := w_goto dX1_end_44 (tgt := 68) (by decide) rfl
theorem wX1_end_47 : y_w M_X1_end mc ms Q (47, lv, st, ω, c, s) = y_ldI lv 3 (fun v => y_w M_X1_end mc ms Q (48, lv, v :: st, ω, c, s)) := w_iload_n dX1_end_47 rfl rfl
theorem wX1_end_48 : y_w M_X1_end mc ms Q (48, lv, st, ω, c, s) = y_ldA lv 0 (fun v => y_w M_X1_end mc ms Q (49, lv, v :: st, ω, c, s)) := w_aload_n dX1_end_48 rfl rfl
theorem wX1_end_49 : y_w M_X1_end mc ms Q (49, lv, .ref a :: r, ω, c, s) = y_gf P_X1_end 15 (ω.2 a) (fun v => y_w M_X1_end mc ms Q (52, lv, v :: r, ω, c, s)) := w_getfield dX1_end_49 rfl rfl
theorem wX1_end_52 : y_w M_X1_end mc ms Q (52, lv, st, ω, c, s) = y_ldI lv 2 (fun v => y_w M_X1_end mc ms Q (53, lv, v :: st, ω, c, s)) := w_iload_n dX1_end_52 rfl rfl
theorem wX1_end_53 : y_w M_X1_end mc ms Q (53, lv, .int j :: .ref a :: r, ω, c, s) = y_rI (ω.2 a) j (fun x => y_w M_X1_end mc ms Q (54, lv, .int x :: r, ω, c, s)) := w_iaload dX1_end_53 rfl
theorem wX1_end_54 : y_w M_X1_end mc ms Q (54, lv, .int y :: .int x :: r, ω, c, s) = ((¬ x = y → y_w M_X1_end mc ms Q (66, lv, r, ω, c, s)) ∧ (¬ (¬ x = y) → y_w M_X1_end mc ms Q (57, lv, r, ω, c, s))) := w_icmp dX1_end_54 (tgt := 66) rfl rfl rfl
theorem wX1_end_57 : y_w M_X1_end mc ms Q (57, lv, st, ω, c, s) = y_ldA lv 0 (fun v => y_w M_X1_end mc ms Q (58, lv, v :: st, ω, c, s)) := w_aload_n dX1_end_57 rfl rfl
theorem wX1_end_58 : y_w M_X1_end mc ms Q (58, lv, .ref a :: r, ω, c, s) = y_gf P_X1_end 9 (ω.2 a) (fun v => y_w M_X1_end mc ms Q (61, lv, v :: r, ω, c, s)) := w_getfield dX1_end_58 rfl rfl
theorem wX1_end_61 : y_w M_X1_end mc ms Q (61, lv, st, ω, c, s) = y_ldI lv 2 (fun v => y_w M_X1_end mc ms Q (62, lv, v :: st, ω, c, s)) := w_iload_n dX1_end_61 rfl rfl
theorem wX1_end_62 : y_w M_X1_end mc ms Q (62, lv, .int j :: .ref a :: r, ω, c, s) = y_rI (ω.2 a) j (fun x => y_w M_X1_end mc ms Q (63, lv, .int x :: r, ω, c, s)) := w_iaload dX1_end_62 rfl
theorem wX1_end_63 : y_w M_X1_end mc ms Q (63, lv, st, ω, c, s) = y_w M_X1_end mc ms Q (68, lv, st, ω, c, s) := w_goto dX1_end_63 (tgt := 68) (by decide) rfl
theorem wX1_end_66 : y_w M_X1_end mc ms Q (66, lv, st, ω, c, s) = y_w M_X1_end mc ms Q (68, lv, .int (-1000000) :: st, ω, c, s) := w_ldc dX1_end_66 rfl rfl rfl
theorem wX1_end_68 : y_w M_X1_end mc ms Q (68, lv, [.int x], ω, c, s) = Q (.returned (some (.int x))) ω c s := w_ireturnI dX1_end_68 rfl
def P_X0_canSail : y_Pool := ([(39, 0, 4, (.object "YoungerBack$League"), true), (174, 1, 8, (.array .int), true)], [], [(181, .int (-1000000))], [(177, 1, 1, 4, (4, 87), F_X1_end)], [], [], [])
def M_X0_canSail : y_Md := (cX0_canSail, "YoungerBack", (3, (some FieldType.boolean)), (4, 87), false, P_X0_canSail, [])
def F_X0_canSail : y_Tr := y_F M_X0_canSail
theorem nX0_canSail : y_nL M_X0_canSail = 3 := rfl
theorem fX0_canSail_39_0 : y_ffP P_X0_canSail 39 0 = some (4, (.object "YoungerBack$League"), true) := rfl
theorem fX0_canSail_174_1 : y_ffP P_X0_canSail 174 1 = some (8, (.array .int), true) := rfl
theorem wX0_canSail_0 : y_w M_X0_canSail mc ms Q (0, lv, st, ω, c, s) = y_ldA lv 0 (fun v => y_w M_X0_canSail mc ms Q (1, lv, v :: st, ω, c, s)) := w_aload_n dX0_canSail_0 rfl rfl
theorem wX0_canSail_1 : y_w M_X0_canSail mc ms Q (1, lv, .ref a :: r, ω, c, s) = y_gf P_X0_canSail 39 (ω.2 a) (fun v => y_w M_X0_canSail mc ms Q (4, lv, v :: r, ω, c, s)) := w_getfield dX0_canSail_1 rfl rfl
theorem wX0_canSail_4 : y_w M_X0_canSail mc ms Q (4, lv, st, ω, c, s) = y_ldI lv 1 (fun v => y_w M_X0_canSail mc ms Q (5, lv, v :: st, ω, c, s)) := w_iload_n dX0_canSail_4 rfl rfl
theorem wX0_canSail_5 : y_w M_X0_canSail mc ms Q (5, lv, st, ω, c, s) = y_ldI lv 2 (fun v => y_w M_X0_canSail mc ms Q (6, lv, v :: st, ω, c, s)) := w_iload_n dX0_canSail_5 rfl rfl
theorem wX0_canSail_6 : y_w M_X0_canSail mc ms Q (6, lv, st, ω, c, s) = y_ldA lv 0 (fun v => y_w M_X0_canSail mc ms Q (7, lv, v :: st, ω, c, s)) := w_aload_n dX0_canSail_6 rfl rfl
theorem wX0_canSail_7 : y_w M_X0_canSail mc ms Q (7, lv, .ref a :: r, ω, c, s) = y_gf P_X0_canSail 39 (ω.2 a) (fun v => y_w M_X0_canSail mc ms Q (10, lv, v :: r, ω, c, s)) := w_getfield dX0_canSail_7 rfl rfl
theorem wX0_canSail_10 : y_w M_X0_canSail mc ms Q (10, lv, .ref a :: r, ω, c, s) = y_gf P_X0_canSail 174 (ω.2 a) (fun v => y_w M_X0_canSail mc ms Q (13, lv, v :: r, ω, c, s)) := w_getfield dX0_canSail_10 rfl rfl
theorem wX0_canSail_13 : y_w M_X0_canSail mc ms Q (13, lv, st, ω, c, s) = y_ldI lv 1 (fun v => y_w M_X0_canSail mc ms Q (14, lv, v :: st, ω, c, s)) := w_iload_n dX0_canSail_13 rfl rfl
theorem wX0_canSail_14 : y_w M_X0_canSail mc ms Q (14, lv, .int j :: .ref a :: r, ω, c, s) = y_rI (ω.2 a) j (fun x => y_w M_X0_canSail mc ms Q (15, lv, .int x :: r, ω, c, s)) := w_iaload dX0_canSail_14 rfl
theorem wX0_canSail_15 (hc : y_cls ω a = some 1) : y_w M_X0_canSail mc ms Q (15, lv, v3 :: v2 :: v1 :: .ref a :: r, ω, c, s) = (y_cat r ≤ 8 ∧ F_X1_end mc ms [.ref a, v1, v2, v3] ω c s (y_aft M_X0_canSail 15 3 lv r (y_w M_X0_canSail mc ms Q) Q)) := w_call1 (av := [v1, v2, v3]) (Or.inl ⟨⟨rfl, rfl⟩, rfl⟩) dX0_canSail_15 rfl hc rfl (y_F_mono _) (y_dle rfl) (y_dle rfl) rfl rfl
theorem wX0_canSail_18 : y_w M_X0_canSail mc ms Q (18, lv, st, ω, c, s) = y_w M_X0_canSail mc ms Q (20, lv, .int (-1000000) :: st, ω, c, s) := w_ldc dX0_canSail_18 rfl rfl rfl
theorem wX0_canSail_20 : y_w M_X0_canSail mc ms Q (20, lv, .int y :: .int x :: r, ω, c, s) = ((x = y → y_w M_X0_canSail mc ms Q (27, lv, r, ω, c, s)) ∧ (¬ (x = y) → y_w M_X0_canSail mc ms Q (23, lv, r, ω, c, s))) := w_icmp dX0_canSail_20 (tgt := 27) rfl rfl rfl
theorem wX0_canSail_23 : y_w M_X0_canSail mc ms Q (23, lv, st, ω, c, s) = y_w M_X0_canSail mc ms Q (24, lv, .int 1 :: st, ω, c, s) := w_iconst dX0_canSail_23 (v := 1) (by decide) rfl
theorem wX0_canSail_24 : y_w M_X0_canSail mc ms Q (24, lv, st, ω, c, s) = y_w M_X0_canSail mc ms Q (28, lv, st, ω, c, s) := w_goto dX0_canSail_24 (tgt := 28) (by decide) rfl
theorem wX0_canSail_27 : y_w M_X0_canSail mc ms Q (27, lv, st, ω, c, s) = y_w M_X0_canSail mc ms Q (28, lv, .int 0 :: st, ω, c, s) := w_iconst dX0_canSail_27 (v := 0) (by decide) rfl
theorem wX0_canSail_28 : y_w M_X0_canSail mc ms Q (28, lv, [.int x], ω, c, s) = (narrow FieldType.boolean (.int x) = .int x ∧ Q (.returned (some (.int x))) ω c s) := w_ireturn dX0_canSail_28 rfl
def P_X0_isTooLate : y_Pool := ([(39, 0, 4, (.object "YoungerBack$League"), true), (182, 1, 9, (.array .int), true)], [], [], [], [], [], [])
def M_X0_isTooLate : y_Md := (cX0_isTooLate, "YoungerBack", (3, (some FieldType.boolean)), (0, 0), false, P_X0_isTooLate, [])
def F_X0_isTooLate : y_Tr := y_F M_X0_isTooLate
theorem nX0_isTooLate : y_nL M_X0_isTooLate = 3 := rfl
theorem fX0_isTooLate_39_0 : y_ffP P_X0_isTooLate 39 0 = some (4, (.object "YoungerBack$League"), true) := rfl
theorem fX0_isTooLate_182_1 : y_ffP P_X0_isTooLate 182 1 = some (9, (.array .int), true) := rfl
theorem wX0_isTooLate_0 : y_w M_X0_isTooLate mc ms Q (0, lv, st, ω, c, s) = y_ldA lv 0 (fun v => y_w M_X0_isTooLate mc ms Q (1, lv, v :: st, ω, c, s)) := w_aload_n dX0_isTooLate_0 rfl rfl
theorem wX0_isTooLate_1 : y_w M_X0_isTooLate mc ms Q (1, lv, .ref a :: r, ω, c, s) = y_gf P_X0_isTooLate 39 (ω.2 a) (fun v => y_w M_X0_isTooLate mc ms Q (4, lv, v :: r, ω, c, s)) := w_getfield dX0_isTooLate_1 rfl rfl
theorem wX0_isTooLate_4 : y_w M_X0_isTooLate mc ms Q (4, lv, .ref a :: r, ω, c, s) = y_gf P_X0_isTooLate 182 (ω.2 a) (fun v => y_w M_X0_isTooLate mc ms Q (7, lv, v :: r, ω, c, s)) := w_getfield dX0_isTooLate_4 rfl rfl
theorem wX0_isTooLate_7 : y_w M_X0_isTooLate mc ms Q (7, lv, st, ω, c, s) = y_ldI lv 1 (fun v => y_w M_X0_isTooLate mc ms Q (8, lv, v :: st, ω, c, s)) := w_iload_n dX0_isTooLate_7 rfl rfl
theorem wX0_isTooLate_8 : y_w M_X0_isTooLate mc ms Q (8, lv, .int j :: .ref a :: r, ω, c, s) = y_rI (ω.2 a) j (fun x => y_w M_X0_isTooLate mc ms Q (9, lv, .int x :: r, ω, c, s)) := w_iaload dX0_isTooLate_8 rfl
theorem wX0_isTooLate_9 : y_w M_X0_isTooLate mc ms Q (9, lv, st, ω, c, s) = y_ldI lv 2 (fun v => y_w M_X0_isTooLate mc ms Q (10, lv, v :: st, ω, c, s)) := w_iload_n dX0_isTooLate_9 rfl rfl
theorem wX0_isTooLate_10 : y_w M_X0_isTooLate mc ms Q (10, lv, .int y :: .int x :: r, ω, c, s) = y_w M_X0_isTooLate mc ms Q (11, lv, .int (x + y) :: r, ω, c, s) := w_iadd dX0_isTooLate_10 rfl
theorem wX0_isTooLate_11 : y_w M_X0_isTooLate mc ms Q (11, lv, st, ω, c, s) = y_w M_X0_isTooLate mc ms Q (14, lv, .int (nI 200) :: st, ω, c, s) := w_sipush dX0_isTooLate_11 (v := (nI 200)) (by decide) rfl
theorem wX0_isTooLate_14 : y_w M_X0_isTooLate mc ms Q (14, lv, .int y :: .int x :: r, ω, c, s) = ((x ≤ y → y_w M_X0_isTooLate mc ms Q (21, lv, r, ω, c, s)) ∧ (¬ (x ≤ y) → y_w M_X0_isTooLate mc ms Q (17, lv, r, ω, c, s))) := w_icmp dX0_isTooLate_14 (tgt := 21) rfl rfl rfl
theorem wX0_isTooLate_17 : y_w M_X0_isTooLate mc ms Q (17, lv, st, ω, c, s) = y_w M_X0_isTooLate mc ms Q (18, lv, .int 1 :: st, ω, c, s) := w_iconst dX0_isTooLate_17 (v := 1) (by decide) rfl
theorem wX0_isTooLate_18 : y_w M_X0_isTooLate mc ms Q (18, lv, st, ω, c, s) = y_w M_X0_isTooLate mc ms Q (22, lv, st, ω, c, s) := w_goto dX0_isTooLate_18 (tgt := 22) (by decide) rfl
theorem wX0_isTooLate_21 : y_w M_X0_isTooLate mc ms Q (21, lv, st, ω, c, s) = y_w M_X0_isTooLate mc ms Q (22, lv, .int 0 :: st, ω, c, s) := w_iconst dX0_isTooLate_21 (v := 0) (by decide) rfl
theorem wX0_isTooLate_22 : y_w M_X0_isTooLate mc ms Q (22, lv, [.int x], ω, c, s) = (narrow FieldType.boolean (.int x) = .int x ∧ Q (.returned (some (.int x))) ω c s) := w_ireturn dX0_isTooLate_22 rfl
def P_X0_keep (ad : y_Ad) : y_Pool := ([(158, 0, 6, .int, false), (43, 0, 5, (.array (.object "YoungerBack$League")), true), (39, 0, 4, (.object "YoungerBack$League"), true)], [(36, 1, [.int 0, .int 0, .int 0, .null, .null, .null, .null, .null, .null, .null, .null, .null, .null, .null])], [], [(38, 2, 0, 1, (5, 100), (y_ref (F_X1_init ad))), (154, 1, 1, 2, (2, 81), F_X1_become)], [], [], [])
def M_X0_keep (ad : y_Ad) : y_Md := (cX0_keep, "YoungerBack", (3, none), (5, 100), false, (P_X0_keep ad), [])
def F_X0_keep (ad : y_Ad) : y_Tr := y_F (M_X0_keep ad)
theorem nX0_keep : y_nL (M_X0_keep ad) = 3 := rfl
theorem fX0_keep_158_0 : y_ffP (P_X0_keep ad) 158 0 = some (6, .int, false) := rfl
theorem fX0_keep_43_0 : y_ffP (P_X0_keep ad) 43 0 = some (5, (.array (.object "YoungerBack$League")), true) := rfl
theorem fX0_keep_39_0 : y_ffP (P_X0_keep ad) 39 0 = some (4, (.object "YoungerBack$League"), true) := rfl
theorem wX0_keep_0 : y_w (M_X0_keep ad) mc ms Q (0, lv, st, ω, c, s) = y_ldA lv 0 (fun v => y_w (M_X0_keep ad) mc ms Q (1, lv, v :: st, ω, c, s)) := w_aload_n dX0_keep_0 rfl rfl
theorem wX0_keep_1 : y_w (M_X0_keep ad) mc ms Q (1, lv, .ref a :: r, ω, c, s) = y_gf (P_X0_keep ad) 158 (ω.2 a) (fun v => y_w (M_X0_keep ad) mc ms Q (4, lv, v :: r, ω, c, s)) := w_getfield dX0_keep_1 rfl rfl
theorem wX0_keep_4 : y_w (M_X0_keep ad) mc ms Q (4, lv, st, ω, c, s) = y_w (M_X0_keep ad) mc ms Q (6, lv, .int (nI 24) :: st, ω, c, s) := w_bipush dX0_keep_4 (v := (nI 24)) (by decide) rfl
theorem wX0_keep_6 : y_w (M_X0_keep ad) mc ms Q (6, lv, .int y :: .int x :: r, ω, c, s) = ((¬ x = y → y_w (M_X0_keep ad) mc ms Q (62, lv, r, ω, c, s)) ∧ (¬ (¬ x = y) → y_w (M_X0_keep ad) mc ms Q (9, lv, r, ω, c, s))) := w_icmp dX0_keep_6 (tgt := 62) rfl rfl rfl
theorem wX0_keep_9 : y_w (M_X0_keep ad) mc ms Q (9, lv, st, ω, c, s) = y_ldA lv 0 (fun v => y_w (M_X0_keep ad) mc ms Q (10, lv, v :: st, ω, c, s)) := w_aload_n dX0_keep_9 rfl rfl
theorem wX0_keep_10 : y_w (M_X0_keep ad) mc ms Q (10, lv, .ref a :: r, ω, c, s) = y_gf (P_X0_keep ad) 43 (ω.2 a) (fun v => y_w (M_X0_keep ad) mc ms Q (13, lv, v :: r, ω, c, s)) := w_getfield dX0_keep_10 rfl rfl
theorem wX0_keep_13 : y_w (M_X0_keep ad) mc ms Q (13, lv, st, ω, c, s) = y_w (M_X0_keep ad) mc ms Q (14, lv, .int 0 :: st, ω, c, s) := w_iconst dX0_keep_13 (v := 0) (by decide) rfl
theorem wX0_keep_14 : y_w (M_X0_keep ad) mc ms Q (14, lv, .int j :: .ref a :: r, ω, c, s) = y_rA (ω.2 a) j (fun x => y_w (M_X0_keep ad) mc ms Q (15, lv, x :: r, ω, c, s)) := w_aaload dX0_keep_14 rfl
theorem wX0_keep_15 : y_w (M_X0_keep ad) mc ms Q (15, lv, v :: r, ω, c, s) = (y_isA v = true ∧ y_w (M_X0_keep ad) mc ms Q (16, (1, v) :: y_kill 1 lv, r, ω, c, s)) := w_astore_n dX0_keep_15 rfl (y_dle rfl) rfl
theorem wX0_keep_16 : y_w (M_X0_keep ad) mc ms Q (16, lv, st, ω, c, s) = y_w (M_X0_keep ad) mc ms Q (17, lv, .int 1 :: st, ω, c, s) := w_iconst dX0_keep_16 (v := 1) (by decide) rfl
theorem wX0_keep_17 : y_w (M_X0_keep ad) mc ms Q (17, lv, .int x :: r, ω, c, s) = y_w (M_X0_keep ad) mc ms Q (18, (2, .int x) :: y_kill 2 lv, r, ω, c, s) := w_istore_n dX0_keep_17 rfl (y_dle rfl) rfl
theorem wX0_keep_18 : y_w (M_X0_keep ad) mc ms Q (18, lv, st, ω, c, s) = y_ldI lv 2 (fun v => y_w (M_X0_keep ad) mc ms Q (19, lv, v :: st, ω, c, s)) := w_iload_n dX0_keep_18 rfl rfl
theorem wX0_keep_19 : y_w (M_X0_keep ad) mc ms Q (19, lv, st, ω, c, s) = y_w (M_X0_keep ad) mc ms Q (21, lv, .int (nI 24) :: st, ω, c, s) := w_bipush dX0_keep_19 (v := (nI 24)) (by decide) rfl
theorem wX0_keep_21 : y_w (M_X0_keep ad) mc ms Q (21, lv, .int y :: .int x :: r, ω, c, s) = ((y ≤ x → y_w (M_X0_keep ad) mc ms Q (44, lv, r, ω, c, s)) ∧ (¬ (y ≤ x) → y_w (M_X0_keep ad) mc ms Q (24, lv, r, ω, c, s))) := w_icmp dX0_keep_21 (tgt := 44) rfl rfl rfl
theorem wX0_keep_24 : y_w (M_X0_keep ad) mc ms Q (24, lv, st, ω, c, s) = y_ldA lv 0 (fun v => y_w (M_X0_keep ad) mc ms Q (25, lv, v :: st, ω, c, s)) := w_aload_n dX0_keep_24 rfl rfl
theorem wX0_keep_25 : y_w (M_X0_keep ad) mc ms Q (25, lv, .ref a :: r, ω, c, s) = y_gf (P_X0_keep ad) 43 (ω.2 a) (fun v => y_w (M_X0_keep ad) mc ms Q (28, lv, v :: r, ω, c, s)) := w_getfield dX0_keep_25 rfl rfl
theorem wX0_keep_28 : y_w (M_X0_keep ad) mc ms Q (28, lv, st, ω, c, s) = y_ldI lv 2 (fun v => y_w (M_X0_keep ad) mc ms Q (29, lv, v :: st, ω, c, s)) := w_iload_n dX0_keep_28 rfl rfl
theorem wX0_keep_29 : y_w (M_X0_keep ad) mc ms Q (29, lv, st, ω, c, s) = y_w (M_X0_keep ad) mc ms Q (30, lv, .int 1 :: st, ω, c, s) := w_iconst dX0_keep_29 (v := 1) (by decide) rfl
theorem wX0_keep_30 : y_w (M_X0_keep ad) mc ms Q (30, lv, .int y :: .int x :: r, ω, c, s) = y_w (M_X0_keep ad) mc ms Q (31, lv, .int (x - y) :: r, ω, c, s) := w_isub dX0_keep_30 rfl
theorem wX0_keep_31 : y_w (M_X0_keep ad) mc ms Q (31, lv, st, ω, c, s) = y_ldA lv 0 (fun v => y_w (M_X0_keep ad) mc ms Q (32, lv, v :: st, ω, c, s)) := w_aload_n dX0_keep_31 rfl rfl
theorem wX0_keep_32 : y_w (M_X0_keep ad) mc ms Q (32, lv, .ref a :: r, ω, c, s) = y_gf (P_X0_keep ad) 43 (ω.2 a) (fun v => y_w (M_X0_keep ad) mc ms Q (35, lv, v :: r, ω, c, s)) := w_getfield dX0_keep_32 rfl rfl
theorem wX0_keep_35 : y_w (M_X0_keep ad) mc ms Q (35, lv, st, ω, c, s) = y_ldI lv 2 (fun v => y_w (M_X0_keep ad) mc ms Q (36, lv, v :: st, ω, c, s)) := w_iload_n dX0_keep_35 rfl rfl
theorem wX0_keep_36 : y_w (M_X0_keep ad) mc ms Q (36, lv, .int j :: .ref a :: r, ω, c, s) = y_rA (ω.2 a) j (fun x => y_w (M_X0_keep ad) mc ms Q (37, lv, x :: r, ω, c, s)) := w_aaload dX0_keep_36 rfl
theorem wX0_keep_37 : y_w (M_X0_keep ad) mc ms Q (37, lv, v :: .int j :: .ref a :: r, ω, c, s) = y_wA (ω.2 a) j v ω (fun e => y_w (M_X0_keep ad) mc ms Q (38, lv, r, y_hup ω a e, c, s)) := w_aastore dX0_keep_37 rfl
theorem wX0_keep_38 : y_w (M_X0_keep ad) mc ms Q (38, lv, st, ω, c, s) = y_inc lv 2 (fun x => y_w (M_X0_keep ad) mc ms Q (41, (2, .int (x + 1)) :: y_kill 2 lv, st, ω, c, s)) := w_iinc dX0_keep_38 (d := 1) (by decide) (y_dle rfl) rfl
theorem wX0_keep_41 : y_w (M_X0_keep ad) mc ms Q (41, lv, st, ω, c, s) = ∃ lv2, y_lsub lv2 lv ∧ y_w (M_X0_keep ad) mc ms Q (18, lv2, st, ω, c, s) := w_back dX0_keep_41 (tgt := 18) (by decide) rfl
theorem wX0_keep_44 : y_w (M_X0_keep ad) mc ms Q (44, lv, st, ω, c, s) = y_ldA lv 0 (fun v => y_w (M_X0_keep ad) mc ms Q (45, lv, v :: st, ω, c, s)) := w_aload_n dX0_keep_44 rfl rfl
theorem wX0_keep_45 : y_w (M_X0_keep ad) mc ms Q (45, lv, .ref a :: r, ω, c, s) = y_gf (P_X0_keep ad) 43 (ω.2 a) (fun v => y_w (M_X0_keep ad) mc ms Q (48, lv, v :: r, ω, c, s)) := w_getfield dX0_keep_45 rfl rfl
theorem wX0_keep_48 : y_w (M_X0_keep ad) mc ms Q (48, lv, st, ω, c, s) = y_w (M_X0_keep ad) mc ms Q (50, lv, .int (nI 23) :: st, ω, c, s) := w_bipush dX0_keep_48 (v := (nI 23)) (by decide) rfl
theorem wX0_keep_50 : y_w (M_X0_keep ad) mc ms Q (50, lv, st, ω, c, s) = y_ldA lv 1 (fun v => y_w (M_X0_keep ad) mc ms Q (51, lv, v :: st, ω, c, s)) := w_aload_n dX0_keep_50 rfl rfl
theorem wX0_keep_51 : y_w (M_X0_keep ad) mc ms Q (51, lv, v :: .int j :: .ref a :: r, ω, c, s) = y_wA (ω.2 a) j v ω (fun e => y_w (M_X0_keep ad) mc ms Q (52, lv, r, y_hup ω a e, c, s)) := w_aastore dX0_keep_51 rfl
theorem wX0_keep_52 : y_w (M_X0_keep ad) mc ms Q (52, lv, st, ω, c, s) = y_ldA lv 0 (fun v => y_w (M_X0_keep ad) mc ms Q (53, lv, v :: st, ω, c, s)) := w_aload_n dX0_keep_52 rfl rfl
theorem wX0_keep_53 : y_w (M_X0_keep ad) mc ms Q (53, lv, v :: r, ω, c, s) = (v.category = 1 ∧ y_w (M_X0_keep ad) mc ms Q (54, lv, v :: v :: r, ω, c, s)) := w_dup dX0_keep_53 rfl
theorem wX0_keep_54 : y_w (M_X0_keep ad) mc ms Q (54, lv, .ref a :: r, ω, c, s) = y_gf (P_X0_keep ad) 158 (ω.2 a) (fun v => y_w (M_X0_keep ad) mc ms Q (57, lv, v :: r, ω, c, s)) := w_getfield dX0_keep_54 rfl rfl
theorem wX0_keep_57 : y_w (M_X0_keep ad) mc ms Q (57, lv, st, ω, c, s) = y_w (M_X0_keep ad) mc ms Q (58, lv, .int 1 :: st, ω, c, s) := w_iconst dX0_keep_57 (v := 1) (by decide) rfl
theorem wX0_keep_58 : y_w (M_X0_keep ad) mc ms Q (58, lv, .int y :: .int x :: r, ω, c, s) = y_w (M_X0_keep ad) mc ms Q (59, lv, .int (x - y) :: r, ω, c, s) := w_isub dX0_keep_58 rfl
theorem wX0_keep_59 : y_w (M_X0_keep ad) mc ms Q (59, lv, v :: .ref a :: r, ω, c, s) = y_pf (P_X0_keep ad) false 158 (ω.2 a) v (fun ci fs => y_w (M_X0_keep ad) mc ms Q (62, lv, r, y_hup ω a (.inr (ci, fs)), c, s)) := w_putfield dX0_keep_59 rfl rfl rfl
theorem wX0_keep_62 : y_w (M_X0_keep ad) mc ms Q (62, lv, st, ω, c, s) = y_ldA lv 0 (fun v => y_w (M_X0_keep ad) mc ms Q (63, lv, v :: st, ω, c, s)) := w_aload_n dX0_keep_62 rfl rfl
theorem wX0_keep_63 : y_w (M_X0_keep ad) mc ms Q (63, lv, .ref a :: r, ω, c, s) = y_gf (P_X0_keep ad) 43 (ω.2 a) (fun v => y_w (M_X0_keep ad) mc ms Q (66, lv, v :: r, ω, c, s)) := w_getfield dX0_keep_63 rfl rfl
theorem wX0_keep_66 : y_w (M_X0_keep ad) mc ms Q (66, lv, st, ω, c, s) = y_ldA lv 0 (fun v => y_w (M_X0_keep ad) mc ms Q (67, lv, v :: st, ω, c, s)) := w_aload_n dX0_keep_66 rfl rfl
theorem wX0_keep_67 : y_w (M_X0_keep ad) mc ms Q (67, lv, .ref a :: r, ω, c, s) = y_gf (P_X0_keep ad) 158 (ω.2 a) (fun v => y_w (M_X0_keep ad) mc ms Q (70, lv, v :: r, ω, c, s)) := w_getfield dX0_keep_67 rfl rfl
theorem wX0_keep_70 : y_w (M_X0_keep ad) mc ms Q (70, lv, .int j :: .ref a :: r, ω, c, s) = y_rA (ω.2 a) j (fun x => y_w (M_X0_keep ad) mc ms Q (71, lv, x :: r, ω, c, s)) := w_aaload dX0_keep_70 rfl
theorem wX0_keep_71 : y_w (M_X0_keep ad) mc ms Q (71, lv, v :: r, ω, c, s) = y_nul v (y_w (M_X0_keep ad) mc ms Q (74, lv, r, ω, c, s)) (y_w (M_X0_keep ad) mc ms Q (90, lv, r, ω, c, s)) := w_ifnonnull dX0_keep_71 rfl rfl
theorem wX0_keep_74 : y_w (M_X0_keep ad) mc ms Q (74, lv, st, ω, c, s) = y_ldA lv 0 (fun v => y_w (M_X0_keep ad) mc ms Q (75, lv, v :: st, ω, c, s)) := w_aload_n dX0_keep_74 rfl rfl
theorem wX0_keep_75 : y_w (M_X0_keep ad) mc ms Q (75, lv, .ref a :: r, ω, c, s) = y_gf (P_X0_keep ad) 43 (ω.2 a) (fun v => y_w (M_X0_keep ad) mc ms Q (78, lv, v :: r, ω, c, s)) := w_getfield dX0_keep_75 rfl rfl
theorem wX0_keep_78 : y_w (M_X0_keep ad) mc ms Q (78, lv, st, ω, c, s) = y_ldA lv 0 (fun v => y_w (M_X0_keep ad) mc ms Q (79, lv, v :: st, ω, c, s)) := w_aload_n dX0_keep_78 rfl rfl
theorem wX0_keep_79 : y_w (M_X0_keep ad) mc ms Q (79, lv, .ref a :: r, ω, c, s) = y_gf (P_X0_keep ad) 158 (ω.2 a) (fun v => y_w (M_X0_keep ad) mc ms Q (82, lv, v :: r, ω, c, s)) := w_getfield dX0_keep_79 rfl rfl
theorem wX0_keep_82 : y_w (M_X0_keep ad) mc ms Q (82, lv, st, ω, c, s) = (y_room mc ms c s 14 ∧ y_w (M_X0_keep ad) mc ms Q (85, lv, .ref ω.1 :: st, y_hnew ω (.inr (1, [.int 0, .int 0, .int 0, .null, .null, .null, .null, .null, .null, .null, .null, .null, .null, .null])), c + 1, s + 14)) := w_new dX0_keep_82 rfl rfl rfl
theorem wX0_keep_85 : y_w (M_X0_keep ad) mc ms Q (85, lv, v :: r, ω, c, s) = (v.category = 1 ∧ y_w (M_X0_keep ad) mc ms Q (86, lv, v :: v :: r, ω, c, s)) := w_dup dX0_keep_85 rfl
theorem wX0_keep_86 : y_w (M_X0_keep ad) mc ms Q (86, lv, v0 :: r, ω, c, s) = (y_cat r ≤ 8 ∧ (y_ref (F_X1_init ad)) mc ms [v0] ω c s (y_aft (M_X0_keep ad) 86 3 lv r (y_w (M_X0_keep ad) mc ms Q) Q)) := w_call0 (av := [v0]) ⟨Or.inl ⟨rfl, rfl⟩, rfl⟩ dX0_keep_86 rfl (y_ref_mono (y_F_mono _)) (y_dle rfl) (y_dle rfl) rfl rfl
theorem wX0_keep_89 : y_w (M_X0_keep ad) mc ms Q (89, lv, v :: .int j :: .ref a :: r, ω, c, s) = y_wA (ω.2 a) j v ω (fun e => y_w (M_X0_keep ad) mc ms Q (90, lv, r, y_hup ω a e, c, s)) := w_aastore dX0_keep_89 rfl
theorem wX0_keep_90 : y_w (M_X0_keep ad) mc ms Q (90, lv, st, ω, c, s) = y_ldA lv 0 (fun v => y_w (M_X0_keep ad) mc ms Q (91, lv, v :: st, ω, c, s)) := w_aload_n dX0_keep_90 rfl rfl
theorem wX0_keep_91 : y_w (M_X0_keep ad) mc ms Q (91, lv, .ref a :: r, ω, c, s) = y_gf (P_X0_keep ad) 43 (ω.2 a) (fun v => y_w (M_X0_keep ad) mc ms Q (94, lv, v :: r, ω, c, s)) := w_getfield dX0_keep_91 rfl rfl
theorem wX0_keep_94 : y_w (M_X0_keep ad) mc ms Q (94, lv, st, ω, c, s) = y_ldA lv 0 (fun v => y_w (M_X0_keep ad) mc ms Q (95, lv, v :: st, ω, c, s)) := w_aload_n dX0_keep_94 rfl rfl
theorem wX0_keep_95 : y_w (M_X0_keep ad) mc ms Q (95, lv, .ref a :: r, ω, c, s) = y_gf (P_X0_keep ad) 158 (ω.2 a) (fun v => y_w (M_X0_keep ad) mc ms Q (98, lv, v :: r, ω, c, s)) := w_getfield dX0_keep_95 rfl rfl
theorem wX0_keep_98 : y_w (M_X0_keep ad) mc ms Q (98, lv, .int j :: .ref a :: r, ω, c, s) = y_rA (ω.2 a) j (fun x => y_w (M_X0_keep ad) mc ms Q (99, lv, x :: r, ω, c, s)) := w_aaload dX0_keep_98 rfl
theorem wX0_keep_99 : y_w (M_X0_keep ad) mc ms Q (99, lv, st, ω, c, s) = y_ldA lv 0 (fun v => y_w (M_X0_keep ad) mc ms Q (100, lv, v :: st, ω, c, s)) := w_aload_n dX0_keep_99 rfl rfl
theorem wX0_keep_100 : y_w (M_X0_keep ad) mc ms Q (100, lv, .ref a :: r, ω, c, s) = y_gf (P_X0_keep ad) 39 (ω.2 a) (fun v => y_w (M_X0_keep ad) mc ms Q (103, lv, v :: r, ω, c, s)) := w_getfield dX0_keep_100 rfl rfl
theorem wX0_keep_103 (hc : y_cls ω a = some 1) : y_w (M_X0_keep ad) mc ms Q (103, lv, v1 :: .ref a :: r, ω, c, s) = (y_cat r ≤ 8 ∧ F_X1_become mc ms [.ref a, v1] ω c s (y_aft (M_X0_keep ad) 103 3 lv r (y_w (M_X0_keep ad) mc ms Q) Q)) := w_call1 (av := [v1]) (Or.inl ⟨⟨rfl, rfl⟩, rfl⟩) dX0_keep_103 rfl hc rfl (y_F_mono _) (y_dle rfl) (y_dle rfl) rfl rfl
theorem wX0_keep_106 : y_w (M_X0_keep ad) mc ms Q (106, lv, v :: r, ω, c, s) = (v.category = 1 ∧ y_w (M_X0_keep ad) mc ms Q (107, lv, r, ω, c, s)) := w_pop dX0_keep_106 rfl
theorem wX0_keep_107 : y_w (M_X0_keep ad) mc ms Q (107, lv, st, ω, c, s) = y_ldA lv 0 (fun v => y_w (M_X0_keep ad) mc ms Q (108, lv, v :: st, ω, c, s)) := w_aload_n dX0_keep_107 rfl rfl
theorem wX0_keep_108 : y_w (M_X0_keep ad) mc ms Q (108, lv, v :: r, ω, c, s) = (v.category = 1 ∧ y_w (M_X0_keep ad) mc ms Q (109, lv, v :: v :: r, ω, c, s)) := w_dup dX0_keep_108 rfl
theorem wX0_keep_109 : y_w (M_X0_keep ad) mc ms Q (109, lv, .ref a :: r, ω, c, s) = y_gf (P_X0_keep ad) 158 (ω.2 a) (fun v => y_w (M_X0_keep ad) mc ms Q (112, lv, v :: r, ω, c, s)) := w_getfield dX0_keep_109 rfl rfl
theorem wX0_keep_112 : y_w (M_X0_keep ad) mc ms Q (112, lv, st, ω, c, s) = y_w (M_X0_keep ad) mc ms Q (113, lv, .int 1 :: st, ω, c, s) := w_iconst dX0_keep_112 (v := 1) (by decide) rfl
theorem wX0_keep_113 : y_w (M_X0_keep ad) mc ms Q (113, lv, .int y :: .int x :: r, ω, c, s) = y_w (M_X0_keep ad) mc ms Q (114, lv, .int (x + y) :: r, ω, c, s) := w_iadd dX0_keep_113 rfl
theorem wX0_keep_114 : y_w (M_X0_keep ad) mc ms Q (114, lv, v :: .ref a :: r, ω, c, s) = y_pf (P_X0_keep ad) false 158 (ω.2 a) v (fun ci fs => y_w (M_X0_keep ad) mc ms Q (117, lv, r, y_hup ω a (.inr (ci, fs)), c, s)) := w_putfield dX0_keep_114 rfl rfl rfl
theorem wX0_keep_117 : y_w (M_X0_keep ad) mc ms Q (117, lv, [], ω, c, s) = Q (.returned none) ω c s := w_return dX0_keep_117 rfl
def P_X9_ages : y_Pool := ([], [], [], [], [], [], [])
def M_X9_ages : y_Md := (cX9_ages, "YoungerBack$Captain", (3, (some FieldType.int)), (0, 0), false, P_X9_ages, [])
def F_X9_ages : y_Tr := y_F M_X9_ages
theorem nX9_ages : y_nL M_X9_ages = 3 := rfl
theorem wX9_ages_0 : y_w M_X9_ages mc ms Q (0, lv, st, ω, c, s) = y_ldI lv 2 (fun v => y_w M_X9_ages mc ms Q (1, lv, v :: st, ω, c, s)) := w_iload_n dX9_ages_0 rfl rfl
theorem wX9_ages_1 : y_w M_X9_ages mc ms Q (1, lv, [.int x], ω, c, s) = Q (.returned (some (.int x))) ω c s := w_ireturnI dX9_ages_1 rfl
def P_X10_ages : y_Pool := ([], [], [], [(9, 2, 0, 3, (1, 22), (y_self F_X9_ages)), (13, 0, 0, 2, (1, 21), F_J13_max)], [], [], [])
def M_X10_ages : y_Md := (cX10_ages, "YoungerBack$Pilot", (3, (some FieldType.int)), (1, 22), false, P_X10_ages, [])
def F_X10_ages : y_Tr := y_F M_X10_ages
theorem nX10_ages : y_nL M_X10_ages = 3 := rfl
theorem wX10_ages_0 : y_w M_X10_ages mc ms Q (0, lv, st, ω, c, s) = y_w M_X10_ages mc ms Q (1, lv, .int 0 :: st, ω, c, s) := w_iconst dX10_ages_0 (v := 0) (by decide) rfl
theorem wX10_ages_1 : y_w M_X10_ages mc ms Q (1, lv, st, ω, c, s) = y_ldA lv 0 (fun v => y_w M_X10_ages mc ms Q (2, lv, v :: st, ω, c, s)) := w_aload_n dX10_ages_1 rfl rfl
theorem wX10_ages_2 : y_w M_X10_ages mc ms Q (2, lv, st, ω, c, s) = y_ldI lv 1 (fun v => y_w M_X10_ages mc ms Q (3, lv, v :: st, ω, c, s)) := w_iload_n dX10_ages_2 rfl rfl
theorem wX10_ages_3 : y_w M_X10_ages mc ms Q (3, lv, st, ω, c, s) = y_ldI lv 2 (fun v => y_w M_X10_ages mc ms Q (4, lv, v :: st, ω, c, s)) := w_iload_n dX10_ages_3 rfl rfl
theorem wX10_ages_4 : y_w M_X10_ages mc ms Q (4, lv, v2 :: v1 :: v0 :: r, ω, c, s) = (y_cat r ≤ 8 ∧ (y_self F_X9_ages) mc ms [v0, v1, v2] ω c s (y_aft M_X10_ages 4 3 lv r (y_w M_X10_ages mc ms Q) Q)) := w_call0 (av := [v0, v1, v2]) ⟨Or.inl ⟨rfl, rfl⟩, rfl⟩ dX10_ages_4 rfl (y_self_mono (y_F_mono _)) (y_dle rfl) (y_dle rfl) rfl rfl
theorem wX10_ages_7 : y_w M_X10_ages mc ms Q (7, lv, st, ω, c, s) = y_w M_X10_ages mc ms Q (8, lv, .int 1 :: st, ω, c, s) := w_iconst dX10_ages_7 (v := 1) (by decide) rfl
theorem wX10_ages_8 : y_w M_X10_ages mc ms Q (8, lv, .int y :: .int x :: r, ω, c, s) = y_w M_X10_ages mc ms Q (9, lv, .int (x - y) :: r, ω, c, s) := w_isub dX10_ages_8 rfl
theorem wX10_ages_9 : y_w M_X10_ages mc ms Q (9, lv, v1 :: v0 :: r, ω, c, s) = (y_cat r ≤ 8 ∧ F_J13_max mc ms [v0, v1] ω c s (y_aft M_X10_ages 9 3 lv r (y_w M_X10_ages mc ms Q) Q)) := w_call0 (av := [v0, v1]) ⟨Or.inr ⟨rfl, rfl⟩, rfl⟩ dX10_ages_9 rfl (y_F_mono _) (y_dle rfl) (y_dle rfl) rfl rfl
theorem wX10_ages_12 : y_w M_X10_ages mc ms Q (12, lv, [.int x], ω, c, s) = Q (.returned (some (.int x))) ω c s := w_ireturnI dX10_ages_12 rfl
def P_X11_ages : y_Pool := ([], [], [], [], [], [], [])
def M_X11_ages : y_Md := (cX11_ages, "YoungerBack$Monk", (3, (some FieldType.int)), (0, 0), false, P_X11_ages, [])
def F_X11_ages : y_Tr := y_F M_X11_ages
theorem nX11_ages : y_nL M_X11_ages = 3 := rfl
theorem wX11_ages_0 : y_w M_X11_ages mc ms Q (0, lv, st, ω, c, s) = y_w M_X11_ages mc ms Q (1, lv, .int 0 :: st, ω, c, s) := w_iconst dX11_ages_0 (v := 0) (by decide) rfl
theorem wX11_ages_1 : y_w M_X11_ages mc ms Q (1, lv, [.int x], ω, c, s) = Q (.returned (some (.int x))) ω c s := w_ireturnI dX11_ages_1 rfl
def P_X12_ages : y_Pool := ([], [], [], [], [], [], [])
def M_X12_ages : y_Md := (cX12_ages, "YoungerBack$Clerk", (3, (some FieldType.int)), (0, 0), false, P_X12_ages, [])
def F_X12_ages : y_Tr := y_F M_X12_ages
theorem nX12_ages : y_nL M_X12_ages = 3 := rfl
theorem wX12_ages_0 : y_w M_X12_ages mc ms Q (0, lv, st, ω, c, s) = y_ldI lv 1 (fun v => y_w M_X12_ages mc ms Q (1, lv, v :: st, ω, c, s)) := w_iload_n dX12_ages_0 rfl rfl
theorem wX12_ages_1 : y_w M_X12_ages mc ms Q (1, lv, [.int x], ω, c, s) = Q (.returned (some (.int x))) ω c s := w_ireturnI dX12_ages_1 rfl
def P_X13_ages : y_Pool := ([], [], [], [], [], [], [])
def M_X13_ages : y_Md := (cX13_ages, "YoungerBack$Boy", (3, (some FieldType.int)), (0, 0), false, P_X13_ages, [])
def F_X13_ages : y_Tr := y_F M_X13_ages
theorem nX13_ages : y_nL M_X13_ages = 3 := rfl
theorem wX13_ages_0 : y_w M_X13_ages mc ms Q (0, lv, st, ω, c, s) = y_ldI lv 2 (fun v => y_w M_X13_ages mc ms Q (1, lv, v :: st, ω, c, s)) := w_iload_n dX13_ages_0 rfl rfl
theorem wX13_ages_1 : y_w M_X13_ages mc ms Q (1, lv, [.int x], ω, c, s) = Q (.returned (some (.int x))) ω c s := w_ireturnI dX13_ages_1 rfl
def P_X1_ages : y_Pool := ([(27, 1, 7, (.object "java/util/List"), false), (18, 1, 5, (.array .int), true), (21, 1, 6, (.array .int), true)], [], [], [(71, 3, 14, 2, (3, 64), F_J2_get), (82, 1, 9, 3, (1, 22), F_X9_ages), (82, 1, 10, 3, (2, 44), F_X10_ages), (82, 1, 11, 3, (1, 22), F_X11_ages), (82, 1, 12, 3, (1, 22), F_X12_ages), (82, 1, 13, 3, (1, 22), F_X13_ages)], [(75, 9, 1), (75, 10, 1), (75, 11, 1), (75, 12, 1), (75, 13, 1)], [], [])
def M_X1_ages : y_Md := (cX1_ages, "YoungerBack$League", (3, (some FieldType.int)), (3, 64), false, P_X1_ages, [])
def F_X1_ages : y_Tr := y_F M_X1_ages
theorem nX1_ages : y_nL M_X1_ages = 3 := rfl
theorem tX1_ages_75_9 : y_ft M_X1_ages 75 9 = some 1 := rfl
theorem tX1_ages_75_10 : y_ft M_X1_ages 75 10 = some 1 := rfl
theorem tX1_ages_75_11 : y_ft M_X1_ages 75 11 = some 1 := rfl
theorem tX1_ages_75_12 : y_ft M_X1_ages 75 12 = some 1 := rfl
theorem tX1_ages_75_13 : y_ft M_X1_ages 75 13 = some 1 := rfl
theorem fX1_ages_27_1 : y_ffP P_X1_ages 27 1 = some (7, (.object "java/util/List"), false) := rfl
theorem fX1_ages_18_1 : y_ffP P_X1_ages 18 1 = some (5, (.array .int), true) := rfl
theorem fX1_ages_21_1 : y_ffP P_X1_ages 21 1 = some (6, (.array .int), true) := rfl
theorem wX1_ages_0 : y_w M_X1_ages mc ms Q (0, lv, st, ω, c, s) = y_ldA lv 0 (fun v => y_w M_X1_ages mc ms Q (1, lv, v :: st, ω, c, s)) := w_aload_n dX1_ages_0 rfl rfl
theorem wX1_ages_1 : y_w M_X1_ages mc ms Q (1, lv, .ref a :: r, ω, c, s) = y_gf P_X1_ages 27 (ω.2 a) (fun v => y_w M_X1_ages mc ms Q (4, lv, v :: r, ω, c, s)) := w_getfield dX1_ages_1 rfl rfl
theorem wX1_ages_4 : y_w M_X1_ages mc ms Q (4, lv, st, ω, c, s) = y_ldI lv 1 (fun v => y_w M_X1_ages mc ms Q (5, lv, v :: st, ω, c, s)) := w_iload_n dX1_ages_4 rfl rfl
theorem wX1_ages_5 (hc : y_cls ω a = some 14) : y_w M_X1_ages mc ms Q (5, lv, v1 :: .ref a :: r, ω, c, s) = (y_cat r ≤ 8 ∧ F_J2_get mc ms [.ref a, v1] ω c s (y_aft M_X1_ages 5 5 lv r (y_w M_X1_ages mc ms Q) Q)) := w_call1 (av := [v1]) (Or.inr ⟨⟨⟨_, rfl⟩, rfl⟩, rfl⟩) dX1_ages_5 rfl hc rfl (y_F_mono _) (y_dle rfl) (y_dle rfl) rfl rfl
theorem wX1_ages_10 : y_w M_X1_ages mc ms Q (10, lv, .ref a :: r, ω, c, s) = y_tsc M_X1_ages 75 (ω.2 a) (y_w M_X1_ages mc ms Q (13, lv, .ref a :: r, ω, c, s)) (y_vmt M_X1_ages mc ms 18 10 lv ω c s (y_w M_X1_ages mc ms Q) Q) := w_checkcast dX1_ages_10 rfl
theorem wX1_ages_13 : y_w M_X1_ages mc ms Q (13, lv, st, ω, c, s) = y_ldA lv 0 (fun v => y_w M_X1_ages mc ms Q (14, lv, v :: st, ω, c, s)) := w_aload_n dX1_ages_13 rfl rfl
theorem wX1_ages_14 : y_w M_X1_ages mc ms Q (14, lv, .ref a :: r, ω, c, s) = y_gf P_X1_ages 18 (ω.2 a) (fun v => y_w M_X1_ages mc ms Q (17, lv, v :: r, ω, c, s)) := w_getfield dX1_ages_14 rfl rfl
theorem wX1_ages_17 : y_w M_X1_ages mc ms Q (17, lv, st, ω, c, s) = y_ldI lv 2 (fun v => y_w M_X1_ages mc ms Q (18, lv, v :: st, ω, c, s)) := w_iload_n dX1_ages_17 rfl rfl
theorem wX1_ages_18 : y_w M_X1_ages mc ms Q (18, lv, .int j :: .ref a :: r, ω, c, s) = y_rI (ω.2 a) j (fun x => y_w M_X1_ages mc ms Q (19, lv, .int x :: r, ω, c, s)) := w_iaload dX1_ages_18 rfl
theorem wX1_ages_19 : y_w M_X1_ages mc ms Q (19, lv, st, ω, c, s) = y_ldA lv 0 (fun v => y_w M_X1_ages mc ms Q (20, lv, v :: st, ω, c, s)) := w_aload_n dX1_ages_19 rfl rfl
theorem wX1_ages_20 : y_w M_X1_ages mc ms Q (20, lv, .ref a :: r, ω, c, s) = y_gf P_X1_ages 21 (ω.2 a) (fun v => y_w M_X1_ages mc ms Q (23, lv, v :: r, ω, c, s)) := w_getfield dX1_ages_20 rfl rfl
theorem wX1_ages_23 : y_w M_X1_ages mc ms Q (23, lv, st, ω, c, s) = y_ldI lv 2 (fun v => y_w M_X1_ages mc ms Q (24, lv, v :: st, ω, c, s)) := w_iload_n dX1_ages_23 rfl rfl
theorem wX1_ages_24 : y_w M_X1_ages mc ms Q (24, lv, .int j :: .ref a :: r, ω, c, s) = y_rI (ω.2 a) j (fun x => y_w M_X1_ages mc ms Q (25, lv, .int x :: r, ω, c, s)) := w_iaload dX1_ages_24 rfl
theorem wX1_ages_25_c9 (hc : y_cls ω a = some 9) : y_w M_X1_ages mc ms Q (25, lv, v2 :: v1 :: .ref a :: r, ω, c, s) = (y_cat r ≤ 8 ∧ F_X9_ages mc ms [.ref a, v1, v2] ω c s (y_aft M_X1_ages 25 3 lv r (y_w M_X1_ages mc ms Q) Q)) := w_call1 (av := [v1, v2]) (Or.inl ⟨⟨rfl, rfl⟩, rfl⟩) dX1_ages_25 rfl hc rfl (y_F_mono _) (y_dle rfl) (y_dle rfl) rfl rfl
theorem wX1_ages_25_c10 (hc : y_cls ω a = some 10) : y_w M_X1_ages mc ms Q (25, lv, v2 :: v1 :: .ref a :: r, ω, c, s) = (y_cat r ≤ 8 ∧ F_X10_ages mc ms [.ref a, v1, v2] ω c s (y_aft M_X1_ages 25 3 lv r (y_w M_X1_ages mc ms Q) Q)) := w_call1 (av := [v1, v2]) (Or.inl ⟨⟨rfl, rfl⟩, rfl⟩) dX1_ages_25 rfl hc rfl (y_F_mono _) (y_dle rfl) (y_dle rfl) rfl rfl
theorem wX1_ages_25_c11 (hc : y_cls ω a = some 11) : y_w M_X1_ages mc ms Q (25, lv, v2 :: v1 :: .ref a :: r, ω, c, s) = (y_cat r ≤ 8 ∧ F_X11_ages mc ms [.ref a, v1, v2] ω c s (y_aft M_X1_ages 25 3 lv r (y_w M_X1_ages mc ms Q) Q)) := w_call1 (av := [v1, v2]) (Or.inl ⟨⟨rfl, rfl⟩, rfl⟩) dX1_ages_25 rfl hc rfl (y_F_mono _) (y_dle rfl) (y_dle rfl) rfl rfl
theorem wX1_ages_25_c12 (hc : y_cls ω a = some 12) : y_w M_X1_ages mc ms Q (25, lv, v2 :: v1 :: .ref a :: r, ω, c, s) = (y_cat r ≤ 8 ∧ F_X12_ages mc ms [.ref a, v1, v2] ω c s (y_aft M_X1_ages 25 3 lv r (y_w M_X1_ages mc ms Q) Q)) := w_call1 (av := [v1, v2]) (Or.inl ⟨⟨rfl, rfl⟩, rfl⟩) dX1_ages_25 rfl hc rfl (y_F_mono _) (y_dle rfl) (y_dle rfl) rfl rfl
theorem wX1_ages_25_c13 (hc : y_cls ω a = some 13) : y_w M_X1_ages mc ms Q (25, lv, v2 :: v1 :: .ref a :: r, ω, c, s) = (y_cat r ≤ 8 ∧ F_X13_ages mc ms [.ref a, v1, v2] ω c s (y_aft M_X1_ages 25 3 lv r (y_w M_X1_ages mc ms Q) Q)) := w_call1 (av := [v1, v2]) (Or.inl ⟨⟨rfl, rfl⟩, rfl⟩) dX1_ages_25 rfl hc rfl (y_F_mono _) (y_dle rfl) (y_dle rfl) rfl rfl
theorem wX1_ages_28 : y_w M_X1_ages mc ms Q (28, lv, [.int x], ω, c, s) = Q (.returned (some (.int x))) ω c s := w_ireturnI dX1_ages_28 rfl
def P_X1_sail : y_Pool := ([(31, 1, 8, (.array .int), true), (34, 1, 9, (.array .int), true), (18, 1, 5, (.array .int), true), (37, 1, 10, (.array .int), true)], [], [], [(86, 1, 1, 4, (4, 87), F_X1_end), (90, 1, 1, 3, (4, 86), F_X1_ages)], [], [], [])
def M_X1_sail : y_Md := (cX1_sail, "YoungerBack$League", (3, none), (4, 87), false, P_X1_sail, [])
def F_X1_sail : y_Tr := y_F M_X1_sail
theorem nX1_sail : y_nL M_X1_sail = 3 := rfl
theorem fX1_sail_31_1 : y_ffP P_X1_sail 31 1 = some (8, (.array .int), true) := rfl
theorem fX1_sail_34_1 : y_ffP P_X1_sail 34 1 = some (9, (.array .int), true) := rfl
theorem fX1_sail_18_1 : y_ffP P_X1_sail 18 1 = some (5, (.array .int), true) := rfl
theorem fX1_sail_37_1 : y_ffP P_X1_sail 37 1 = some (10, (.array .int), true) := rfl
theorem wX1_sail_0 : y_w M_X1_sail mc ms Q (0, lv, st, ω, c, s) = y_ldA lv 0 (fun v => y_w M_X1_sail mc ms Q (1, lv, v :: st, ω, c, s)) := w_aload_n dX1_sail_0 rfl rfl
theorem wX1_sail_1 : y_w M_X1_sail mc ms Q (1, lv, .ref a :: r, ω, c, s) = y_gf P_X1_sail 31 (ω.2 a) (fun v => y_w M_X1_sail mc ms Q (4, lv, v :: r, ω, c, s)) := w_getfield dX1_sail_1 rfl rfl
theorem wX1_sail_4 : y_w M_X1_sail mc ms Q (4, lv, st, ω, c, s) = y_ldI lv 1 (fun v => y_w M_X1_sail mc ms Q (5, lv, v :: st, ω, c, s)) := w_iload_n dX1_sail_4 rfl rfl
theorem wX1_sail_5 : y_w M_X1_sail mc ms Q (5, lv, st, ω, c, s) = y_ldA lv 0 (fun v => y_w M_X1_sail mc ms Q (6, lv, v :: st, ω, c, s)) := w_aload_n dX1_sail_5 rfl rfl
theorem wX1_sail_6 : y_w M_X1_sail mc ms Q (6, lv, st, ω, c, s) = y_ldI lv 1 (fun v => y_w M_X1_sail mc ms Q (7, lv, v :: st, ω, c, s)) := w_iload_n dX1_sail_6 rfl rfl
theorem wX1_sail_7 : y_w M_X1_sail mc ms Q (7, lv, st, ω, c, s) = y_ldI lv 2 (fun v => y_w M_X1_sail mc ms Q (8, lv, v :: st, ω, c, s)) := w_iload_n dX1_sail_7 rfl rfl
theorem wX1_sail_8 : y_w M_X1_sail mc ms Q (8, lv, st, ω, c, s) = y_ldA lv 0 (fun v => y_w M_X1_sail mc ms Q (9, lv, v :: st, ω, c, s)) := w_aload_n dX1_sail_8 rfl rfl
theorem wX1_sail_9 : y_w M_X1_sail mc ms Q (9, lv, .ref a :: r, ω, c, s) = y_gf P_X1_sail 31 (ω.2 a) (fun v => y_w M_X1_sail mc ms Q (12, lv, v :: r, ω, c, s)) := w_getfield dX1_sail_9 rfl rfl
theorem wX1_sail_12 : y_w M_X1_sail mc ms Q (12, lv, st, ω, c, s) = y_ldI lv 1 (fun v => y_w M_X1_sail mc ms Q (13, lv, v :: st, ω, c, s)) := w_iload_n dX1_sail_12 rfl rfl
theorem wX1_sail_13 : y_w M_X1_sail mc ms Q (13, lv, .int j :: .ref a :: r, ω, c, s) = y_rI (ω.2 a) j (fun x => y_w M_X1_sail mc ms Q (14, lv, .int x :: r, ω, c, s)) := w_iaload dX1_sail_13 rfl
theorem wX1_sail_14 (hc : y_cls ω a = some 1) : y_w M_X1_sail mc ms Q (14, lv, v3 :: v2 :: v1 :: .ref a :: r, ω, c, s) = (y_cat r ≤ 8 ∧ F_X1_end mc ms [.ref a, v1, v2, v3] ω c s (y_aft M_X1_sail 14 3 lv r (y_w M_X1_sail mc ms Q) Q)) := w_call1 (av := [v1, v2, v3]) (Or.inl ⟨⟨rfl, rfl⟩, rfl⟩) dX1_sail_14 rfl hc rfl (y_F_mono _) (y_dle rfl) (y_dle rfl) rfl rfl
theorem wX1_sail_17 : y_w M_X1_sail mc ms Q (17, lv, .int x :: .int j :: .ref a :: r, ω, c, s) = y_wI (ω.2 a) j x (fun e => y_w M_X1_sail mc ms Q (18, lv, r, y_hup ω a e, c, s)) := w_iastore dX1_sail_17 rfl
theorem wX1_sail_18 : y_w M_X1_sail mc ms Q (18, lv, st, ω, c, s) = y_ldA lv 0 (fun v => y_w M_X1_sail mc ms Q (19, lv, v :: st, ω, c, s)) := w_aload_n dX1_sail_18 rfl rfl
theorem wX1_sail_19 : y_w M_X1_sail mc ms Q (19, lv, .ref a :: r, ω, c, s) = y_gf P_X1_sail 34 (ω.2 a) (fun v => y_w M_X1_sail mc ms Q (22, lv, v :: r, ω, c, s)) := w_getfield dX1_sail_19 rfl rfl
theorem wX1_sail_22 : y_w M_X1_sail mc ms Q (22, lv, st, ω, c, s) = y_ldI lv 1 (fun v => y_w M_X1_sail mc ms Q (23, lv, v :: st, ω, c, s)) := w_iload_n dX1_sail_22 rfl rfl
theorem wX1_sail_23 : y_w M_X1_sail mc ms Q (23, lv, v :: v1 :: r, ω, c, s) = ((v.category = 1 ∧ v1.category = 1) ∧ y_w M_X1_sail mc ms Q (24, lv, v :: v1 :: v :: v1 :: r, ω, c, s)) := w_dup2 dX1_sail_23 rfl
theorem wX1_sail_24 : y_w M_X1_sail mc ms Q (24, lv, .int j :: .ref a :: r, ω, c, s) = y_rI (ω.2 a) j (fun x => y_w M_X1_sail mc ms Q (25, lv, .int x :: r, ω, c, s)) := w_iaload dX1_sail_24 rfl
theorem wX1_sail_25 : y_w M_X1_sail mc ms Q (25, lv, st, ω, c, s) = y_ldA lv 0 (fun v => y_w M_X1_sail mc ms Q (26, lv, v :: st, ω, c, s)) := w_aload_n dX1_sail_25 rfl rfl
theorem wX1_sail_26 : y_w M_X1_sail mc ms Q (26, lv, .ref a :: r, ω, c, s) = y_gf P_X1_sail 18 (ω.2 a) (fun v => y_w M_X1_sail mc ms Q (29, lv, v :: r, ω, c, s)) := w_getfield dX1_sail_26 rfl rfl
theorem wX1_sail_29 : y_w M_X1_sail mc ms Q (29, lv, st, ω, c, s) = y_ldI lv 2 (fun v => y_w M_X1_sail mc ms Q (30, lv, v :: st, ω, c, s)) := w_iload_n dX1_sail_29 rfl rfl
theorem wX1_sail_30 : y_w M_X1_sail mc ms Q (30, lv, .int j :: .ref a :: r, ω, c, s) = y_rI (ω.2 a) j (fun x => y_w M_X1_sail mc ms Q (31, lv, .int x :: r, ω, c, s)) := w_iaload dX1_sail_30 rfl
theorem wX1_sail_31 : y_w M_X1_sail mc ms Q (31, lv, .int y :: .int x :: r, ω, c, s) = y_w M_X1_sail mc ms Q (32, lv, .int (x + y) :: r, ω, c, s) := w_iadd dX1_sail_31 rfl
theorem wX1_sail_32 : y_w M_X1_sail mc ms Q (32, lv, .int x :: .int j :: .ref a :: r, ω, c, s) = y_wI (ω.2 a) j x (fun e => y_w M_X1_sail mc ms Q (33, lv, r, y_hup ω a e, c, s)) := w_iastore dX1_sail_32 rfl
theorem wX1_sail_33 : y_w M_X1_sail mc ms Q (33, lv, st, ω, c, s) = y_ldA lv 0 (fun v => y_w M_X1_sail mc ms Q (34, lv, v :: st, ω, c, s)) := w_aload_n dX1_sail_33 rfl rfl
theorem wX1_sail_34 : y_w M_X1_sail mc ms Q (34, lv, .ref a :: r, ω, c, s) = y_gf P_X1_sail 37 (ω.2 a) (fun v => y_w M_X1_sail mc ms Q (37, lv, v :: r, ω, c, s)) := w_getfield dX1_sail_34 rfl rfl
theorem wX1_sail_37 : y_w M_X1_sail mc ms Q (37, lv, st, ω, c, s) = y_ldI lv 1 (fun v => y_w M_X1_sail mc ms Q (38, lv, v :: st, ω, c, s)) := w_iload_n dX1_sail_37 rfl rfl
theorem wX1_sail_38 : y_w M_X1_sail mc ms Q (38, lv, v :: v1 :: r, ω, c, s) = ((v.category = 1 ∧ v1.category = 1) ∧ y_w M_X1_sail mc ms Q (39, lv, v :: v1 :: v :: v1 :: r, ω, c, s)) := w_dup2 dX1_sail_38 rfl
theorem wX1_sail_39 : y_w M_X1_sail mc ms Q (39, lv, .int j :: .ref a :: r, ω, c, s) = y_rI (ω.2 a) j (fun x => y_w M_X1_sail mc ms Q (40, lv, .int x :: r, ω, c, s)) := w_iaload dX1_sail_39 rfl
theorem wX1_sail_40 : y_w M_X1_sail mc ms Q (40, lv, st, ω, c, s) = y_ldA lv 0 (fun v => y_w M_X1_sail mc ms Q (41, lv, v :: st, ω, c, s)) := w_aload_n dX1_sail_40 rfl rfl
theorem wX1_sail_41 : y_w M_X1_sail mc ms Q (41, lv, st, ω, c, s) = y_ldI lv 1 (fun v => y_w M_X1_sail mc ms Q (42, lv, v :: st, ω, c, s)) := w_iload_n dX1_sail_41 rfl rfl
theorem wX1_sail_42 : y_w M_X1_sail mc ms Q (42, lv, st, ω, c, s) = y_ldI lv 2 (fun v => y_w M_X1_sail mc ms Q (43, lv, v :: st, ω, c, s)) := w_iload_n dX1_sail_42 rfl rfl
theorem wX1_sail_43 (hc : y_cls ω a = some 1) : y_w M_X1_sail mc ms Q (43, lv, v2 :: v1 :: .ref a :: r, ω, c, s) = (y_cat r ≤ 8 ∧ F_X1_ages mc ms [.ref a, v1, v2] ω c s (y_aft M_X1_sail 43 3 lv r (y_w M_X1_sail mc ms Q) Q)) := w_call1 (av := [v1, v2]) (Or.inl ⟨⟨rfl, rfl⟩, rfl⟩) dX1_sail_43 rfl hc rfl (y_F_mono _) (y_dle rfl) (y_dle rfl) rfl rfl
theorem wX1_sail_46 : y_w M_X1_sail mc ms Q (46, lv, .int y :: .int x :: r, ω, c, s) = y_w M_X1_sail mc ms Q (47, lv, .int (x + y) :: r, ω, c, s) := w_iadd dX1_sail_46 rfl
theorem wX1_sail_47 : y_w M_X1_sail mc ms Q (47, lv, .int x :: .int j :: .ref a :: r, ω, c, s) = y_wI (ω.2 a) j x (fun e => y_w M_X1_sail mc ms Q (48, lv, r, y_hup ω a e, c, s)) := w_iastore dX1_sail_47 rfl
theorem wX1_sail_48 : y_w M_X1_sail mc ms Q (48, lv, [], ω, c, s) = Q (.returned none) ω c s := w_return dX1_sail_48 rfl
def P_X0_sail (ad : y_Ad) : y_Pool := ([(39, 0, 4, (.object "YoungerBack$League"), true), (193, 1, 5, (.array .int), true), (174, 1, 8, (.array .int), true)], [], [(93, .int (-1000001)), (192, .int (-1000002)), (130, .int (-1000003))], [(168, 1, 0, 2, (3, 61), F_X0_isPerson), (185, 1, 0, 2, (2, 46), F_X0_isWay), (188, 1, 0, 3, (5, 109), F_X0_canSail), (196, 1, 0, 3, (1, 22), F_X0_isTooLate), (199, 1, 0, 1, (6, 122), (F_X0_keep ad)), (202, 1, 1, 3, (5, 109), F_X1_sail)], [], [], [])
def M_X0_sail (ad : y_Ad) : y_Md := (cX0_sail, "YoungerBack", (3, (some FieldType.int)), (6, 122), false, (P_X0_sail ad), [])
def F_X0_sail (ad : y_Ad) : y_Tr := y_F (M_X0_sail ad)
theorem nX0_sail : y_nL (M_X0_sail ad) = 3 := rfl
theorem fX0_sail_39_0 : y_ffP (P_X0_sail ad) 39 0 = some (4, (.object "YoungerBack$League"), true) := rfl
theorem fX0_sail_193_1 : y_ffP (P_X0_sail ad) 193 1 = some (5, (.array .int), true) := rfl
theorem fX0_sail_174_1 : y_ffP (P_X0_sail ad) 174 1 = some (8, (.array .int), true) := rfl
theorem wX0_sail_0 : y_w (M_X0_sail ad) mc ms Q (0, lv, st, ω, c, s) = y_ldA lv 0 (fun v => y_w (M_X0_sail ad) mc ms Q (1, lv, v :: st, ω, c, s)) := w_aload_n dX0_sail_0 rfl rfl
theorem wX0_sail_1 : y_w (M_X0_sail ad) mc ms Q (1, lv, st, ω, c, s) = y_ldI lv 1 (fun v => y_w (M_X0_sail ad) mc ms Q (2, lv, v :: st, ω, c, s)) := w_iload_n dX0_sail_1 rfl rfl
theorem wX0_sail_2 (hc : y_cls ω a = some 0) : y_w (M_X0_sail ad) mc ms Q (2, lv, v1 :: .ref a :: r, ω, c, s) = (y_cat r ≤ 8 ∧ F_X0_isPerson mc ms [.ref a, v1] ω c s (y_aft (M_X0_sail ad) 2 3 lv r (y_w (M_X0_sail ad) mc ms Q) Q)) := w_call1 (av := [v1]) (Or.inl ⟨⟨rfl, rfl⟩, rfl⟩) dX0_sail_2 rfl hc rfl (y_F_mono _) (y_dle rfl) (y_dle rfl) rfl rfl
theorem wX0_sail_5 : y_w (M_X0_sail ad) mc ms Q (5, lv, .int x :: r, ω, c, s) = ((x = 0 → y_w (M_X0_sail ad) mc ms Q (16, lv, r, ω, c, s)) ∧ (¬ (x = 0) → y_w (M_X0_sail ad) mc ms Q (8, lv, r, ω, c, s))) := w_if dX0_sail_5 (tgt := 16) rfl rfl rfl
theorem wX0_sail_8 : y_w (M_X0_sail ad) mc ms Q (8, lv, st, ω, c, s) = y_ldA lv 0 (fun v => y_w (M_X0_sail ad) mc ms Q (9, lv, v :: st, ω, c, s)) := w_aload_n dX0_sail_8 rfl rfl
theorem wX0_sail_9 : y_w (M_X0_sail ad) mc ms Q (9, lv, st, ω, c, s) = y_ldI lv 2 (fun v => y_w (M_X0_sail ad) mc ms Q (10, lv, v :: st, ω, c, s)) := w_iload_n dX0_sail_9 rfl rfl
theorem wX0_sail_10 (hc : y_cls ω a = some 0) : y_w (M_X0_sail ad) mc ms Q (10, lv, v1 :: .ref a :: r, ω, c, s) = (y_cat r ≤ 8 ∧ F_X0_isWay mc ms [.ref a, v1] ω c s (y_aft (M_X0_sail ad) 10 3 lv r (y_w (M_X0_sail ad) mc ms Q) Q)) := w_call1 (av := [v1]) (Or.inl ⟨⟨rfl, rfl⟩, rfl⟩) dX0_sail_10 rfl hc rfl (y_F_mono _) (y_dle rfl) (y_dle rfl) rfl rfl
theorem wX0_sail_13 : y_w (M_X0_sail ad) mc ms Q (13, lv, .int x :: r, ω, c, s) = ((¬ x = 0 → y_w (M_X0_sail ad) mc ms Q (19, lv, r, ω, c, s)) ∧ (¬ (¬ x = 0) → y_w (M_X0_sail ad) mc ms Q (16, lv, r, ω, c, s))) := w_if dX0_sail_13 (tgt := 19) rfl rfl rfl
theorem wX0_sail_16 : y_w (M_X0_sail ad) mc ms Q (16, lv, st, ω, c, s) = y_w (M_X0_sail ad) mc ms Q (18, lv, .int (-1000001) :: st, ω, c, s) := w_ldc dX0_sail_16 rfl rfl rfl
theorem wX0_sail_18 : y_w (M_X0_sail ad) mc ms Q (18, lv, [.int x], ω, c, s) = Q (.returned (some (.int x))) ω c s := w_ireturnI dX0_sail_18 rfl
theorem wX0_sail_19 : y_w (M_X0_sail ad) mc ms Q (19, lv, st, ω, c, s) = y_ldA lv 0 (fun v => y_w (M_X0_sail ad) mc ms Q (20, lv, v :: st, ω, c, s)) := w_aload_n dX0_sail_19 rfl rfl
theorem wX0_sail_20 : y_w (M_X0_sail ad) mc ms Q (20, lv, st, ω, c, s) = y_ldI lv 1 (fun v => y_w (M_X0_sail ad) mc ms Q (21, lv, v :: st, ω, c, s)) := w_iload_n dX0_sail_20 rfl rfl
theorem wX0_sail_21 : y_w (M_X0_sail ad) mc ms Q (21, lv, st, ω, c, s) = y_ldI lv 2 (fun v => y_w (M_X0_sail ad) mc ms Q (22, lv, v :: st, ω, c, s)) := w_iload_n dX0_sail_21 rfl rfl
theorem wX0_sail_22 (hc : y_cls ω a = some 0) : y_w (M_X0_sail ad) mc ms Q (22, lv, v2 :: v1 :: .ref a :: r, ω, c, s) = (y_cat r ≤ 8 ∧ F_X0_canSail mc ms [.ref a, v1, v2] ω c s (y_aft (M_X0_sail ad) 22 3 lv r (y_w (M_X0_sail ad) mc ms Q) Q)) := w_call1 (av := [v1, v2]) (Or.inl ⟨⟨rfl, rfl⟩, rfl⟩) dX0_sail_22 rfl hc rfl (y_F_mono _) (y_dle rfl) (y_dle rfl) rfl rfl
theorem wX0_sail_25 : y_w (M_X0_sail ad) mc ms Q (25, lv, .int x :: r, ω, c, s) = ((¬ x = 0 → y_w (M_X0_sail ad) mc ms Q (31, lv, r, ω, c, s)) ∧ (¬ (¬ x = 0) → y_w (M_X0_sail ad) mc ms Q (28, lv, r, ω, c, s))) := w_if dX0_sail_25 (tgt := 31) rfl rfl rfl
theorem wX0_sail_28 : y_w (M_X0_sail ad) mc ms Q (28, lv, st, ω, c, s) = y_w (M_X0_sail ad) mc ms Q (30, lv, .int (-1000002) :: st, ω, c, s) := w_ldc dX0_sail_28 rfl rfl rfl
theorem wX0_sail_30 : y_w (M_X0_sail ad) mc ms Q (30, lv, [.int x], ω, c, s) = Q (.returned (some (.int x))) ω c s := w_ireturnI dX0_sail_30 rfl
theorem wX0_sail_31 : y_w (M_X0_sail ad) mc ms Q (31, lv, st, ω, c, s) = y_ldA lv 0 (fun v => y_w (M_X0_sail ad) mc ms Q (32, lv, v :: st, ω, c, s)) := w_aload_n dX0_sail_31 rfl rfl
theorem wX0_sail_32 : y_w (M_X0_sail ad) mc ms Q (32, lv, st, ω, c, s) = y_ldI lv 1 (fun v => y_w (M_X0_sail ad) mc ms Q (33, lv, v :: st, ω, c, s)) := w_iload_n dX0_sail_32 rfl rfl
theorem wX0_sail_33 : y_w (M_X0_sail ad) mc ms Q (33, lv, st, ω, c, s) = y_ldA lv 0 (fun v => y_w (M_X0_sail ad) mc ms Q (34, lv, v :: st, ω, c, s)) := w_aload_n dX0_sail_33 rfl rfl
theorem wX0_sail_34 : y_w (M_X0_sail ad) mc ms Q (34, lv, .ref a :: r, ω, c, s) = y_gf (P_X0_sail ad) 39 (ω.2 a) (fun v => y_w (M_X0_sail ad) mc ms Q (37, lv, v :: r, ω, c, s)) := w_getfield dX0_sail_34 rfl rfl
theorem wX0_sail_37 : y_w (M_X0_sail ad) mc ms Q (37, lv, .ref a :: r, ω, c, s) = y_gf (P_X0_sail ad) 193 (ω.2 a) (fun v => y_w (M_X0_sail ad) mc ms Q (40, lv, v :: r, ω, c, s)) := w_getfield dX0_sail_37 rfl rfl
theorem wX0_sail_40 : y_w (M_X0_sail ad) mc ms Q (40, lv, st, ω, c, s) = y_ldI lv 2 (fun v => y_w (M_X0_sail ad) mc ms Q (41, lv, v :: st, ω, c, s)) := w_iload_n dX0_sail_40 rfl rfl
theorem wX0_sail_41 : y_w (M_X0_sail ad) mc ms Q (41, lv, .int j :: .ref a :: r, ω, c, s) = y_rI (ω.2 a) j (fun x => y_w (M_X0_sail ad) mc ms Q (42, lv, .int x :: r, ω, c, s)) := w_iaload dX0_sail_41 rfl
theorem wX0_sail_42 (hc : y_cls ω a = some 0) : y_w (M_X0_sail ad) mc ms Q (42, lv, v2 :: v1 :: .ref a :: r, ω, c, s) = (y_cat r ≤ 8 ∧ F_X0_isTooLate mc ms [.ref a, v1, v2] ω c s (y_aft (M_X0_sail ad) 42 3 lv r (y_w (M_X0_sail ad) mc ms Q) Q)) := w_call1 (av := [v1, v2]) (Or.inl ⟨⟨rfl, rfl⟩, rfl⟩) dX0_sail_42 rfl hc rfl (y_F_mono _) (y_dle rfl) (y_dle rfl) rfl rfl
theorem wX0_sail_45 : y_w (M_X0_sail ad) mc ms Q (45, lv, .int x :: r, ω, c, s) = ((x = 0 → y_w (M_X0_sail ad) mc ms Q (51, lv, r, ω, c, s)) ∧ (¬ (x = 0) → y_w (M_X0_sail ad) mc ms Q (48, lv, r, ω, c, s))) := w_if dX0_sail_45 (tgt := 51) rfl rfl rfl
theorem wX0_sail_48 : y_w (M_X0_sail ad) mc ms Q (48, lv, st, ω, c, s) = y_w (M_X0_sail ad) mc ms Q (50, lv, .int (-1000003) :: st, ω, c, s) := w_ldc dX0_sail_48 rfl rfl rfl
theorem wX0_sail_50 : y_w (M_X0_sail ad) mc ms Q (50, lv, [.int x], ω, c, s) = Q (.returned (some (.int x))) ω c s := w_ireturnI dX0_sail_50 rfl
theorem wX0_sail_51 : y_w (M_X0_sail ad) mc ms Q (51, lv, st, ω, c, s) = y_ldA lv 0 (fun v => y_w (M_X0_sail ad) mc ms Q (52, lv, v :: st, ω, c, s)) := w_aload_n dX0_sail_51 rfl rfl
theorem wX0_sail_52 (hc : y_cls ω a = some 0) : y_w (M_X0_sail ad) mc ms Q (52, lv, .ref a :: r, ω, c, s) = (y_cat r ≤ 8 ∧ (F_X0_keep ad) mc ms [.ref a] ω c s (y_aft (M_X0_sail ad) 52 3 lv r (y_w (M_X0_sail ad) mc ms Q) Q)) := w_call1 (av := []) (Or.inl ⟨⟨rfl, rfl⟩, rfl⟩) dX0_sail_52 rfl hc rfl (y_F_mono _) (y_dle rfl) (y_dle rfl) rfl rfl
theorem wX0_sail_55 : y_w (M_X0_sail ad) mc ms Q (55, lv, st, ω, c, s) = y_ldA lv 0 (fun v => y_w (M_X0_sail ad) mc ms Q (56, lv, v :: st, ω, c, s)) := w_aload_n dX0_sail_55 rfl rfl
theorem wX0_sail_56 : y_w (M_X0_sail ad) mc ms Q (56, lv, .ref a :: r, ω, c, s) = y_gf (P_X0_sail ad) 39 (ω.2 a) (fun v => y_w (M_X0_sail ad) mc ms Q (59, lv, v :: r, ω, c, s)) := w_getfield dX0_sail_56 rfl rfl
theorem wX0_sail_59 : y_w (M_X0_sail ad) mc ms Q (59, lv, st, ω, c, s) = y_ldI lv 1 (fun v => y_w (M_X0_sail ad) mc ms Q (60, lv, v :: st, ω, c, s)) := w_iload_n dX0_sail_59 rfl rfl
theorem wX0_sail_60 : y_w (M_X0_sail ad) mc ms Q (60, lv, st, ω, c, s) = y_ldI lv 2 (fun v => y_w (M_X0_sail ad) mc ms Q (61, lv, v :: st, ω, c, s)) := w_iload_n dX0_sail_60 rfl rfl
theorem wX0_sail_61 (hc : y_cls ω a = some 1) : y_w (M_X0_sail ad) mc ms Q (61, lv, v2 :: v1 :: .ref a :: r, ω, c, s) = (y_cat r ≤ 8 ∧ F_X1_sail mc ms [.ref a, v1, v2] ω c s (y_aft (M_X0_sail ad) 61 3 lv r (y_w (M_X0_sail ad) mc ms Q) Q)) := w_call1 (av := [v1, v2]) (Or.inl ⟨⟨rfl, rfl⟩, rfl⟩) dX0_sail_61 rfl hc rfl (y_F_mono _) (y_dle rfl) (y_dle rfl) rfl rfl
theorem wX0_sail_64 : y_w (M_X0_sail ad) mc ms Q (64, lv, st, ω, c, s) = y_ldA lv 0 (fun v => y_w (M_X0_sail ad) mc ms Q (65, lv, v :: st, ω, c, s)) := w_aload_n dX0_sail_64 rfl rfl
theorem wX0_sail_65 : y_w (M_X0_sail ad) mc ms Q (65, lv, .ref a :: r, ω, c, s) = y_gf (P_X0_sail ad) 39 (ω.2 a) (fun v => y_w (M_X0_sail ad) mc ms Q (68, lv, v :: r, ω, c, s)) := w_getfield dX0_sail_65 rfl rfl
theorem wX0_sail_68 : y_w (M_X0_sail ad) mc ms Q (68, lv, .ref a :: r, ω, c, s) = y_gf (P_X0_sail ad) 174 (ω.2 a) (fun v => y_w (M_X0_sail ad) mc ms Q (71, lv, v :: r, ω, c, s)) := w_getfield dX0_sail_68 rfl rfl
theorem wX0_sail_71 : y_w (M_X0_sail ad) mc ms Q (71, lv, st, ω, c, s) = y_ldI lv 1 (fun v => y_w (M_X0_sail ad) mc ms Q (72, lv, v :: st, ω, c, s)) := w_iload_n dX0_sail_71 rfl rfl
theorem wX0_sail_72 : y_w (M_X0_sail ad) mc ms Q (72, lv, .int j :: .ref a :: r, ω, c, s) = y_rI (ω.2 a) j (fun x => y_w (M_X0_sail ad) mc ms Q (73, lv, .int x :: r, ω, c, s)) := w_iaload dX0_sail_72 rfl
theorem wX0_sail_73 : y_w (M_X0_sail ad) mc ms Q (73, lv, [.int x], ω, c, s) = Q (.returned (some (.int x))) ω c s := w_ireturnI dX0_sail_73 rfl
def P_X5_row (ad : y_Ad) : y_Pool := ([(15, 5, 1, (.array .int), true)], [], [], [(19, 0, 0, 2, (5, 110), (F_X0_must ad)), (23, 0, 0, 5, (1, 60), y_acopy)], [], [], [])
def M_X5_row (ad : y_Ad) : y_Md := (cX5_row, "YoungerBack$Row", (4, (some (FieldType.array FieldType.int))), (5, 110), false, (P_X5_row ad), [])
def F_X5_row (ad : y_Ad) : y_Tr := y_F (M_X5_row ad)
theorem nX5_row : y_nL (M_X5_row ad) = 4 := rfl
theorem fX5_row_15_5 : y_ffP (P_X5_row ad) 15 5 = some (1, (.array .int), true) := rfl
theorem wX5_row_0 : y_w (M_X5_row ad) mc ms Q (0, lv, st, ω, c, s) = y_ldI lv 1 (fun v => y_w (M_X5_row ad) mc ms Q (1, lv, v :: st, ω, c, s)) := w_iload_n dX5_row_0 rfl rfl
theorem wX5_row_1 : y_w (M_X5_row ad) mc ms Q (1, lv, .int x :: r, ω, c, s) = ((x < 0 → y_w (M_X5_row ad) mc ms Q (23, lv, r, ω, c, s)) ∧ (¬ (x < 0) → y_w (M_X5_row ad) mc ms Q (4, lv, r, ω, c, s))) := w_if dX5_row_1 (tgt := 23) rfl rfl rfl
theorem wX5_row_4 : y_w (M_X5_row ad) mc ms Q (4, lv, st, ω, c, s) = y_ldI lv 1 (fun v => y_w (M_X5_row ad) mc ms Q (5, lv, v :: st, ω, c, s)) := w_iload_n dX5_row_4 rfl rfl
theorem wX5_row_5 : y_w (M_X5_row ad) mc ms Q (5, lv, .int x :: r, ω, c, s) = y_w (M_X5_row ad) mc ms Q (6, lv, .long x.toInt64 :: r, ω, c, s) := w_i2l dX5_row_5 rfl
theorem wX5_row_6 : y_w (M_X5_row ad) mc ms Q (6, lv, st, ω, c, s) = y_ldI lv 2 (fun v => y_w (M_X5_row ad) mc ms Q (7, lv, v :: st, ω, c, s)) := w_iload_n dX5_row_6 rfl rfl
theorem wX5_row_7 : y_w (M_X5_row ad) mc ms Q (7, lv, .int x :: r, ω, c, s) = y_w (M_X5_row ad) mc ms Q (8, lv, .long x.toInt64 :: r, ω, c, s) := w_i2l dX5_row_7 rfl
theorem wX5_row_8 : y_w (M_X5_row ad) mc ms Q (8, lv, .long w :: .long z :: r, ω, c, s) = y_w (M_X5_row ad) mc ms Q (9, lv, .long (z + w) :: r, ω, c, s) := w_ladd dX5_row_8 rfl
theorem wX5_row_9 : y_w (M_X5_row ad) mc ms Q (9, lv, st, ω, c, s) = y_ldA lv 0 (fun v => y_w (M_X5_row ad) mc ms Q (10, lv, v :: st, ω, c, s)) := w_aload_n dX5_row_9 rfl rfl
theorem wX5_row_10 : y_w (M_X5_row ad) mc ms Q (10, lv, .ref a :: r, ω, c, s) = y_gf (P_X5_row ad) 15 (ω.2 a) (fun v => y_w (M_X5_row ad) mc ms Q (13, lv, v :: r, ω, c, s)) := w_getfield dX5_row_10 rfl rfl
theorem wX5_row_13 : y_w (M_X5_row ad) mc ms Q (13, lv, .ref a :: r, ω, c, s) = y_al (ω.2 a) (fun n => y_w (M_X5_row ad) mc ms Q (14, lv, .int n :: r, ω, c, s)) := w_arraylength dX5_row_13 rfl
theorem wX5_row_14 : y_w (M_X5_row ad) mc ms Q (14, lv, .int x :: r, ω, c, s) = y_w (M_X5_row ad) mc ms Q (15, lv, .long x.toInt64 :: r, ω, c, s) := w_i2l dX5_row_14 rfl
theorem wX5_row_15 : y_w (M_X5_row ad) mc ms Q (15, lv, .long w :: .long z :: r, ω, c, s) = y_w (M_X5_row ad) mc ms Q (16, lv, .int (lg_cmp z w) :: r, ω, c, s) := w_lcmp dX5_row_15 rfl
theorem wX5_row_16 : y_w (M_X5_row ad) mc ms Q (16, lv, .int x :: r, ω, c, s) = ((0 < x → y_w (M_X5_row ad) mc ms Q (23, lv, r, ω, c, s)) ∧ (¬ (0 < x) → y_w (M_X5_row ad) mc ms Q (19, lv, r, ω, c, s))) := w_if dX5_row_16 (tgt := 23) rfl rfl rfl
theorem wX5_row_19 : y_w (M_X5_row ad) mc ms Q (19, lv, st, ω, c, s) = y_w (M_X5_row ad) mc ms Q (20, lv, .int 1 :: st, ω, c, s) := w_iconst dX5_row_19 (v := 1) (by decide) rfl
theorem wX5_row_20 : y_w (M_X5_row ad) mc ms Q (20, lv, st, ω, c, s) = y_w (M_X5_row ad) mc ms Q (24, lv, st, ω, c, s) := w_goto dX5_row_20 (tgt := 24) (by decide) rfl
theorem wX5_row_23 : y_w (M_X5_row ad) mc ms Q (23, lv, st, ω, c, s) = y_w (M_X5_row ad) mc ms Q (24, lv, .int 0 :: st, ω, c, s) := w_iconst dX5_row_23 (v := 0) (by decide) rfl
theorem wX5_row_24 : y_w (M_X5_row ad) mc ms Q (24, lv, st, ω, c, s) = y_w (M_X5_row ad) mc ms Q (25, lv, .int (nI 2) :: st, ω, c, s) := w_iconst dX5_row_24 (v := (nI 2)) (by decide) rfl
theorem wX5_row_25 : y_w (M_X5_row ad) mc ms Q (25, lv, v1 :: v0 :: r, ω, c, s) = (y_cat r ≤ 8 ∧ (F_X0_must ad) mc ms [v0, v1] ω c s (y_aft (M_X5_row ad) 25 3 lv r (y_w (M_X5_row ad) mc ms Q) Q)) := w_call0 (av := [v0, v1]) ⟨Or.inr ⟨rfl, rfl⟩, rfl⟩ dX5_row_25 rfl (y_F_mono _) (y_dle rfl) (y_dle rfl) rfl rfl
theorem wX5_row_28 : y_w (M_X5_row ad) mc ms Q (28, lv, st, ω, c, s) = y_ldI lv 2 (fun v => y_w (M_X5_row ad) mc ms Q (29, lv, v :: st, ω, c, s)) := w_iload_n dX5_row_28 rfl rfl
theorem wX5_row_29 : y_w (M_X5_row ad) mc ms Q (29, lv, .int x :: r, ω, c, s) = ((¬ x < 0 ∧ x.toNatClampNeg * 4 ≤ 536870912 ∧ y_room mc ms c s x.toNatClampNeg) ∧ y_w (M_X5_row ad) mc ms Q (31, lv, .ref ω.1 :: r, y_hnew ω (.inl (0, y_at2 0 x.toNatClampNeg)), c + 1, s + x.toNatClampNeg)) := w_newarray dX5_row_29 rfl rfl rfl
theorem wX5_row_31 : y_w (M_X5_row ad) mc ms Q (31, lv, v :: r, ω, c, s) = (y_isA v = true ∧ y_w (M_X5_row ad) mc ms Q (32, (3, v) :: y_kill 3 lv, r, ω, c, s)) := w_astore_n dX5_row_31 rfl (y_dle rfl) rfl
theorem wX5_row_32 : y_w (M_X5_row ad) mc ms Q (32, lv, st, ω, c, s) = y_ldA lv 0 (fun v => y_w (M_X5_row ad) mc ms Q (33, lv, v :: st, ω, c, s)) := w_aload_n dX5_row_32 rfl rfl
theorem wX5_row_33 : y_w (M_X5_row ad) mc ms Q (33, lv, .ref a :: r, ω, c, s) = y_gf (P_X5_row ad) 15 (ω.2 a) (fun v => y_w (M_X5_row ad) mc ms Q (36, lv, v :: r, ω, c, s)) := w_getfield dX5_row_33 rfl rfl
theorem wX5_row_36 : y_w (M_X5_row ad) mc ms Q (36, lv, st, ω, c, s) = y_ldI lv 1 (fun v => y_w (M_X5_row ad) mc ms Q (37, lv, v :: st, ω, c, s)) := w_iload_n dX5_row_36 rfl rfl
theorem wX5_row_37 : y_w (M_X5_row ad) mc ms Q (37, lv, st, ω, c, s) = y_ldA lv 3 (fun v => y_w (M_X5_row ad) mc ms Q (38, lv, v :: st, ω, c, s)) := w_aload_n dX5_row_37 rfl rfl
theorem wX5_row_38 : y_w (M_X5_row ad) mc ms Q (38, lv, st, ω, c, s) = y_w (M_X5_row ad) mc ms Q (39, lv, .int 0 :: st, ω, c, s) := w_iconst dX5_row_38 (v := 0) (by decide) rfl
theorem wX5_row_39 : y_w (M_X5_row ad) mc ms Q (39, lv, st, ω, c, s) = y_ldI lv 2 (fun v => y_w (M_X5_row ad) mc ms Q (40, lv, v :: st, ω, c, s)) := w_iload_n dX5_row_39 rfl rfl
theorem wX5_row_40 : y_w (M_X5_row ad) mc ms Q (40, lv, v4 :: v3 :: v2 :: v1 :: v0 :: r, ω, c, s) = (y_cat r ≤ 8 ∧ y_acopy mc ms [v0, v1, v2, v3, v4] ω c s (y_aft (M_X5_row ad) 40 3 lv r (y_w (M_X5_row ad) mc ms Q) Q)) := w_call0 (av := [v0, v1, v2, v3, v4]) ⟨Or.inr ⟨rfl, rfl⟩, rfl⟩ dX5_row_40 rfl y_acopy_mono (y_dle rfl) (y_dle rfl) rfl rfl
theorem wX5_row_43 : y_w (M_X5_row ad) mc ms Q (43, lv, st, ω, c, s) = y_ldA lv 3 (fun v => y_w (M_X5_row ad) mc ms Q (44, lv, v :: st, ω, c, s)) := w_aload_n dX5_row_43 rfl rfl
theorem wX5_row_44 : y_w (M_X5_row ad) mc ms Q (44, lv, [.ref a], ω, c, s) = Q (.returned (some (.ref a))) ω c s := w_areturn dX5_row_44 rfl (Or.inr ⟨_, rfl⟩)
def P_X0_sails (ad : y_Ad) : y_Pool := ([(39, 0, 4, (.object "YoungerBack$League"), true), (193, 1, 5, (.array .int), true)], [], [(205, .long (lN 24)), (93, .int (-1000001))], [(87, 0, 0, 1, (2, 45), F_X0_isRow), (79, 0, 0, 3, (1, 25), F_X0_isIn), (168, 1, 0, 2, (3, 61), F_X0_isPerson), (103, 1, 0, 2, (6, 131), (F_X0_rowAt ad)), (207, 1, 5, 3, (6, 133), (F_X5_row ad)), (185, 1, 0, 2, (2, 46), F_X0_isWay), (188, 1, 0, 3, (5, 109), F_X0_canSail), (196, 1, 0, 3, (1, 22), F_X0_isTooLate), (199, 1, 0, 1, (6, 122), (F_X0_keep ad)), (202, 1, 1, 3, (5, 109), F_X1_sail), (95, 1, 0, 2, (1, 21), F_X0_well), (99, 1, 0, 2, (1, 21), F_X0_found)], [(65, 4, 3), (65, 7, 2), (65, 17, 2), (65, 18, 2)], [], [])
def M_X0_sails (ad : y_Ad) : y_Md := (cX0_sails, "YoungerBack", (7, (some FieldType.int)), (6, 133), false, (P_X0_sails ad), [(31, 68, 149, 65), (69, 148, 149, 65)])
def F_X0_sails (ad : y_Ad) : y_Tr := y_F (M_X0_sails ad)
theorem nX0_sails : y_nL (M_X0_sails ad) = 7 := rfl
theorem tX0_sails_65_4 : y_fh (M_X0_sails ad) 65 4 = some 3 := rfl
theorem tX0_sails_65_7 : y_fh (M_X0_sails ad) 65 7 = some 2 := rfl
theorem tX0_sails_65_17 : y_fh (M_X0_sails ad) 65 17 = some 2 := rfl
theorem tX0_sails_65_18 : y_fh (M_X0_sails ad) 65 18 = some 2 := rfl
theorem fX0_sails_39_0 : y_ffP (P_X0_sails ad) 39 0 = some (4, (.object "YoungerBack$League"), true) := rfl
theorem fX0_sails_193_1 : y_ffP (P_X0_sails ad) 193 1 = some (5, (.array .int), true) := rfl
theorem wX0_sails_0 : y_w (M_X0_sails ad) mc ms Q (0, lv, st, ω, c, s) = y_ldI lv 2 (fun v => y_w (M_X0_sails ad) mc ms Q (1, lv, v :: st, ω, c, s)) := w_iload_n dX0_sails_0 rfl rfl
theorem wX0_sails_1 : y_w (M_X0_sails ad) mc ms Q (1, lv, v0 :: r, ω, c, s) = (y_cat r ≤ 8 ∧ F_X0_isRow mc ms [v0] ω c s (y_aft (M_X0_sails ad) 1 3 lv r (y_w (M_X0_sails ad) mc ms Q) Q)) := w_call0 (av := [v0]) ⟨Or.inr ⟨rfl, rfl⟩, rfl⟩ dX0_sails_1 rfl (y_F_mono _) (y_dle rfl) (y_dle rfl) rfl rfl
theorem wX0_sails_4 : y_w (M_X0_sails ad) mc ms Q (4, lv, .int x :: r, ω, c, s) = ((x = 0 → y_w (M_X0_sails ad) mc ms Q (28, lv, r, ω, c, s)) ∧ (¬ (x = 0) → y_w (M_X0_sails ad) mc ms Q (7, lv, r, ω, c, s))) := w_if dX0_sails_4 (tgt := 28) rfl rfl rfl
theorem wX0_sails_7 : y_w (M_X0_sails ad) mc ms Q (7, lv, st, ω, c, s) = y_ldI lv 4 (fun v => y_w (M_X0_sails ad) mc ms Q (9, lv, v :: st, ω, c, s)) := w_iload dX0_sails_7 rfl
theorem wX0_sails_9 : y_w (M_X0_sails ad) mc ms Q (9, lv, .int x :: r, ω, c, s) = y_w (M_X0_sails ad) mc ms Q (10, lv, .long x.toInt64 :: r, ω, c, s) := w_i2l dX0_sails_9 rfl
theorem wX0_sails_10 : y_w (M_X0_sails ad) mc ms Q (10, lv, st, ω, c, s) = y_w (M_X0_sails ad) mc ms Q (11, lv, .long 1 :: st, ω, c, s) := w_lconst dX0_sails_10 (v := 1) (by decide) rfl
theorem wX0_sails_11 : y_w (M_X0_sails ad) mc ms Q (11, lv, st, ω, c, s) = y_w (M_X0_sails ad) mc ms Q (14, lv, .long (lN 24) :: st, ω, c, s) := w_ldc2_w dX0_sails_11 rfl rfl rfl
theorem wX0_sails_14 : y_w (M_X0_sails ad) mc ms Q (14, lv, v2 :: v1 :: v0 :: r, ω, c, s) = (y_cat r ≤ 8 ∧ F_X0_isIn mc ms [v0, v1, v2] ω c s (y_aft (M_X0_sails ad) 14 3 lv r (y_w (M_X0_sails ad) mc ms Q) Q)) := w_call0 (av := [v0, v1, v2]) ⟨Or.inr ⟨rfl, rfl⟩, rfl⟩ dX0_sails_14 rfl (y_F_mono _) (y_dle rfl) (y_dle rfl) rfl rfl
theorem wX0_sails_17 : y_w (M_X0_sails ad) mc ms Q (17, lv, .int x :: r, ω, c, s) = ((x = 0 → y_w (M_X0_sails ad) mc ms Q (28, lv, r, ω, c, s)) ∧ (¬ (x = 0) → y_w (M_X0_sails ad) mc ms Q (20, lv, r, ω, c, s))) := w_if dX0_sails_17 (tgt := 28) rfl rfl rfl
theorem wX0_sails_20 : y_w (M_X0_sails ad) mc ms Q (20, lv, st, ω, c, s) = y_ldA lv 0 (fun v => y_w (M_X0_sails ad) mc ms Q (21, lv, v :: st, ω, c, s)) := w_aload_n dX0_sails_20 rfl rfl
theorem wX0_sails_21 : y_w (M_X0_sails ad) mc ms Q (21, lv, st, ω, c, s) = y_ldI lv 1 (fun v => y_w (M_X0_sails ad) mc ms Q (22, lv, v :: st, ω, c, s)) := w_iload_n dX0_sails_21 rfl rfl
theorem wX0_sails_22 (hc : y_cls ω a = some 0) : y_w (M_X0_sails ad) mc ms Q (22, lv, v1 :: .ref a :: r, ω, c, s) = (y_cat r ≤ 8 ∧ F_X0_isPerson mc ms [.ref a, v1] ω c s (y_aft (M_X0_sails ad) 22 3 lv r (y_w (M_X0_sails ad) mc ms Q) Q)) := w_call1 (av := [v1]) (Or.inl ⟨⟨rfl, rfl⟩, rfl⟩) dX0_sails_22 rfl hc rfl (y_F_mono _) (y_dle rfl) (y_dle rfl) rfl rfl
theorem wX0_sails_25 : y_w (M_X0_sails ad) mc ms Q (25, lv, .int x :: r, ω, c, s) = ((¬ x = 0 → y_w (M_X0_sails ad) mc ms Q (31, lv, r, ω, c, s)) ∧ (¬ (¬ x = 0) → y_w (M_X0_sails ad) mc ms Q (28, lv, r, ω, c, s))) := w_if dX0_sails_25 (tgt := 31) rfl rfl rfl
theorem wX0_sails_28 : y_w (M_X0_sails ad) mc ms Q (28, lv, st, ω, c, s) = y_w (M_X0_sails ad) mc ms Q (30, lv, .int (-1000001) :: st, ω, c, s) := w_ldc dX0_sails_28 rfl rfl rfl
theorem wX0_sails_30 : y_w (M_X0_sails ad) mc ms Q (30, lv, [.int x], ω, c, s) = Q (.returned (some (.int x))) ω c s := w_ireturnI dX0_sails_30 rfl
theorem wX0_sails_31 : y_w (M_X0_sails ad) mc ms Q (31, lv, st, ω, c, s) = y_ldA lv 0 (fun v => y_w (M_X0_sails ad) mc ms Q (32, lv, v :: st, ω, c, s)) := w_aload_n dX0_sails_31 rfl rfl
theorem wX0_sails_32 : y_w (M_X0_sails ad) mc ms Q (32, lv, st, ω, c, s) = y_ldI lv 2 (fun v => y_w (M_X0_sails ad) mc ms Q (33, lv, v :: st, ω, c, s)) := w_iload_n dX0_sails_32 rfl rfl
theorem wX0_sails_33 (hc : y_cls ω a = some 0) : y_w (M_X0_sails ad) mc ms Q (33, lv, v1 :: .ref a :: r, ω, c, s) = (y_cat r ≤ 8 ∧ (F_X0_rowAt ad) mc ms [.ref a, v1] ω c s (y_aft (M_X0_sails ad) 33 3 lv r (y_w (M_X0_sails ad) mc ms Q) Q)) := w_call1 (av := [v1]) (Or.inl ⟨⟨rfl, rfl⟩, rfl⟩) dX0_sails_33 rfl hc rfl (y_F_mono _) (y_dle rfl) (y_dle rfl) rfl rfl
theorem wX0_sails_36 : y_w (M_X0_sails ad) mc ms Q (36, lv, st, ω, c, s) = y_ldI lv 3 (fun v => y_w (M_X0_sails ad) mc ms Q (37, lv, v :: st, ω, c, s)) := w_iload_n dX0_sails_36 rfl rfl
theorem wX0_sails_37 : y_w (M_X0_sails ad) mc ms Q (37, lv, st, ω, c, s) = y_ldI lv 4 (fun v => y_w (M_X0_sails ad) mc ms Q (39, lv, v :: st, ω, c, s)) := w_iload dX0_sails_37 rfl
theorem wX0_sails_39 (hc : y_cls ω a = some 5) : y_w (M_X0_sails ad) mc ms Q (39, lv, v2 :: v1 :: .ref a :: r, ω, c, s) = (y_cat r ≤ 8 ∧ (F_X5_row ad) mc ms [.ref a, v1, v2] ω c s (y_aft (M_X0_sails ad) 39 3 lv r (y_w (M_X0_sails ad) mc ms Q) Q)) := w_call1 (av := [v1, v2]) (Or.inl ⟨⟨rfl, rfl⟩, rfl⟩) dX0_sails_39 rfl hc rfl (y_F_mono _) (y_dle rfl) (y_dle rfl) rfl rfl
theorem wX0_sails_42 : y_w (M_X0_sails ad) mc ms Q (42, lv, v :: r, ω, c, s) = (y_isA v = true ∧ y_w (M_X0_sails ad) mc ms Q (44, (5, v) :: y_kill 5 lv, r, ω, c, s)) := w_astore dX0_sails_42 (y_dle rfl) rfl
theorem wX0_sails_44 : y_w (M_X0_sails ad) mc ms Q (44, lv, st, ω, c, s) = y_w (M_X0_sails ad) mc ms Q (45, lv, .int 0 :: st, ω, c, s) := w_iconst dX0_sails_44 (v := 0) (by decide) rfl
theorem wX0_sails_45 : y_w (M_X0_sails ad) mc ms Q (45, lv, .int x :: r, ω, c, s) = y_w (M_X0_sails ad) mc ms Q (47, (6, .int x) :: y_kill 6 lv, r, ω, c, s) := w_istore dX0_sails_45 (y_dle rfl) rfl
theorem wX0_sails_47 : y_w (M_X0_sails ad) mc ms Q (47, lv, st, ω, c, s) = y_ldI lv 6 (fun v => y_w (M_X0_sails ad) mc ms Q (49, lv, v :: st, ω, c, s)) := w_iload dX0_sails_47 rfl
theorem wX0_sails_49 : y_w (M_X0_sails ad) mc ms Q (49, lv, st, ω, c, s) = y_ldI lv 4 (fun v => y_w (M_X0_sails ad) mc ms Q (51, lv, v :: st, ω, c, s)) := w_iload dX0_sails_49 rfl
theorem wX0_sails_51 : y_w (M_X0_sails ad) mc ms Q (51, lv, .int y :: .int x :: r, ω, c, s) = ((y ≤ x → y_w (M_X0_sails ad) mc ms Q (75, lv, r, ω, c, s)) ∧ (¬ (y ≤ x) → y_w (M_X0_sails ad) mc ms Q (54, lv, r, ω, c, s))) := w_icmp dX0_sails_51 (tgt := 75) rfl rfl rfl
theorem wX0_sails_54 : y_w (M_X0_sails ad) mc ms Q (54, lv, st, ω, c, s) = y_ldA lv 0 (fun v => y_w (M_X0_sails ad) mc ms Q (55, lv, v :: st, ω, c, s)) := w_aload_n dX0_sails_54 rfl rfl
theorem wX0_sails_55 : y_w (M_X0_sails ad) mc ms Q (55, lv, st, ω, c, s) = y_ldA lv 5 (fun v => y_w (M_X0_sails ad) mc ms Q (57, lv, v :: st, ω, c, s)) := w_aload dX0_sails_55 rfl
theorem wX0_sails_57 : y_w (M_X0_sails ad) mc ms Q (57, lv, st, ω, c, s) = y_ldI lv 6 (fun v => y_w (M_X0_sails ad) mc ms Q (59, lv, v :: st, ω, c, s)) := w_iload dX0_sails_57 rfl
theorem wX0_sails_59 : y_w (M_X0_sails ad) mc ms Q (59, lv, .int j :: .ref a :: r, ω, c, s) = y_rI (ω.2 a) j (fun x => y_w (M_X0_sails ad) mc ms Q (60, lv, .int x :: r, ω, c, s)) := w_iaload dX0_sails_59 rfl
theorem wX0_sails_60 (hc : y_cls ω a = some 0) : y_w (M_X0_sails ad) mc ms Q (60, lv, v1 :: .ref a :: r, ω, c, s) = (y_cat r ≤ 8 ∧ F_X0_isWay mc ms [.ref a, v1] ω c s (y_aft (M_X0_sails ad) 60 3 lv r (y_w (M_X0_sails ad) mc ms Q) Q)) := w_call1 (av := [v1]) (Or.inl ⟨⟨rfl, rfl⟩, rfl⟩) dX0_sails_60 rfl hc rfl (y_F_mono _) (y_dle rfl) (y_dle rfl) rfl rfl
theorem wX0_sails_63 : y_w (M_X0_sails ad) mc ms Q (63, lv, .int x :: r, ω, c, s) = ((¬ x = 0 → y_w (M_X0_sails ad) mc ms Q (69, lv, r, ω, c, s)) ∧ (¬ (¬ x = 0) → y_w (M_X0_sails ad) mc ms Q (66, lv, r, ω, c, s))) := w_if dX0_sails_63 (tgt := 69) rfl rfl rfl
theorem wX0_sails_66 : y_w (M_X0_sails ad) mc ms Q (66, lv, st, ω, c, s) = y_w (M_X0_sails ad) mc ms Q (68, lv, .int (-1000001) :: st, ω, c, s) := w_ldc dX0_sails_66 rfl rfl rfl
theorem wX0_sails_68 : y_w (M_X0_sails ad) mc ms Q (68, lv, [.int x], ω, c, s) = Q (.returned (some (.int x))) ω c s := w_ireturnI dX0_sails_68 rfl
theorem wX0_sails_69 : y_w (M_X0_sails ad) mc ms Q (69, lv, st, ω, c, s) = y_inc lv 6 (fun x => y_w (M_X0_sails ad) mc ms Q (72, (6, .int (x + 1)) :: y_kill 6 lv, st, ω, c, s)) := w_iinc dX0_sails_69 (d := 1) (by decide) (y_dle rfl) rfl
theorem wX0_sails_72 : y_w (M_X0_sails ad) mc ms Q (72, lv, st, ω, c, s) = ∃ lv2, y_lsub lv2 lv ∧ y_w (M_X0_sails ad) mc ms Q (47, lv2, st, ω, c, s) := w_back dX0_sails_72 (tgt := 47) (by decide) rfl
theorem wX0_sails_75 : y_w (M_X0_sails ad) mc ms Q (75, lv, st, ω, c, s) = y_w (M_X0_sails ad) mc ms Q (76, lv, .int 0 :: st, ω, c, s) := w_iconst dX0_sails_75 (v := 0) (by decide) rfl
theorem wX0_sails_76 : y_w (M_X0_sails ad) mc ms Q (76, lv, .int x :: r, ω, c, s) = y_w (M_X0_sails ad) mc ms Q (78, (6, .int x) :: y_kill 6 lv, r, ω, c, s) := w_istore dX0_sails_76 (y_dle rfl) rfl
theorem wX0_sails_78 : y_w (M_X0_sails ad) mc ms Q (78, lv, st, ω, c, s) = y_ldI lv 6 (fun v => y_w (M_X0_sails ad) mc ms Q (80, lv, v :: st, ω, c, s)) := w_iload dX0_sails_78 rfl
theorem wX0_sails_80 : y_w (M_X0_sails ad) mc ms Q (80, lv, st, ω, c, s) = y_ldI lv 4 (fun v => y_w (M_X0_sails ad) mc ms Q (82, lv, v :: st, ω, c, s)) := w_iload dX0_sails_80 rfl
theorem wX0_sails_82 : y_w (M_X0_sails ad) mc ms Q (82, lv, .int y :: .int x :: r, ω, c, s) = ((y ≤ x → y_w (M_X0_sails ad) mc ms Q (142, lv, r, ω, c, s)) ∧ (¬ (y ≤ x) → y_w (M_X0_sails ad) mc ms Q (85, lv, r, ω, c, s))) := w_icmp dX0_sails_82 (tgt := 142) rfl rfl rfl
theorem wX0_sails_85 : y_w (M_X0_sails ad) mc ms Q (85, lv, st, ω, c, s) = y_ldA lv 0 (fun v => y_w (M_X0_sails ad) mc ms Q (86, lv, v :: st, ω, c, s)) := w_aload_n dX0_sails_85 rfl rfl
theorem wX0_sails_86 : y_w (M_X0_sails ad) mc ms Q (86, lv, st, ω, c, s) = y_ldI lv 1 (fun v => y_w (M_X0_sails ad) mc ms Q (87, lv, v :: st, ω, c, s)) := w_iload_n dX0_sails_86 rfl rfl
theorem wX0_sails_87 : y_w (M_X0_sails ad) mc ms Q (87, lv, st, ω, c, s) = y_ldA lv 5 (fun v => y_w (M_X0_sails ad) mc ms Q (89, lv, v :: st, ω, c, s)) := w_aload dX0_sails_87 rfl
theorem wX0_sails_89 : y_w (M_X0_sails ad) mc ms Q (89, lv, st, ω, c, s) = y_ldI lv 6 (fun v => y_w (M_X0_sails ad) mc ms Q (91, lv, v :: st, ω, c, s)) := w_iload dX0_sails_89 rfl
theorem wX0_sails_91 : y_w (M_X0_sails ad) mc ms Q (91, lv, .int j :: .ref a :: r, ω, c, s) = y_rI (ω.2 a) j (fun x => y_w (M_X0_sails ad) mc ms Q (92, lv, .int x :: r, ω, c, s)) := w_iaload dX0_sails_91 rfl
theorem wX0_sails_92 (hc : y_cls ω a = some 0) : y_w (M_X0_sails ad) mc ms Q (92, lv, v2 :: v1 :: .ref a :: r, ω, c, s) = (y_cat r ≤ 8 ∧ F_X0_canSail mc ms [.ref a, v1, v2] ω c s (y_aft (M_X0_sails ad) 92 3 lv r (y_w (M_X0_sails ad) mc ms Q) Q)) := w_call1 (av := [v1, v2]) (Or.inl ⟨⟨rfl, rfl⟩, rfl⟩) dX0_sails_92 rfl hc rfl (y_F_mono _) (y_dle rfl) (y_dle rfl) rfl rfl
theorem wX0_sails_95 : y_w (M_X0_sails ad) mc ms Q (95, lv, .int x :: r, ω, c, s) = ((x = 0 → y_w (M_X0_sails ad) mc ms Q (142, lv, r, ω, c, s)) ∧ (¬ (x = 0) → y_w (M_X0_sails ad) mc ms Q (98, lv, r, ω, c, s))) := w_if dX0_sails_95 (tgt := 142) rfl rfl rfl
theorem wX0_sails_98 : y_w (M_X0_sails ad) mc ms Q (98, lv, st, ω, c, s) = y_ldA lv 0 (fun v => y_w (M_X0_sails ad) mc ms Q (99, lv, v :: st, ω, c, s)) := w_aload_n dX0_sails_98 rfl rfl
theorem wX0_sails_99 : y_w (M_X0_sails ad) mc ms Q (99, lv, st, ω, c, s) = y_ldI lv 1 (fun v => y_w (M_X0_sails ad) mc ms Q (100, lv, v :: st, ω, c, s)) := w_iload_n dX0_sails_99 rfl rfl
theorem wX0_sails_100 : y_w (M_X0_sails ad) mc ms Q (100, lv, st, ω, c, s) = y_ldA lv 0 (fun v => y_w (M_X0_sails ad) mc ms Q (101, lv, v :: st, ω, c, s)) := w_aload_n dX0_sails_100 rfl rfl
theorem wX0_sails_101 : y_w (M_X0_sails ad) mc ms Q (101, lv, .ref a :: r, ω, c, s) = y_gf (P_X0_sails ad) 39 (ω.2 a) (fun v => y_w (M_X0_sails ad) mc ms Q (104, lv, v :: r, ω, c, s)) := w_getfield dX0_sails_101 rfl rfl
theorem wX0_sails_104 : y_w (M_X0_sails ad) mc ms Q (104, lv, .ref a :: r, ω, c, s) = y_gf (P_X0_sails ad) 193 (ω.2 a) (fun v => y_w (M_X0_sails ad) mc ms Q (107, lv, v :: r, ω, c, s)) := w_getfield dX0_sails_104 rfl rfl
theorem wX0_sails_107 : y_w (M_X0_sails ad) mc ms Q (107, lv, st, ω, c, s) = y_ldA lv 5 (fun v => y_w (M_X0_sails ad) mc ms Q (109, lv, v :: st, ω, c, s)) := w_aload dX0_sails_107 rfl
theorem wX0_sails_109 : y_w (M_X0_sails ad) mc ms Q (109, lv, st, ω, c, s) = y_ldI lv 6 (fun v => y_w (M_X0_sails ad) mc ms Q (111, lv, v :: st, ω, c, s)) := w_iload dX0_sails_109 rfl
theorem wX0_sails_111 : y_w (M_X0_sails ad) mc ms Q (111, lv, .int j :: .ref a :: r, ω, c, s) = y_rI (ω.2 a) j (fun x => y_w (M_X0_sails ad) mc ms Q (112, lv, .int x :: r, ω, c, s)) := w_iaload dX0_sails_111 rfl
theorem wX0_sails_112 : y_w (M_X0_sails ad) mc ms Q (112, lv, .int j :: .ref a :: r, ω, c, s) = y_rI (ω.2 a) j (fun x => y_w (M_X0_sails ad) mc ms Q (113, lv, .int x :: r, ω, c, s)) := w_iaload dX0_sails_112 rfl
theorem wX0_sails_113 (hc : y_cls ω a = some 0) : y_w (M_X0_sails ad) mc ms Q (113, lv, v2 :: v1 :: .ref a :: r, ω, c, s) = (y_cat r ≤ 8 ∧ F_X0_isTooLate mc ms [.ref a, v1, v2] ω c s (y_aft (M_X0_sails ad) 113 3 lv r (y_w (M_X0_sails ad) mc ms Q) Q)) := w_call1 (av := [v1, v2]) (Or.inl ⟨⟨rfl, rfl⟩, rfl⟩) dX0_sails_113 rfl hc rfl (y_F_mono _) (y_dle rfl) (y_dle rfl) rfl rfl
theorem wX0_sails_116 : y_w (M_X0_sails ad) mc ms Q (116, lv, .int x :: r, ω, c, s) = ((¬ x = 0 → y_w (M_X0_sails ad) mc ms Q (142, lv, r, ω, c, s)) ∧ (¬ (¬ x = 0) → y_w (M_X0_sails ad) mc ms Q (119, lv, r, ω, c, s))) := w_if dX0_sails_116 (tgt := 142) rfl rfl rfl
theorem wX0_sails_119 : y_w (M_X0_sails ad) mc ms Q (119, lv, st, ω, c, s) = y_ldA lv 0 (fun v => y_w (M_X0_sails ad) mc ms Q (120, lv, v :: st, ω, c, s)) := w_aload_n dX0_sails_119 rfl rfl
theorem wX0_sails_120 (hc : y_cls ω a = some 0) : y_w (M_X0_sails ad) mc ms Q (120, lv, .ref a :: r, ω, c, s) = (y_cat r ≤ 8 ∧ (F_X0_keep ad) mc ms [.ref a] ω c s (y_aft (M_X0_sails ad) 120 3 lv r (y_w (M_X0_sails ad) mc ms Q) Q)) := w_call1 (av := []) (Or.inl ⟨⟨rfl, rfl⟩, rfl⟩) dX0_sails_120 rfl hc rfl (y_F_mono _) (y_dle rfl) (y_dle rfl) rfl rfl
theorem wX0_sails_123 : y_w (M_X0_sails ad) mc ms Q (123, lv, st, ω, c, s) = y_ldA lv 0 (fun v => y_w (M_X0_sails ad) mc ms Q (124, lv, v :: st, ω, c, s)) := w_aload_n dX0_sails_123 rfl rfl
theorem wX0_sails_124 : y_w (M_X0_sails ad) mc ms Q (124, lv, .ref a :: r, ω, c, s) = y_gf (P_X0_sails ad) 39 (ω.2 a) (fun v => y_w (M_X0_sails ad) mc ms Q (127, lv, v :: r, ω, c, s)) := w_getfield dX0_sails_124 rfl rfl
theorem wX0_sails_127 : y_w (M_X0_sails ad) mc ms Q (127, lv, st, ω, c, s) = y_ldI lv 1 (fun v => y_w (M_X0_sails ad) mc ms Q (128, lv, v :: st, ω, c, s)) := w_iload_n dX0_sails_127 rfl rfl
theorem wX0_sails_128 : y_w (M_X0_sails ad) mc ms Q (128, lv, st, ω, c, s) = y_ldA lv 5 (fun v => y_w (M_X0_sails ad) mc ms Q (130, lv, v :: st, ω, c, s)) := w_aload dX0_sails_128 rfl
theorem wX0_sails_130 : y_w (M_X0_sails ad) mc ms Q (130, lv, st, ω, c, s) = y_ldI lv 6 (fun v => y_w (M_X0_sails ad) mc ms Q (132, lv, v :: st, ω, c, s)) := w_iload dX0_sails_130 rfl
theorem wX0_sails_132 : y_w (M_X0_sails ad) mc ms Q (132, lv, .int j :: .ref a :: r, ω, c, s) = y_rI (ω.2 a) j (fun x => y_w (M_X0_sails ad) mc ms Q (133, lv, .int x :: r, ω, c, s)) := w_iaload dX0_sails_132 rfl
theorem wX0_sails_133 (hc : y_cls ω a = some 1) : y_w (M_X0_sails ad) mc ms Q (133, lv, v2 :: v1 :: .ref a :: r, ω, c, s) = (y_cat r ≤ 8 ∧ F_X1_sail mc ms [.ref a, v1, v2] ω c s (y_aft (M_X0_sails ad) 133 3 lv r (y_w (M_X0_sails ad) mc ms Q) Q)) := w_call1 (av := [v1, v2]) (Or.inl ⟨⟨rfl, rfl⟩, rfl⟩) dX0_sails_133 rfl hc rfl (y_F_mono _) (y_dle rfl) (y_dle rfl) rfl rfl
theorem wX0_sails_136 : y_w (M_X0_sails ad) mc ms Q (136, lv, st, ω, c, s) = y_inc lv 6 (fun x => y_w (M_X0_sails ad) mc ms Q (139, (6, .int (x + 1)) :: y_kill 6 lv, st, ω, c, s)) := w_iinc dX0_sails_136 (d := 1) (by decide) (y_dle rfl) rfl
theorem wX0_sails_139 : y_w (M_X0_sails ad) mc ms Q (139, lv, st, ω, c, s) = ∃ lv2, y_lsub lv2 lv ∧ y_w (M_X0_sails ad) mc ms Q (78, lv2, st, ω, c, s) := w_back dX0_sails_139 (tgt := 78) (by decide) rfl
theorem wX0_sails_142 : y_w (M_X0_sails ad) mc ms Q (142, lv, st, ω, c, s) = y_ldA lv 0 (fun v => y_w (M_X0_sails ad) mc ms Q (143, lv, v :: st, ω, c, s)) := w_aload_n dX0_sails_142 rfl rfl
theorem wX0_sails_143 : y_w (M_X0_sails ad) mc ms Q (143, lv, st, ω, c, s) = y_ldI lv 6 (fun v => y_w (M_X0_sails ad) mc ms Q (145, lv, v :: st, ω, c, s)) := w_iload dX0_sails_143 rfl
theorem wX0_sails_145 (hc : y_cls ω a = some 0) : y_w (M_X0_sails ad) mc ms Q (145, lv, v1 :: .ref a :: r, ω, c, s) = (y_cat r ≤ 8 ∧ F_X0_well mc ms [.ref a, v1] ω c s (y_aft (M_X0_sails ad) 145 3 lv r (y_w (M_X0_sails ad) mc ms Q) Q)) := w_call1 (av := [v1]) (Or.inl ⟨⟨rfl, rfl⟩, rfl⟩) dX0_sails_145 rfl hc rfl (y_F_mono _) (y_dle rfl) (y_dle rfl) rfl rfl
theorem wX0_sails_148 : y_w (M_X0_sails ad) mc ms Q (148, lv, [.int x], ω, c, s) = Q (.returned (some (.int x))) ω c s := w_ireturnI dX0_sails_148 rfl
theorem wX0_sails_149 : y_w (M_X0_sails ad) mc ms Q (149, lv, v :: r, ω, c, s) = (y_isA v = true ∧ y_w (M_X0_sails ad) mc ms Q (151, (5, v) :: y_kill 5 lv, r, ω, c, s)) := w_astore dX0_sails_149 (y_dle rfl) rfl
theorem wX0_sails_151 : y_w (M_X0_sails ad) mc ms Q (151, lv, st, ω, c, s) = y_ldA lv 0 (fun v => y_w (M_X0_sails ad) mc ms Q (152, lv, v :: st, ω, c, s)) := w_aload_n dX0_sails_151 rfl rfl
theorem wX0_sails_152 : y_w (M_X0_sails ad) mc ms Q (152, lv, st, ω, c, s) = y_ldA lv 5 (fun v => y_w (M_X0_sails ad) mc ms Q (154, lv, v :: st, ω, c, s)) := w_aload dX0_sails_152 rfl
theorem wX0_sails_154 (hc : y_cls ω a = some 0) : y_w (M_X0_sails ad) mc ms Q (154, lv, v1 :: .ref a :: r, ω, c, s) = (y_cat r ≤ 8 ∧ F_X0_found mc ms [.ref a, v1] ω c s (y_aft (M_X0_sails ad) 154 3 lv r (y_w (M_X0_sails ad) mc ms Q) Q)) := w_call1 (av := [v1]) (Or.inl ⟨⟨rfl, rfl⟩, rfl⟩) dX0_sails_154 rfl hc rfl (y_F_mono _) (y_dle rfl) (y_dle rfl) rfl rfl
theorem wX0_sails_157 : y_w (M_X0_sails ad) mc ms Q (157, lv, [.int x], ω, c, s) = Q (.returned (some (.int x))) ω c s := w_ireturnI dX0_sails_157 rfl
def P_X1_stay : y_Pool := ([(34, 1, 9, (.array .int), true), (37, 1, 10, (.array .int), true)], [], [], [], [], [], [])
def M_X1_stay : y_Md := (cX1_stay, "YoungerBack$League", (3, none), (0, 0), false, P_X1_stay, [])
def F_X1_stay : y_Tr := y_F M_X1_stay
theorem nX1_stay : y_nL M_X1_stay = 3 := rfl
theorem fX1_stay_34_1 : y_ffP P_X1_stay 34 1 = some (9, (.array .int), true) := rfl
theorem fX1_stay_37_1 : y_ffP P_X1_stay 37 1 = some (10, (.array .int), true) := rfl
theorem wX1_stay_0 : y_w M_X1_stay mc ms Q (0, lv, st, ω, c, s) = y_ldA lv 0 (fun v => y_w M_X1_stay mc ms Q (1, lv, v :: st, ω, c, s)) := w_aload_n dX1_stay_0 rfl rfl
theorem wX1_stay_1 : y_w M_X1_stay mc ms Q (1, lv, .ref a :: r, ω, c, s) = y_gf P_X1_stay 34 (ω.2 a) (fun v => y_w M_X1_stay mc ms Q (4, lv, v :: r, ω, c, s)) := w_getfield dX1_stay_1 rfl rfl
theorem wX1_stay_4 : y_w M_X1_stay mc ms Q (4, lv, st, ω, c, s) = y_ldI lv 1 (fun v => y_w M_X1_stay mc ms Q (5, lv, v :: st, ω, c, s)) := w_iload_n dX1_stay_4 rfl rfl
theorem wX1_stay_5 : y_w M_X1_stay mc ms Q (5, lv, v :: v1 :: r, ω, c, s) = ((v.category = 1 ∧ v1.category = 1) ∧ y_w M_X1_stay mc ms Q (6, lv, v :: v1 :: v :: v1 :: r, ω, c, s)) := w_dup2 dX1_stay_5 rfl
theorem wX1_stay_6 : y_w M_X1_stay mc ms Q (6, lv, .int j :: .ref a :: r, ω, c, s) = y_rI (ω.2 a) j (fun x => y_w M_X1_stay mc ms Q (7, lv, .int x :: r, ω, c, s)) := w_iaload dX1_stay_6 rfl
theorem wX1_stay_7 : y_w M_X1_stay mc ms Q (7, lv, st, ω, c, s) = y_ldI lv 2 (fun v => y_w M_X1_stay mc ms Q (8, lv, v :: st, ω, c, s)) := w_iload_n dX1_stay_7 rfl rfl
theorem wX1_stay_8 : y_w M_X1_stay mc ms Q (8, lv, .int y :: .int x :: r, ω, c, s) = y_w M_X1_stay mc ms Q (9, lv, .int (x + y) :: r, ω, c, s) := w_iadd dX1_stay_8 rfl
theorem wX1_stay_9 : y_w M_X1_stay mc ms Q (9, lv, .int x :: .int j :: .ref a :: r, ω, c, s) = y_wI (ω.2 a) j x (fun e => y_w M_X1_stay mc ms Q (10, lv, r, y_hup ω a e, c, s)) := w_iastore dX1_stay_9 rfl
theorem wX1_stay_10 : y_w M_X1_stay mc ms Q (10, lv, st, ω, c, s) = y_ldA lv 0 (fun v => y_w M_X1_stay mc ms Q (11, lv, v :: st, ω, c, s)) := w_aload_n dX1_stay_10 rfl rfl
theorem wX1_stay_11 : y_w M_X1_stay mc ms Q (11, lv, .ref a :: r, ω, c, s) = y_gf P_X1_stay 37 (ω.2 a) (fun v => y_w M_X1_stay mc ms Q (14, lv, v :: r, ω, c, s)) := w_getfield dX1_stay_11 rfl rfl
theorem wX1_stay_14 : y_w M_X1_stay mc ms Q (14, lv, st, ω, c, s) = y_ldI lv 1 (fun v => y_w M_X1_stay mc ms Q (15, lv, v :: st, ω, c, s)) := w_iload_n dX1_stay_14 rfl rfl
theorem wX1_stay_15 : y_w M_X1_stay mc ms Q (15, lv, v :: v1 :: r, ω, c, s) = ((v.category = 1 ∧ v1.category = 1) ∧ y_w M_X1_stay mc ms Q (16, lv, v :: v1 :: v :: v1 :: r, ω, c, s)) := w_dup2 dX1_stay_15 rfl
theorem wX1_stay_16 : y_w M_X1_stay mc ms Q (16, lv, .int j :: .ref a :: r, ω, c, s) = y_rI (ω.2 a) j (fun x => y_w M_X1_stay mc ms Q (17, lv, .int x :: r, ω, c, s)) := w_iaload dX1_stay_16 rfl
theorem wX1_stay_17 : y_w M_X1_stay mc ms Q (17, lv, st, ω, c, s) = y_ldI lv 2 (fun v => y_w M_X1_stay mc ms Q (18, lv, v :: st, ω, c, s)) := w_iload_n dX1_stay_17 rfl rfl
theorem wX1_stay_18 : y_w M_X1_stay mc ms Q (18, lv, .int y :: .int x :: r, ω, c, s) = y_w M_X1_stay mc ms Q (19, lv, .int (x + y) :: r, ω, c, s) := w_iadd dX1_stay_18 rfl
theorem wX1_stay_19 : y_w M_X1_stay mc ms Q (19, lv, .int x :: .int j :: .ref a :: r, ω, c, s) = y_wI (ω.2 a) j x (fun e => y_w M_X1_stay mc ms Q (20, lv, r, y_hup ω a e, c, s)) := w_iastore dX1_stay_19 rfl
theorem wX1_stay_20 : y_w M_X1_stay mc ms Q (20, lv, [], ω, c, s) = Q (.returned none) ω c s := w_return dX1_stay_20 rfl
def P_X0_stay (ad : y_Ad) : y_Pool := ([(39, 0, 4, (.object "YoungerBack$League"), true), (216, 1, 10, (.array .int), true)], [], [(211, .long (lN 99)), (93, .int (-1000001)), (130, .int (-1000003))], [(168, 1, 0, 2, (3, 61), F_X0_isPerson), (79, 0, 0, 3, (1, 25), F_X0_isIn), (196, 1, 0, 3, (1, 22), F_X0_isTooLate), (199, 1, 0, 1, (6, 122), (F_X0_keep ad)), (213, 1, 1, 3, (1, 22), F_X1_stay)], [], [], [])
def M_X0_stay (ad : y_Ad) : y_Md := (cX0_stay, "YoungerBack", (3, (some FieldType.int)), (6, 122), false, (P_X0_stay ad), [])
def F_X0_stay (ad : y_Ad) : y_Tr := y_F (M_X0_stay ad)
theorem nX0_stay : y_nL (M_X0_stay ad) = 3 := rfl
theorem fX0_stay_39_0 : y_ffP (P_X0_stay ad) 39 0 = some (4, (.object "YoungerBack$League"), true) := rfl
theorem fX0_stay_216_1 : y_ffP (P_X0_stay ad) 216 1 = some (10, (.array .int), true) := rfl
theorem wX0_stay_0 : y_w (M_X0_stay ad) mc ms Q (0, lv, st, ω, c, s) = y_ldA lv 0 (fun v => y_w (M_X0_stay ad) mc ms Q (1, lv, v :: st, ω, c, s)) := w_aload_n dX0_stay_0 rfl rfl
theorem wX0_stay_1 : y_w (M_X0_stay ad) mc ms Q (1, lv, st, ω, c, s) = y_ldI lv 1 (fun v => y_w (M_X0_stay ad) mc ms Q (2, lv, v :: st, ω, c, s)) := w_iload_n dX0_stay_1 rfl rfl
theorem wX0_stay_2 (hc : y_cls ω a = some 0) : y_w (M_X0_stay ad) mc ms Q (2, lv, v1 :: .ref a :: r, ω, c, s) = (y_cat r ≤ 8 ∧ F_X0_isPerson mc ms [.ref a, v1] ω c s (y_aft (M_X0_stay ad) 2 3 lv r (y_w (M_X0_stay ad) mc ms Q) Q)) := w_call1 (av := [v1]) (Or.inl ⟨⟨rfl, rfl⟩, rfl⟩) dX0_stay_2 rfl hc rfl (y_F_mono _) (y_dle rfl) (y_dle rfl) rfl rfl
theorem wX0_stay_5 : y_w (M_X0_stay ad) mc ms Q (5, lv, .int x :: r, ω, c, s) = ((x = 0 → y_w (M_X0_stay ad) mc ms Q (20, lv, r, ω, c, s)) ∧ (¬ (x = 0) → y_w (M_X0_stay ad) mc ms Q (8, lv, r, ω, c, s))) := w_if dX0_stay_5 (tgt := 20) rfl rfl rfl
theorem wX0_stay_8 : y_w (M_X0_stay ad) mc ms Q (8, lv, st, ω, c, s) = y_ldI lv 2 (fun v => y_w (M_X0_stay ad) mc ms Q (9, lv, v :: st, ω, c, s)) := w_iload_n dX0_stay_8 rfl rfl
theorem wX0_stay_9 : y_w (M_X0_stay ad) mc ms Q (9, lv, .int x :: r, ω, c, s) = y_w (M_X0_stay ad) mc ms Q (10, lv, .long x.toInt64 :: r, ω, c, s) := w_i2l dX0_stay_9 rfl
theorem wX0_stay_10 : y_w (M_X0_stay ad) mc ms Q (10, lv, st, ω, c, s) = y_w (M_X0_stay ad) mc ms Q (11, lv, .long 1 :: st, ω, c, s) := w_lconst dX0_stay_10 (v := 1) (by decide) rfl
theorem wX0_stay_11 : y_w (M_X0_stay ad) mc ms Q (11, lv, st, ω, c, s) = y_w (M_X0_stay ad) mc ms Q (14, lv, .long (lN 99) :: st, ω, c, s) := w_ldc2_w dX0_stay_11 rfl rfl rfl
theorem wX0_stay_14 : y_w (M_X0_stay ad) mc ms Q (14, lv, v2 :: v1 :: v0 :: r, ω, c, s) = (y_cat r ≤ 8 ∧ F_X0_isIn mc ms [v0, v1, v2] ω c s (y_aft (M_X0_stay ad) 14 3 lv r (y_w (M_X0_stay ad) mc ms Q) Q)) := w_call0 (av := [v0, v1, v2]) ⟨Or.inr ⟨rfl, rfl⟩, rfl⟩ dX0_stay_14 rfl (y_F_mono _) (y_dle rfl) (y_dle rfl) rfl rfl
theorem wX0_stay_17 : y_w (M_X0_stay ad) mc ms Q (17, lv, .int x :: r, ω, c, s) = ((¬ x = 0 → y_w (M_X0_stay ad) mc ms Q (23, lv, r, ω, c, s)) ∧ (¬ (¬ x = 0) → y_w (M_X0_stay ad) mc ms Q (20, lv, r, ω, c, s))) := w_if dX0_stay_17 (tgt := 23) rfl rfl rfl
theorem wX0_stay_20 : y_w (M_X0_stay ad) mc ms Q (20, lv, st, ω, c, s) = y_w (M_X0_stay ad) mc ms Q (22, lv, .int (-1000001) :: st, ω, c, s) := w_ldc dX0_stay_20 rfl rfl rfl
theorem wX0_stay_22 : y_w (M_X0_stay ad) mc ms Q (22, lv, [.int x], ω, c, s) = Q (.returned (some (.int x))) ω c s := w_ireturnI dX0_stay_22 rfl
theorem wX0_stay_23 : y_w (M_X0_stay ad) mc ms Q (23, lv, st, ω, c, s) = y_ldA lv 0 (fun v => y_w (M_X0_stay ad) mc ms Q (24, lv, v :: st, ω, c, s)) := w_aload_n dX0_stay_23 rfl rfl
theorem wX0_stay_24 : y_w (M_X0_stay ad) mc ms Q (24, lv, st, ω, c, s) = y_ldI lv 1 (fun v => y_w (M_X0_stay ad) mc ms Q (25, lv, v :: st, ω, c, s)) := w_iload_n dX0_stay_24 rfl rfl
theorem wX0_stay_25 : y_w (M_X0_stay ad) mc ms Q (25, lv, st, ω, c, s) = y_ldI lv 2 (fun v => y_w (M_X0_stay ad) mc ms Q (26, lv, v :: st, ω, c, s)) := w_iload_n dX0_stay_25 rfl rfl
theorem wX0_stay_26 (hc : y_cls ω a = some 0) : y_w (M_X0_stay ad) mc ms Q (26, lv, v2 :: v1 :: .ref a :: r, ω, c, s) = (y_cat r ≤ 8 ∧ F_X0_isTooLate mc ms [.ref a, v1, v2] ω c s (y_aft (M_X0_stay ad) 26 3 lv r (y_w (M_X0_stay ad) mc ms Q) Q)) := w_call1 (av := [v1, v2]) (Or.inl ⟨⟨rfl, rfl⟩, rfl⟩) dX0_stay_26 rfl hc rfl (y_F_mono _) (y_dle rfl) (y_dle rfl) rfl rfl
theorem wX0_stay_29 : y_w (M_X0_stay ad) mc ms Q (29, lv, .int x :: r, ω, c, s) = ((x = 0 → y_w (M_X0_stay ad) mc ms Q (35, lv, r, ω, c, s)) ∧ (¬ (x = 0) → y_w (M_X0_stay ad) mc ms Q (32, lv, r, ω, c, s))) := w_if dX0_stay_29 (tgt := 35) rfl rfl rfl
theorem wX0_stay_32 : y_w (M_X0_stay ad) mc ms Q (32, lv, st, ω, c, s) = y_w (M_X0_stay ad) mc ms Q (34, lv, .int (-1000003) :: st, ω, c, s) := w_ldc dX0_stay_32 rfl rfl rfl
theorem wX0_stay_34 : y_w (M_X0_stay ad) mc ms Q (34, lv, [.int x], ω, c, s) = Q (.returned (some (.int x))) ω c s := w_ireturnI dX0_stay_34 rfl
theorem wX0_stay_35 : y_w (M_X0_stay ad) mc ms Q (35, lv, st, ω, c, s) = y_ldA lv 0 (fun v => y_w (M_X0_stay ad) mc ms Q (36, lv, v :: st, ω, c, s)) := w_aload_n dX0_stay_35 rfl rfl
theorem wX0_stay_36 (hc : y_cls ω a = some 0) : y_w (M_X0_stay ad) mc ms Q (36, lv, .ref a :: r, ω, c, s) = (y_cat r ≤ 8 ∧ (F_X0_keep ad) mc ms [.ref a] ω c s (y_aft (M_X0_stay ad) 36 3 lv r (y_w (M_X0_stay ad) mc ms Q) Q)) := w_call1 (av := []) (Or.inl ⟨⟨rfl, rfl⟩, rfl⟩) dX0_stay_36 rfl hc rfl (y_F_mono _) (y_dle rfl) (y_dle rfl) rfl rfl
theorem wX0_stay_39 : y_w (M_X0_stay ad) mc ms Q (39, lv, st, ω, c, s) = y_ldA lv 0 (fun v => y_w (M_X0_stay ad) mc ms Q (40, lv, v :: st, ω, c, s)) := w_aload_n dX0_stay_39 rfl rfl
theorem wX0_stay_40 : y_w (M_X0_stay ad) mc ms Q (40, lv, .ref a :: r, ω, c, s) = y_gf (P_X0_stay ad) 39 (ω.2 a) (fun v => y_w (M_X0_stay ad) mc ms Q (43, lv, v :: r, ω, c, s)) := w_getfield dX0_stay_40 rfl rfl
theorem wX0_stay_43 : y_w (M_X0_stay ad) mc ms Q (43, lv, st, ω, c, s) = y_ldI lv 1 (fun v => y_w (M_X0_stay ad) mc ms Q (44, lv, v :: st, ω, c, s)) := w_iload_n dX0_stay_43 rfl rfl
theorem wX0_stay_44 : y_w (M_X0_stay ad) mc ms Q (44, lv, st, ω, c, s) = y_ldI lv 2 (fun v => y_w (M_X0_stay ad) mc ms Q (45, lv, v :: st, ω, c, s)) := w_iload_n dX0_stay_44 rfl rfl
theorem wX0_stay_45 (hc : y_cls ω a = some 1) : y_w (M_X0_stay ad) mc ms Q (45, lv, v2 :: v1 :: .ref a :: r, ω, c, s) = (y_cat r ≤ 8 ∧ F_X1_stay mc ms [.ref a, v1, v2] ω c s (y_aft (M_X0_stay ad) 45 3 lv r (y_w (M_X0_stay ad) mc ms Q) Q)) := w_call1 (av := [v1, v2]) (Or.inl ⟨⟨rfl, rfl⟩, rfl⟩) dX0_stay_45 rfl hc rfl (y_F_mono _) (y_dle rfl) (y_dle rfl) rfl rfl
theorem wX0_stay_48 : y_w (M_X0_stay ad) mc ms Q (48, lv, st, ω, c, s) = y_ldA lv 0 (fun v => y_w (M_X0_stay ad) mc ms Q (49, lv, v :: st, ω, c, s)) := w_aload_n dX0_stay_48 rfl rfl
theorem wX0_stay_49 : y_w (M_X0_stay ad) mc ms Q (49, lv, .ref a :: r, ω, c, s) = y_gf (P_X0_stay ad) 39 (ω.2 a) (fun v => y_w (M_X0_stay ad) mc ms Q (52, lv, v :: r, ω, c, s)) := w_getfield dX0_stay_49 rfl rfl
theorem wX0_stay_52 : y_w (M_X0_stay ad) mc ms Q (52, lv, .ref a :: r, ω, c, s) = y_gf (P_X0_stay ad) 216 (ω.2 a) (fun v => y_w (M_X0_stay ad) mc ms Q (55, lv, v :: r, ω, c, s)) := w_getfield dX0_stay_52 rfl rfl
theorem wX0_stay_55 : y_w (M_X0_stay ad) mc ms Q (55, lv, st, ω, c, s) = y_ldI lv 1 (fun v => y_w (M_X0_stay ad) mc ms Q (56, lv, v :: st, ω, c, s)) := w_iload_n dX0_stay_55 rfl rfl
theorem wX0_stay_56 : y_w (M_X0_stay ad) mc ms Q (56, lv, .int j :: .ref a :: r, ω, c, s) = y_rI (ω.2 a) j (fun x => y_w (M_X0_stay ad) mc ms Q (57, lv, .int x :: r, ω, c, s)) := w_iaload dX0_stay_56 rfl
theorem wX0_stay_57 : y_w (M_X0_stay ad) mc ms Q (57, lv, [.int x], ω, c, s) = Q (.returned (some (.int x))) ω c s := w_ireturnI dX0_stay_57 rfl
def P_X0_areTwo : y_Pool := ([], [], [], [(168, 1, 0, 2, (3, 61), F_X0_isPerson)], [], [], [])
def M_X0_areTwo : y_Md := (cX0_areTwo, "YoungerBack", (3, (some FieldType.boolean)), (3, 61), false, P_X0_areTwo, [])
def F_X0_areTwo : y_Tr := y_F M_X0_areTwo
theorem nX0_areTwo : y_nL M_X0_areTwo = 3 := rfl
theorem wX0_areTwo_0 : y_w M_X0_areTwo mc ms Q (0, lv, st, ω, c, s) = y_ldA lv 0 (fun v => y_w M_X0_areTwo mc ms Q (1, lv, v :: st, ω, c, s)) := w_aload_n dX0_areTwo_0 rfl rfl
theorem wX0_areTwo_1 : y_w M_X0_areTwo mc ms Q (1, lv, st, ω, c, s) = y_ldI lv 1 (fun v => y_w M_X0_areTwo mc ms Q (2, lv, v :: st, ω, c, s)) := w_iload_n dX0_areTwo_1 rfl rfl
theorem wX0_areTwo_2 (hc : y_cls ω a = some 0) : y_w M_X0_areTwo mc ms Q (2, lv, v1 :: .ref a :: r, ω, c, s) = (y_cat r ≤ 8 ∧ F_X0_isPerson mc ms [.ref a, v1] ω c s (y_aft M_X0_areTwo 2 3 lv r (y_w M_X0_areTwo mc ms Q) Q)) := w_call1 (av := [v1]) (Or.inl ⟨⟨rfl, rfl⟩, rfl⟩) dX0_areTwo_2 rfl hc rfl (y_F_mono _) (y_dle rfl) (y_dle rfl) rfl rfl
theorem wX0_areTwo_5 : y_w M_X0_areTwo mc ms Q (5, lv, .int x :: r, ω, c, s) = ((x = 0 → y_w M_X0_areTwo mc ms Q (25, lv, r, ω, c, s)) ∧ (¬ (x = 0) → y_w M_X0_areTwo mc ms Q (8, lv, r, ω, c, s))) := w_if dX0_areTwo_5 (tgt := 25) rfl rfl rfl
theorem wX0_areTwo_8 : y_w M_X0_areTwo mc ms Q (8, lv, st, ω, c, s) = y_ldA lv 0 (fun v => y_w M_X0_areTwo mc ms Q (9, lv, v :: st, ω, c, s)) := w_aload_n dX0_areTwo_8 rfl rfl
theorem wX0_areTwo_9 : y_w M_X0_areTwo mc ms Q (9, lv, st, ω, c, s) = y_ldI lv 2 (fun v => y_w M_X0_areTwo mc ms Q (10, lv, v :: st, ω, c, s)) := w_iload_n dX0_areTwo_9 rfl rfl
theorem wX0_areTwo_10 (hc : y_cls ω a = some 0) : y_w M_X0_areTwo mc ms Q (10, lv, v1 :: .ref a :: r, ω, c, s) = (y_cat r ≤ 8 ∧ F_X0_isPerson mc ms [.ref a, v1] ω c s (y_aft M_X0_areTwo 10 3 lv r (y_w M_X0_areTwo mc ms Q) Q)) := w_call1 (av := [v1]) (Or.inl ⟨⟨rfl, rfl⟩, rfl⟩) dX0_areTwo_10 rfl hc rfl (y_F_mono _) (y_dle rfl) (y_dle rfl) rfl rfl
theorem wX0_areTwo_13 : y_w M_X0_areTwo mc ms Q (13, lv, .int x :: r, ω, c, s) = ((x = 0 → y_w M_X0_areTwo mc ms Q (25, lv, r, ω, c, s)) ∧ (¬ (x = 0) → y_w M_X0_areTwo mc ms Q (16, lv, r, ω, c, s))) := w_if dX0_areTwo_13 (tgt := 25) rfl rfl rfl
theorem wX0_areTwo_16 : y_w M_X0_areTwo mc ms Q (16, lv, st, ω, c, s) = y_ldI lv 1 (fun v => y_w M_X0_areTwo mc ms Q (17, lv, v :: st, ω, c, s)) := w_iload_n dX0_areTwo_16 rfl rfl
theorem wX0_areTwo_17 : y_w M_X0_areTwo mc ms Q (17, lv, st, ω, c, s) = y_ldI lv 2 (fun v => y_w M_X0_areTwo mc ms Q (18, lv, v :: st, ω, c, s)) := w_iload_n dX0_areTwo_17 rfl rfl
theorem wX0_areTwo_18 : y_w M_X0_areTwo mc ms Q (18, lv, .int y :: .int x :: r, ω, c, s) = ((x = y → y_w M_X0_areTwo mc ms Q (25, lv, r, ω, c, s)) ∧ (¬ (x = y) → y_w M_X0_areTwo mc ms Q (21, lv, r, ω, c, s))) := w_icmp dX0_areTwo_18 (tgt := 25) rfl rfl rfl
theorem wX0_areTwo_21 : y_w M_X0_areTwo mc ms Q (21, lv, st, ω, c, s) = y_w M_X0_areTwo mc ms Q (22, lv, .int 1 :: st, ω, c, s) := w_iconst dX0_areTwo_21 (v := 1) (by decide) rfl
theorem wX0_areTwo_22 : y_w M_X0_areTwo mc ms Q (22, lv, st, ω, c, s) = y_w M_X0_areTwo mc ms Q (26, lv, st, ω, c, s) := w_goto dX0_areTwo_22 (tgt := 26) (by decide) rfl
theorem wX0_areTwo_25 : y_w M_X0_areTwo mc ms Q (25, lv, st, ω, c, s) = y_w M_X0_areTwo mc ms Q (26, lv, .int 0 :: st, ω, c, s) := w_iconst dX0_areTwo_25 (v := 0) (by decide) rfl
theorem wX0_areTwo_26 : y_w M_X0_areTwo mc ms Q (26, lv, [.int x], ω, c, s) = (narrow FieldType.boolean (.int x) = .int x ∧ Q (.returned (some (.int x))) ω c s) := w_ireturn dX0_areTwo_26 rfl
def P_X0_meet (ad : y_Ad) : y_Pool := ([(39, 0, 4, (.object "YoungerBack$League"), true), (174, 1, 8, (.array .int), true), (182, 1, 9, (.array .int), true), (216, 1, 10, (.array .int), true)], [], [(93, .int (-1000001)), (192, .int (-1000002))], [(219, 1, 0, 3, (4, 83), F_X0_areTwo), (199, 1, 0, 1, (6, 122), (F_X0_keep ad)), (213, 1, 1, 3, (1, 22), F_X1_stay)], [], [], [])
def M_X0_meet (ad : y_Ad) : y_Md := (cX0_meet, "YoungerBack", (4, (some FieldType.int)), (6, 122), false, (P_X0_meet ad), [])
def F_X0_meet (ad : y_Ad) : y_Tr := y_F (M_X0_meet ad)
theorem nX0_meet : y_nL (M_X0_meet ad) = 4 := rfl
theorem fX0_meet_39_0 : y_ffP (P_X0_meet ad) 39 0 = some (4, (.object "YoungerBack$League"), true) := rfl
theorem fX0_meet_174_1 : y_ffP (P_X0_meet ad) 174 1 = some (8, (.array .int), true) := rfl
theorem fX0_meet_182_1 : y_ffP (P_X0_meet ad) 182 1 = some (9, (.array .int), true) := rfl
theorem fX0_meet_216_1 : y_ffP (P_X0_meet ad) 216 1 = some (10, (.array .int), true) := rfl
theorem wX0_meet_0 : y_w (M_X0_meet ad) mc ms Q (0, lv, st, ω, c, s) = y_ldA lv 0 (fun v => y_w (M_X0_meet ad) mc ms Q (1, lv, v :: st, ω, c, s)) := w_aload_n dX0_meet_0 rfl rfl
theorem wX0_meet_1 : y_w (M_X0_meet ad) mc ms Q (1, lv, st, ω, c, s) = y_ldI lv 1 (fun v => y_w (M_X0_meet ad) mc ms Q (2, lv, v :: st, ω, c, s)) := w_iload_n dX0_meet_1 rfl rfl
theorem wX0_meet_2 : y_w (M_X0_meet ad) mc ms Q (2, lv, st, ω, c, s) = y_ldI lv 2 (fun v => y_w (M_X0_meet ad) mc ms Q (3, lv, v :: st, ω, c, s)) := w_iload_n dX0_meet_2 rfl rfl
theorem wX0_meet_3 (hc : y_cls ω a = some 0) : y_w (M_X0_meet ad) mc ms Q (3, lv, v2 :: v1 :: .ref a :: r, ω, c, s) = (y_cat r ≤ 8 ∧ F_X0_areTwo mc ms [.ref a, v1, v2] ω c s (y_aft (M_X0_meet ad) 3 3 lv r (y_w (M_X0_meet ad) mc ms Q) Q)) := w_call1 (av := [v1, v2]) (Or.inl ⟨⟨rfl, rfl⟩, rfl⟩) dX0_meet_3 rfl hc rfl (y_F_mono _) (y_dle rfl) (y_dle rfl) rfl rfl
theorem wX0_meet_6 : y_w (M_X0_meet ad) mc ms Q (6, lv, .int x :: r, ω, c, s) = ((¬ x = 0 → y_w (M_X0_meet ad) mc ms Q (12, lv, r, ω, c, s)) ∧ (¬ (¬ x = 0) → y_w (M_X0_meet ad) mc ms Q (9, lv, r, ω, c, s))) := w_if dX0_meet_6 (tgt := 12) rfl rfl rfl
theorem wX0_meet_9 : y_w (M_X0_meet ad) mc ms Q (9, lv, st, ω, c, s) = y_w (M_X0_meet ad) mc ms Q (11, lv, .int (-1000001) :: st, ω, c, s) := w_ldc dX0_meet_9 rfl rfl rfl
theorem wX0_meet_11 : y_w (M_X0_meet ad) mc ms Q (11, lv, [.int x], ω, c, s) = Q (.returned (some (.int x))) ω c s := w_ireturnI dX0_meet_11 rfl
theorem wX0_meet_12 : y_w (M_X0_meet ad) mc ms Q (12, lv, st, ω, c, s) = y_ldA lv 0 (fun v => y_w (M_X0_meet ad) mc ms Q (13, lv, v :: st, ω, c, s)) := w_aload_n dX0_meet_12 rfl rfl
theorem wX0_meet_13 : y_w (M_X0_meet ad) mc ms Q (13, lv, .ref a :: r, ω, c, s) = y_gf (P_X0_meet ad) 39 (ω.2 a) (fun v => y_w (M_X0_meet ad) mc ms Q (16, lv, v :: r, ω, c, s)) := w_getfield dX0_meet_13 rfl rfl
theorem wX0_meet_16 : y_w (M_X0_meet ad) mc ms Q (16, lv, .ref a :: r, ω, c, s) = y_gf (P_X0_meet ad) 174 (ω.2 a) (fun v => y_w (M_X0_meet ad) mc ms Q (19, lv, v :: r, ω, c, s)) := w_getfield dX0_meet_16 rfl rfl
theorem wX0_meet_19 : y_w (M_X0_meet ad) mc ms Q (19, lv, st, ω, c, s) = y_ldI lv 1 (fun v => y_w (M_X0_meet ad) mc ms Q (20, lv, v :: st, ω, c, s)) := w_iload_n dX0_meet_19 rfl rfl
theorem wX0_meet_20 : y_w (M_X0_meet ad) mc ms Q (20, lv, .int j :: .ref a :: r, ω, c, s) = y_rI (ω.2 a) j (fun x => y_w (M_X0_meet ad) mc ms Q (21, lv, .int x :: r, ω, c, s)) := w_iaload dX0_meet_20 rfl
theorem wX0_meet_21 : y_w (M_X0_meet ad) mc ms Q (21, lv, st, ω, c, s) = y_ldA lv 0 (fun v => y_w (M_X0_meet ad) mc ms Q (22, lv, v :: st, ω, c, s)) := w_aload_n dX0_meet_21 rfl rfl
theorem wX0_meet_22 : y_w (M_X0_meet ad) mc ms Q (22, lv, .ref a :: r, ω, c, s) = y_gf (P_X0_meet ad) 39 (ω.2 a) (fun v => y_w (M_X0_meet ad) mc ms Q (25, lv, v :: r, ω, c, s)) := w_getfield dX0_meet_22 rfl rfl
theorem wX0_meet_25 : y_w (M_X0_meet ad) mc ms Q (25, lv, .ref a :: r, ω, c, s) = y_gf (P_X0_meet ad) 174 (ω.2 a) (fun v => y_w (M_X0_meet ad) mc ms Q (28, lv, v :: r, ω, c, s)) := w_getfield dX0_meet_25 rfl rfl
theorem wX0_meet_28 : y_w (M_X0_meet ad) mc ms Q (28, lv, st, ω, c, s) = y_ldI lv 2 (fun v => y_w (M_X0_meet ad) mc ms Q (29, lv, v :: st, ω, c, s)) := w_iload_n dX0_meet_28 rfl rfl
theorem wX0_meet_29 : y_w (M_X0_meet ad) mc ms Q (29, lv, .int j :: .ref a :: r, ω, c, s) = y_rI (ω.2 a) j (fun x => y_w (M_X0_meet ad) mc ms Q (30, lv, .int x :: r, ω, c, s)) := w_iaload dX0_meet_29 rfl
theorem wX0_meet_30 : y_w (M_X0_meet ad) mc ms Q (30, lv, .int y :: .int x :: r, ω, c, s) = ((x = y → y_w (M_X0_meet ad) mc ms Q (36, lv, r, ω, c, s)) ∧ (¬ (x = y) → y_w (M_X0_meet ad) mc ms Q (33, lv, r, ω, c, s))) := w_icmp dX0_meet_30 (tgt := 36) rfl rfl rfl
theorem wX0_meet_33 : y_w (M_X0_meet ad) mc ms Q (33, lv, st, ω, c, s) = y_w (M_X0_meet ad) mc ms Q (35, lv, .int (-1000002) :: st, ω, c, s) := w_ldc dX0_meet_33 rfl rfl rfl
theorem wX0_meet_35 : y_w (M_X0_meet ad) mc ms Q (35, lv, [.int x], ω, c, s) = Q (.returned (some (.int x))) ω c s := w_ireturnI dX0_meet_35 rfl
theorem wX0_meet_36 : y_w (M_X0_meet ad) mc ms Q (36, lv, st, ω, c, s) = y_ldA lv 0 (fun v => y_w (M_X0_meet ad) mc ms Q (37, lv, v :: st, ω, c, s)) := w_aload_n dX0_meet_36 rfl rfl
theorem wX0_meet_37 (hc : y_cls ω a = some 0) : y_w (M_X0_meet ad) mc ms Q (37, lv, .ref a :: r, ω, c, s) = (y_cat r ≤ 8 ∧ (F_X0_keep ad) mc ms [.ref a] ω c s (y_aft (M_X0_meet ad) 37 3 lv r (y_w (M_X0_meet ad) mc ms Q) Q)) := w_call1 (av := []) (Or.inl ⟨⟨rfl, rfl⟩, rfl⟩) dX0_meet_37 rfl hc rfl (y_F_mono _) (y_dle rfl) (y_dle rfl) rfl rfl
theorem wX0_meet_40 : y_w (M_X0_meet ad) mc ms Q (40, lv, st, ω, c, s) = y_ldA lv 0 (fun v => y_w (M_X0_meet ad) mc ms Q (41, lv, v :: st, ω, c, s)) := w_aload_n dX0_meet_40 rfl rfl
theorem wX0_meet_41 : y_w (M_X0_meet ad) mc ms Q (41, lv, .ref a :: r, ω, c, s) = y_gf (P_X0_meet ad) 39 (ω.2 a) (fun v => y_w (M_X0_meet ad) mc ms Q (44, lv, v :: r, ω, c, s)) := w_getfield dX0_meet_41 rfl rfl
theorem wX0_meet_44 : y_w (M_X0_meet ad) mc ms Q (44, lv, .ref a :: r, ω, c, s) = y_gf (P_X0_meet ad) 182 (ω.2 a) (fun v => y_w (M_X0_meet ad) mc ms Q (47, lv, v :: r, ω, c, s)) := w_getfield dX0_meet_44 rfl rfl
theorem wX0_meet_47 : y_w (M_X0_meet ad) mc ms Q (47, lv, st, ω, c, s) = y_ldI lv 1 (fun v => y_w (M_X0_meet ad) mc ms Q (48, lv, v :: st, ω, c, s)) := w_iload_n dX0_meet_47 rfl rfl
theorem wX0_meet_48 : y_w (M_X0_meet ad) mc ms Q (48, lv, .int j :: .ref a :: r, ω, c, s) = y_rI (ω.2 a) j (fun x => y_w (M_X0_meet ad) mc ms Q (49, lv, .int x :: r, ω, c, s)) := w_iaload dX0_meet_48 rfl
theorem wX0_meet_49 : y_w (M_X0_meet ad) mc ms Q (49, lv, st, ω, c, s) = y_ldA lv 0 (fun v => y_w (M_X0_meet ad) mc ms Q (50, lv, v :: st, ω, c, s)) := w_aload_n dX0_meet_49 rfl rfl
theorem wX0_meet_50 : y_w (M_X0_meet ad) mc ms Q (50, lv, .ref a :: r, ω, c, s) = y_gf (P_X0_meet ad) 39 (ω.2 a) (fun v => y_w (M_X0_meet ad) mc ms Q (53, lv, v :: r, ω, c, s)) := w_getfield dX0_meet_50 rfl rfl
theorem wX0_meet_53 : y_w (M_X0_meet ad) mc ms Q (53, lv, .ref a :: r, ω, c, s) = y_gf (P_X0_meet ad) 182 (ω.2 a) (fun v => y_w (M_X0_meet ad) mc ms Q (56, lv, v :: r, ω, c, s)) := w_getfield dX0_meet_53 rfl rfl
theorem wX0_meet_56 : y_w (M_X0_meet ad) mc ms Q (56, lv, st, ω, c, s) = y_ldI lv 2 (fun v => y_w (M_X0_meet ad) mc ms Q (57, lv, v :: st, ω, c, s)) := w_iload_n dX0_meet_56 rfl rfl
theorem wX0_meet_57 : y_w (M_X0_meet ad) mc ms Q (57, lv, .int j :: .ref a :: r, ω, c, s) = y_rI (ω.2 a) j (fun x => y_w (M_X0_meet ad) mc ms Q (58, lv, .int x :: r, ω, c, s)) := w_iaload dX0_meet_57 rfl
theorem wX0_meet_58 : y_w (M_X0_meet ad) mc ms Q (58, lv, .int y :: .int x :: r, ω, c, s) = y_w (M_X0_meet ad) mc ms Q (59, lv, .int (x - y) :: r, ω, c, s) := w_isub dX0_meet_58 rfl
theorem wX0_meet_59 : y_w (M_X0_meet ad) mc ms Q (59, lv, .int x :: r, ω, c, s) = y_w (M_X0_meet ad) mc ms Q (60, (3, .int x) :: y_kill 3 lv, r, ω, c, s) := w_istore_n dX0_meet_59 rfl (y_dle rfl) rfl
theorem wX0_meet_60 : y_w (M_X0_meet ad) mc ms Q (60, lv, st, ω, c, s) = y_ldI lv 3 (fun v => y_w (M_X0_meet ad) mc ms Q (61, lv, v :: st, ω, c, s)) := w_iload_n dX0_meet_60 rfl rfl
theorem wX0_meet_61 : y_w (M_X0_meet ad) mc ms Q (61, lv, .int x :: r, ω, c, s) = ((0 ≤ x → y_w (M_X0_meet ad) mc ms Q (77, lv, r, ω, c, s)) ∧ (¬ (0 ≤ x) → y_w (M_X0_meet ad) mc ms Q (64, lv, r, ω, c, s))) := w_if dX0_meet_61 (tgt := 77) rfl rfl rfl
theorem wX0_meet_64 : y_w (M_X0_meet ad) mc ms Q (64, lv, st, ω, c, s) = y_ldA lv 0 (fun v => y_w (M_X0_meet ad) mc ms Q (65, lv, v :: st, ω, c, s)) := w_aload_n dX0_meet_64 rfl rfl
theorem wX0_meet_65 : y_w (M_X0_meet ad) mc ms Q (65, lv, .ref a :: r, ω, c, s) = y_gf (P_X0_meet ad) 39 (ω.2 a) (fun v => y_w (M_X0_meet ad) mc ms Q (68, lv, v :: r, ω, c, s)) := w_getfield dX0_meet_65 rfl rfl
theorem wX0_meet_68 : y_w (M_X0_meet ad) mc ms Q (68, lv, st, ω, c, s) = y_ldI lv 1 (fun v => y_w (M_X0_meet ad) mc ms Q (69, lv, v :: st, ω, c, s)) := w_iload_n dX0_meet_68 rfl rfl
theorem wX0_meet_69 : y_w (M_X0_meet ad) mc ms Q (69, lv, st, ω, c, s) = y_ldI lv 3 (fun v => y_w (M_X0_meet ad) mc ms Q (70, lv, v :: st, ω, c, s)) := w_iload_n dX0_meet_69 rfl rfl
theorem wX0_meet_70 : y_w (M_X0_meet ad) mc ms Q (70, lv, .int x :: r, ω, c, s) = y_w (M_X0_meet ad) mc ms Q (71, lv, .int (-x) :: r, ω, c, s) := w_ineg dX0_meet_70 rfl
theorem wX0_meet_71 (hc : y_cls ω a = some 1) : y_w (M_X0_meet ad) mc ms Q (71, lv, v2 :: v1 :: .ref a :: r, ω, c, s) = (y_cat r ≤ 8 ∧ F_X1_stay mc ms [.ref a, v1, v2] ω c s (y_aft (M_X0_meet ad) 71 3 lv r (y_w (M_X0_meet ad) mc ms Q) Q)) := w_call1 (av := [v1, v2]) (Or.inl ⟨⟨rfl, rfl⟩, rfl⟩) dX0_meet_71 rfl hc rfl (y_F_mono _) (y_dle rfl) (y_dle rfl) rfl rfl
theorem wX0_meet_74 : y_w (M_X0_meet ad) mc ms Q (74, lv, st, ω, c, s) = y_w (M_X0_meet ad) mc ms Q (86, lv, st, ω, c, s) := w_goto dX0_meet_74 (tgt := 86) (by decide) rfl
theorem wX0_meet_77 : y_w (M_X0_meet ad) mc ms Q (77, lv, st, ω, c, s) = y_ldA lv 0 (fun v => y_w (M_X0_meet ad) mc ms Q (78, lv, v :: st, ω, c, s)) := w_aload_n dX0_meet_77 rfl rfl
theorem wX0_meet_78 : y_w (M_X0_meet ad) mc ms Q (78, lv, .ref a :: r, ω, c, s) = y_gf (P_X0_meet ad) 39 (ω.2 a) (fun v => y_w (M_X0_meet ad) mc ms Q (81, lv, v :: r, ω, c, s)) := w_getfield dX0_meet_78 rfl rfl
theorem wX0_meet_81 : y_w (M_X0_meet ad) mc ms Q (81, lv, st, ω, c, s) = y_ldI lv 2 (fun v => y_w (M_X0_meet ad) mc ms Q (82, lv, v :: st, ω, c, s)) := w_iload_n dX0_meet_81 rfl rfl
theorem wX0_meet_82 : y_w (M_X0_meet ad) mc ms Q (82, lv, st, ω, c, s) = y_ldI lv 3 (fun v => y_w (M_X0_meet ad) mc ms Q (83, lv, v :: st, ω, c, s)) := w_iload_n dX0_meet_82 rfl rfl
theorem wX0_meet_83 (hc : y_cls ω a = some 1) : y_w (M_X0_meet ad) mc ms Q (83, lv, v2 :: v1 :: .ref a :: r, ω, c, s) = (y_cat r ≤ 8 ∧ F_X1_stay mc ms [.ref a, v1, v2] ω c s (y_aft (M_X0_meet ad) 83 3 lv r (y_w (M_X0_meet ad) mc ms Q) Q)) := w_call1 (av := [v1, v2]) (Or.inl ⟨⟨rfl, rfl⟩, rfl⟩) dX0_meet_83 rfl hc rfl (y_F_mono _) (y_dle rfl) (y_dle rfl) rfl rfl
theorem wX0_meet_86 : y_w (M_X0_meet ad) mc ms Q (86, lv, st, ω, c, s) = y_ldA lv 0 (fun v => y_w (M_X0_meet ad) mc ms Q (87, lv, v :: st, ω, c, s)) := w_aload_n dX0_meet_86 rfl rfl
theorem wX0_meet_87 : y_w (M_X0_meet ad) mc ms Q (87, lv, .ref a :: r, ω, c, s) = y_gf (P_X0_meet ad) 39 (ω.2 a) (fun v => y_w (M_X0_meet ad) mc ms Q (90, lv, v :: r, ω, c, s)) := w_getfield dX0_meet_87 rfl rfl
theorem wX0_meet_90 : y_w (M_X0_meet ad) mc ms Q (90, lv, .ref a :: r, ω, c, s) = y_gf (P_X0_meet ad) 216 (ω.2 a) (fun v => y_w (M_X0_meet ad) mc ms Q (93, lv, v :: r, ω, c, s)) := w_getfield dX0_meet_90 rfl rfl
theorem wX0_meet_93 : y_w (M_X0_meet ad) mc ms Q (93, lv, st, ω, c, s) = y_ldI lv 1 (fun v => y_w (M_X0_meet ad) mc ms Q (94, lv, v :: st, ω, c, s)) := w_iload_n dX0_meet_93 rfl rfl
theorem wX0_meet_94 : y_w (M_X0_meet ad) mc ms Q (94, lv, .int j :: .ref a :: r, ω, c, s) = y_rI (ω.2 a) j (fun x => y_w (M_X0_meet ad) mc ms Q (95, lv, .int x :: r, ω, c, s)) := w_iaload dX0_meet_94 rfl
theorem wX0_meet_95 : y_w (M_X0_meet ad) mc ms Q (95, lv, st, ω, c, s) = y_ldA lv 0 (fun v => y_w (M_X0_meet ad) mc ms Q (96, lv, v :: st, ω, c, s)) := w_aload_n dX0_meet_95 rfl rfl
theorem wX0_meet_96 : y_w (M_X0_meet ad) mc ms Q (96, lv, .ref a :: r, ω, c, s) = y_gf (P_X0_meet ad) 39 (ω.2 a) (fun v => y_w (M_X0_meet ad) mc ms Q (99, lv, v :: r, ω, c, s)) := w_getfield dX0_meet_96 rfl rfl
theorem wX0_meet_99 : y_w (M_X0_meet ad) mc ms Q (99, lv, .ref a :: r, ω, c, s) = y_gf (P_X0_meet ad) 216 (ω.2 a) (fun v => y_w (M_X0_meet ad) mc ms Q (102, lv, v :: r, ω, c, s)) := w_getfield dX0_meet_99 rfl rfl
theorem wX0_meet_102 : y_w (M_X0_meet ad) mc ms Q (102, lv, st, ω, c, s) = y_ldI lv 2 (fun v => y_w (M_X0_meet ad) mc ms Q (103, lv, v :: st, ω, c, s)) := w_iload_n dX0_meet_102 rfl rfl
theorem wX0_meet_103 : y_w (M_X0_meet ad) mc ms Q (103, lv, .int j :: .ref a :: r, ω, c, s) = y_rI (ω.2 a) j (fun x => y_w (M_X0_meet ad) mc ms Q (104, lv, .int x :: r, ω, c, s)) := w_iaload dX0_meet_103 rfl
theorem wX0_meet_104 : y_w (M_X0_meet ad) mc ms Q (104, lv, .int y :: .int x :: r, ω, c, s) = y_w (M_X0_meet ad) mc ms Q (105, lv, .int (x - y) :: r, ω, c, s) := w_isub dX0_meet_104 rfl
theorem wX0_meet_105 : y_w (M_X0_meet ad) mc ms Q (105, lv, [.int x], ω, c, s) = Q (.returned (some (.int x))) ω c s := w_ireturnI dX0_meet_105 rfl
def P_X1_owed : y_Pool := ([(40, 1, 11, (.array .int), true), (53, 1, 1, .int, false)], [], [(91, .long (lN 99999999)), (93, .long (lN 100))], [(95, 0, 0, 2, (1, 23), F_J13_min_2)], [], [], [])
def M_X1_owed : y_Md := (cX1_owed, "YoungerBack$League", (5, (some FieldType.int)), (1, 23), false, P_X1_owed, [])
def F_X1_owed : y_Tr := y_F M_X1_owed
theorem nX1_owed : y_nL M_X1_owed = 5 := rfl
theorem fX1_owed_40_1 : y_ffP P_X1_owed 40 1 = some (11, (.array .int), true) := rfl
theorem fX1_owed_53_1 : y_ffP P_X1_owed 53 1 = some (1, .int, false) := rfl
theorem wX1_owed_0 : y_w M_X1_owed mc ms Q (0, lv, st, ω, c, s) = y_ldA lv 0 (fun v => y_w M_X1_owed mc ms Q (1, lv, v :: st, ω, c, s)) := w_aload_n dX1_owed_0 rfl rfl
theorem wX1_owed_1 : y_w M_X1_owed mc ms Q (1, lv, .ref a :: r, ω, c, s) = y_gf P_X1_owed 40 (ω.2 a) (fun v => y_w M_X1_owed mc ms Q (4, lv, v :: r, ω, c, s)) := w_getfield dX1_owed_1 rfl rfl
theorem wX1_owed_4 : y_w M_X1_owed mc ms Q (4, lv, st, ω, c, s) = y_ldI lv 1 (fun v => y_w M_X1_owed mc ms Q (5, lv, v :: st, ω, c, s)) := w_iload_n dX1_owed_4 rfl rfl
theorem wX1_owed_5 : y_w M_X1_owed mc ms Q (5, lv, .int j :: .ref a :: r, ω, c, s) = y_rI (ω.2 a) j (fun x => y_w M_X1_owed mc ms Q (6, lv, .int x :: r, ω, c, s)) := w_iaload dX1_owed_5 rfl
theorem wX1_owed_6 : y_w M_X1_owed mc ms Q (6, lv, .int x :: r, ω, c, s) = y_w M_X1_owed mc ms Q (7, (3, .int x) :: y_kill 3 lv, r, ω, c, s) := w_istore_n dX1_owed_6 rfl (y_dle rfl) rfl
theorem wX1_owed_7 : y_w M_X1_owed mc ms Q (7, lv, st, ω, c, s) = y_w M_X1_owed mc ms Q (8, lv, .int 0 :: st, ω, c, s) := w_iconst dX1_owed_7 (v := 0) (by decide) rfl
theorem wX1_owed_8 : y_w M_X1_owed mc ms Q (8, lv, .int x :: r, ω, c, s) = y_w M_X1_owed mc ms Q (10, (4, .int x) :: y_kill 4 lv, r, ω, c, s) := w_istore dX1_owed_8 (y_dle rfl) rfl
theorem wX1_owed_10 : y_w M_X1_owed mc ms Q (10, lv, st, ω, c, s) = y_ldI lv 4 (fun v => y_w M_X1_owed mc ms Q (12, lv, v :: st, ω, c, s)) := w_iload dX1_owed_10 rfl
theorem wX1_owed_12 : y_w M_X1_owed mc ms Q (12, lv, st, ω, c, s) = y_ldI lv 2 (fun v => y_w M_X1_owed mc ms Q (13, lv, v :: st, ω, c, s)) := w_iload_n dX1_owed_12 rfl rfl
theorem wX1_owed_13 : y_w M_X1_owed mc ms Q (13, lv, .int y :: .int x :: r, ω, c, s) = ((y ≤ x → y_w M_X1_owed mc ms Q (45, lv, r, ω, c, s)) ∧ (¬ (y ≤ x) → y_w M_X1_owed mc ms Q (16, lv, r, ω, c, s))) := w_icmp dX1_owed_13 (tgt := 45) rfl rfl rfl
theorem wX1_owed_16 : y_w M_X1_owed mc ms Q (16, lv, st, ω, c, s) = y_w M_X1_owed mc ms Q (19, lv, .long (lN 99999999) :: st, ω, c, s) := w_ldc2_w dX1_owed_16 rfl rfl rfl
theorem wX1_owed_19 : y_w M_X1_owed mc ms Q (19, lv, st, ω, c, s) = y_ldI lv 3 (fun v => y_w M_X1_owed mc ms Q (20, lv, v :: st, ω, c, s)) := w_iload_n dX1_owed_19 rfl rfl
theorem wX1_owed_20 : y_w M_X1_owed mc ms Q (20, lv, .int x :: r, ω, c, s) = y_w M_X1_owed mc ms Q (21, lv, .long x.toInt64 :: r, ω, c, s) := w_i2l dX1_owed_20 rfl
theorem wX1_owed_21 : y_w M_X1_owed mc ms Q (21, lv, st, ω, c, s) = y_ldI lv 3 (fun v => y_w M_X1_owed mc ms Q (22, lv, v :: st, ω, c, s)) := w_iload_n dX1_owed_21 rfl rfl
theorem wX1_owed_22 : y_w M_X1_owed mc ms Q (22, lv, .int x :: r, ω, c, s) = y_w M_X1_owed mc ms Q (23, lv, .long x.toInt64 :: r, ω, c, s) := w_i2l dX1_owed_22 rfl
theorem wX1_owed_23 : y_w M_X1_owed mc ms Q (23, lv, st, ω, c, s) = y_ldA lv 0 (fun v => y_w M_X1_owed mc ms Q (24, lv, v :: st, ω, c, s)) := w_aload_n dX1_owed_23 rfl rfl
theorem wX1_owed_24 : y_w M_X1_owed mc ms Q (24, lv, .ref a :: r, ω, c, s) = y_gf P_X1_owed 53 (ω.2 a) (fun v => y_w M_X1_owed mc ms Q (27, lv, v :: r, ω, c, s)) := w_getfield dX1_owed_24 rfl rfl
theorem wX1_owed_27 : y_w M_X1_owed mc ms Q (27, lv, .int x :: r, ω, c, s) = y_w M_X1_owed mc ms Q (28, lv, .long x.toInt64 :: r, ω, c, s) := w_i2l dX1_owed_27 rfl
theorem wX1_owed_28 : y_w M_X1_owed mc ms Q (28, lv, .long w :: .long z :: r, ω, c, s) = y_w M_X1_owed mc ms Q (29, lv, .long (z * w) :: r, ω, c, s) := w_lmul dX1_owed_28 rfl
theorem wX1_owed_29 : y_w M_X1_owed mc ms Q (29, lv, st, ω, c, s) = y_w M_X1_owed mc ms Q (32, lv, .long (lN 100) :: st, ω, c, s) := w_ldc2_w dX1_owed_29 rfl rfl rfl
theorem wX1_owed_32 : y_w M_X1_owed mc ms Q (32, lv, .long w :: .long z :: r, ω, c, s) = (¬ w = 0 ∧ y_w M_X1_owed mc ms Q (33, lv, .long (z / w) :: r, ω, c, s)) := w_ldiv dX1_owed_32 rfl
theorem wX1_owed_33 : y_w M_X1_owed mc ms Q (33, lv, .long w :: .long z :: r, ω, c, s) = y_w M_X1_owed mc ms Q (34, lv, .long (z + w) :: r, ω, c, s) := w_ladd dX1_owed_33 rfl
theorem wX1_owed_34 : y_w M_X1_owed mc ms Q (34, lv, v1 :: v0 :: r, ω, c, s) = (y_cat r ≤ 8 ∧ F_J13_min_2 mc ms [v0, v1] ω c s (y_aft M_X1_owed 34 3 lv r (y_w M_X1_owed mc ms Q) Q)) := w_call0 (av := [v0, v1]) ⟨Or.inr ⟨rfl, rfl⟩, rfl⟩ dX1_owed_34 rfl (y_F_mono _) (y_dle rfl) (y_dle rfl) rfl rfl
theorem wX1_owed_37 : y_w M_X1_owed mc ms Q (37, lv, .long z :: r, ω, c, s) = y_w M_X1_owed mc ms Q (38, lv, .int z.toInt32 :: r, ω, c, s) := w_l2i dX1_owed_37 rfl
theorem wX1_owed_38 : y_w M_X1_owed mc ms Q (38, lv, .int x :: r, ω, c, s) = y_w M_X1_owed mc ms Q (39, (3, .int x) :: y_kill 3 lv, r, ω, c, s) := w_istore_n dX1_owed_38 rfl (y_dle rfl) rfl
theorem wX1_owed_39 : y_w M_X1_owed mc ms Q (39, lv, st, ω, c, s) = y_inc lv 4 (fun x => y_w M_X1_owed mc ms Q (42, (4, .int (x + 1)) :: y_kill 4 lv, st, ω, c, s)) := w_iinc dX1_owed_39 (d := 1) (by decide) (y_dle rfl) rfl
theorem wX1_owed_42 : y_w M_X1_owed mc ms Q (42, lv, st, ω, c, s) = ∃ lv2, y_lsub lv2 lv ∧ y_w M_X1_owed mc ms Q (10, lv2, st, ω, c, s) := w_back dX1_owed_42 (tgt := 10) (by decide) rfl
theorem wX1_owed_45 : y_w M_X1_owed mc ms Q (45, lv, st, ω, c, s) = y_ldI lv 3 (fun v => y_w M_X1_owed mc ms Q (46, lv, v :: st, ω, c, s)) := w_iload_n dX1_owed_45 rfl rfl
theorem wX1_owed_46 : y_w M_X1_owed mc ms Q (46, lv, [.int x], ω, c, s) = Q (.returned (some (.int x))) ω c s := w_ireturnI dX1_owed_46 rfl
def P_X1_owedByShore : y_Pool := ([(34, 1, 9, (.array .int), true), (43, 1, 12, (.array .int), true)], [], [], [(101, 1, 1, 3, (2, 47), F_X1_owed)], [], [], [])
def M_X1_owedByShore : y_Md := (cX1_owedByShore, "YoungerBack$League", (2, (some FieldType.int)), (2, 47), false, P_X1_owedByShore, [])
def F_X1_owedByShore : y_Tr := y_F M_X1_owedByShore
theorem nX1_owedByShore : y_nL M_X1_owedByShore = 2 := rfl
theorem fX1_owedByShore_34_1 : y_ffP P_X1_owedByShore 34 1 = some (9, (.array .int), true) := rfl
theorem fX1_owedByShore_43_1 : y_ffP P_X1_owedByShore 43 1 = some (12, (.array .int), true) := rfl
theorem wX1_owedByShore_0 : y_w M_X1_owedByShore mc ms Q (0, lv, st, ω, c, s) = y_ldA lv 0 (fun v => y_w M_X1_owedByShore mc ms Q (1, lv, v :: st, ω, c, s)) := w_aload_n dX1_owedByShore_0 rfl rfl
theorem wX1_owedByShore_1 : y_w M_X1_owedByShore mc ms Q (1, lv, st, ω, c, s) = y_ldI lv 1 (fun v => y_w M_X1_owedByShore mc ms Q (2, lv, v :: st, ω, c, s)) := w_iload_n dX1_owedByShore_1 rfl rfl
theorem wX1_owedByShore_2 : y_w M_X1_owedByShore mc ms Q (2, lv, st, ω, c, s) = y_ldA lv 0 (fun v => y_w M_X1_owedByShore mc ms Q (3, lv, v :: st, ω, c, s)) := w_aload_n dX1_owedByShore_2 rfl rfl
theorem wX1_owedByShore_3 : y_w M_X1_owedByShore mc ms Q (3, lv, .ref a :: r, ω, c, s) = y_gf P_X1_owedByShore 34 (ω.2 a) (fun v => y_w M_X1_owedByShore mc ms Q (6, lv, v :: r, ω, c, s)) := w_getfield dX1_owedByShore_3 rfl rfl
theorem wX1_owedByShore_6 : y_w M_X1_owedByShore mc ms Q (6, lv, st, ω, c, s) = y_ldI lv 1 (fun v => y_w M_X1_owedByShore mc ms Q (7, lv, v :: st, ω, c, s)) := w_iload_n dX1_owedByShore_6 rfl rfl
theorem wX1_owedByShore_7 : y_w M_X1_owedByShore mc ms Q (7, lv, .int j :: .ref a :: r, ω, c, s) = y_rI (ω.2 a) j (fun x => y_w M_X1_owedByShore mc ms Q (8, lv, .int x :: r, ω, c, s)) := w_iaload dX1_owedByShore_7 rfl
theorem wX1_owedByShore_8 : y_w M_X1_owedByShore mc ms Q (8, lv, st, ω, c, s) = y_ldA lv 0 (fun v => y_w M_X1_owedByShore mc ms Q (9, lv, v :: st, ω, c, s)) := w_aload_n dX1_owedByShore_8 rfl rfl
theorem wX1_owedByShore_9 : y_w M_X1_owedByShore mc ms Q (9, lv, .ref a :: r, ω, c, s) = y_gf P_X1_owedByShore 43 (ω.2 a) (fun v => y_w M_X1_owedByShore mc ms Q (12, lv, v :: r, ω, c, s)) := w_getfield dX1_owedByShore_9 rfl rfl
theorem wX1_owedByShore_12 : y_w M_X1_owedByShore mc ms Q (12, lv, st, ω, c, s) = y_ldI lv 1 (fun v => y_w M_X1_owedByShore mc ms Q (13, lv, v :: st, ω, c, s)) := w_iload_n dX1_owedByShore_12 rfl rfl
theorem wX1_owedByShore_13 : y_w M_X1_owedByShore mc ms Q (13, lv, .int j :: .ref a :: r, ω, c, s) = y_rI (ω.2 a) j (fun x => y_w M_X1_owedByShore mc ms Q (14, lv, .int x :: r, ω, c, s)) := w_iaload dX1_owedByShore_13 rfl
theorem wX1_owedByShore_14 : y_w M_X1_owedByShore mc ms Q (14, lv, .int y :: .int x :: r, ω, c, s) = y_w M_X1_owedByShore mc ms Q (15, lv, .int (x - y) :: r, ω, c, s) := w_isub dX1_owedByShore_14 rfl
theorem wX1_owedByShore_15 (hc : y_cls ω a = some 1) : y_w M_X1_owedByShore mc ms Q (15, lv, v2 :: v1 :: .ref a :: r, ω, c, s) = (y_cat r ≤ 8 ∧ F_X1_owed mc ms [.ref a, v1, v2] ω c s (y_aft M_X1_owedByShore 15 3 lv r (y_w M_X1_owedByShore mc ms Q) Q)) := w_call1 (av := [v1, v2]) (Or.inl ⟨⟨rfl, rfl⟩, rfl⟩) dX1_owedByShore_15 rfl hc rfl (y_F_mono _) (y_dle rfl) (y_dle rfl) rfl rfl
theorem wX1_owedByShore_18 : y_w M_X1_owedByShore mc ms Q (18, lv, [.int x], ω, c, s) = Q (.returned (some (.int x))) ω c s := w_ireturnI dX1_owedByShore_18 rfl
def P_X0_borrow (ad : y_Ad) : y_Pool := ([(39, 0, 4, (.object "YoungerBack$League"), true), (227, 1, 11, (.array .int), true), (230, 1, 12, (.array .int), true), (182, 1, 9, (.array .int), true), (233, 1, 13, (.array .int), true), (216, 1, 10, (.array .int), true)], [], [(222, .long (lN 9999)), (93, .int (-1000001))], [(168, 1, 0, 2, (3, 61), F_X0_isPerson), (79, 0, 0, 3, (1, 25), F_X0_isIn), (199, 1, 0, 1, (6, 122), (F_X0_keep ad)), (224, 1, 1, 2, (3, 68), F_X1_owedByShore)], [], [], [])
def M_X0_borrow (ad : y_Ad) : y_Md := (cX0_borrow, "YoungerBack", (4, (some FieldType.int)), (6, 122), false, (P_X0_borrow ad), [])
def F_X0_borrow (ad : y_Ad) : y_Tr := y_F (M_X0_borrow ad)
theorem nX0_borrow : y_nL (M_X0_borrow ad) = 4 := rfl
theorem fX0_borrow_39_0 : y_ffP (P_X0_borrow ad) 39 0 = some (4, (.object "YoungerBack$League"), true) := rfl
theorem fX0_borrow_227_1 : y_ffP (P_X0_borrow ad) 227 1 = some (11, (.array .int), true) := rfl
theorem fX0_borrow_230_1 : y_ffP (P_X0_borrow ad) 230 1 = some (12, (.array .int), true) := rfl
theorem fX0_borrow_182_1 : y_ffP (P_X0_borrow ad) 182 1 = some (9, (.array .int), true) := rfl
theorem fX0_borrow_233_1 : y_ffP (P_X0_borrow ad) 233 1 = some (13, (.array .int), true) := rfl
theorem fX0_borrow_216_1 : y_ffP (P_X0_borrow ad) 216 1 = some (10, (.array .int), true) := rfl
theorem wX0_borrow_0 : y_w (M_X0_borrow ad) mc ms Q (0, lv, st, ω, c, s) = y_ldA lv 0 (fun v => y_w (M_X0_borrow ad) mc ms Q (1, lv, v :: st, ω, c, s)) := w_aload_n dX0_borrow_0 rfl rfl
theorem wX0_borrow_1 : y_w (M_X0_borrow ad) mc ms Q (1, lv, st, ω, c, s) = y_ldI lv 1 (fun v => y_w (M_X0_borrow ad) mc ms Q (2, lv, v :: st, ω, c, s)) := w_iload_n dX0_borrow_1 rfl rfl
theorem wX0_borrow_2 (hc : y_cls ω a = some 0) : y_w (M_X0_borrow ad) mc ms Q (2, lv, v1 :: .ref a :: r, ω, c, s) = (y_cat r ≤ 8 ∧ F_X0_isPerson mc ms [.ref a, v1] ω c s (y_aft (M_X0_borrow ad) 2 3 lv r (y_w (M_X0_borrow ad) mc ms Q) Q)) := w_call1 (av := [v1]) (Or.inl ⟨⟨rfl, rfl⟩, rfl⟩) dX0_borrow_2 rfl hc rfl (y_F_mono _) (y_dle rfl) (y_dle rfl) rfl rfl
theorem wX0_borrow_5 : y_w (M_X0_borrow ad) mc ms Q (5, lv, .int x :: r, ω, c, s) = ((x = 0 → y_w (M_X0_borrow ad) mc ms Q (20, lv, r, ω, c, s)) ∧ (¬ (x = 0) → y_w (M_X0_borrow ad) mc ms Q (8, lv, r, ω, c, s))) := w_if dX0_borrow_5 (tgt := 20) rfl rfl rfl
theorem wX0_borrow_8 : y_w (M_X0_borrow ad) mc ms Q (8, lv, st, ω, c, s) = y_ldI lv 2 (fun v => y_w (M_X0_borrow ad) mc ms Q (9, lv, v :: st, ω, c, s)) := w_iload_n dX0_borrow_8 rfl rfl
theorem wX0_borrow_9 : y_w (M_X0_borrow ad) mc ms Q (9, lv, .int x :: r, ω, c, s) = y_w (M_X0_borrow ad) mc ms Q (10, lv, .long x.toInt64 :: r, ω, c, s) := w_i2l dX0_borrow_9 rfl
theorem wX0_borrow_10 : y_w (M_X0_borrow ad) mc ms Q (10, lv, st, ω, c, s) = y_w (M_X0_borrow ad) mc ms Q (11, lv, .long 1 :: st, ω, c, s) := w_lconst dX0_borrow_10 (v := 1) (by decide) rfl
theorem wX0_borrow_11 : y_w (M_X0_borrow ad) mc ms Q (11, lv, st, ω, c, s) = y_w (M_X0_borrow ad) mc ms Q (14, lv, .long (lN 9999) :: st, ω, c, s) := w_ldc2_w dX0_borrow_11 rfl rfl rfl
theorem wX0_borrow_14 : y_w (M_X0_borrow ad) mc ms Q (14, lv, v2 :: v1 :: v0 :: r, ω, c, s) = (y_cat r ≤ 8 ∧ F_X0_isIn mc ms [v0, v1, v2] ω c s (y_aft (M_X0_borrow ad) 14 3 lv r (y_w (M_X0_borrow ad) mc ms Q) Q)) := w_call0 (av := [v0, v1, v2]) ⟨Or.inr ⟨rfl, rfl⟩, rfl⟩ dX0_borrow_14 rfl (y_F_mono _) (y_dle rfl) (y_dle rfl) rfl rfl
theorem wX0_borrow_17 : y_w (M_X0_borrow ad) mc ms Q (17, lv, .int x :: r, ω, c, s) = ((¬ x = 0 → y_w (M_X0_borrow ad) mc ms Q (23, lv, r, ω, c, s)) ∧ (¬ (¬ x = 0) → y_w (M_X0_borrow ad) mc ms Q (20, lv, r, ω, c, s))) := w_if dX0_borrow_17 (tgt := 23) rfl rfl rfl
theorem wX0_borrow_20 : y_w (M_X0_borrow ad) mc ms Q (20, lv, st, ω, c, s) = y_w (M_X0_borrow ad) mc ms Q (22, lv, .int (-1000001) :: st, ω, c, s) := w_ldc dX0_borrow_20 rfl rfl rfl
theorem wX0_borrow_22 : y_w (M_X0_borrow ad) mc ms Q (22, lv, [.int x], ω, c, s) = Q (.returned (some (.int x))) ω c s := w_ireturnI dX0_borrow_22 rfl
theorem wX0_borrow_23 : y_w (M_X0_borrow ad) mc ms Q (23, lv, st, ω, c, s) = y_ldA lv 0 (fun v => y_w (M_X0_borrow ad) mc ms Q (24, lv, v :: st, ω, c, s)) := w_aload_n dX0_borrow_23 rfl rfl
theorem wX0_borrow_24 (hc : y_cls ω a = some 0) : y_w (M_X0_borrow ad) mc ms Q (24, lv, .ref a :: r, ω, c, s) = (y_cat r ≤ 8 ∧ (F_X0_keep ad) mc ms [.ref a] ω c s (y_aft (M_X0_borrow ad) 24 3 lv r (y_w (M_X0_borrow ad) mc ms Q) Q)) := w_call1 (av := []) (Or.inl ⟨⟨rfl, rfl⟩, rfl⟩) dX0_borrow_24 rfl hc rfl (y_F_mono _) (y_dle rfl) (y_dle rfl) rfl rfl
theorem wX0_borrow_27 : y_w (M_X0_borrow ad) mc ms Q (27, lv, st, ω, c, s) = y_ldA lv 0 (fun v => y_w (M_X0_borrow ad) mc ms Q (28, lv, v :: st, ω, c, s)) := w_aload_n dX0_borrow_27 rfl rfl
theorem wX0_borrow_28 : y_w (M_X0_borrow ad) mc ms Q (28, lv, .ref a :: r, ω, c, s) = y_gf (P_X0_borrow ad) 39 (ω.2 a) (fun v => y_w (M_X0_borrow ad) mc ms Q (31, lv, v :: r, ω, c, s)) := w_getfield dX0_borrow_28 rfl rfl
theorem wX0_borrow_31 : y_w (M_X0_borrow ad) mc ms Q (31, lv, st, ω, c, s) = y_ldI lv 1 (fun v => y_w (M_X0_borrow ad) mc ms Q (32, lv, v :: st, ω, c, s)) := w_iload_n dX0_borrow_31 rfl rfl
theorem wX0_borrow_32 (hc : y_cls ω a = some 1) : y_w (M_X0_borrow ad) mc ms Q (32, lv, v1 :: .ref a :: r, ω, c, s) = (y_cat r ≤ 8 ∧ F_X1_owedByShore mc ms [.ref a, v1] ω c s (y_aft (M_X0_borrow ad) 32 3 lv r (y_w (M_X0_borrow ad) mc ms Q) Q)) := w_call1 (av := [v1]) (Or.inl ⟨⟨rfl, rfl⟩, rfl⟩) dX0_borrow_32 rfl hc rfl (y_F_mono _) (y_dle rfl) (y_dle rfl) rfl rfl
theorem wX0_borrow_35 : y_w (M_X0_borrow ad) mc ms Q (35, lv, .int x :: r, ω, c, s) = y_w (M_X0_borrow ad) mc ms Q (36, (3, .int x) :: y_kill 3 lv, r, ω, c, s) := w_istore_n dX0_borrow_35 rfl (y_dle rfl) rfl
theorem wX0_borrow_36 : y_w (M_X0_borrow ad) mc ms Q (36, lv, st, ω, c, s) = y_ldA lv 0 (fun v => y_w (M_X0_borrow ad) mc ms Q (37, lv, v :: st, ω, c, s)) := w_aload_n dX0_borrow_36 rfl rfl
theorem wX0_borrow_37 : y_w (M_X0_borrow ad) mc ms Q (37, lv, .ref a :: r, ω, c, s) = y_gf (P_X0_borrow ad) 39 (ω.2 a) (fun v => y_w (M_X0_borrow ad) mc ms Q (40, lv, v :: r, ω, c, s)) := w_getfield dX0_borrow_37 rfl rfl
theorem wX0_borrow_40 : y_w (M_X0_borrow ad) mc ms Q (40, lv, .ref a :: r, ω, c, s) = y_gf (P_X0_borrow ad) 227 (ω.2 a) (fun v => y_w (M_X0_borrow ad) mc ms Q (43, lv, v :: r, ω, c, s)) := w_getfield dX0_borrow_40 rfl rfl
theorem wX0_borrow_43 : y_w (M_X0_borrow ad) mc ms Q (43, lv, st, ω, c, s) = y_ldI lv 1 (fun v => y_w (M_X0_borrow ad) mc ms Q (44, lv, v :: st, ω, c, s)) := w_iload_n dX0_borrow_43 rfl rfl
theorem wX0_borrow_44 : y_w (M_X0_borrow ad) mc ms Q (44, lv, st, ω, c, s) = y_ldI lv 2 (fun v => y_w (M_X0_borrow ad) mc ms Q (45, lv, v :: st, ω, c, s)) := w_iload_n dX0_borrow_44 rfl rfl
theorem wX0_borrow_45 : y_w (M_X0_borrow ad) mc ms Q (45, lv, .int x :: .int j :: .ref a :: r, ω, c, s) = y_wI (ω.2 a) j x (fun e => y_w (M_X0_borrow ad) mc ms Q (46, lv, r, y_hup ω a e, c, s)) := w_iastore dX0_borrow_45 rfl
theorem wX0_borrow_46 : y_w (M_X0_borrow ad) mc ms Q (46, lv, st, ω, c, s) = y_ldA lv 0 (fun v => y_w (M_X0_borrow ad) mc ms Q (47, lv, v :: st, ω, c, s)) := w_aload_n dX0_borrow_46 rfl rfl
theorem wX0_borrow_47 : y_w (M_X0_borrow ad) mc ms Q (47, lv, .ref a :: r, ω, c, s) = y_gf (P_X0_borrow ad) 39 (ω.2 a) (fun v => y_w (M_X0_borrow ad) mc ms Q (50, lv, v :: r, ω, c, s)) := w_getfield dX0_borrow_47 rfl rfl
theorem wX0_borrow_50 : y_w (M_X0_borrow ad) mc ms Q (50, lv, .ref a :: r, ω, c, s) = y_gf (P_X0_borrow ad) 230 (ω.2 a) (fun v => y_w (M_X0_borrow ad) mc ms Q (53, lv, v :: r, ω, c, s)) := w_getfield dX0_borrow_50 rfl rfl
theorem wX0_borrow_53 : y_w (M_X0_borrow ad) mc ms Q (53, lv, st, ω, c, s) = y_ldI lv 1 (fun v => y_w (M_X0_borrow ad) mc ms Q (54, lv, v :: st, ω, c, s)) := w_iload_n dX0_borrow_53 rfl rfl
theorem wX0_borrow_54 : y_w (M_X0_borrow ad) mc ms Q (54, lv, st, ω, c, s) = y_ldA lv 0 (fun v => y_w (M_X0_borrow ad) mc ms Q (55, lv, v :: st, ω, c, s)) := w_aload_n dX0_borrow_54 rfl rfl
theorem wX0_borrow_55 : y_w (M_X0_borrow ad) mc ms Q (55, lv, .ref a :: r, ω, c, s) = y_gf (P_X0_borrow ad) 39 (ω.2 a) (fun v => y_w (M_X0_borrow ad) mc ms Q (58, lv, v :: r, ω, c, s)) := w_getfield dX0_borrow_55 rfl rfl
theorem wX0_borrow_58 : y_w (M_X0_borrow ad) mc ms Q (58, lv, .ref a :: r, ω, c, s) = y_gf (P_X0_borrow ad) 182 (ω.2 a) (fun v => y_w (M_X0_borrow ad) mc ms Q (61, lv, v :: r, ω, c, s)) := w_getfield dX0_borrow_58 rfl rfl
theorem wX0_borrow_61 : y_w (M_X0_borrow ad) mc ms Q (61, lv, st, ω, c, s) = y_ldI lv 1 (fun v => y_w (M_X0_borrow ad) mc ms Q (62, lv, v :: st, ω, c, s)) := w_iload_n dX0_borrow_61 rfl rfl
theorem wX0_borrow_62 : y_w (M_X0_borrow ad) mc ms Q (62, lv, .int j :: .ref a :: r, ω, c, s) = y_rI (ω.2 a) j (fun x => y_w (M_X0_borrow ad) mc ms Q (63, lv, .int x :: r, ω, c, s)) := w_iaload dX0_borrow_62 rfl
theorem wX0_borrow_63 : y_w (M_X0_borrow ad) mc ms Q (63, lv, .int x :: .int j :: .ref a :: r, ω, c, s) = y_wI (ω.2 a) j x (fun e => y_w (M_X0_borrow ad) mc ms Q (64, lv, r, y_hup ω a e, c, s)) := w_iastore dX0_borrow_63 rfl
theorem wX0_borrow_64 : y_w (M_X0_borrow ad) mc ms Q (64, lv, st, ω, c, s) = y_ldA lv 0 (fun v => y_w (M_X0_borrow ad) mc ms Q (65, lv, v :: st, ω, c, s)) := w_aload_n dX0_borrow_64 rfl rfl
theorem wX0_borrow_65 : y_w (M_X0_borrow ad) mc ms Q (65, lv, .ref a :: r, ω, c, s) = y_gf (P_X0_borrow ad) 39 (ω.2 a) (fun v => y_w (M_X0_borrow ad) mc ms Q (68, lv, v :: r, ω, c, s)) := w_getfield dX0_borrow_65 rfl rfl
theorem wX0_borrow_68 : y_w (M_X0_borrow ad) mc ms Q (68, lv, .ref a :: r, ω, c, s) = y_gf (P_X0_borrow ad) 233 (ω.2 a) (fun v => y_w (M_X0_borrow ad) mc ms Q (71, lv, v :: r, ω, c, s)) := w_getfield dX0_borrow_68 rfl rfl
theorem wX0_borrow_71 : y_w (M_X0_borrow ad) mc ms Q (71, lv, st, ω, c, s) = y_ldI lv 1 (fun v => y_w (M_X0_borrow ad) mc ms Q (72, lv, v :: st, ω, c, s)) := w_iload_n dX0_borrow_71 rfl rfl
theorem wX0_borrow_72 : y_w (M_X0_borrow ad) mc ms Q (72, lv, st, ω, c, s) = y_ldA lv 0 (fun v => y_w (M_X0_borrow ad) mc ms Q (73, lv, v :: st, ω, c, s)) := w_aload_n dX0_borrow_72 rfl rfl
theorem wX0_borrow_73 : y_w (M_X0_borrow ad) mc ms Q (73, lv, .ref a :: r, ω, c, s) = y_gf (P_X0_borrow ad) 39 (ω.2 a) (fun v => y_w (M_X0_borrow ad) mc ms Q (76, lv, v :: r, ω, c, s)) := w_getfield dX0_borrow_73 rfl rfl
theorem wX0_borrow_76 : y_w (M_X0_borrow ad) mc ms Q (76, lv, .ref a :: r, ω, c, s) = y_gf (P_X0_borrow ad) 216 (ω.2 a) (fun v => y_w (M_X0_borrow ad) mc ms Q (79, lv, v :: r, ω, c, s)) := w_getfield dX0_borrow_76 rfl rfl
theorem wX0_borrow_79 : y_w (M_X0_borrow ad) mc ms Q (79, lv, st, ω, c, s) = y_ldI lv 1 (fun v => y_w (M_X0_borrow ad) mc ms Q (80, lv, v :: st, ω, c, s)) := w_iload_n dX0_borrow_79 rfl rfl
theorem wX0_borrow_80 : y_w (M_X0_borrow ad) mc ms Q (80, lv, .int j :: .ref a :: r, ω, c, s) = y_rI (ω.2 a) j (fun x => y_w (M_X0_borrow ad) mc ms Q (81, lv, .int x :: r, ω, c, s)) := w_iaload dX0_borrow_80 rfl
theorem wX0_borrow_81 : y_w (M_X0_borrow ad) mc ms Q (81, lv, .int x :: .int j :: .ref a :: r, ω, c, s) = y_wI (ω.2 a) j x (fun e => y_w (M_X0_borrow ad) mc ms Q (82, lv, r, y_hup ω a e, c, s)) := w_iastore dX0_borrow_81 rfl
theorem wX0_borrow_82 : y_w (M_X0_borrow ad) mc ms Q (82, lv, st, ω, c, s) = y_ldI lv 3 (fun v => y_w (M_X0_borrow ad) mc ms Q (83, lv, v :: st, ω, c, s)) := w_iload_n dX0_borrow_82 rfl rfl
theorem wX0_borrow_83 : y_w (M_X0_borrow ad) mc ms Q (83, lv, [.int x], ω, c, s) = Q (.returned (some (.int x))) ω c s := w_ireturnI dX0_borrow_83 rfl
def P_X0_undo : y_Pool := ([(158, 0, 6, .int, false), (39, 0, 4, (.object "YoungerBack$League"), true), (43, 0, 5, (.array (.object "YoungerBack$League")), true)], [], [(192, .int (-1000002))], [(154, 1, 1, 2, (2, 81), F_X1_become)], [], [], [])
def M_X0_undo : y_Md := (cX0_undo, "YoungerBack", (1, (some FieldType.int)), (2, 81), false, P_X0_undo, [])
def F_X0_undo : y_Tr := y_F M_X0_undo
theorem nX0_undo : y_nL M_X0_undo = 1 := rfl
theorem fX0_undo_158_0 : y_ffP P_X0_undo 158 0 = some (6, .int, false) := rfl
theorem fX0_undo_39_0 : y_ffP P_X0_undo 39 0 = some (4, (.object "YoungerBack$League"), true) := rfl
theorem fX0_undo_43_0 : y_ffP P_X0_undo 43 0 = some (5, (.array (.object "YoungerBack$League")), true) := rfl
theorem wX0_undo_0 : y_w M_X0_undo mc ms Q (0, lv, st, ω, c, s) = y_ldA lv 0 (fun v => y_w M_X0_undo mc ms Q (1, lv, v :: st, ω, c, s)) := w_aload_n dX0_undo_0 rfl rfl
theorem wX0_undo_1 : y_w M_X0_undo mc ms Q (1, lv, .ref a :: r, ω, c, s) = y_gf P_X0_undo 158 (ω.2 a) (fun v => y_w M_X0_undo mc ms Q (4, lv, v :: r, ω, c, s)) := w_getfield dX0_undo_1 rfl rfl
theorem wX0_undo_4 : y_w M_X0_undo mc ms Q (4, lv, .int x :: r, ω, c, s) = ((¬ x = 0 → y_w M_X0_undo mc ms Q (10, lv, r, ω, c, s)) ∧ (¬ (¬ x = 0) → y_w M_X0_undo mc ms Q (7, lv, r, ω, c, s))) := w_if dX0_undo_4 (tgt := 10) rfl rfl rfl
theorem wX0_undo_7 : y_w M_X0_undo mc ms Q (7, lv, st, ω, c, s) = y_w M_X0_undo mc ms Q (9, lv, .int (-1000002) :: st, ω, c, s) := w_ldc dX0_undo_7 rfl rfl rfl
theorem wX0_undo_9 : y_w M_X0_undo mc ms Q (9, lv, [.int x], ω, c, s) = Q (.returned (some (.int x))) ω c s := w_ireturnI dX0_undo_9 rfl
theorem wX0_undo_10 : y_w M_X0_undo mc ms Q (10, lv, st, ω, c, s) = y_ldA lv 0 (fun v => y_w M_X0_undo mc ms Q (11, lv, v :: st, ω, c, s)) := w_aload_n dX0_undo_10 rfl rfl
theorem wX0_undo_11 : y_w M_X0_undo mc ms Q (11, lv, v :: r, ω, c, s) = (v.category = 1 ∧ y_w M_X0_undo mc ms Q (12, lv, v :: v :: r, ω, c, s)) := w_dup dX0_undo_11 rfl
theorem wX0_undo_12 : y_w M_X0_undo mc ms Q (12, lv, .ref a :: r, ω, c, s) = y_gf P_X0_undo 158 (ω.2 a) (fun v => y_w M_X0_undo mc ms Q (15, lv, v :: r, ω, c, s)) := w_getfield dX0_undo_12 rfl rfl
theorem wX0_undo_15 : y_w M_X0_undo mc ms Q (15, lv, st, ω, c, s) = y_w M_X0_undo mc ms Q (16, lv, .int 1 :: st, ω, c, s) := w_iconst dX0_undo_15 (v := 1) (by decide) rfl
theorem wX0_undo_16 : y_w M_X0_undo mc ms Q (16, lv, .int y :: .int x :: r, ω, c, s) = y_w M_X0_undo mc ms Q (17, lv, .int (x - y) :: r, ω, c, s) := w_isub dX0_undo_16 rfl
theorem wX0_undo_17 : y_w M_X0_undo mc ms Q (17, lv, v :: .ref a :: r, ω, c, s) = y_pf P_X0_undo false 158 (ω.2 a) v (fun ci fs => y_w M_X0_undo mc ms Q (20, lv, r, y_hup ω a (.inr (ci, fs)), c, s)) := w_putfield dX0_undo_17 rfl rfl rfl
theorem wX0_undo_20 : y_w M_X0_undo mc ms Q (20, lv, st, ω, c, s) = y_ldA lv 0 (fun v => y_w M_X0_undo mc ms Q (21, lv, v :: st, ω, c, s)) := w_aload_n dX0_undo_20 rfl rfl
theorem wX0_undo_21 : y_w M_X0_undo mc ms Q (21, lv, .ref a :: r, ω, c, s) = y_gf P_X0_undo 39 (ω.2 a) (fun v => y_w M_X0_undo mc ms Q (24, lv, v :: r, ω, c, s)) := w_getfield dX0_undo_21 rfl rfl
theorem wX0_undo_24 : y_w M_X0_undo mc ms Q (24, lv, st, ω, c, s) = y_ldA lv 0 (fun v => y_w M_X0_undo mc ms Q (25, lv, v :: st, ω, c, s)) := w_aload_n dX0_undo_24 rfl rfl
theorem wX0_undo_25 : y_w M_X0_undo mc ms Q (25, lv, .ref a :: r, ω, c, s) = y_gf P_X0_undo 43 (ω.2 a) (fun v => y_w M_X0_undo mc ms Q (28, lv, v :: r, ω, c, s)) := w_getfield dX0_undo_25 rfl rfl
theorem wX0_undo_28 : y_w M_X0_undo mc ms Q (28, lv, st, ω, c, s) = y_ldA lv 0 (fun v => y_w M_X0_undo mc ms Q (29, lv, v :: st, ω, c, s)) := w_aload_n dX0_undo_28 rfl rfl
theorem wX0_undo_29 : y_w M_X0_undo mc ms Q (29, lv, .ref a :: r, ω, c, s) = y_gf P_X0_undo 158 (ω.2 a) (fun v => y_w M_X0_undo mc ms Q (32, lv, v :: r, ω, c, s)) := w_getfield dX0_undo_29 rfl rfl
theorem wX0_undo_32 : y_w M_X0_undo mc ms Q (32, lv, .int j :: .ref a :: r, ω, c, s) = y_rA (ω.2 a) j (fun x => y_w M_X0_undo mc ms Q (33, lv, x :: r, ω, c, s)) := w_aaload dX0_undo_32 rfl
theorem wX0_undo_33 (hc : y_cls ω a = some 1) : y_w M_X0_undo mc ms Q (33, lv, v1 :: .ref a :: r, ω, c, s) = (y_cat r ≤ 8 ∧ F_X1_become mc ms [.ref a, v1] ω c s (y_aft M_X0_undo 33 3 lv r (y_w M_X0_undo mc ms Q) Q)) := w_call1 (av := [v1]) (Or.inl ⟨⟨rfl, rfl⟩, rfl⟩) dX0_undo_33 rfl hc rfl (y_F_mono _) (y_dle rfl) (y_dle rfl) rfl rfl
theorem wX0_undo_36 : y_w M_X0_undo mc ms Q (36, lv, v :: r, ω, c, s) = (v.category = 1 ∧ y_w M_X0_undo mc ms Q (37, lv, r, ω, c, s)) := w_pop dX0_undo_36 rfl
theorem wX0_undo_37 : y_w M_X0_undo mc ms Q (37, lv, st, ω, c, s) = y_ldA lv 0 (fun v => y_w M_X0_undo mc ms Q (38, lv, v :: st, ω, c, s)) := w_aload_n dX0_undo_37 rfl rfl
theorem wX0_undo_38 : y_w M_X0_undo mc ms Q (38, lv, .ref a :: r, ω, c, s) = y_gf P_X0_undo 158 (ω.2 a) (fun v => y_w M_X0_undo mc ms Q (41, lv, v :: r, ω, c, s)) := w_getfield dX0_undo_38 rfl rfl
theorem wX0_undo_41 : y_w M_X0_undo mc ms Q (41, lv, [.int x], ω, c, s) = Q (.returned (some (.int x))) ω c s := w_ireturnI dX0_undo_41 rfl
def P_X1_owedByOwn : y_Pool := ([(37, 1, 10, (.array .int), true), (46, 1, 13, (.array .int), true)], [], [], [(101, 1, 1, 3, (2, 47), F_X1_owed)], [], [], [])
def M_X1_owedByOwn : y_Md := (cX1_owedByOwn, "YoungerBack$League", (2, (some FieldType.int)), (2, 47), false, P_X1_owedByOwn, [])
def F_X1_owedByOwn : y_Tr := y_F M_X1_owedByOwn
theorem nX1_owedByOwn : y_nL M_X1_owedByOwn = 2 := rfl
theorem fX1_owedByOwn_37_1 : y_ffP P_X1_owedByOwn 37 1 = some (10, (.array .int), true) := rfl
theorem fX1_owedByOwn_46_1 : y_ffP P_X1_owedByOwn 46 1 = some (13, (.array .int), true) := rfl
theorem wX1_owedByOwn_0 : y_w M_X1_owedByOwn mc ms Q (0, lv, st, ω, c, s) = y_ldA lv 0 (fun v => y_w M_X1_owedByOwn mc ms Q (1, lv, v :: st, ω, c, s)) := w_aload_n dX1_owedByOwn_0 rfl rfl
theorem wX1_owedByOwn_1 : y_w M_X1_owedByOwn mc ms Q (1, lv, st, ω, c, s) = y_ldI lv 1 (fun v => y_w M_X1_owedByOwn mc ms Q (2, lv, v :: st, ω, c, s)) := w_iload_n dX1_owedByOwn_1 rfl rfl
theorem wX1_owedByOwn_2 : y_w M_X1_owedByOwn mc ms Q (2, lv, st, ω, c, s) = y_ldA lv 0 (fun v => y_w M_X1_owedByOwn mc ms Q (3, lv, v :: st, ω, c, s)) := w_aload_n dX1_owedByOwn_2 rfl rfl
theorem wX1_owedByOwn_3 : y_w M_X1_owedByOwn mc ms Q (3, lv, .ref a :: r, ω, c, s) = y_gf P_X1_owedByOwn 37 (ω.2 a) (fun v => y_w M_X1_owedByOwn mc ms Q (6, lv, v :: r, ω, c, s)) := w_getfield dX1_owedByOwn_3 rfl rfl
theorem wX1_owedByOwn_6 : y_w M_X1_owedByOwn mc ms Q (6, lv, st, ω, c, s) = y_ldI lv 1 (fun v => y_w M_X1_owedByOwn mc ms Q (7, lv, v :: st, ω, c, s)) := w_iload_n dX1_owedByOwn_6 rfl rfl
theorem wX1_owedByOwn_7 : y_w M_X1_owedByOwn mc ms Q (7, lv, .int j :: .ref a :: r, ω, c, s) = y_rI (ω.2 a) j (fun x => y_w M_X1_owedByOwn mc ms Q (8, lv, .int x :: r, ω, c, s)) := w_iaload dX1_owedByOwn_7 rfl
theorem wX1_owedByOwn_8 : y_w M_X1_owedByOwn mc ms Q (8, lv, st, ω, c, s) = y_ldA lv 0 (fun v => y_w M_X1_owedByOwn mc ms Q (9, lv, v :: st, ω, c, s)) := w_aload_n dX1_owedByOwn_8 rfl rfl
theorem wX1_owedByOwn_9 : y_w M_X1_owedByOwn mc ms Q (9, lv, .ref a :: r, ω, c, s) = y_gf P_X1_owedByOwn 46 (ω.2 a) (fun v => y_w M_X1_owedByOwn mc ms Q (12, lv, v :: r, ω, c, s)) := w_getfield dX1_owedByOwn_9 rfl rfl
theorem wX1_owedByOwn_12 : y_w M_X1_owedByOwn mc ms Q (12, lv, st, ω, c, s) = y_ldI lv 1 (fun v => y_w M_X1_owedByOwn mc ms Q (13, lv, v :: st, ω, c, s)) := w_iload_n dX1_owedByOwn_12 rfl rfl
theorem wX1_owedByOwn_13 : y_w M_X1_owedByOwn mc ms Q (13, lv, .int j :: .ref a :: r, ω, c, s) = y_rI (ω.2 a) j (fun x => y_w M_X1_owedByOwn mc ms Q (14, lv, .int x :: r, ω, c, s)) := w_iaload dX1_owedByOwn_13 rfl
theorem wX1_owedByOwn_14 : y_w M_X1_owedByOwn mc ms Q (14, lv, .int y :: .int x :: r, ω, c, s) = y_w M_X1_owedByOwn mc ms Q (15, lv, .int (x - y) :: r, ω, c, s) := w_isub dX1_owedByOwn_14 rfl
theorem wX1_owedByOwn_15 (hc : y_cls ω a = some 1) : y_w M_X1_owedByOwn mc ms Q (15, lv, v2 :: v1 :: .ref a :: r, ω, c, s) = (y_cat r ≤ 8 ∧ F_X1_owed mc ms [.ref a, v1, v2] ω c s (y_aft M_X1_owedByOwn 15 3 lv r (y_w M_X1_owedByOwn mc ms Q) Q)) := w_call1 (av := [v1, v2]) (Or.inl ⟨⟨rfl, rfl⟩, rfl⟩) dX1_owedByOwn_15 rfl hc rfl (y_F_mono _) (y_dle rfl) (y_dle rfl) rfl rfl
theorem wX1_owedByOwn_18 : y_w M_X1_owedByOwn mc ms Q (18, lv, [.int x], ω, c, s) = Q (.returned (some (.int x))) ω c s := w_ireturnI dX1_owedByOwn_18 rfl
def P_X0_person : y_Pool := ([(39, 0, 4, (.object "YoungerBack$League"), true), (174, 1, 8, (.array .int), true), (182, 1, 9, (.array .int), true), (216, 1, 10, (.array .int), true), (236, 1, 7, (.object "java/util/List"), false), (248, 9, 1, .int, true), (248, 10, 1, .int, true), (248, 11, 1, .int, true), (248, 12, 1, .int, true), (248, 13, 1, .int, true)], [], [(93, .int (-1000001))], [(168, 1, 0, 2, (3, 61), F_X0_isPerson), (240, 3, 14, 2, (3, 64), F_J2_get), (224, 1, 1, 2, (3, 68), F_X1_owedByShore), (250, 1, 1, 2, (3, 68), F_X1_owedByOwn)], [(246, 9, 1), (246, 10, 1), (246, 11, 1), (246, 12, 1), (246, 13, 1)], [], [])
def M_X0_person : y_Md := (cX0_person, "YoungerBack", (3, (some FieldType.int)), (3, 68), false, P_X0_person, [])
def F_X0_person : y_Tr := y_F M_X0_person
theorem nX0_person : y_nL M_X0_person = 3 := rfl
theorem tX0_person_246_9 : y_ft M_X0_person 246 9 = some 1 := rfl
theorem tX0_person_246_10 : y_ft M_X0_person 246 10 = some 1 := rfl
theorem tX0_person_246_11 : y_ft M_X0_person 246 11 = some 1 := rfl
theorem tX0_person_246_12 : y_ft M_X0_person 246 12 = some 1 := rfl
theorem tX0_person_246_13 : y_ft M_X0_person 246 13 = some 1 := rfl
theorem fX0_person_39_0 : y_ffP P_X0_person 39 0 = some (4, (.object "YoungerBack$League"), true) := rfl
theorem fX0_person_174_1 : y_ffP P_X0_person 174 1 = some (8, (.array .int), true) := rfl
theorem fX0_person_182_1 : y_ffP P_X0_person 182 1 = some (9, (.array .int), true) := rfl
theorem fX0_person_216_1 : y_ffP P_X0_person 216 1 = some (10, (.array .int), true) := rfl
theorem fX0_person_236_1 : y_ffP P_X0_person 236 1 = some (7, (.object "java/util/List"), false) := rfl
theorem fX0_person_248_9 : y_ffP P_X0_person 248 9 = some (1, .int, true) := rfl
theorem fX0_person_248_10 : y_ffP P_X0_person 248 10 = some (1, .int, true) := rfl
theorem fX0_person_248_11 : y_ffP P_X0_person 248 11 = some (1, .int, true) := rfl
theorem fX0_person_248_12 : y_ffP P_X0_person 248 12 = some (1, .int, true) := rfl
theorem fX0_person_248_13 : y_ffP P_X0_person 248 13 = some (1, .int, true) := rfl
theorem wX0_person_0 : y_w M_X0_person mc ms Q (0, lv, st, ω, c, s) = y_ldA lv 0 (fun v => y_w M_X0_person mc ms Q (1, lv, v :: st, ω, c, s)) := w_aload_n dX0_person_0 rfl rfl
theorem wX0_person_1 : y_w M_X0_person mc ms Q (1, lv, st, ω, c, s) = y_ldI lv 1 (fun v => y_w M_X0_person mc ms Q (2, lv, v :: st, ω, c, s)) := w_iload_n dX0_person_1 rfl rfl
theorem wX0_person_2 (hc : y_cls ω a = some 0) : y_w M_X0_person mc ms Q (2, lv, v1 :: .ref a :: r, ω, c, s) = (y_cat r ≤ 8 ∧ F_X0_isPerson mc ms [.ref a, v1] ω c s (y_aft M_X0_person 2 3 lv r (y_w M_X0_person mc ms Q) Q)) := w_call1 (av := [v1]) (Or.inl ⟨⟨rfl, rfl⟩, rfl⟩) dX0_person_2 rfl hc rfl (y_F_mono _) (y_dle rfl) (y_dle rfl) rfl rfl
theorem wX0_person_5 : y_w M_X0_person mc ms Q (5, lv, .int x :: r, ω, c, s) = ((¬ x = 0 → y_w M_X0_person mc ms Q (11, lv, r, ω, c, s)) ∧ (¬ (¬ x = 0) → y_w M_X0_person mc ms Q (8, lv, r, ω, c, s))) := w_if dX0_person_5 (tgt := 11) rfl rfl rfl
theorem wX0_person_8 : y_w M_X0_person mc ms Q (8, lv, st, ω, c, s) = y_w M_X0_person mc ms Q (10, lv, .int (-1000001) :: st, ω, c, s) := w_ldc dX0_person_8 rfl rfl rfl
theorem wX0_person_10 : y_w M_X0_person mc ms Q (10, lv, [.int x], ω, c, s) = Q (.returned (some (.int x))) ω c s := w_ireturnI dX0_person_10 rfl
theorem wX0_person_11 : y_w M_X0_person mc ms Q (11, lv, st, ω, c, s) = y_ldI lv 2 (fun v => y_w M_X0_person mc ms Q (12, lv, v :: st, ω, c, s)) := w_iload_n dX0_person_11 rfl rfl
theorem wX0_person_12 : y_w M_X0_person mc ms Q (12, lv, .int x :: r, ω, c, s) = y_sw x 0 [52, 62, 72, 82, 122, 131] 140 (fun t => y_w M_X0_person mc ms Q (t, lv, r, ω, c, s)) := w_tsw dX0_person_12 (dt := 140) (ts := [52, 62, 72, 82, 122, 131]) rfl (by decide) (by decide)
theorem wX0_person_52 : y_w M_X0_person mc ms Q (52, lv, st, ω, c, s) = y_ldA lv 0 (fun v => y_w M_X0_person mc ms Q (53, lv, v :: st, ω, c, s)) := w_aload_n dX0_person_52 rfl rfl
theorem wX0_person_53 : y_w M_X0_person mc ms Q (53, lv, .ref a :: r, ω, c, s) = y_gf P_X0_person 39 (ω.2 a) (fun v => y_w M_X0_person mc ms Q (56, lv, v :: r, ω, c, s)) := w_getfield dX0_person_53 rfl rfl
theorem wX0_person_56 : y_w M_X0_person mc ms Q (56, lv, .ref a :: r, ω, c, s) = y_gf P_X0_person 174 (ω.2 a) (fun v => y_w M_X0_person mc ms Q (59, lv, v :: r, ω, c, s)) := w_getfield dX0_person_56 rfl rfl
theorem wX0_person_59 : y_w M_X0_person mc ms Q (59, lv, st, ω, c, s) = y_ldI lv 1 (fun v => y_w M_X0_person mc ms Q (60, lv, v :: st, ω, c, s)) := w_iload_n dX0_person_59 rfl rfl
theorem wX0_person_60 : y_w M_X0_person mc ms Q (60, lv, .int j :: .ref a :: r, ω, c, s) = y_rI (ω.2 a) j (fun x => y_w M_X0_person mc ms Q (61, lv, .int x :: r, ω, c, s)) := w_iaload dX0_person_60 rfl
theorem wX0_person_61 : y_w M_X0_person mc ms Q (61, lv, [.int x], ω, c, s) = Q (.returned (some (.int x))) ω c s := w_ireturnI dX0_person_61 rfl
theorem wX0_person_62 : y_w M_X0_person mc ms Q (62, lv, st, ω, c, s) = y_ldA lv 0 (fun v => y_w M_X0_person mc ms Q (63, lv, v :: st, ω, c, s)) := w_aload_n dX0_person_62 rfl rfl
theorem wX0_person_63 : y_w M_X0_person mc ms Q (63, lv, .ref a :: r, ω, c, s) = y_gf P_X0_person 39 (ω.2 a) (fun v => y_w M_X0_person mc ms Q (66, lv, v :: r, ω, c, s)) := w_getfield dX0_person_63 rfl rfl
theorem wX0_person_66 : y_w M_X0_person mc ms Q (66, lv, .ref a :: r, ω, c, s) = y_gf P_X0_person 182 (ω.2 a) (fun v => y_w M_X0_person mc ms Q (69, lv, v :: r, ω, c, s)) := w_getfield dX0_person_66 rfl rfl
theorem wX0_person_69 : y_w M_X0_person mc ms Q (69, lv, st, ω, c, s) = y_ldI lv 1 (fun v => y_w M_X0_person mc ms Q (70, lv, v :: st, ω, c, s)) := w_iload_n dX0_person_69 rfl rfl
theorem wX0_person_70 : y_w M_X0_person mc ms Q (70, lv, .int j :: .ref a :: r, ω, c, s) = y_rI (ω.2 a) j (fun x => y_w M_X0_person mc ms Q (71, lv, .int x :: r, ω, c, s)) := w_iaload dX0_person_70 rfl
theorem wX0_person_71 : y_w M_X0_person mc ms Q (71, lv, [.int x], ω, c, s) = Q (.returned (some (.int x))) ω c s := w_ireturnI dX0_person_71 rfl
theorem wX0_person_72 : y_w M_X0_person mc ms Q (72, lv, st, ω, c, s) = y_ldA lv 0 (fun v => y_w M_X0_person mc ms Q (73, lv, v :: st, ω, c, s)) := w_aload_n dX0_person_72 rfl rfl
theorem wX0_person_73 : y_w M_X0_person mc ms Q (73, lv, .ref a :: r, ω, c, s) = y_gf P_X0_person 39 (ω.2 a) (fun v => y_w M_X0_person mc ms Q (76, lv, v :: r, ω, c, s)) := w_getfield dX0_person_73 rfl rfl
theorem wX0_person_76 : y_w M_X0_person mc ms Q (76, lv, .ref a :: r, ω, c, s) = y_gf P_X0_person 216 (ω.2 a) (fun v => y_w M_X0_person mc ms Q (79, lv, v :: r, ω, c, s)) := w_getfield dX0_person_76 rfl rfl
theorem wX0_person_79 : y_w M_X0_person mc ms Q (79, lv, st, ω, c, s) = y_ldI lv 1 (fun v => y_w M_X0_person mc ms Q (80, lv, v :: st, ω, c, s)) := w_iload_n dX0_person_79 rfl rfl
theorem wX0_person_80 : y_w M_X0_person mc ms Q (80, lv, .int j :: .ref a :: r, ω, c, s) = y_rI (ω.2 a) j (fun x => y_w M_X0_person mc ms Q (81, lv, .int x :: r, ω, c, s)) := w_iaload dX0_person_80 rfl
theorem wX0_person_81 : y_w M_X0_person mc ms Q (81, lv, [.int x], ω, c, s) = Q (.returned (some (.int x))) ω c s := w_ireturnI dX0_person_81 rfl
theorem wX0_person_82 : y_w M_X0_person mc ms Q (82, lv, st, ω, c, s) = y_ldA lv 0 (fun v => y_w M_X0_person mc ms Q (83, lv, v :: st, ω, c, s)) := w_aload_n dX0_person_82 rfl rfl
theorem wX0_person_83 : y_w M_X0_person mc ms Q (83, lv, .ref a :: r, ω, c, s) = y_gf P_X0_person 39 (ω.2 a) (fun v => y_w M_X0_person mc ms Q (86, lv, v :: r, ω, c, s)) := w_getfield dX0_person_83 rfl rfl
theorem wX0_person_86 : y_w M_X0_person mc ms Q (86, lv, .ref a :: r, ω, c, s) = y_gf P_X0_person 182 (ω.2 a) (fun v => y_w M_X0_person mc ms Q (89, lv, v :: r, ω, c, s)) := w_getfield dX0_person_86 rfl rfl
theorem wX0_person_89 : y_w M_X0_person mc ms Q (89, lv, st, ω, c, s) = y_ldI lv 1 (fun v => y_w M_X0_person mc ms Q (90, lv, v :: st, ω, c, s)) := w_iload_n dX0_person_89 rfl rfl
theorem wX0_person_90 : y_w M_X0_person mc ms Q (90, lv, .int j :: .ref a :: r, ω, c, s) = y_rI (ω.2 a) j (fun x => y_w M_X0_person mc ms Q (91, lv, .int x :: r, ω, c, s)) := w_iaload dX0_person_90 rfl
theorem wX0_person_91 : y_w M_X0_person mc ms Q (91, lv, st, ω, c, s) = y_ldA lv 0 (fun v => y_w M_X0_person mc ms Q (92, lv, v :: st, ω, c, s)) := w_aload_n dX0_person_91 rfl rfl
theorem wX0_person_92 : y_w M_X0_person mc ms Q (92, lv, .ref a :: r, ω, c, s) = y_gf P_X0_person 39 (ω.2 a) (fun v => y_w M_X0_person mc ms Q (95, lv, v :: r, ω, c, s)) := w_getfield dX0_person_92 rfl rfl
theorem wX0_person_95 : y_w M_X0_person mc ms Q (95, lv, .ref a :: r, ω, c, s) = y_gf P_X0_person 236 (ω.2 a) (fun v => y_w M_X0_person mc ms Q (98, lv, v :: r, ω, c, s)) := w_getfield dX0_person_95 rfl rfl
theorem wX0_person_98 : y_w M_X0_person mc ms Q (98, lv, st, ω, c, s) = y_ldI lv 1 (fun v => y_w M_X0_person mc ms Q (99, lv, v :: st, ω, c, s)) := w_iload_n dX0_person_98 rfl rfl
theorem wX0_person_99 (hc : y_cls ω a = some 14) : y_w M_X0_person mc ms Q (99, lv, v1 :: .ref a :: r, ω, c, s) = (y_cat r ≤ 8 ∧ F_J2_get mc ms [.ref a, v1] ω c s (y_aft M_X0_person 99 5 lv r (y_w M_X0_person mc ms Q) Q)) := w_call1 (av := [v1]) (Or.inr ⟨⟨⟨_, rfl⟩, rfl⟩, rfl⟩) dX0_person_99 rfl hc rfl (y_F_mono _) (y_dle rfl) (y_dle rfl) rfl rfl
theorem wX0_person_104 : y_w M_X0_person mc ms Q (104, lv, .ref a :: r, ω, c, s) = y_tsc M_X0_person 246 (ω.2 a) (y_w M_X0_person mc ms Q (107, lv, .ref a :: r, ω, c, s)) (y_vmt M_X0_person mc ms 18 104 lv ω c s (y_w M_X0_person mc ms Q) Q) := w_checkcast dX0_person_104 rfl
theorem wX0_person_107 : y_w M_X0_person mc ms Q (107, lv, .ref a :: r, ω, c, s) = y_gf P_X0_person 248 (ω.2 a) (fun v => y_w M_X0_person mc ms Q (110, lv, v :: r, ω, c, s)) := w_getfield dX0_person_107 rfl rfl
theorem wX0_person_110 : y_w M_X0_person mc ms Q (110, lv, .int y :: .int x :: r, ω, c, s) = y_w M_X0_person mc ms Q (111, lv, .int (x + y) :: r, ω, c, s) := w_iadd dX0_person_110 rfl
theorem wX0_person_111 : y_w M_X0_person mc ms Q (111, lv, st, ω, c, s) = y_ldA lv 0 (fun v => y_w M_X0_person mc ms Q (112, lv, v :: st, ω, c, s)) := w_aload_n dX0_person_111 rfl rfl
theorem wX0_person_112 : y_w M_X0_person mc ms Q (112, lv, .ref a :: r, ω, c, s) = y_gf P_X0_person 39 (ω.2 a) (fun v => y_w M_X0_person mc ms Q (115, lv, v :: r, ω, c, s)) := w_getfield dX0_person_112 rfl rfl
theorem wX0_person_115 : y_w M_X0_person mc ms Q (115, lv, .ref a :: r, ω, c, s) = y_gf P_X0_person 216 (ω.2 a) (fun v => y_w M_X0_person mc ms Q (118, lv, v :: r, ω, c, s)) := w_getfield dX0_person_115 rfl rfl
theorem wX0_person_118 : y_w M_X0_person mc ms Q (118, lv, st, ω, c, s) = y_ldI lv 1 (fun v => y_w M_X0_person mc ms Q (119, lv, v :: st, ω, c, s)) := w_iload_n dX0_person_118 rfl rfl
theorem wX0_person_119 : y_w M_X0_person mc ms Q (119, lv, .int j :: .ref a :: r, ω, c, s) = y_rI (ω.2 a) j (fun x => y_w M_X0_person mc ms Q (120, lv, .int x :: r, ω, c, s)) := w_iaload dX0_person_119 rfl
theorem wX0_person_120 : y_w M_X0_person mc ms Q (120, lv, .int y :: .int x :: r, ω, c, s) = y_w M_X0_person mc ms Q (121, lv, .int (x - y) :: r, ω, c, s) := w_isub dX0_person_120 rfl
theorem wX0_person_121 : y_w M_X0_person mc ms Q (121, lv, [.int x], ω, c, s) = Q (.returned (some (.int x))) ω c s := w_ireturnI dX0_person_121 rfl
theorem wX0_person_122 : y_w M_X0_person mc ms Q (122, lv, st, ω, c, s) = y_ldA lv 0 (fun v => y_w M_X0_person mc ms Q (123, lv, v :: st, ω, c, s)) := w_aload_n dX0_person_122 rfl rfl
theorem wX0_person_123 : y_w M_X0_person mc ms Q (123, lv, .ref a :: r, ω, c, s) = y_gf P_X0_person 39 (ω.2 a) (fun v => y_w M_X0_person mc ms Q (126, lv, v :: r, ω, c, s)) := w_getfield dX0_person_123 rfl rfl
theorem wX0_person_126 : y_w M_X0_person mc ms Q (126, lv, st, ω, c, s) = y_ldI lv 1 (fun v => y_w M_X0_person mc ms Q (127, lv, v :: st, ω, c, s)) := w_iload_n dX0_person_126 rfl rfl
theorem wX0_person_127 (hc : y_cls ω a = some 1) : y_w M_X0_person mc ms Q (127, lv, v1 :: .ref a :: r, ω, c, s) = (y_cat r ≤ 8 ∧ F_X1_owedByShore mc ms [.ref a, v1] ω c s (y_aft M_X0_person 127 3 lv r (y_w M_X0_person mc ms Q) Q)) := w_call1 (av := [v1]) (Or.inl ⟨⟨rfl, rfl⟩, rfl⟩) dX0_person_127 rfl hc rfl (y_F_mono _) (y_dle rfl) (y_dle rfl) rfl rfl
theorem wX0_person_130 : y_w M_X0_person mc ms Q (130, lv, [.int x], ω, c, s) = Q (.returned (some (.int x))) ω c s := w_ireturnI dX0_person_130 rfl
theorem wX0_person_131 : y_w M_X0_person mc ms Q (131, lv, st, ω, c, s) = y_ldA lv 0 (fun v => y_w M_X0_person mc ms Q (132, lv, v :: st, ω, c, s)) := w_aload_n dX0_person_131 rfl rfl
theorem wX0_person_132 : y_w M_X0_person mc ms Q (132, lv, .ref a :: r, ω, c, s) = y_gf P_X0_person 39 (ω.2 a) (fun v => y_w M_X0_person mc ms Q (135, lv, v :: r, ω, c, s)) := w_getfield dX0_person_132 rfl rfl
theorem wX0_person_135 : y_w M_X0_person mc ms Q (135, lv, st, ω, c, s) = y_ldI lv 1 (fun v => y_w M_X0_person mc ms Q (136, lv, v :: st, ω, c, s)) := w_iload_n dX0_person_135 rfl rfl
theorem wX0_person_136 (hc : y_cls ω a = some 1) : y_w M_X0_person mc ms Q (136, lv, v1 :: .ref a :: r, ω, c, s) = (y_cat r ≤ 8 ∧ F_X1_owedByOwn mc ms [.ref a, v1] ω c s (y_aft M_X0_person 136 3 lv r (y_w M_X0_person mc ms Q) Q)) := w_call1 (av := [v1]) (Or.inl ⟨⟨rfl, rfl⟩, rfl⟩) dX0_person_136 rfl hc rfl (y_F_mono _) (y_dle rfl) (y_dle rfl) rfl rfl
theorem wX0_person_139 : y_w M_X0_person mc ms Q (139, lv, [.int x], ω, c, s) = Q (.returned (some (.int x))) ω c s := w_ireturnI dX0_person_139 rfl
theorem wX0_person_140 : y_w M_X0_person mc ms Q (140, lv, st, ω, c, s) = y_w M_X0_person mc ms Q (142, lv, .int (-1000001) :: st, ω, c, s) := w_ldc dX0_person_140 rfl rfl rfl
theorem wX0_person_142 : y_w M_X0_person mc ms Q (142, lv, [.int x], ω, c, s) = Q (.returned (some (.int x))) ω c s := w_ireturnI dX0_person_142 rfl
def P_X0_isHarbour : y_Pool := ([(39, 0, 4, (.object "YoungerBack$League"), true), (165, 1, 0, .int, false)], [], [], [(79, 0, 0, 3, (1, 25), F_X0_isIn)], [], [], [])
def M_X0_isHarbour : y_Md := (cX0_isHarbour, "YoungerBack", (2, (some FieldType.boolean)), (1, 25), false, P_X0_isHarbour, [])
def F_X0_isHarbour : y_Tr := y_F M_X0_isHarbour
theorem nX0_isHarbour : y_nL M_X0_isHarbour = 2 := rfl
theorem fX0_isHarbour_39_0 : y_ffP P_X0_isHarbour 39 0 = some (4, (.object "YoungerBack$League"), true) := rfl
theorem fX0_isHarbour_165_1 : y_ffP P_X0_isHarbour 165 1 = some (0, .int, false) := rfl
theorem wX0_isHarbour_0 : y_w M_X0_isHarbour mc ms Q (0, lv, st, ω, c, s) = y_ldI lv 1 (fun v => y_w M_X0_isHarbour mc ms Q (1, lv, v :: st, ω, c, s)) := w_iload_n dX0_isHarbour_0 rfl rfl
theorem wX0_isHarbour_1 : y_w M_X0_isHarbour mc ms Q (1, lv, .int x :: r, ω, c, s) = y_w M_X0_isHarbour mc ms Q (2, lv, .long x.toInt64 :: r, ω, c, s) := w_i2l dX0_isHarbour_1 rfl
theorem wX0_isHarbour_2 : y_w M_X0_isHarbour mc ms Q (2, lv, st, ω, c, s) = y_w M_X0_isHarbour mc ms Q (3, lv, .long 0 :: st, ω, c, s) := w_lconst dX0_isHarbour_2 (v := 0) (by decide) rfl
theorem wX0_isHarbour_3 : y_w M_X0_isHarbour mc ms Q (3, lv, st, ω, c, s) = y_ldA lv 0 (fun v => y_w M_X0_isHarbour mc ms Q (4, lv, v :: st, ω, c, s)) := w_aload_n dX0_isHarbour_3 rfl rfl
theorem wX0_isHarbour_4 : y_w M_X0_isHarbour mc ms Q (4, lv, .ref a :: r, ω, c, s) = y_gf P_X0_isHarbour 39 (ω.2 a) (fun v => y_w M_X0_isHarbour mc ms Q (7, lv, v :: r, ω, c, s)) := w_getfield dX0_isHarbour_4 rfl rfl
theorem wX0_isHarbour_7 : y_w M_X0_isHarbour mc ms Q (7, lv, .ref a :: r, ω, c, s) = y_gf P_X0_isHarbour 165 (ω.2 a) (fun v => y_w M_X0_isHarbour mc ms Q (10, lv, v :: r, ω, c, s)) := w_getfield dX0_isHarbour_7 rfl rfl
theorem wX0_isHarbour_10 : y_w M_X0_isHarbour mc ms Q (10, lv, st, ω, c, s) = y_w M_X0_isHarbour mc ms Q (11, lv, .int 1 :: st, ω, c, s) := w_iconst dX0_isHarbour_10 (v := 1) (by decide) rfl
theorem wX0_isHarbour_11 : y_w M_X0_isHarbour mc ms Q (11, lv, .int y :: .int x :: r, ω, c, s) = y_w M_X0_isHarbour mc ms Q (12, lv, .int (x - y) :: r, ω, c, s) := w_isub dX0_isHarbour_11 rfl
theorem wX0_isHarbour_12 : y_w M_X0_isHarbour mc ms Q (12, lv, .int x :: r, ω, c, s) = y_w M_X0_isHarbour mc ms Q (13, lv, .long x.toInt64 :: r, ω, c, s) := w_i2l dX0_isHarbour_12 rfl
theorem wX0_isHarbour_13 : y_w M_X0_isHarbour mc ms Q (13, lv, v2 :: v1 :: v0 :: r, ω, c, s) = (y_cat r ≤ 8 ∧ F_X0_isIn mc ms [v0, v1, v2] ω c s (y_aft M_X0_isHarbour 13 3 lv r (y_w M_X0_isHarbour mc ms Q) Q)) := w_call0 (av := [v0, v1, v2]) ⟨Or.inr ⟨rfl, rfl⟩, rfl⟩ dX0_isHarbour_13 rfl (y_F_mono _) (y_dle rfl) (y_dle rfl) rfl rfl
theorem wX0_isHarbour_16 : y_w M_X0_isHarbour mc ms Q (16, lv, [.int x], ω, c, s) = (narrow FieldType.boolean (.int x) = .int x ∧ Q (.returned (some (.int x))) ω c s) := w_ireturn dX0_isHarbour_16 rfl
def P_X0_lay : y_Pool := ([(39, 0, 4, (.object "YoungerBack$League"), true), (174, 1, 8, (.array .int), true), (165, 1, 0, .int, false), (171, 1, 2, .int, false), (193, 1, 5, (.array .int), true)], [], [(181, .int (-1000000))], [(177, 1, 1, 4, (4, 87), F_X1_end), (253, 1, 1, 3, (4, 86), F_X1_ages)], [], [], [])
def M_X0_lay : y_Md := (cX0_lay, "YoungerBack", (10, none), (4, 87), false, P_X0_lay, [])
def F_X0_lay : y_Tr := y_F M_X0_lay
theorem nX0_lay : y_nL M_X0_lay = 10 := rfl
theorem fX0_lay_39_0 : y_ffP P_X0_lay 39 0 = some (4, (.object "YoungerBack$League"), true) := rfl
theorem fX0_lay_174_1 : y_ffP P_X0_lay 174 1 = some (8, (.array .int), true) := rfl
theorem fX0_lay_165_1 : y_ffP P_X0_lay 165 1 = some (0, .int, false) := rfl
theorem fX0_lay_171_1 : y_ffP P_X0_lay 171 1 = some (2, .int, false) := rfl
theorem fX0_lay_193_1 : y_ffP P_X0_lay 193 1 = some (5, (.array .int), true) := rfl
theorem wX0_lay_0 : y_w M_X0_lay mc ms Q (0, lv, st, ω, c, s) = y_w M_X0_lay mc ms Q (1, lv, .int 0 :: st, ω, c, s) := w_iconst dX0_lay_0 (v := 0) (by decide) rfl
theorem wX0_lay_1 : y_w M_X0_lay mc ms Q (1, lv, .int x :: r, ω, c, s) = y_w M_X0_lay mc ms Q (2, (3, .int x) :: y_kill 3 lv, r, ω, c, s) := w_istore_n dX0_lay_1 rfl (y_dle rfl) rfl
theorem wX0_lay_2 : y_w M_X0_lay mc ms Q (2, lv, st, ω, c, s) = y_ldI lv 3 (fun v => y_w M_X0_lay mc ms Q (3, lv, v :: st, ω, c, s)) := w_iload_n dX0_lay_2 rfl rfl
theorem wX0_lay_3 : y_w M_X0_lay mc ms Q (3, lv, st, ω, c, s) = y_ldA lv 2 (fun v => y_w M_X0_lay mc ms Q (4, lv, v :: st, ω, c, s)) := w_aload_n dX0_lay_3 rfl rfl
theorem wX0_lay_4 : y_w M_X0_lay mc ms Q (4, lv, .ref a :: r, ω, c, s) = y_al (ω.2 a) (fun n => y_w M_X0_lay mc ms Q (5, lv, .int n :: r, ω, c, s)) := w_arraylength dX0_lay_4 rfl
theorem wX0_lay_5 : y_w M_X0_lay mc ms Q (5, lv, .int y :: .int x :: r, ω, c, s) = ((y ≤ x → y_w M_X0_lay mc ms Q (18, lv, r, ω, c, s)) ∧ (¬ (y ≤ x) → y_w M_X0_lay mc ms Q (8, lv, r, ω, c, s))) := w_icmp dX0_lay_5 (tgt := 18) rfl rfl rfl
theorem wX0_lay_8 : y_w M_X0_lay mc ms Q (8, lv, st, ω, c, s) = y_ldA lv 2 (fun v => y_w M_X0_lay mc ms Q (9, lv, v :: st, ω, c, s)) := w_aload_n dX0_lay_8 rfl rfl
theorem wX0_lay_9 : y_w M_X0_lay mc ms Q (9, lv, st, ω, c, s) = y_ldI lv 3 (fun v => y_w M_X0_lay mc ms Q (10, lv, v :: st, ω, c, s)) := w_iload_n dX0_lay_9 rfl rfl
theorem wX0_lay_10 : y_w M_X0_lay mc ms Q (10, lv, st, ω, c, s) = y_w M_X0_lay mc ms Q (11, lv, .long 0 :: st, ω, c, s) := w_lconst dX0_lay_10 (v := 0) (by decide) rfl
theorem wX0_lay_11 : y_w M_X0_lay mc ms Q (11, lv, .long z :: .int j :: .ref a :: r, ω, c, s) = y_wL (ω.2 a) j z (fun e => y_w M_X0_lay mc ms Q (12, lv, r, y_hup ω a e, c, s)) := w_lastore dX0_lay_11 rfl
theorem wX0_lay_12 : y_w M_X0_lay mc ms Q (12, lv, st, ω, c, s) = y_inc lv 3 (fun x => y_w M_X0_lay mc ms Q (15, (3, .int (x + 1)) :: y_kill 3 lv, st, ω, c, s)) := w_iinc dX0_lay_12 (d := 1) (by decide) (y_dle rfl) rfl
theorem wX0_lay_15 : y_w M_X0_lay mc ms Q (15, lv, st, ω, c, s) = ∃ lv2, y_lsub lv2 lv ∧ y_w M_X0_lay mc ms Q (2, lv2, st, ω, c, s) := w_back dX0_lay_15 (tgt := 2) (by decide) rfl
theorem wX0_lay_18 : y_w M_X0_lay mc ms Q (18, lv, st, ω, c, s) = y_ldA lv 2 (fun v => y_w M_X0_lay mc ms Q (19, lv, v :: st, ω, c, s)) := w_aload_n dX0_lay_18 rfl rfl
theorem wX0_lay_19 : y_w M_X0_lay mc ms Q (19, lv, st, ω, c, s) = y_ldA lv 0 (fun v => y_w M_X0_lay mc ms Q (20, lv, v :: st, ω, c, s)) := w_aload_n dX0_lay_19 rfl rfl
theorem wX0_lay_20 : y_w M_X0_lay mc ms Q (20, lv, .ref a :: r, ω, c, s) = y_gf P_X0_lay 39 (ω.2 a) (fun v => y_w M_X0_lay mc ms Q (23, lv, v :: r, ω, c, s)) := w_getfield dX0_lay_20 rfl rfl
theorem wX0_lay_23 : y_w M_X0_lay mc ms Q (23, lv, .ref a :: r, ω, c, s) = y_gf P_X0_lay 174 (ω.2 a) (fun v => y_w M_X0_lay mc ms Q (26, lv, v :: r, ω, c, s)) := w_getfield dX0_lay_23 rfl rfl
theorem wX0_lay_26 : y_w M_X0_lay mc ms Q (26, lv, st, ω, c, s) = y_ldI lv 1 (fun v => y_w M_X0_lay mc ms Q (27, lv, v :: st, ω, c, s)) := w_iload_n dX0_lay_26 rfl rfl
theorem wX0_lay_27 : y_w M_X0_lay mc ms Q (27, lv, .int j :: .ref a :: r, ω, c, s) = y_rI (ω.2 a) j (fun x => y_w M_X0_lay mc ms Q (28, lv, .int x :: r, ω, c, s)) := w_iaload dX0_lay_27 rfl
theorem wX0_lay_28 : y_w M_X0_lay mc ms Q (28, lv, st, ω, c, s) = y_w M_X0_lay mc ms Q (29, lv, .long 1 :: st, ω, c, s) := w_lconst dX0_lay_28 (v := 1) (by decide) rfl
theorem wX0_lay_29 : y_w M_X0_lay mc ms Q (29, lv, .long z :: .int j :: .ref a :: r, ω, c, s) = y_wL (ω.2 a) j z (fun e => y_w M_X0_lay mc ms Q (30, lv, r, y_hup ω a e, c, s)) := w_lastore dX0_lay_29 rfl
theorem wX0_lay_30 : y_w M_X0_lay mc ms Q (30, lv, st, ω, c, s) = y_w M_X0_lay mc ms Q (31, lv, .int 0 :: st, ω, c, s) := w_iconst dX0_lay_30 (v := 0) (by decide) rfl
theorem wX0_lay_31 : y_w M_X0_lay mc ms Q (31, lv, .int x :: r, ω, c, s) = y_w M_X0_lay mc ms Q (32, (3, .int x) :: y_kill 3 lv, r, ω, c, s) := w_istore_n dX0_lay_31 rfl (y_dle rfl) rfl
theorem wX0_lay_32 : y_w M_X0_lay mc ms Q (32, lv, st, ω, c, s) = y_ldI lv 3 (fun v => y_w M_X0_lay mc ms Q (33, lv, v :: st, ω, c, s)) := w_iload_n dX0_lay_32 rfl rfl
theorem wX0_lay_33 : y_w M_X0_lay mc ms Q (33, lv, st, ω, c, s) = y_w M_X0_lay mc ms Q (35, lv, .int (nI 40) :: st, ω, c, s) := w_bipush dX0_lay_33 (v := (nI 40)) (by decide) rfl
theorem wX0_lay_35 : y_w M_X0_lay mc ms Q (35, lv, .int y :: .int x :: r, ω, c, s) = ((y ≤ x → y_w M_X0_lay mc ms Q (199, lv, r, ω, c, s)) ∧ (¬ (y ≤ x) → y_w M_X0_lay mc ms Q (38, lv, r, ω, c, s))) := w_icmp dX0_lay_35 (tgt := 199) rfl rfl rfl
theorem wX0_lay_38 : y_w M_X0_lay mc ms Q (38, lv, st, ω, c, s) = y_w M_X0_lay mc ms Q (39, lv, .int 0 :: st, ω, c, s) := w_iconst dX0_lay_38 (v := 0) (by decide) rfl
theorem wX0_lay_39 : y_w M_X0_lay mc ms Q (39, lv, .int x :: r, ω, c, s) = y_w M_X0_lay mc ms Q (41, (4, .int x) :: y_kill 4 lv, r, ω, c, s) := w_istore dX0_lay_39 (y_dle rfl) rfl
theorem wX0_lay_41 : y_w M_X0_lay mc ms Q (41, lv, st, ω, c, s) = y_ldI lv 4 (fun v => y_w M_X0_lay mc ms Q (43, lv, v :: st, ω, c, s)) := w_iload dX0_lay_41 rfl
theorem wX0_lay_43 : y_w M_X0_lay mc ms Q (43, lv, st, ω, c, s) = y_ldA lv 0 (fun v => y_w M_X0_lay mc ms Q (44, lv, v :: st, ω, c, s)) := w_aload_n dX0_lay_43 rfl rfl
theorem wX0_lay_44 : y_w M_X0_lay mc ms Q (44, lv, .ref a :: r, ω, c, s) = y_gf P_X0_lay 39 (ω.2 a) (fun v => y_w M_X0_lay mc ms Q (47, lv, v :: r, ω, c, s)) := w_getfield dX0_lay_44 rfl rfl
theorem wX0_lay_47 : y_w M_X0_lay mc ms Q (47, lv, .ref a :: r, ω, c, s) = y_gf P_X0_lay 165 (ω.2 a) (fun v => y_w M_X0_lay mc ms Q (50, lv, v :: r, ω, c, s)) := w_getfield dX0_lay_47 rfl rfl
theorem wX0_lay_50 : y_w M_X0_lay mc ms Q (50, lv, .int y :: .int x :: r, ω, c, s) = ((y ≤ x → y_w M_X0_lay mc ms Q (193, lv, r, ω, c, s)) ∧ (¬ (y ≤ x) → y_w M_X0_lay mc ms Q (53, lv, r, ω, c, s))) := w_icmp dX0_lay_50 (tgt := 193) rfl rfl rfl
theorem wX0_lay_53 : y_w M_X0_lay mc ms Q (53, lv, st, ω, c, s) = y_ldA lv 2 (fun v => y_w M_X0_lay mc ms Q (54, lv, v :: st, ω, c, s)) := w_aload_n dX0_lay_53 rfl rfl
theorem wX0_lay_54 : y_w M_X0_lay mc ms Q (54, lv, st, ω, c, s) = y_w M_X0_lay mc ms Q (55, lv, .int (nI 5) :: st, ω, c, s) := w_iconst dX0_lay_54 (v := (nI 5)) (by decide) rfl
theorem wX0_lay_55 : y_w M_X0_lay mc ms Q (55, lv, st, ω, c, s) = y_ldI lv 3 (fun v => y_w M_X0_lay mc ms Q (56, lv, v :: st, ω, c, s)) := w_iload_n dX0_lay_55 rfl rfl
theorem wX0_lay_56 : y_w M_X0_lay mc ms Q (56, lv, .int y :: .int x :: r, ω, c, s) = y_w M_X0_lay mc ms Q (57, lv, .int (x * y) :: r, ω, c, s) := w_imul dX0_lay_56 rfl
theorem wX0_lay_57 : y_w M_X0_lay mc ms Q (57, lv, st, ω, c, s) = y_ldI lv 4 (fun v => y_w M_X0_lay mc ms Q (59, lv, v :: st, ω, c, s)) := w_iload dX0_lay_57 rfl
theorem wX0_lay_59 : y_w M_X0_lay mc ms Q (59, lv, .int y :: .int x :: r, ω, c, s) = y_w M_X0_lay mc ms Q (60, lv, .int (x + y) :: r, ω, c, s) := w_iadd dX0_lay_59 rfl
theorem wX0_lay_60 : y_w M_X0_lay mc ms Q (60, lv, .int j :: .ref a :: r, ω, c, s) = y_rL (ω.2 a) j (fun x => y_w M_X0_lay mc ms Q (61, lv, .long x :: r, ω, c, s)) := w_laload dX0_lay_60 rfl
theorem wX0_lay_61 : y_w M_X0_lay mc ms Q (61, lv, .long z :: r, ω, c, s) = y_w M_X0_lay mc ms Q (63, (5, .long z) :: y_kill2 5 lv, r, ω, c, s) := w_lstore dX0_lay_61 (y_dle rfl) rfl
theorem wX0_lay_63 : y_w M_X0_lay mc ms Q (63, lv, st, ω, c, s) = y_ldL lv 5 (fun v => y_w M_X0_lay mc ms Q (65, lv, v :: st, ω, c, s)) := w_lload dX0_lay_63 rfl
theorem wX0_lay_65 : y_w M_X0_lay mc ms Q (65, lv, st, ω, c, s) = y_w M_X0_lay mc ms Q (66, lv, .long 0 :: st, ω, c, s) := w_lconst dX0_lay_65 (v := 0) (by decide) rfl
theorem wX0_lay_66 : y_w M_X0_lay mc ms Q (66, lv, .long w :: .long z :: r, ω, c, s) = y_w M_X0_lay mc ms Q (67, lv, .int (lg_cmp z w) :: r, ω, c, s) := w_lcmp dX0_lay_66 rfl
theorem wX0_lay_67 : y_w M_X0_lay mc ms Q (67, lv, .int x :: r, ω, c, s) = ((¬ x = 0 → y_w M_X0_lay mc ms Q (73, lv, r, ω, c, s)) ∧ (¬ (¬ x = 0) → y_w M_X0_lay mc ms Q (70, lv, r, ω, c, s))) := w_if dX0_lay_67 (tgt := 73) rfl rfl rfl
theorem wX0_lay_70 : y_w M_X0_lay mc ms Q (70, lv, st, ω, c, s) = y_w M_X0_lay mc ms Q (187, lv, st, ω, c, s) := w_goto dX0_lay_70 (tgt := 187) (by decide) rfl
theorem wX0_lay_73 : y_w M_X0_lay mc ms Q (73, lv, st, ω, c, s) = y_ldA lv 2 (fun v => y_w M_X0_lay mc ms Q (74, lv, v :: st, ω, c, s)) := w_aload_n dX0_lay_73 rfl rfl
theorem wX0_lay_74 : y_w M_X0_lay mc ms Q (74, lv, st, ω, c, s) = y_w M_X0_lay mc ms Q (75, lv, .int (nI 5) :: st, ω, c, s) := w_iconst dX0_lay_74 (v := (nI 5)) (by decide) rfl
theorem wX0_lay_75 : y_w M_X0_lay mc ms Q (75, lv, st, ω, c, s) = y_ldI lv 3 (fun v => y_w M_X0_lay mc ms Q (76, lv, v :: st, ω, c, s)) := w_iload_n dX0_lay_75 rfl rfl
theorem wX0_lay_76 : y_w M_X0_lay mc ms Q (76, lv, st, ω, c, s) = y_w M_X0_lay mc ms Q (77, lv, .int 1 :: st, ω, c, s) := w_iconst dX0_lay_76 (v := 1) (by decide) rfl
theorem wX0_lay_77 : y_w M_X0_lay mc ms Q (77, lv, .int y :: .int x :: r, ω, c, s) = y_w M_X0_lay mc ms Q (78, lv, .int (x + y) :: r, ω, c, s) := w_iadd dX0_lay_77 rfl
theorem wX0_lay_78 : y_w M_X0_lay mc ms Q (78, lv, .int y :: .int x :: r, ω, c, s) = y_w M_X0_lay mc ms Q (79, lv, .int (x * y) :: r, ω, c, s) := w_imul dX0_lay_78 rfl
theorem wX0_lay_79 : y_w M_X0_lay mc ms Q (79, lv, st, ω, c, s) = y_ldI lv 4 (fun v => y_w M_X0_lay mc ms Q (81, lv, v :: st, ω, c, s)) := w_iload dX0_lay_79 rfl
theorem wX0_lay_81 : y_w M_X0_lay mc ms Q (81, lv, .int y :: .int x :: r, ω, c, s) = y_w M_X0_lay mc ms Q (82, lv, .int (x + y) :: r, ω, c, s) := w_iadd dX0_lay_81 rfl
theorem wX0_lay_82 : y_w M_X0_lay mc ms Q (82, lv, v :: v1 :: r, ω, c, s) = ((v.category = 1 ∧ v1.category = 1) ∧ y_w M_X0_lay mc ms Q (83, lv, v :: v1 :: v :: v1 :: r, ω, c, s)) := w_dup2 dX0_lay_82 rfl
theorem wX0_lay_83 : y_w M_X0_lay mc ms Q (83, lv, .int j :: .ref a :: r, ω, c, s) = y_rL (ω.2 a) j (fun x => y_w M_X0_lay mc ms Q (84, lv, .long x :: r, ω, c, s)) := w_laload dX0_lay_83 rfl
theorem wX0_lay_84 : y_w M_X0_lay mc ms Q (84, lv, st, ω, c, s) = y_ldL lv 5 (fun v => y_w M_X0_lay mc ms Q (86, lv, v :: st, ω, c, s)) := w_lload dX0_lay_84 rfl
theorem wX0_lay_86 : y_w M_X0_lay mc ms Q (86, lv, .long w :: .long z :: r, ω, c, s) = y_w M_X0_lay mc ms Q (87, lv, .long (z ||| w) :: r, ω, c, s) := w_lor dX0_lay_86 rfl
theorem wX0_lay_87 : y_w M_X0_lay mc ms Q (87, lv, .long z :: .int j :: .ref a :: r, ω, c, s) = y_wL (ω.2 a) j z (fun e => y_w M_X0_lay mc ms Q (88, lv, r, y_hup ω a e, c, s)) := w_lastore dX0_lay_87 rfl
theorem wX0_lay_88 : y_w M_X0_lay mc ms Q (88, lv, st, ω, c, s) = y_w M_X0_lay mc ms Q (89, lv, .int 0 :: st, ω, c, s) := w_iconst dX0_lay_88 (v := 0) (by decide) rfl
theorem wX0_lay_89 : y_w M_X0_lay mc ms Q (89, lv, .int x :: r, ω, c, s) = y_w M_X0_lay mc ms Q (91, (7, .int x) :: y_kill 7 lv, r, ω, c, s) := w_istore dX0_lay_89 (y_dle rfl) rfl
theorem wX0_lay_91 : y_w M_X0_lay mc ms Q (91, lv, st, ω, c, s) = y_ldI lv 7 (fun v => y_w M_X0_lay mc ms Q (93, lv, v :: st, ω, c, s)) := w_iload dX0_lay_91 rfl
theorem wX0_lay_93 : y_w M_X0_lay mc ms Q (93, lv, st, ω, c, s) = y_ldA lv 0 (fun v => y_w M_X0_lay mc ms Q (94, lv, v :: st, ω, c, s)) := w_aload_n dX0_lay_93 rfl rfl
theorem wX0_lay_94 : y_w M_X0_lay mc ms Q (94, lv, .ref a :: r, ω, c, s) = y_gf P_X0_lay 39 (ω.2 a) (fun v => y_w M_X0_lay mc ms Q (97, lv, v :: r, ω, c, s)) := w_getfield dX0_lay_94 rfl rfl
theorem wX0_lay_97 : y_w M_X0_lay mc ms Q (97, lv, .ref a :: r, ω, c, s) = y_gf P_X0_lay 171 (ω.2 a) (fun v => y_w M_X0_lay mc ms Q (100, lv, v :: r, ω, c, s)) := w_getfield dX0_lay_97 rfl rfl
theorem wX0_lay_100 : y_w M_X0_lay mc ms Q (100, lv, .int y :: .int x :: r, ω, c, s) = ((y ≤ x → y_w M_X0_lay mc ms Q (187, lv, r, ω, c, s)) ∧ (¬ (y ≤ x) → y_w M_X0_lay mc ms Q (103, lv, r, ω, c, s))) := w_icmp dX0_lay_100 (tgt := 187) rfl rfl rfl
theorem wX0_lay_103 : y_w M_X0_lay mc ms Q (103, lv, st, ω, c, s) = y_ldA lv 0 (fun v => y_w M_X0_lay mc ms Q (104, lv, v :: st, ω, c, s)) := w_aload_n dX0_lay_103 rfl rfl
theorem wX0_lay_104 : y_w M_X0_lay mc ms Q (104, lv, .ref a :: r, ω, c, s) = y_gf P_X0_lay 39 (ω.2 a) (fun v => y_w M_X0_lay mc ms Q (107, lv, v :: r, ω, c, s)) := w_getfield dX0_lay_104 rfl rfl
theorem wX0_lay_107 : y_w M_X0_lay mc ms Q (107, lv, st, ω, c, s) = y_ldI lv 1 (fun v => y_w M_X0_lay mc ms Q (108, lv, v :: st, ω, c, s)) := w_iload_n dX0_lay_107 rfl rfl
theorem wX0_lay_108 : y_w M_X0_lay mc ms Q (108, lv, st, ω, c, s) = y_ldI lv 7 (fun v => y_w M_X0_lay mc ms Q (110, lv, v :: st, ω, c, s)) := w_iload dX0_lay_108 rfl
theorem wX0_lay_110 : y_w M_X0_lay mc ms Q (110, lv, st, ω, c, s) = y_ldI lv 4 (fun v => y_w M_X0_lay mc ms Q (112, lv, v :: st, ω, c, s)) := w_iload dX0_lay_110 rfl
theorem wX0_lay_112 (hc : y_cls ω a = some 1) : y_w M_X0_lay mc ms Q (112, lv, v3 :: v2 :: v1 :: .ref a :: r, ω, c, s) = (y_cat r ≤ 8 ∧ F_X1_end mc ms [.ref a, v1, v2, v3] ω c s (y_aft M_X0_lay 112 3 lv r (y_w M_X0_lay mc ms Q) Q)) := w_call1 (av := [v1, v2, v3]) (Or.inl ⟨⟨rfl, rfl⟩, rfl⟩) dX0_lay_112 rfl hc rfl (y_F_mono _) (y_dle rfl) (y_dle rfl) rfl rfl
theorem wX0_lay_115 : y_w M_X0_lay mc ms Q (115, lv, .int x :: r, ω, c, s) = y_w M_X0_lay mc ms Q (117, (8, .int x) :: y_kill 8 lv, r, ω, c, s) := w_istore dX0_lay_115 (y_dle rfl) rfl
theorem wX0_lay_117 : y_w M_X0_lay mc ms Q (117, lv, st, ω, c, s) = y_ldI lv 3 (fun v => y_w M_X0_lay mc ms Q (118, lv, v :: st, ω, c, s)) := w_iload_n dX0_lay_117 rfl rfl
theorem wX0_lay_118 : y_w M_X0_lay mc ms Q (118, lv, st, ω, c, s) = y_ldA lv 0 (fun v => y_w M_X0_lay mc ms Q (119, lv, v :: st, ω, c, s)) := w_aload_n dX0_lay_118 rfl rfl
theorem wX0_lay_119 : y_w M_X0_lay mc ms Q (119, lv, .ref a :: r, ω, c, s) = y_gf P_X0_lay 39 (ω.2 a) (fun v => y_w M_X0_lay mc ms Q (122, lv, v :: r, ω, c, s)) := w_getfield dX0_lay_119 rfl rfl
theorem wX0_lay_122 : y_w M_X0_lay mc ms Q (122, lv, .ref a :: r, ω, c, s) = y_gf P_X0_lay 193 (ω.2 a) (fun v => y_w M_X0_lay mc ms Q (125, lv, v :: r, ω, c, s)) := w_getfield dX0_lay_122 rfl rfl
theorem wX0_lay_125 : y_w M_X0_lay mc ms Q (125, lv, st, ω, c, s) = y_ldI lv 7 (fun v => y_w M_X0_lay mc ms Q (127, lv, v :: st, ω, c, s)) := w_iload dX0_lay_125 rfl
theorem wX0_lay_127 : y_w M_X0_lay mc ms Q (127, lv, .int j :: .ref a :: r, ω, c, s) = y_rI (ω.2 a) j (fun x => y_w M_X0_lay mc ms Q (128, lv, .int x :: r, ω, c, s)) := w_iaload dX0_lay_127 rfl
theorem wX0_lay_128 : y_w M_X0_lay mc ms Q (128, lv, .int y :: .int x :: r, ω, c, s) = y_w M_X0_lay mc ms Q (129, lv, .int (x + y) :: r, ω, c, s) := w_iadd dX0_lay_128 rfl
theorem wX0_lay_129 : y_w M_X0_lay mc ms Q (129, lv, .int x :: r, ω, c, s) = y_w M_X0_lay mc ms Q (131, (9, .int x) :: y_kill 9 lv, r, ω, c, s) := w_istore dX0_lay_129 (y_dle rfl) rfl
theorem wX0_lay_131 : y_w M_X0_lay mc ms Q (131, lv, st, ω, c, s) = y_ldI lv 8 (fun v => y_w M_X0_lay mc ms Q (133, lv, v :: st, ω, c, s)) := w_iload dX0_lay_131 rfl
theorem wX0_lay_133 : y_w M_X0_lay mc ms Q (133, lv, st, ω, c, s) = y_w M_X0_lay mc ms Q (135, lv, .int (-1000000) :: st, ω, c, s) := w_ldc dX0_lay_133 rfl rfl rfl
theorem wX0_lay_135 : y_w M_X0_lay mc ms Q (135, lv, .int y :: .int x :: r, ω, c, s) = ((x = y → y_w M_X0_lay mc ms Q (181, lv, r, ω, c, s)) ∧ (¬ (x = y) → y_w M_X0_lay mc ms Q (138, lv, r, ω, c, s))) := w_icmp dX0_lay_135 (tgt := 181) rfl rfl rfl
theorem wX0_lay_138 : y_w M_X0_lay mc ms Q (138, lv, st, ω, c, s) = y_ldI lv 9 (fun v => y_w M_X0_lay mc ms Q (140, lv, v :: st, ω, c, s)) := w_iload dX0_lay_138 rfl
theorem wX0_lay_140 : y_w M_X0_lay mc ms Q (140, lv, st, ω, c, s) = y_w M_X0_lay mc ms Q (142, lv, .int (nI 40) :: st, ω, c, s) := w_bipush dX0_lay_140 (v := (nI 40)) (by decide) rfl
theorem wX0_lay_142 : y_w M_X0_lay mc ms Q (142, lv, .int y :: .int x :: r, ω, c, s) = ((y < x → y_w M_X0_lay mc ms Q (181, lv, r, ω, c, s)) ∧ (¬ (y < x) → y_w M_X0_lay mc ms Q (145, lv, r, ω, c, s))) := w_icmp dX0_lay_142 (tgt := 181) rfl rfl rfl
theorem wX0_lay_145 : y_w M_X0_lay mc ms Q (145, lv, st, ω, c, s) = y_ldA lv 2 (fun v => y_w M_X0_lay mc ms Q (146, lv, v :: st, ω, c, s)) := w_aload_n dX0_lay_145 rfl rfl
theorem wX0_lay_146 : y_w M_X0_lay mc ms Q (146, lv, st, ω, c, s) = y_w M_X0_lay mc ms Q (147, lv, .int (nI 5) :: st, ω, c, s) := w_iconst dX0_lay_146 (v := (nI 5)) (by decide) rfl
theorem wX0_lay_147 : y_w M_X0_lay mc ms Q (147, lv, st, ω, c, s) = y_ldI lv 9 (fun v => y_w M_X0_lay mc ms Q (149, lv, v :: st, ω, c, s)) := w_iload dX0_lay_147 rfl
theorem wX0_lay_149 : y_w M_X0_lay mc ms Q (149, lv, .int y :: .int x :: r, ω, c, s) = y_w M_X0_lay mc ms Q (150, lv, .int (x * y) :: r, ω, c, s) := w_imul dX0_lay_149 rfl
theorem wX0_lay_150 : y_w M_X0_lay mc ms Q (150, lv, st, ω, c, s) = y_ldI lv 8 (fun v => y_w M_X0_lay mc ms Q (152, lv, v :: st, ω, c, s)) := w_iload dX0_lay_150 rfl
theorem wX0_lay_152 : y_w M_X0_lay mc ms Q (152, lv, .int y :: .int x :: r, ω, c, s) = y_w M_X0_lay mc ms Q (153, lv, .int (x + y) :: r, ω, c, s) := w_iadd dX0_lay_152 rfl
theorem wX0_lay_153 : y_w M_X0_lay mc ms Q (153, lv, v :: v1 :: r, ω, c, s) = ((v.category = 1 ∧ v1.category = 1) ∧ y_w M_X0_lay mc ms Q (154, lv, v :: v1 :: v :: v1 :: r, ω, c, s)) := w_dup2 dX0_lay_153 rfl
theorem wX0_lay_154 : y_w M_X0_lay mc ms Q (154, lv, .int j :: .ref a :: r, ω, c, s) = y_rL (ω.2 a) j (fun x => y_w M_X0_lay mc ms Q (155, lv, .long x :: r, ω, c, s)) := w_laload dX0_lay_154 rfl
theorem wX0_lay_155 : y_w M_X0_lay mc ms Q (155, lv, st, ω, c, s) = y_ldL lv 5 (fun v => y_w M_X0_lay mc ms Q (157, lv, v :: st, ω, c, s)) := w_lload dX0_lay_155 rfl
theorem wX0_lay_157 : y_w M_X0_lay mc ms Q (157, lv, st, ω, c, s) = y_ldA lv 0 (fun v => y_w M_X0_lay mc ms Q (158, lv, v :: st, ω, c, s)) := w_aload_n dX0_lay_157 rfl rfl
theorem wX0_lay_158 : y_w M_X0_lay mc ms Q (158, lv, .ref a :: r, ω, c, s) = y_gf P_X0_lay 39 (ω.2 a) (fun v => y_w M_X0_lay mc ms Q (161, lv, v :: r, ω, c, s)) := w_getfield dX0_lay_158 rfl rfl
theorem wX0_lay_161 : y_w M_X0_lay mc ms Q (161, lv, .ref a :: r, ω, c, s) = y_gf P_X0_lay 193 (ω.2 a) (fun v => y_w M_X0_lay mc ms Q (164, lv, v :: r, ω, c, s)) := w_getfield dX0_lay_161 rfl rfl
theorem wX0_lay_164 : y_w M_X0_lay mc ms Q (164, lv, st, ω, c, s) = y_ldI lv 7 (fun v => y_w M_X0_lay mc ms Q (166, lv, v :: st, ω, c, s)) := w_iload dX0_lay_164 rfl
theorem wX0_lay_166 : y_w M_X0_lay mc ms Q (166, lv, .int j :: .ref a :: r, ω, c, s) = y_rI (ω.2 a) j (fun x => y_w M_X0_lay mc ms Q (167, lv, .int x :: r, ω, c, s)) := w_iaload dX0_lay_166 rfl
theorem wX0_lay_167 : y_w M_X0_lay mc ms Q (167, lv, st, ω, c, s) = y_ldA lv 0 (fun v => y_w M_X0_lay mc ms Q (168, lv, v :: st, ω, c, s)) := w_aload_n dX0_lay_167 rfl rfl
theorem wX0_lay_168 : y_w M_X0_lay mc ms Q (168, lv, .ref a :: r, ω, c, s) = y_gf P_X0_lay 39 (ω.2 a) (fun v => y_w M_X0_lay mc ms Q (171, lv, v :: r, ω, c, s)) := w_getfield dX0_lay_168 rfl rfl
theorem wX0_lay_171 : y_w M_X0_lay mc ms Q (171, lv, st, ω, c, s) = y_ldI lv 1 (fun v => y_w M_X0_lay mc ms Q (172, lv, v :: st, ω, c, s)) := w_iload_n dX0_lay_171 rfl rfl
theorem wX0_lay_172 : y_w M_X0_lay mc ms Q (172, lv, st, ω, c, s) = y_ldI lv 7 (fun v => y_w M_X0_lay mc ms Q (174, lv, v :: st, ω, c, s)) := w_iload dX0_lay_172 rfl
theorem wX0_lay_174 (hc : y_cls ω a = some 1) : y_w M_X0_lay mc ms Q (174, lv, v2 :: v1 :: .ref a :: r, ω, c, s) = (y_cat r ≤ 8 ∧ F_X1_ages mc ms [.ref a, v1, v2] ω c s (y_aft M_X0_lay 174 3 lv r (y_w M_X0_lay mc ms Q) Q)) := w_call1 (av := [v1, v2]) (Or.inl ⟨⟨rfl, rfl⟩, rfl⟩) dX0_lay_174 rfl hc rfl (y_F_mono _) (y_dle rfl) (y_dle rfl) rfl rfl
theorem wX0_lay_177 : y_w M_X0_lay mc ms Q (177, lv, .int y :: .int x :: r, ω, c, s) = y_w M_X0_lay mc ms Q (178, lv, .int (x - y) :: r, ω, c, s) := w_isub dX0_lay_177 rfl
theorem wX0_lay_178 : y_w M_X0_lay mc ms Q (178, lv, .int y :: .long z :: r, ω, c, s) = y_w M_X0_lay mc ms Q (179, lv, .long (z <<< (y.toInt64 &&& 63)) :: r, ω, c, s) := w_lshl dX0_lay_178 rfl
theorem wX0_lay_179 : y_w M_X0_lay mc ms Q (179, lv, .long w :: .long z :: r, ω, c, s) = y_w M_X0_lay mc ms Q (180, lv, .long (z ||| w) :: r, ω, c, s) := w_lor dX0_lay_179 rfl
theorem wX0_lay_180 : y_w M_X0_lay mc ms Q (180, lv, .long z :: .int j :: .ref a :: r, ω, c, s) = y_wL (ω.2 a) j z (fun e => y_w M_X0_lay mc ms Q (181, lv, r, y_hup ω a e, c, s)) := w_lastore dX0_lay_180 rfl
theorem wX0_lay_181 : y_w M_X0_lay mc ms Q (181, lv, st, ω, c, s) = y_inc lv 7 (fun x => y_w M_X0_lay mc ms Q (184, (7, .int (x + 1)) :: y_kill 7 lv, st, ω, c, s)) := w_iinc dX0_lay_181 (d := 1) (by decide) (y_dle rfl) rfl
theorem wX0_lay_184 : y_w M_X0_lay mc ms Q (184, lv, st, ω, c, s) = ∃ lv2, y_lsub lv2 lv ∧ y_w M_X0_lay mc ms Q (91, lv2, st, ω, c, s) := w_back dX0_lay_184 (tgt := 91) (by decide) rfl
theorem wX0_lay_187 : y_w M_X0_lay mc ms Q (187, lv, st, ω, c, s) = y_inc lv 4 (fun x => y_w M_X0_lay mc ms Q (190, (4, .int (x + 1)) :: y_kill 4 lv, st, ω, c, s)) := w_iinc dX0_lay_187 (d := 1) (by decide) (y_dle rfl) rfl
theorem wX0_lay_190 : y_w M_X0_lay mc ms Q (190, lv, st, ω, c, s) = ∃ lv2, y_lsub lv2 lv ∧ y_w M_X0_lay mc ms Q (41, lv2, st, ω, c, s) := w_back dX0_lay_190 (tgt := 41) (by decide) rfl
theorem wX0_lay_193 : y_w M_X0_lay mc ms Q (193, lv, st, ω, c, s) = y_inc lv 3 (fun x => y_w M_X0_lay mc ms Q (196, (3, .int (x + 1)) :: y_kill 3 lv, st, ω, c, s)) := w_iinc dX0_lay_193 (d := 1) (by decide) (y_dle rfl) rfl
theorem wX0_lay_196 : y_w M_X0_lay mc ms Q (196, lv, st, ω, c, s) = ∃ lv2, y_lsub lv2 lv ∧ y_w M_X0_lay mc ms Q (32, lv2, st, ω, c, s) := w_back dX0_lay_196 (tgt := 32) (by decide) rfl
theorem wX0_lay_199 : y_w M_X0_lay mc ms Q (199, lv, [], ω, c, s) = Q (.returned none) ω c s := w_return dX0_lay_199 rfl
def P_X0_gains : y_Pool := ([(57, 0, 10, (.array .long), true)], [], [(260, .long (lN 40)), (91, .long (lN 2)), (93, .int (-1000001)), (181, .int (-1000000))], [(168, 1, 0, 2, (3, 61), F_X0_isPerson), (257, 1, 0, 2, (2, 46), F_X0_isHarbour), (79, 0, 0, 3, (1, 25), F_X0_isIn), (262, 1, 0, 3, (5, 116), F_X0_lay), (266, 0, 0, 1, (1, 21), F_J18_bitCount), (272, 0, 0, 1, (2, 43), F_J18_numberOfTrailingZeros), (275, 0, 0, 1, (2, 43), F_J18_numberOfLeadingZeros)], [], [], [])
def M_X0_gains : y_Md := (cX0_gains, "YoungerBack", (7, (some FieldType.int)), (5, 116), false, P_X0_gains, [])
def F_X0_gains : y_Tr := y_F M_X0_gains
theorem nX0_gains : y_nL M_X0_gains = 7 := rfl
theorem fX0_gains_57_0 : y_ffP P_X0_gains 57 0 = some (10, (.array .long), true) := rfl
theorem wX0_gains_0 : y_w M_X0_gains mc ms Q (0, lv, st, ω, c, s) = y_ldA lv 0 (fun v => y_w M_X0_gains mc ms Q (1, lv, v :: st, ω, c, s)) := w_aload_n dX0_gains_0 rfl rfl
theorem wX0_gains_1 : y_w M_X0_gains mc ms Q (1, lv, st, ω, c, s) = y_ldI lv 1 (fun v => y_w M_X0_gains mc ms Q (2, lv, v :: st, ω, c, s)) := w_iload_n dX0_gains_1 rfl rfl
theorem wX0_gains_2 (hc : y_cls ω a = some 0) : y_w M_X0_gains mc ms Q (2, lv, v1 :: .ref a :: r, ω, c, s) = (y_cat r ≤ 8 ∧ F_X0_isPerson mc ms [.ref a, v1] ω c s (y_aft M_X0_gains 2 3 lv r (y_w M_X0_gains mc ms Q) Q)) := w_call1 (av := [v1]) (Or.inl ⟨⟨rfl, rfl⟩, rfl⟩) dX0_gains_2 rfl hc rfl (y_F_mono _) (y_dle rfl) (y_dle rfl) rfl rfl
theorem wX0_gains_5 : y_w M_X0_gains mc ms Q (5, lv, .int x :: r, ω, c, s) = ((x = 0 → y_w M_X0_gains mc ms Q (41, lv, r, ω, c, s)) ∧ (¬ (x = 0) → y_w M_X0_gains mc ms Q (8, lv, r, ω, c, s))) := w_if dX0_gains_5 (tgt := 41) rfl rfl rfl
theorem wX0_gains_8 : y_w M_X0_gains mc ms Q (8, lv, st, ω, c, s) = y_ldA lv 0 (fun v => y_w M_X0_gains mc ms Q (9, lv, v :: st, ω, c, s)) := w_aload_n dX0_gains_8 rfl rfl
theorem wX0_gains_9 : y_w M_X0_gains mc ms Q (9, lv, st, ω, c, s) = y_ldI lv 2 (fun v => y_w M_X0_gains mc ms Q (10, lv, v :: st, ω, c, s)) := w_iload_n dX0_gains_9 rfl rfl
theorem wX0_gains_10 (hc : y_cls ω a = some 0) : y_w M_X0_gains mc ms Q (10, lv, v1 :: .ref a :: r, ω, c, s) = (y_cat r ≤ 8 ∧ F_X0_isHarbour mc ms [.ref a, v1] ω c s (y_aft M_X0_gains 10 3 lv r (y_w M_X0_gains mc ms Q) Q)) := w_call1 (av := [v1]) (Or.inl ⟨⟨rfl, rfl⟩, rfl⟩) dX0_gains_10 rfl hc rfl (y_F_mono _) (y_dle rfl) (y_dle rfl) rfl rfl
theorem wX0_gains_13 : y_w M_X0_gains mc ms Q (13, lv, .int x :: r, ω, c, s) = ((x = 0 → y_w M_X0_gains mc ms Q (41, lv, r, ω, c, s)) ∧ (¬ (x = 0) → y_w M_X0_gains mc ms Q (16, lv, r, ω, c, s))) := w_if dX0_gains_13 (tgt := 41) rfl rfl rfl
theorem wX0_gains_16 : y_w M_X0_gains mc ms Q (16, lv, st, ω, c, s) = y_ldI lv 3 (fun v => y_w M_X0_gains mc ms Q (17, lv, v :: st, ω, c, s)) := w_iload_n dX0_gains_16 rfl rfl
theorem wX0_gains_17 : y_w M_X0_gains mc ms Q (17, lv, .int x :: r, ω, c, s) = y_w M_X0_gains mc ms Q (18, lv, .long x.toInt64 :: r, ω, c, s) := w_i2l dX0_gains_17 rfl
theorem wX0_gains_18 : y_w M_X0_gains mc ms Q (18, lv, st, ω, c, s) = y_w M_X0_gains mc ms Q (19, lv, .long 0 :: st, ω, c, s) := w_lconst dX0_gains_18 (v := 0) (by decide) rfl
theorem wX0_gains_19 : y_w M_X0_gains mc ms Q (19, lv, st, ω, c, s) = y_w M_X0_gains mc ms Q (22, lv, .long (lN 40) :: st, ω, c, s) := w_ldc2_w dX0_gains_19 rfl rfl rfl
theorem wX0_gains_22 : y_w M_X0_gains mc ms Q (22, lv, v2 :: v1 :: v0 :: r, ω, c, s) = (y_cat r ≤ 8 ∧ F_X0_isIn mc ms [v0, v1, v2] ω c s (y_aft M_X0_gains 22 3 lv r (y_w M_X0_gains mc ms Q) Q)) := w_call0 (av := [v0, v1, v2]) ⟨Or.inr ⟨rfl, rfl⟩, rfl⟩ dX0_gains_22 rfl (y_F_mono _) (y_dle rfl) (y_dle rfl) rfl rfl
theorem wX0_gains_25 : y_w M_X0_gains mc ms Q (25, lv, .int x :: r, ω, c, s) = ((x = 0 → y_w M_X0_gains mc ms Q (41, lv, r, ω, c, s)) ∧ (¬ (x = 0) → y_w M_X0_gains mc ms Q (28, lv, r, ω, c, s))) := w_if dX0_gains_25 (tgt := 41) rfl rfl rfl
theorem wX0_gains_28 : y_w M_X0_gains mc ms Q (28, lv, st, ω, c, s) = y_ldI lv 4 (fun v => y_w M_X0_gains mc ms Q (30, lv, v :: st, ω, c, s)) := w_iload dX0_gains_28 rfl
theorem wX0_gains_30 : y_w M_X0_gains mc ms Q (30, lv, .int x :: r, ω, c, s) = y_w M_X0_gains mc ms Q (31, lv, .long x.toInt64 :: r, ω, c, s) := w_i2l dX0_gains_30 rfl
theorem wX0_gains_31 : y_w M_X0_gains mc ms Q (31, lv, st, ω, c, s) = y_w M_X0_gains mc ms Q (32, lv, .long 0 :: st, ω, c, s) := w_lconst dX0_gains_31 (v := 0) (by decide) rfl
theorem wX0_gains_32 : y_w M_X0_gains mc ms Q (32, lv, st, ω, c, s) = y_w M_X0_gains mc ms Q (35, lv, .long (lN 2) :: st, ω, c, s) := w_ldc2_w dX0_gains_32 rfl rfl rfl
theorem wX0_gains_35 : y_w M_X0_gains mc ms Q (35, lv, v2 :: v1 :: v0 :: r, ω, c, s) = (y_cat r ≤ 8 ∧ F_X0_isIn mc ms [v0, v1, v2] ω c s (y_aft M_X0_gains 35 3 lv r (y_w M_X0_gains mc ms Q) Q)) := w_call0 (av := [v0, v1, v2]) ⟨Or.inr ⟨rfl, rfl⟩, rfl⟩ dX0_gains_35 rfl (y_F_mono _) (y_dle rfl) (y_dle rfl) rfl rfl
theorem wX0_gains_38 : y_w M_X0_gains mc ms Q (38, lv, .int x :: r, ω, c, s) = ((¬ x = 0 → y_w M_X0_gains mc ms Q (44, lv, r, ω, c, s)) ∧ (¬ (¬ x = 0) → y_w M_X0_gains mc ms Q (41, lv, r, ω, c, s))) := w_if dX0_gains_38 (tgt := 44) rfl rfl rfl
theorem wX0_gains_41 : y_w M_X0_gains mc ms Q (41, lv, st, ω, c, s) = y_w M_X0_gains mc ms Q (43, lv, .int (-1000001) :: st, ω, c, s) := w_ldc dX0_gains_41 rfl rfl rfl
theorem wX0_gains_43 : y_w M_X0_gains mc ms Q (43, lv, [.int x], ω, c, s) = Q (.returned (some (.int x))) ω c s := w_ireturnI dX0_gains_43 rfl
theorem wX0_gains_44 : y_w M_X0_gains mc ms Q (44, lv, st, ω, c, s) = y_ldA lv 0 (fun v => y_w M_X0_gains mc ms Q (45, lv, v :: st, ω, c, s)) := w_aload_n dX0_gains_44 rfl rfl
theorem wX0_gains_45 : y_w M_X0_gains mc ms Q (45, lv, st, ω, c, s) = y_ldI lv 1 (fun v => y_w M_X0_gains mc ms Q (46, lv, v :: st, ω, c, s)) := w_iload_n dX0_gains_45 rfl rfl
theorem wX0_gains_46 : y_w M_X0_gains mc ms Q (46, lv, st, ω, c, s) = y_ldA lv 0 (fun v => y_w M_X0_gains mc ms Q (47, lv, v :: st, ω, c, s)) := w_aload_n dX0_gains_46 rfl rfl
theorem wX0_gains_47 : y_w M_X0_gains mc ms Q (47, lv, .ref a :: r, ω, c, s) = y_gf P_X0_gains 57 (ω.2 a) (fun v => y_w M_X0_gains mc ms Q (50, lv, v :: r, ω, c, s)) := w_getfield dX0_gains_47 rfl rfl
theorem wX0_gains_50 (hc : y_cls ω a = some 0) : y_w M_X0_gains mc ms Q (50, lv, v2 :: v1 :: .ref a :: r, ω, c, s) = (y_cat r ≤ 8 ∧ F_X0_lay mc ms [.ref a, v1, v2] ω c s (y_aft M_X0_gains 50 3 lv r (y_w M_X0_gains mc ms Q) Q)) := w_call1 (av := [v1, v2]) (Or.inl ⟨⟨rfl, rfl⟩, rfl⟩) dX0_gains_50 rfl hc rfl (y_F_mono _) (y_dle rfl) (y_dle rfl) rfl rfl
theorem wX0_gains_53 : y_w M_X0_gains mc ms Q (53, lv, st, ω, c, s) = y_ldA lv 0 (fun v => y_w M_X0_gains mc ms Q (54, lv, v :: st, ω, c, s)) := w_aload_n dX0_gains_53 rfl rfl
theorem wX0_gains_54 : y_w M_X0_gains mc ms Q (54, lv, .ref a :: r, ω, c, s) = y_gf P_X0_gains 57 (ω.2 a) (fun v => y_w M_X0_gains mc ms Q (57, lv, v :: r, ω, c, s)) := w_getfield dX0_gains_54 rfl rfl
theorem wX0_gains_57 : y_w M_X0_gains mc ms Q (57, lv, st, ω, c, s) = y_w M_X0_gains mc ms Q (58, lv, .int (nI 5) :: st, ω, c, s) := w_iconst dX0_gains_57 (v := (nI 5)) (by decide) rfl
theorem wX0_gains_58 : y_w M_X0_gains mc ms Q (58, lv, st, ω, c, s) = y_ldI lv 3 (fun v => y_w M_X0_gains mc ms Q (59, lv, v :: st, ω, c, s)) := w_iload_n dX0_gains_58 rfl rfl
theorem wX0_gains_59 : y_w M_X0_gains mc ms Q (59, lv, .int y :: .int x :: r, ω, c, s) = y_w M_X0_gains mc ms Q (60, lv, .int (x * y) :: r, ω, c, s) := w_imul dX0_gains_59 rfl
theorem wX0_gains_60 : y_w M_X0_gains mc ms Q (60, lv, st, ω, c, s) = y_ldI lv 2 (fun v => y_w M_X0_gains mc ms Q (61, lv, v :: st, ω, c, s)) := w_iload_n dX0_gains_60 rfl rfl
theorem wX0_gains_61 : y_w M_X0_gains mc ms Q (61, lv, .int y :: .int x :: r, ω, c, s) = y_w M_X0_gains mc ms Q (62, lv, .int (x + y) :: r, ω, c, s) := w_iadd dX0_gains_61 rfl
theorem wX0_gains_62 : y_w M_X0_gains mc ms Q (62, lv, .int j :: .ref a :: r, ω, c, s) = y_rL (ω.2 a) j (fun x => y_w M_X0_gains mc ms Q (63, lv, .long x :: r, ω, c, s)) := w_laload dX0_gains_62 rfl
theorem wX0_gains_63 : y_w M_X0_gains mc ms Q (63, lv, .long z :: r, ω, c, s) = y_w M_X0_gains mc ms Q (65, (5, .long z) :: y_kill2 5 lv, r, ω, c, s) := w_lstore dX0_gains_63 (y_dle rfl) rfl
theorem wX0_gains_65 : y_w M_X0_gains mc ms Q (65, lv, st, ω, c, s) = y_ldI lv 4 (fun v => y_w M_X0_gains mc ms Q (67, lv, v :: st, ω, c, s)) := w_iload dX0_gains_65 rfl
theorem wX0_gains_67 : y_w M_X0_gains mc ms Q (67, lv, .int x :: r, ω, c, s) = ((¬ x = 0 → y_w M_X0_gains mc ms Q (76, lv, r, ω, c, s)) ∧ (¬ (¬ x = 0) → y_w M_X0_gains mc ms Q (70, lv, r, ω, c, s))) := w_if dX0_gains_67 (tgt := 76) rfl rfl rfl
theorem wX0_gains_70 : y_w M_X0_gains mc ms Q (70, lv, st, ω, c, s) = y_ldL lv 5 (fun v => y_w M_X0_gains mc ms Q (72, lv, v :: st, ω, c, s)) := w_lload dX0_gains_70 rfl
theorem wX0_gains_72 : y_w M_X0_gains mc ms Q (72, lv, v0 :: r, ω, c, s) = (y_cat r ≤ 8 ∧ F_J18_bitCount mc ms [v0] ω c s (y_aft M_X0_gains 72 3 lv r (y_w M_X0_gains mc ms Q) Q)) := w_call0 (av := [v0]) ⟨Or.inr ⟨rfl, rfl⟩, rfl⟩ dX0_gains_72 rfl (y_F_mono _) (y_dle rfl) (y_dle rfl) rfl rfl
theorem wX0_gains_75 : y_w M_X0_gains mc ms Q (75, lv, [.int x], ω, c, s) = Q (.returned (some (.int x))) ω c s := w_ireturnI dX0_gains_75 rfl
theorem wX0_gains_76 : y_w M_X0_gains mc ms Q (76, lv, st, ω, c, s) = y_ldL lv 5 (fun v => y_w M_X0_gains mc ms Q (78, lv, v :: st, ω, c, s)) := w_lload dX0_gains_76 rfl
theorem wX0_gains_78 : y_w M_X0_gains mc ms Q (78, lv, st, ω, c, s) = y_w M_X0_gains mc ms Q (79, lv, .long 0 :: st, ω, c, s) := w_lconst dX0_gains_78 (v := 0) (by decide) rfl
theorem wX0_gains_79 : y_w M_X0_gains mc ms Q (79, lv, .long w :: .long z :: r, ω, c, s) = y_w M_X0_gains mc ms Q (80, lv, .int (lg_cmp z w) :: r, ω, c, s) := w_lcmp dX0_gains_79 rfl
theorem wX0_gains_80 : y_w M_X0_gains mc ms Q (80, lv, .int x :: r, ω, c, s) = ((¬ x = 0 → y_w M_X0_gains mc ms Q (88, lv, r, ω, c, s)) ∧ (¬ (¬ x = 0) → y_w M_X0_gains mc ms Q (83, lv, r, ω, c, s))) := w_if dX0_gains_80 (tgt := 88) rfl rfl rfl
theorem wX0_gains_83 : y_w M_X0_gains mc ms Q (83, lv, st, ω, c, s) = y_w M_X0_gains mc ms Q (85, lv, .int (-1000000) :: st, ω, c, s) := w_ldc dX0_gains_83 rfl rfl rfl
theorem wX0_gains_85 : y_w M_X0_gains mc ms Q (85, lv, st, ω, c, s) = y_w M_X0_gains mc ms Q (110, lv, st, ω, c, s) := w_goto dX0_gains_85 (tgt := 110) (by decide) rfl
theorem wX0_gains_88 : y_w M_X0_gains mc ms Q (88, lv, st, ω, c, s) = y_ldI lv 4 (fun v => y_w M_X0_gains mc ms Q (90, lv, v :: st, ω, c, s)) := w_iload dX0_gains_88 rfl
theorem wX0_gains_90 : y_w M_X0_gains mc ms Q (90, lv, st, ω, c, s) = y_w M_X0_gains mc ms Q (91, lv, .int 1 :: st, ω, c, s) := w_iconst dX0_gains_90 (v := 1) (by decide) rfl
theorem wX0_gains_91 : y_w M_X0_gains mc ms Q (91, lv, .int y :: .int x :: r, ω, c, s) = ((¬ x = y → y_w M_X0_gains mc ms Q (102, lv, r, ω, c, s)) ∧ (¬ (¬ x = y) → y_w M_X0_gains mc ms Q (94, lv, r, ω, c, s))) := w_icmp dX0_gains_91 (tgt := 102) rfl rfl rfl
theorem wX0_gains_94 : y_w M_X0_gains mc ms Q (94, lv, st, ω, c, s) = y_ldL lv 5 (fun v => y_w M_X0_gains mc ms Q (96, lv, v :: st, ω, c, s)) := w_lload dX0_gains_94 rfl
theorem wX0_gains_96 : y_w M_X0_gains mc ms Q (96, lv, v0 :: r, ω, c, s) = (y_cat r ≤ 8 ∧ F_J18_numberOfTrailingZeros mc ms [v0] ω c s (y_aft M_X0_gains 96 3 lv r (y_w M_X0_gains mc ms Q) Q)) := w_call0 (av := [v0]) ⟨Or.inr ⟨rfl, rfl⟩, rfl⟩ dX0_gains_96 rfl (y_F_mono _) (y_dle rfl) (y_dle rfl) rfl rfl
theorem wX0_gains_99 : y_w M_X0_gains mc ms Q (99, lv, st, ω, c, s) = y_w M_X0_gains mc ms Q (110, lv, st, ω, c, s) := w_goto dX0_gains_99 (tgt := 110) (by decide) rfl
theorem wX0_gains_102 : y_w M_X0_gains mc ms Q (102, lv, st, ω, c, s) = y_w M_X0_gains mc ms Q (104, lv, .int (nI 63) :: st, ω, c, s) := w_bipush dX0_gains_102 (v := (nI 63)) (by decide) rfl
theorem wX0_gains_104 : y_w M_X0_gains mc ms Q (104, lv, st, ω, c, s) = y_ldL lv 5 (fun v => y_w M_X0_gains mc ms Q (106, lv, v :: st, ω, c, s)) := w_lload dX0_gains_104 rfl
theorem wX0_gains_106 : y_w M_X0_gains mc ms Q (106, lv, v0 :: r, ω, c, s) = (y_cat r ≤ 8 ∧ F_J18_numberOfLeadingZeros mc ms [v0] ω c s (y_aft M_X0_gains 106 3 lv r (y_w M_X0_gains mc ms Q) Q)) := w_call0 (av := [v0]) ⟨Or.inr ⟨rfl, rfl⟩, rfl⟩ dX0_gains_106 rfl (y_F_mono _) (y_dle rfl) (y_dle rfl) rfl rfl
theorem wX0_gains_109 : y_w M_X0_gains mc ms Q (109, lv, .int y :: .int x :: r, ω, c, s) = y_w M_X0_gains mc ms Q (110, lv, .int (x - y) :: r, ω, c, s) := w_isub dX0_gains_109 rfl
theorem wX0_gains_110 : y_w M_X0_gains mc ms Q (110, lv, [.int x], ω, c, s) = Q (.returned (some (.int x))) ω c s := w_ireturnI dX0_gains_110 rfl
def P_X0_soonest : y_Pool := ([(57, 0, 10, (.array .long), true)], [], [(260, .long (lN 40)), (93, .int (-1000001)), (181, .int (-1000000))], [(168, 1, 0, 2, (3, 61), F_X0_isPerson), (257, 1, 0, 2, (2, 46), F_X0_isHarbour), (79, 0, 0, 3, (1, 25), F_X0_isIn), (262, 1, 0, 3, (5, 116), F_X0_lay)], [], [], [])
def M_X0_soonest : y_Md := (cX0_soonest, "YoungerBack", (5, (some FieldType.int)), (5, 116), false, P_X0_soonest, [])
def F_X0_soonest : y_Tr := y_F M_X0_soonest
theorem nX0_soonest : y_nL M_X0_soonest = 5 := rfl
theorem fX0_soonest_57_0 : y_ffP P_X0_soonest 57 0 = some (10, (.array .long), true) := rfl
theorem wX0_soonest_0 : y_w M_X0_soonest mc ms Q (0, lv, st, ω, c, s) = y_ldA lv 0 (fun v => y_w M_X0_soonest mc ms Q (1, lv, v :: st, ω, c, s)) := w_aload_n dX0_soonest_0 rfl rfl
theorem wX0_soonest_1 : y_w M_X0_soonest mc ms Q (1, lv, st, ω, c, s) = y_ldI lv 1 (fun v => y_w M_X0_soonest mc ms Q (2, lv, v :: st, ω, c, s)) := w_iload_n dX0_soonest_1 rfl rfl
theorem wX0_soonest_2 (hc : y_cls ω a = some 0) : y_w M_X0_soonest mc ms Q (2, lv, v1 :: .ref a :: r, ω, c, s) = (y_cat r ≤ 8 ∧ F_X0_isPerson mc ms [.ref a, v1] ω c s (y_aft M_X0_soonest 2 3 lv r (y_w M_X0_soonest mc ms Q) Q)) := w_call1 (av := [v1]) (Or.inl ⟨⟨rfl, rfl⟩, rfl⟩) dX0_soonest_2 rfl hc rfl (y_F_mono _) (y_dle rfl) (y_dle rfl) rfl rfl
theorem wX0_soonest_5 : y_w M_X0_soonest mc ms Q (5, lv, .int x :: r, ω, c, s) = ((x = 0 → y_w M_X0_soonest mc ms Q (28, lv, r, ω, c, s)) ∧ (¬ (x = 0) → y_w M_X0_soonest mc ms Q (8, lv, r, ω, c, s))) := w_if dX0_soonest_5 (tgt := 28) rfl rfl rfl
theorem wX0_soonest_8 : y_w M_X0_soonest mc ms Q (8, lv, st, ω, c, s) = y_ldA lv 0 (fun v => y_w M_X0_soonest mc ms Q (9, lv, v :: st, ω, c, s)) := w_aload_n dX0_soonest_8 rfl rfl
theorem wX0_soonest_9 : y_w M_X0_soonest mc ms Q (9, lv, st, ω, c, s) = y_ldI lv 2 (fun v => y_w M_X0_soonest mc ms Q (10, lv, v :: st, ω, c, s)) := w_iload_n dX0_soonest_9 rfl rfl
theorem wX0_soonest_10 (hc : y_cls ω a = some 0) : y_w M_X0_soonest mc ms Q (10, lv, v1 :: .ref a :: r, ω, c, s) = (y_cat r ≤ 8 ∧ F_X0_isHarbour mc ms [.ref a, v1] ω c s (y_aft M_X0_soonest 10 3 lv r (y_w M_X0_soonest mc ms Q) Q)) := w_call1 (av := [v1]) (Or.inl ⟨⟨rfl, rfl⟩, rfl⟩) dX0_soonest_10 rfl hc rfl (y_F_mono _) (y_dle rfl) (y_dle rfl) rfl rfl
theorem wX0_soonest_13 : y_w M_X0_soonest mc ms Q (13, lv, .int x :: r, ω, c, s) = ((x = 0 → y_w M_X0_soonest mc ms Q (28, lv, r, ω, c, s)) ∧ (¬ (x = 0) → y_w M_X0_soonest mc ms Q (16, lv, r, ω, c, s))) := w_if dX0_soonest_13 (tgt := 28) rfl rfl rfl
theorem wX0_soonest_16 : y_w M_X0_soonest mc ms Q (16, lv, st, ω, c, s) = y_ldI lv 3 (fun v => y_w M_X0_soonest mc ms Q (17, lv, v :: st, ω, c, s)) := w_iload_n dX0_soonest_16 rfl rfl
theorem wX0_soonest_17 : y_w M_X0_soonest mc ms Q (17, lv, .int x :: r, ω, c, s) = y_w M_X0_soonest mc ms Q (18, lv, .long x.toInt64 :: r, ω, c, s) := w_i2l dX0_soonest_17 rfl
theorem wX0_soonest_18 : y_w M_X0_soonest mc ms Q (18, lv, st, ω, c, s) = y_w M_X0_soonest mc ms Q (19, lv, .long 0 :: st, ω, c, s) := w_lconst dX0_soonest_18 (v := 0) (by decide) rfl
theorem wX0_soonest_19 : y_w M_X0_soonest mc ms Q (19, lv, st, ω, c, s) = y_w M_X0_soonest mc ms Q (22, lv, .long (lN 40) :: st, ω, c, s) := w_ldc2_w dX0_soonest_19 rfl rfl rfl
theorem wX0_soonest_22 : y_w M_X0_soonest mc ms Q (22, lv, v2 :: v1 :: v0 :: r, ω, c, s) = (y_cat r ≤ 8 ∧ F_X0_isIn mc ms [v0, v1, v2] ω c s (y_aft M_X0_soonest 22 3 lv r (y_w M_X0_soonest mc ms Q) Q)) := w_call0 (av := [v0, v1, v2]) ⟨Or.inr ⟨rfl, rfl⟩, rfl⟩ dX0_soonest_22 rfl (y_F_mono _) (y_dle rfl) (y_dle rfl) rfl rfl
theorem wX0_soonest_25 : y_w M_X0_soonest mc ms Q (25, lv, .int x :: r, ω, c, s) = ((¬ x = 0 → y_w M_X0_soonest mc ms Q (31, lv, r, ω, c, s)) ∧ (¬ (¬ x = 0) → y_w M_X0_soonest mc ms Q (28, lv, r, ω, c, s))) := w_if dX0_soonest_25 (tgt := 31) rfl rfl rfl
theorem wX0_soonest_28 : y_w M_X0_soonest mc ms Q (28, lv, st, ω, c, s) = y_w M_X0_soonest mc ms Q (30, lv, .int (-1000001) :: st, ω, c, s) := w_ldc dX0_soonest_28 rfl rfl rfl
theorem wX0_soonest_30 : y_w M_X0_soonest mc ms Q (30, lv, [.int x], ω, c, s) = Q (.returned (some (.int x))) ω c s := w_ireturnI dX0_soonest_30 rfl
theorem wX0_soonest_31 : y_w M_X0_soonest mc ms Q (31, lv, st, ω, c, s) = y_ldA lv 0 (fun v => y_w M_X0_soonest mc ms Q (32, lv, v :: st, ω, c, s)) := w_aload_n dX0_soonest_31 rfl rfl
theorem wX0_soonest_32 : y_w M_X0_soonest mc ms Q (32, lv, st, ω, c, s) = y_ldI lv 1 (fun v => y_w M_X0_soonest mc ms Q (33, lv, v :: st, ω, c, s)) := w_iload_n dX0_soonest_32 rfl rfl
theorem wX0_soonest_33 : y_w M_X0_soonest mc ms Q (33, lv, st, ω, c, s) = y_ldA lv 0 (fun v => y_w M_X0_soonest mc ms Q (34, lv, v :: st, ω, c, s)) := w_aload_n dX0_soonest_33 rfl rfl
theorem wX0_soonest_34 : y_w M_X0_soonest mc ms Q (34, lv, .ref a :: r, ω, c, s) = y_gf P_X0_soonest 57 (ω.2 a) (fun v => y_w M_X0_soonest mc ms Q (37, lv, v :: r, ω, c, s)) := w_getfield dX0_soonest_34 rfl rfl
theorem wX0_soonest_37 (hc : y_cls ω a = some 0) : y_w M_X0_soonest mc ms Q (37, lv, v2 :: v1 :: .ref a :: r, ω, c, s) = (y_cat r ≤ 8 ∧ F_X0_lay mc ms [.ref a, v1, v2] ω c s (y_aft M_X0_soonest 37 3 lv r (y_w M_X0_soonest mc ms Q) Q)) := w_call1 (av := [v1, v2]) (Or.inl ⟨⟨rfl, rfl⟩, rfl⟩) dX0_soonest_37 rfl hc rfl (y_F_mono _) (y_dle rfl) (y_dle rfl) rfl rfl
theorem wX0_soonest_40 : y_w M_X0_soonest mc ms Q (40, lv, st, ω, c, s) = y_w M_X0_soonest mc ms Q (41, lv, .int 0 :: st, ω, c, s) := w_iconst dX0_soonest_40 (v := 0) (by decide) rfl
theorem wX0_soonest_41 : y_w M_X0_soonest mc ms Q (41, lv, .int x :: r, ω, c, s) = y_w M_X0_soonest mc ms Q (43, (4, .int x) :: y_kill 4 lv, r, ω, c, s) := w_istore dX0_soonest_41 (y_dle rfl) rfl
theorem wX0_soonest_43 : y_w M_X0_soonest mc ms Q (43, lv, st, ω, c, s) = y_ldI lv 4 (fun v => y_w M_X0_soonest mc ms Q (45, lv, v :: st, ω, c, s)) := w_iload dX0_soonest_43 rfl
theorem wX0_soonest_45 : y_w M_X0_soonest mc ms Q (45, lv, st, ω, c, s) = y_w M_X0_soonest mc ms Q (47, lv, .int (nI 40) :: st, ω, c, s) := w_bipush dX0_soonest_45 (v := (nI 40)) (by decide) rfl
theorem wX0_soonest_47 : y_w M_X0_soonest mc ms Q (47, lv, .int y :: .int x :: r, ω, c, s) = ((y < x → y_w M_X0_soonest mc ms Q (79, lv, r, ω, c, s)) ∧ (¬ (y < x) → y_w M_X0_soonest mc ms Q (50, lv, r, ω, c, s))) := w_icmp dX0_soonest_47 (tgt := 79) rfl rfl rfl
theorem wX0_soonest_50 : y_w M_X0_soonest mc ms Q (50, lv, st, ω, c, s) = y_ldA lv 0 (fun v => y_w M_X0_soonest mc ms Q (51, lv, v :: st, ω, c, s)) := w_aload_n dX0_soonest_50 rfl rfl
theorem wX0_soonest_51 : y_w M_X0_soonest mc ms Q (51, lv, .ref a :: r, ω, c, s) = y_gf P_X0_soonest 57 (ω.2 a) (fun v => y_w M_X0_soonest mc ms Q (54, lv, v :: r, ω, c, s)) := w_getfield dX0_soonest_51 rfl rfl
theorem wX0_soonest_54 : y_w M_X0_soonest mc ms Q (54, lv, st, ω, c, s) = y_w M_X0_soonest mc ms Q (55, lv, .int (nI 5) :: st, ω, c, s) := w_iconst dX0_soonest_54 (v := (nI 5)) (by decide) rfl
theorem wX0_soonest_55 : y_w M_X0_soonest mc ms Q (55, lv, st, ω, c, s) = y_ldI lv 4 (fun v => y_w M_X0_soonest mc ms Q (57, lv, v :: st, ω, c, s)) := w_iload dX0_soonest_55 rfl
theorem wX0_soonest_57 : y_w M_X0_soonest mc ms Q (57, lv, .int y :: .int x :: r, ω, c, s) = y_w M_X0_soonest mc ms Q (58, lv, .int (x * y) :: r, ω, c, s) := w_imul dX0_soonest_57 rfl
theorem wX0_soonest_58 : y_w M_X0_soonest mc ms Q (58, lv, st, ω, c, s) = y_ldI lv 2 (fun v => y_w M_X0_soonest mc ms Q (59, lv, v :: st, ω, c, s)) := w_iload_n dX0_soonest_58 rfl rfl
theorem wX0_soonest_59 : y_w M_X0_soonest mc ms Q (59, lv, .int y :: .int x :: r, ω, c, s) = y_w M_X0_soonest mc ms Q (60, lv, .int (x + y) :: r, ω, c, s) := w_iadd dX0_soonest_59 rfl
theorem wX0_soonest_60 : y_w M_X0_soonest mc ms Q (60, lv, .int j :: .ref a :: r, ω, c, s) = y_rL (ω.2 a) j (fun x => y_w M_X0_soonest mc ms Q (61, lv, .long x :: r, ω, c, s)) := w_laload dX0_soonest_60 rfl
theorem wX0_soonest_61 : y_w M_X0_soonest mc ms Q (61, lv, st, ω, c, s) = y_ldI lv 3 (fun v => y_w M_X0_soonest mc ms Q (62, lv, v :: st, ω, c, s)) := w_iload_n dX0_soonest_61 rfl rfl
theorem wX0_soonest_62 : y_w M_X0_soonest mc ms Q (62, lv, .int y :: .long z :: r, ω, c, s) = y_w M_X0_soonest mc ms Q (63, lv, .long (z >>> (y.toInt64 &&& 63)) :: r, ω, c, s) := w_lshr dX0_soonest_62 rfl
theorem wX0_soonest_63 : y_w M_X0_soonest mc ms Q (63, lv, st, ω, c, s) = y_w M_X0_soonest mc ms Q (64, lv, .long 1 :: st, ω, c, s) := w_lconst dX0_soonest_63 (v := 1) (by decide) rfl
theorem wX0_soonest_64 : y_w M_X0_soonest mc ms Q (64, lv, .long w :: .long z :: r, ω, c, s) = y_w M_X0_soonest mc ms Q (65, lv, .long (z &&& w) :: r, ω, c, s) := w_land dX0_soonest_64 rfl
theorem wX0_soonest_65 : y_w M_X0_soonest mc ms Q (65, lv, st, ω, c, s) = y_w M_X0_soonest mc ms Q (66, lv, .long 1 :: st, ω, c, s) := w_lconst dX0_soonest_65 (v := 1) (by decide) rfl
theorem wX0_soonest_66 : y_w M_X0_soonest mc ms Q (66, lv, .long w :: .long z :: r, ω, c, s) = y_w M_X0_soonest mc ms Q (67, lv, .int (lg_cmp z w) :: r, ω, c, s) := w_lcmp dX0_soonest_66 rfl
theorem wX0_soonest_67 : y_w M_X0_soonest mc ms Q (67, lv, .int x :: r, ω, c, s) = ((¬ x = 0 → y_w M_X0_soonest mc ms Q (73, lv, r, ω, c, s)) ∧ (¬ (¬ x = 0) → y_w M_X0_soonest mc ms Q (70, lv, r, ω, c, s))) := w_if dX0_soonest_67 (tgt := 73) rfl rfl rfl
theorem wX0_soonest_70 : y_w M_X0_soonest mc ms Q (70, lv, st, ω, c, s) = y_ldI lv 4 (fun v => y_w M_X0_soonest mc ms Q (72, lv, v :: st, ω, c, s)) := w_iload dX0_soonest_70 rfl
theorem wX0_soonest_72 : y_w M_X0_soonest mc ms Q (72, lv, [.int x], ω, c, s) = Q (.returned (some (.int x))) ω c s := w_ireturnI dX0_soonest_72 rfl
theorem wX0_soonest_73 : y_w M_X0_soonest mc ms Q (73, lv, st, ω, c, s) = y_inc lv 4 (fun x => y_w M_X0_soonest mc ms Q (76, (4, .int (x + 1)) :: y_kill 4 lv, st, ω, c, s)) := w_iinc dX0_soonest_73 (d := 1) (by decide) (y_dle rfl) rfl
theorem wX0_soonest_76 : y_w M_X0_soonest mc ms Q (76, lv, st, ω, c, s) = ∃ lv2, y_lsub lv2 lv ∧ y_w M_X0_soonest mc ms Q (43, lv2, st, ω, c, s) := w_back dX0_soonest_76 (tgt := 43) (by decide) rfl
theorem wX0_soonest_79 : y_w M_X0_soonest mc ms Q (79, lv, st, ω, c, s) = y_w M_X0_soonest mc ms Q (81, lv, .int (-1000000) :: st, ω, c, s) := w_ldc dX0_soonest_79 rfl rfl rfl
theorem wX0_soonest_81 : y_w M_X0_soonest mc ms Q (81, lv, [.int x], ω, c, s) = Q (.returned (some (.int x))) ω c s := w_ireturnI dX0_soonest_81 rfl
def P_X0_voyages : y_Pool := ([(39, 0, 4, (.object "YoungerBack$League"), true), (174, 1, 8, (.array .int), true), (171, 1, 2, .int, false), (278, 1, 3, (.array .int), true), (281, 1, 4, (.array .int), true)], [], [(93, .int (-1000001)), (181, .int (-1000000))], [(168, 1, 0, 2, (3, 61), F_X0_isPerson), (257, 1, 0, 2, (2, 46), F_X0_isHarbour), (177, 1, 1, 4, (4, 87), F_X1_end)], [], [], [])
def M_X0_voyages : y_Md := (cX0_voyages, "YoungerBack", (8, (some FieldType.int)), (4, 87), false, P_X0_voyages, [])
def F_X0_voyages : y_Tr := y_F M_X0_voyages
theorem nX0_voyages : y_nL M_X0_voyages = 8 := rfl
theorem fX0_voyages_39_0 : y_ffP P_X0_voyages 39 0 = some (4, (.object "YoungerBack$League"), true) := rfl
theorem fX0_voyages_174_1 : y_ffP P_X0_voyages 174 1 = some (8, (.array .int), true) := rfl
theorem fX0_voyages_171_1 : y_ffP P_X0_voyages 171 1 = some (2, .int, false) := rfl
theorem fX0_voyages_278_1 : y_ffP P_X0_voyages 278 1 = some (3, (.array .int), true) := rfl
theorem fX0_voyages_281_1 : y_ffP P_X0_voyages 281 1 = some (4, (.array .int), true) := rfl
theorem wX0_voyages_0 : y_w M_X0_voyages mc ms Q (0, lv, st, ω, c, s) = y_ldA lv 0 (fun v => y_w M_X0_voyages mc ms Q (1, lv, v :: st, ω, c, s)) := w_aload_n dX0_voyages_0 rfl rfl
theorem wX0_voyages_1 : y_w M_X0_voyages mc ms Q (1, lv, st, ω, c, s) = y_ldI lv 1 (fun v => y_w M_X0_voyages mc ms Q (2, lv, v :: st, ω, c, s)) := w_iload_n dX0_voyages_1 rfl rfl
theorem wX0_voyages_2 (hc : y_cls ω a = some 0) : y_w M_X0_voyages mc ms Q (2, lv, v1 :: .ref a :: r, ω, c, s) = (y_cat r ≤ 8 ∧ F_X0_isPerson mc ms [.ref a, v1] ω c s (y_aft M_X0_voyages 2 3 lv r (y_w M_X0_voyages mc ms Q) Q)) := w_call1 (av := [v1]) (Or.inl ⟨⟨rfl, rfl⟩, rfl⟩) dX0_voyages_2 rfl hc rfl (y_F_mono _) (y_dle rfl) (y_dle rfl) rfl rfl
theorem wX0_voyages_5 : y_w M_X0_voyages mc ms Q (5, lv, .int x :: r, ω, c, s) = ((x = 0 → y_w M_X0_voyages mc ms Q (16, lv, r, ω, c, s)) ∧ (¬ (x = 0) → y_w M_X0_voyages mc ms Q (8, lv, r, ω, c, s))) := w_if dX0_voyages_5 (tgt := 16) rfl rfl rfl
theorem wX0_voyages_8 : y_w M_X0_voyages mc ms Q (8, lv, st, ω, c, s) = y_ldA lv 0 (fun v => y_w M_X0_voyages mc ms Q (9, lv, v :: st, ω, c, s)) := w_aload_n dX0_voyages_8 rfl rfl
theorem wX0_voyages_9 : y_w M_X0_voyages mc ms Q (9, lv, st, ω, c, s) = y_ldI lv 2 (fun v => y_w M_X0_voyages mc ms Q (10, lv, v :: st, ω, c, s)) := w_iload_n dX0_voyages_9 rfl rfl
theorem wX0_voyages_10 (hc : y_cls ω a = some 0) : y_w M_X0_voyages mc ms Q (10, lv, v1 :: .ref a :: r, ω, c, s) = (y_cat r ≤ 8 ∧ F_X0_isHarbour mc ms [.ref a, v1] ω c s (y_aft M_X0_voyages 10 3 lv r (y_w M_X0_voyages mc ms Q) Q)) := w_call1 (av := [v1]) (Or.inl ⟨⟨rfl, rfl⟩, rfl⟩) dX0_voyages_10 rfl hc rfl (y_F_mono _) (y_dle rfl) (y_dle rfl) rfl rfl
theorem wX0_voyages_13 : y_w M_X0_voyages mc ms Q (13, lv, .int x :: r, ω, c, s) = ((¬ x = 0 → y_w M_X0_voyages mc ms Q (19, lv, r, ω, c, s)) ∧ (¬ (¬ x = 0) → y_w M_X0_voyages mc ms Q (16, lv, r, ω, c, s))) := w_if dX0_voyages_13 (tgt := 19) rfl rfl rfl
theorem wX0_voyages_16 : y_w M_X0_voyages mc ms Q (16, lv, st, ω, c, s) = y_w M_X0_voyages mc ms Q (18, lv, .int (-1000001) :: st, ω, c, s) := w_ldc dX0_voyages_16 rfl rfl rfl
theorem wX0_voyages_18 : y_w M_X0_voyages mc ms Q (18, lv, [.int x], ω, c, s) = Q (.returned (some (.int x))) ω c s := w_ireturnI dX0_voyages_18 rfl
theorem wX0_voyages_19 : y_w M_X0_voyages mc ms Q (19, lv, st, ω, c, s) = y_w M_X0_voyages mc ms Q (20, lv, .int 1 :: st, ω, c, s) := w_iconst dX0_voyages_19 (v := 1) (by decide) rfl
theorem wX0_voyages_20 : y_w M_X0_voyages mc ms Q (20, lv, st, ω, c, s) = y_ldA lv 0 (fun v => y_w M_X0_voyages mc ms Q (21, lv, v :: st, ω, c, s)) := w_aload_n dX0_voyages_20 rfl rfl
theorem wX0_voyages_21 : y_w M_X0_voyages mc ms Q (21, lv, .ref a :: r, ω, c, s) = y_gf P_X0_voyages 39 (ω.2 a) (fun v => y_w M_X0_voyages mc ms Q (24, lv, v :: r, ω, c, s)) := w_getfield dX0_voyages_21 rfl rfl
theorem wX0_voyages_24 : y_w M_X0_voyages mc ms Q (24, lv, .ref a :: r, ω, c, s) = y_gf P_X0_voyages 174 (ω.2 a) (fun v => y_w M_X0_voyages mc ms Q (27, lv, v :: r, ω, c, s)) := w_getfield dX0_voyages_24 rfl rfl
theorem wX0_voyages_27 : y_w M_X0_voyages mc ms Q (27, lv, st, ω, c, s) = y_ldI lv 1 (fun v => y_w M_X0_voyages mc ms Q (28, lv, v :: st, ω, c, s)) := w_iload_n dX0_voyages_27 rfl rfl
theorem wX0_voyages_28 : y_w M_X0_voyages mc ms Q (28, lv, .int j :: .ref a :: r, ω, c, s) = y_rI (ω.2 a) j (fun x => y_w M_X0_voyages mc ms Q (29, lv, .int x :: r, ω, c, s)) := w_iaload dX0_voyages_28 rfl
theorem wX0_voyages_29 : y_w M_X0_voyages mc ms Q (29, lv, .int y :: .int x :: r, ω, c, s) = y_w M_X0_voyages mc ms Q (30, lv, .int (x <<< (y &&& 31)) :: r, ω, c, s) := w_ishl dX0_voyages_29 rfl
theorem wX0_voyages_30 : y_w M_X0_voyages mc ms Q (30, lv, .int x :: r, ω, c, s) = y_w M_X0_voyages mc ms Q (31, (3, .int x) :: y_kill 3 lv, r, ω, c, s) := w_istore_n dX0_voyages_30 rfl (y_dle rfl) rfl
theorem wX0_voyages_31 : y_w M_X0_voyages mc ms Q (31, lv, st, ω, c, s) = y_w M_X0_voyages mc ms Q (32, lv, .int 0 :: st, ω, c, s) := w_iconst dX0_voyages_31 (v := 0) (by decide) rfl
theorem wX0_voyages_32 : y_w M_X0_voyages mc ms Q (32, lv, .int x :: r, ω, c, s) = y_w M_X0_voyages mc ms Q (34, (4, .int x) :: y_kill 4 lv, r, ω, c, s) := w_istore dX0_voyages_32 (y_dle rfl) rfl
theorem wX0_voyages_34 : y_w M_X0_voyages mc ms Q (34, lv, st, ω, c, s) = y_ldI lv 4 (fun v => y_w M_X0_voyages mc ms Q (36, lv, v :: st, ω, c, s)) := w_iload dX0_voyages_34 rfl
theorem wX0_voyages_36 : y_w M_X0_voyages mc ms Q (36, lv, st, ω, c, s) = y_w M_X0_voyages mc ms Q (37, lv, .int (nI 5) :: st, ω, c, s) := w_iconst dX0_voyages_36 (v := (nI 5)) (by decide) rfl
theorem wX0_voyages_37 : y_w M_X0_voyages mc ms Q (37, lv, .int y :: .int x :: r, ω, c, s) = ((y < x → y_w M_X0_voyages mc ms Q (205, lv, r, ω, c, s)) ∧ (¬ (y < x) → y_w M_X0_voyages mc ms Q (40, lv, r, ω, c, s))) := w_icmp dX0_voyages_37 (tgt := 205) rfl rfl rfl
theorem wX0_voyages_40 : y_w M_X0_voyages mc ms Q (40, lv, st, ω, c, s) = y_ldI lv 3 (fun v => y_w M_X0_voyages mc ms Q (41, lv, v :: st, ω, c, s)) := w_iload_n dX0_voyages_40 rfl rfl
theorem wX0_voyages_41 : y_w M_X0_voyages mc ms Q (41, lv, st, ω, c, s) = y_ldI lv 2 (fun v => y_w M_X0_voyages mc ms Q (42, lv, v :: st, ω, c, s)) := w_iload_n dX0_voyages_41 rfl rfl
theorem wX0_voyages_42 : y_w M_X0_voyages mc ms Q (42, lv, .int y :: .int x :: r, ω, c, s) = y_w M_X0_voyages mc ms Q (43, lv, .int (x >>> (y &&& 31)) :: r, ω, c, s) := w_ishr dX0_voyages_42 rfl
theorem wX0_voyages_43 : y_w M_X0_voyages mc ms Q (43, lv, st, ω, c, s) = y_w M_X0_voyages mc ms Q (44, lv, .int 1 :: st, ω, c, s) := w_iconst dX0_voyages_43 (v := 1) (by decide) rfl
theorem wX0_voyages_44 : y_w M_X0_voyages mc ms Q (44, lv, .int y :: .int x :: r, ω, c, s) = y_w M_X0_voyages mc ms Q (45, lv, .int (x &&& y) :: r, ω, c, s) := w_iand dX0_voyages_44 rfl
theorem wX0_voyages_45 : y_w M_X0_voyages mc ms Q (45, lv, st, ω, c, s) = y_w M_X0_voyages mc ms Q (46, lv, .int 1 :: st, ω, c, s) := w_iconst dX0_voyages_45 (v := 1) (by decide) rfl
theorem wX0_voyages_46 : y_w M_X0_voyages mc ms Q (46, lv, .int y :: .int x :: r, ω, c, s) = ((¬ x = y → y_w M_X0_voyages mc ms Q (52, lv, r, ω, c, s)) ∧ (¬ (¬ x = y) → y_w M_X0_voyages mc ms Q (49, lv, r, ω, c, s))) := w_icmp dX0_voyages_46 (tgt := 52) rfl rfl rfl
theorem wX0_voyages_49 : y_w M_X0_voyages mc ms Q (49, lv, st, ω, c, s) = y_ldI lv 4 (fun v => y_w M_X0_voyages mc ms Q (51, lv, v :: st, ω, c, s)) := w_iload dX0_voyages_49 rfl
theorem wX0_voyages_51 : y_w M_X0_voyages mc ms Q (51, lv, [.int x], ω, c, s) = Q (.returned (some (.int x))) ω c s := w_ireturnI dX0_voyages_51 rfl
theorem wX0_voyages_52 : y_w M_X0_voyages mc ms Q (52, lv, st, ω, c, s) = y_ldI lv 3 (fun v => y_w M_X0_voyages mc ms Q (53, lv, v :: st, ω, c, s)) := w_iload_n dX0_voyages_52 rfl rfl
theorem wX0_voyages_53 : y_w M_X0_voyages mc ms Q (53, lv, .int x :: r, ω, c, s) = y_w M_X0_voyages mc ms Q (55, (5, .int x) :: y_kill 5 lv, r, ω, c, s) := w_istore dX0_voyages_53 (y_dle rfl) rfl
theorem wX0_voyages_55 : y_w M_X0_voyages mc ms Q (55, lv, st, ω, c, s) = y_w M_X0_voyages mc ms Q (56, lv, .int 0 :: st, ω, c, s) := w_iconst dX0_voyages_55 (v := 0) (by decide) rfl
theorem wX0_voyages_56 : y_w M_X0_voyages mc ms Q (56, lv, .int x :: r, ω, c, s) = y_w M_X0_voyages mc ms Q (58, (6, .int x) :: y_kill 6 lv, r, ω, c, s) := w_istore dX0_voyages_56 (y_dle rfl) rfl
theorem wX0_voyages_58 : y_w M_X0_voyages mc ms Q (58, lv, st, ω, c, s) = y_ldI lv 6 (fun v => y_w M_X0_voyages mc ms Q (60, lv, v :: st, ω, c, s)) := w_iload dX0_voyages_58 rfl
theorem wX0_voyages_60 : y_w M_X0_voyages mc ms Q (60, lv, st, ω, c, s) = y_ldA lv 0 (fun v => y_w M_X0_voyages mc ms Q (61, lv, v :: st, ω, c, s)) := w_aload_n dX0_voyages_60 rfl rfl
theorem wX0_voyages_61 : y_w M_X0_voyages mc ms Q (61, lv, .ref a :: r, ω, c, s) = y_gf P_X0_voyages 39 (ω.2 a) (fun v => y_w M_X0_voyages mc ms Q (64, lv, v :: r, ω, c, s)) := w_getfield dX0_voyages_61 rfl rfl
theorem wX0_voyages_64 : y_w M_X0_voyages mc ms Q (64, lv, .ref a :: r, ω, c, s) = y_gf P_X0_voyages 171 (ω.2 a) (fun v => y_w M_X0_voyages mc ms Q (67, lv, v :: r, ω, c, s)) := w_getfield dX0_voyages_64 rfl rfl
theorem wX0_voyages_67 : y_w M_X0_voyages mc ms Q (67, lv, .int y :: .int x :: r, ω, c, s) = ((y ≤ x → y_w M_X0_voyages mc ms Q (196, lv, r, ω, c, s)) ∧ (¬ (y ≤ x) → y_w M_X0_voyages mc ms Q (70, lv, r, ω, c, s))) := w_icmp dX0_voyages_67 (tgt := 196) rfl rfl rfl
theorem wX0_voyages_70 : y_w M_X0_voyages mc ms Q (70, lv, st, ω, c, s) = y_ldA lv 0 (fun v => y_w M_X0_voyages mc ms Q (71, lv, v :: st, ω, c, s)) := w_aload_n dX0_voyages_70 rfl rfl
theorem wX0_voyages_71 : y_w M_X0_voyages mc ms Q (71, lv, .ref a :: r, ω, c, s) = y_gf P_X0_voyages 39 (ω.2 a) (fun v => y_w M_X0_voyages mc ms Q (74, lv, v :: r, ω, c, s)) := w_getfield dX0_voyages_71 rfl rfl
theorem wX0_voyages_74 : y_w M_X0_voyages mc ms Q (74, lv, st, ω, c, s) = y_ldI lv 1 (fun v => y_w M_X0_voyages mc ms Q (75, lv, v :: st, ω, c, s)) := w_iload_n dX0_voyages_74 rfl rfl
theorem wX0_voyages_75 : y_w M_X0_voyages mc ms Q (75, lv, st, ω, c, s) = y_ldI lv 6 (fun v => y_w M_X0_voyages mc ms Q (77, lv, v :: st, ω, c, s)) := w_iload dX0_voyages_75 rfl
theorem wX0_voyages_77 : y_w M_X0_voyages mc ms Q (77, lv, st, ω, c, s) = y_ldA lv 0 (fun v => y_w M_X0_voyages mc ms Q (78, lv, v :: st, ω, c, s)) := w_aload_n dX0_voyages_77 rfl rfl
theorem wX0_voyages_78 : y_w M_X0_voyages mc ms Q (78, lv, .ref a :: r, ω, c, s) = y_gf P_X0_voyages 39 (ω.2 a) (fun v => y_w M_X0_voyages mc ms Q (81, lv, v :: r, ω, c, s)) := w_getfield dX0_voyages_78 rfl rfl
theorem wX0_voyages_81 : y_w M_X0_voyages mc ms Q (81, lv, .ref a :: r, ω, c, s) = y_gf P_X0_voyages 278 (ω.2 a) (fun v => y_w M_X0_voyages mc ms Q (84, lv, v :: r, ω, c, s)) := w_getfield dX0_voyages_81 rfl rfl
theorem wX0_voyages_84 : y_w M_X0_voyages mc ms Q (84, lv, st, ω, c, s) = y_ldI lv 6 (fun v => y_w M_X0_voyages mc ms Q (86, lv, v :: st, ω, c, s)) := w_iload dX0_voyages_84 rfl
theorem wX0_voyages_86 : y_w M_X0_voyages mc ms Q (86, lv, .int j :: .ref a :: r, ω, c, s) = y_rI (ω.2 a) j (fun x => y_w M_X0_voyages mc ms Q (87, lv, .int x :: r, ω, c, s)) := w_iaload dX0_voyages_86 rfl
theorem wX0_voyages_87 (hc : y_cls ω a = some 1) : y_w M_X0_voyages mc ms Q (87, lv, v3 :: v2 :: v1 :: .ref a :: r, ω, c, s) = (y_cat r ≤ 8 ∧ F_X1_end mc ms [.ref a, v1, v2, v3] ω c s (y_aft M_X0_voyages 87 3 lv r (y_w M_X0_voyages mc ms Q) Q)) := w_call1 (av := [v1, v2, v3]) (Or.inl ⟨⟨rfl, rfl⟩, rfl⟩) dX0_voyages_87 rfl hc rfl (y_F_mono _) (y_dle rfl) (y_dle rfl) rfl rfl
theorem wX0_voyages_90 : y_w M_X0_voyages mc ms Q (90, lv, st, ω, c, s) = y_w M_X0_voyages mc ms Q (92, lv, .int (-1000000) :: st, ω, c, s) := w_ldc dX0_voyages_90 rfl rfl rfl
theorem wX0_voyages_92 : y_w M_X0_voyages mc ms Q (92, lv, .int y :: .int x :: r, ω, c, s) = ((x = y → y_w M_X0_voyages mc ms Q (99, lv, r, ω, c, s)) ∧ (¬ (x = y) → y_w M_X0_voyages mc ms Q (95, lv, r, ω, c, s))) := w_icmp dX0_voyages_92 (tgt := 99) rfl rfl rfl
theorem wX0_voyages_95 : y_w M_X0_voyages mc ms Q (95, lv, st, ω, c, s) = y_w M_X0_voyages mc ms Q (96, lv, .int 1 :: st, ω, c, s) := w_iconst dX0_voyages_95 (v := 1) (by decide) rfl
theorem wX0_voyages_96 : y_w M_X0_voyages mc ms Q (96, lv, st, ω, c, s) = y_w M_X0_voyages mc ms Q (100, lv, st, ω, c, s) := w_goto dX0_voyages_96 (tgt := 100) (by decide) rfl
theorem wX0_voyages_99 : y_w M_X0_voyages mc ms Q (99, lv, st, ω, c, s) = y_w M_X0_voyages mc ms Q (100, lv, .int 0 :: st, ω, c, s) := w_iconst dX0_voyages_99 (v := 0) (by decide) rfl
theorem wX0_voyages_100 : y_w M_X0_voyages mc ms Q (100, lv, .int x :: r, ω, c, s) = y_w M_X0_voyages mc ms Q (102, (7, .int x) :: y_kill 7 lv, r, ω, c, s) := w_istore dX0_voyages_100 (y_dle rfl) rfl
theorem wX0_voyages_102 : y_w M_X0_voyages mc ms Q (102, lv, st, ω, c, s) = y_ldI lv 5 (fun v => y_w M_X0_voyages mc ms Q (104, lv, v :: st, ω, c, s)) := w_iload dX0_voyages_102 rfl
theorem wX0_voyages_104 : y_w M_X0_voyages mc ms Q (104, lv, st, ω, c, s) = y_ldI lv 7 (fun v => y_w M_X0_voyages mc ms Q (106, lv, v :: st, ω, c, s)) := w_iload dX0_voyages_104 rfl
theorem wX0_voyages_106 : y_w M_X0_voyages mc ms Q (106, lv, .int x :: r, ω, c, s) = ((x = 0 → y_w M_X0_voyages mc ms Q (142, lv, r, ω, c, s)) ∧ (¬ (x = 0) → y_w M_X0_voyages mc ms Q (109, lv, r, ω, c, s))) := w_if dX0_voyages_106 (tgt := 142) rfl rfl rfl
theorem wX0_voyages_109 : y_w M_X0_voyages mc ms Q (109, lv, st, ω, c, s) = y_ldI lv 3 (fun v => y_w M_X0_voyages mc ms Q (110, lv, v :: st, ω, c, s)) := w_iload_n dX0_voyages_109 rfl rfl
theorem wX0_voyages_110 : y_w M_X0_voyages mc ms Q (110, lv, st, ω, c, s) = y_ldA lv 0 (fun v => y_w M_X0_voyages mc ms Q (111, lv, v :: st, ω, c, s)) := w_aload_n dX0_voyages_110 rfl rfl
theorem wX0_voyages_111 : y_w M_X0_voyages mc ms Q (111, lv, .ref a :: r, ω, c, s) = y_gf P_X0_voyages 39 (ω.2 a) (fun v => y_w M_X0_voyages mc ms Q (114, lv, v :: r, ω, c, s)) := w_getfield dX0_voyages_111 rfl rfl
theorem wX0_voyages_114 : y_w M_X0_voyages mc ms Q (114, lv, .ref a :: r, ω, c, s) = y_gf P_X0_voyages 278 (ω.2 a) (fun v => y_w M_X0_voyages mc ms Q (117, lv, v :: r, ω, c, s)) := w_getfield dX0_voyages_114 rfl rfl
theorem wX0_voyages_117 : y_w M_X0_voyages mc ms Q (117, lv, st, ω, c, s) = y_ldI lv 6 (fun v => y_w M_X0_voyages mc ms Q (119, lv, v :: st, ω, c, s)) := w_iload dX0_voyages_117 rfl
theorem wX0_voyages_119 : y_w M_X0_voyages mc ms Q (119, lv, .int j :: .ref a :: r, ω, c, s) = y_rI (ω.2 a) j (fun x => y_w M_X0_voyages mc ms Q (120, lv, .int x :: r, ω, c, s)) := w_iaload dX0_voyages_119 rfl
theorem wX0_voyages_120 : y_w M_X0_voyages mc ms Q (120, lv, .int y :: .int x :: r, ω, c, s) = y_w M_X0_voyages mc ms Q (121, lv, .int (x >>> (y &&& 31)) :: r, ω, c, s) := w_ishr dX0_voyages_120 rfl
theorem wX0_voyages_121 : y_w M_X0_voyages mc ms Q (121, lv, st, ω, c, s) = y_w M_X0_voyages mc ms Q (122, lv, .int 1 :: st, ω, c, s) := w_iconst dX0_voyages_121 (v := 1) (by decide) rfl
theorem wX0_voyages_122 : y_w M_X0_voyages mc ms Q (122, lv, .int y :: .int x :: r, ω, c, s) = y_w M_X0_voyages mc ms Q (123, lv, .int (x &&& y) :: r, ω, c, s) := w_iand dX0_voyages_122 rfl
theorem wX0_voyages_123 : y_w M_X0_voyages mc ms Q (123, lv, st, ω, c, s) = y_w M_X0_voyages mc ms Q (124, lv, .int 1 :: st, ω, c, s) := w_iconst dX0_voyages_123 (v := 1) (by decide) rfl
theorem wX0_voyages_124 : y_w M_X0_voyages mc ms Q (124, lv, .int y :: .int x :: r, ω, c, s) = ((¬ x = y → y_w M_X0_voyages mc ms Q (142, lv, r, ω, c, s)) ∧ (¬ (¬ x = y) → y_w M_X0_voyages mc ms Q (127, lv, r, ω, c, s))) := w_icmp dX0_voyages_124 (tgt := 142) rfl rfl rfl
theorem wX0_voyages_127 : y_w M_X0_voyages mc ms Q (127, lv, st, ω, c, s) = y_w M_X0_voyages mc ms Q (128, lv, .int 1 :: st, ω, c, s) := w_iconst dX0_voyages_127 (v := 1) (by decide) rfl
theorem wX0_voyages_128 : y_w M_X0_voyages mc ms Q (128, lv, st, ω, c, s) = y_ldA lv 0 (fun v => y_w M_X0_voyages mc ms Q (129, lv, v :: st, ω, c, s)) := w_aload_n dX0_voyages_128 rfl rfl
theorem wX0_voyages_129 : y_w M_X0_voyages mc ms Q (129, lv, .ref a :: r, ω, c, s) = y_gf P_X0_voyages 39 (ω.2 a) (fun v => y_w M_X0_voyages mc ms Q (132, lv, v :: r, ω, c, s)) := w_getfield dX0_voyages_129 rfl rfl
theorem wX0_voyages_132 : y_w M_X0_voyages mc ms Q (132, lv, .ref a :: r, ω, c, s) = y_gf P_X0_voyages 281 (ω.2 a) (fun v => y_w M_X0_voyages mc ms Q (135, lv, v :: r, ω, c, s)) := w_getfield dX0_voyages_132 rfl rfl
theorem wX0_voyages_135 : y_w M_X0_voyages mc ms Q (135, lv, st, ω, c, s) = y_ldI lv 6 (fun v => y_w M_X0_voyages mc ms Q (137, lv, v :: st, ω, c, s)) := w_iload dX0_voyages_135 rfl
theorem wX0_voyages_137 : y_w M_X0_voyages mc ms Q (137, lv, .int j :: .ref a :: r, ω, c, s) = y_rI (ω.2 a) j (fun x => y_w M_X0_voyages mc ms Q (138, lv, .int x :: r, ω, c, s)) := w_iaload dX0_voyages_137 rfl
theorem wX0_voyages_138 : y_w M_X0_voyages mc ms Q (138, lv, .int y :: .int x :: r, ω, c, s) = y_w M_X0_voyages mc ms Q (139, lv, .int (x <<< (y &&& 31)) :: r, ω, c, s) := w_ishl dX0_voyages_138 rfl
theorem wX0_voyages_139 : y_w M_X0_voyages mc ms Q (139, lv, st, ω, c, s) = y_w M_X0_voyages mc ms Q (143, lv, st, ω, c, s) := w_goto dX0_voyages_139 (tgt := 143) (by decide) rfl
theorem wX0_voyages_142 : y_w M_X0_voyages mc ms Q (142, lv, st, ω, c, s) = y_w M_X0_voyages mc ms Q (143, lv, .int 0 :: st, ω, c, s) := w_iconst dX0_voyages_142 (v := 0) (by decide) rfl
theorem wX0_voyages_143 : y_w M_X0_voyages mc ms Q (143, lv, .int y :: .int x :: r, ω, c, s) = y_w M_X0_voyages mc ms Q (144, lv, .int (x ||| y) :: r, ω, c, s) := w_ior dX0_voyages_143 rfl
theorem wX0_voyages_144 : y_w M_X0_voyages mc ms Q (144, lv, .int x :: r, ω, c, s) = y_w M_X0_voyages mc ms Q (146, (5, .int x) :: y_kill 5 lv, r, ω, c, s) := w_istore dX0_voyages_144 (y_dle rfl) rfl
theorem wX0_voyages_146 : y_w M_X0_voyages mc ms Q (146, lv, st, ω, c, s) = y_ldI lv 5 (fun v => y_w M_X0_voyages mc ms Q (148, lv, v :: st, ω, c, s)) := w_iload dX0_voyages_146 rfl
theorem wX0_voyages_148 : y_w M_X0_voyages mc ms Q (148, lv, st, ω, c, s) = y_ldI lv 7 (fun v => y_w M_X0_voyages mc ms Q (150, lv, v :: st, ω, c, s)) := w_iload dX0_voyages_148 rfl
theorem wX0_voyages_150 : y_w M_X0_voyages mc ms Q (150, lv, .int x :: r, ω, c, s) = ((x = 0 → y_w M_X0_voyages mc ms Q (186, lv, r, ω, c, s)) ∧ (¬ (x = 0) → y_w M_X0_voyages mc ms Q (153, lv, r, ω, c, s))) := w_if dX0_voyages_150 (tgt := 186) rfl rfl rfl
theorem wX0_voyages_153 : y_w M_X0_voyages mc ms Q (153, lv, st, ω, c, s) = y_ldI lv 3 (fun v => y_w M_X0_voyages mc ms Q (154, lv, v :: st, ω, c, s)) := w_iload_n dX0_voyages_153 rfl rfl
theorem wX0_voyages_154 : y_w M_X0_voyages mc ms Q (154, lv, st, ω, c, s) = y_ldA lv 0 (fun v => y_w M_X0_voyages mc ms Q (155, lv, v :: st, ω, c, s)) := w_aload_n dX0_voyages_154 rfl rfl
theorem wX0_voyages_155 : y_w M_X0_voyages mc ms Q (155, lv, .ref a :: r, ω, c, s) = y_gf P_X0_voyages 39 (ω.2 a) (fun v => y_w M_X0_voyages mc ms Q (158, lv, v :: r, ω, c, s)) := w_getfield dX0_voyages_155 rfl rfl
theorem wX0_voyages_158 : y_w M_X0_voyages mc ms Q (158, lv, .ref a :: r, ω, c, s) = y_gf P_X0_voyages 281 (ω.2 a) (fun v => y_w M_X0_voyages mc ms Q (161, lv, v :: r, ω, c, s)) := w_getfield dX0_voyages_158 rfl rfl
theorem wX0_voyages_161 : y_w M_X0_voyages mc ms Q (161, lv, st, ω, c, s) = y_ldI lv 6 (fun v => y_w M_X0_voyages mc ms Q (163, lv, v :: st, ω, c, s)) := w_iload dX0_voyages_161 rfl
theorem wX0_voyages_163 : y_w M_X0_voyages mc ms Q (163, lv, .int j :: .ref a :: r, ω, c, s) = y_rI (ω.2 a) j (fun x => y_w M_X0_voyages mc ms Q (164, lv, .int x :: r, ω, c, s)) := w_iaload dX0_voyages_163 rfl
theorem wX0_voyages_164 : y_w M_X0_voyages mc ms Q (164, lv, .int y :: .int x :: r, ω, c, s) = y_w M_X0_voyages mc ms Q (165, lv, .int (x >>> (y &&& 31)) :: r, ω, c, s) := w_ishr dX0_voyages_164 rfl
theorem wX0_voyages_165 : y_w M_X0_voyages mc ms Q (165, lv, st, ω, c, s) = y_w M_X0_voyages mc ms Q (166, lv, .int 1 :: st, ω, c, s) := w_iconst dX0_voyages_165 (v := 1) (by decide) rfl
theorem wX0_voyages_166 : y_w M_X0_voyages mc ms Q (166, lv, .int y :: .int x :: r, ω, c, s) = y_w M_X0_voyages mc ms Q (167, lv, .int (x &&& y) :: r, ω, c, s) := w_iand dX0_voyages_166 rfl
theorem wX0_voyages_167 : y_w M_X0_voyages mc ms Q (167, lv, st, ω, c, s) = y_w M_X0_voyages mc ms Q (168, lv, .int 1 :: st, ω, c, s) := w_iconst dX0_voyages_167 (v := 1) (by decide) rfl
theorem wX0_voyages_168 : y_w M_X0_voyages mc ms Q (168, lv, .int y :: .int x :: r, ω, c, s) = ((¬ x = y → y_w M_X0_voyages mc ms Q (186, lv, r, ω, c, s)) ∧ (¬ (¬ x = y) → y_w M_X0_voyages mc ms Q (171, lv, r, ω, c, s))) := w_icmp dX0_voyages_168 (tgt := 186) rfl rfl rfl
theorem wX0_voyages_171 : y_w M_X0_voyages mc ms Q (171, lv, st, ω, c, s) = y_w M_X0_voyages mc ms Q (172, lv, .int 1 :: st, ω, c, s) := w_iconst dX0_voyages_171 (v := 1) (by decide) rfl
theorem wX0_voyages_172 : y_w M_X0_voyages mc ms Q (172, lv, st, ω, c, s) = y_ldA lv 0 (fun v => y_w M_X0_voyages mc ms Q (173, lv, v :: st, ω, c, s)) := w_aload_n dX0_voyages_172 rfl rfl
theorem wX0_voyages_173 : y_w M_X0_voyages mc ms Q (173, lv, .ref a :: r, ω, c, s) = y_gf P_X0_voyages 39 (ω.2 a) (fun v => y_w M_X0_voyages mc ms Q (176, lv, v :: r, ω, c, s)) := w_getfield dX0_voyages_173 rfl rfl
theorem wX0_voyages_176 : y_w M_X0_voyages mc ms Q (176, lv, .ref a :: r, ω, c, s) = y_gf P_X0_voyages 278 (ω.2 a) (fun v => y_w M_X0_voyages mc ms Q (179, lv, v :: r, ω, c, s)) := w_getfield dX0_voyages_176 rfl rfl
theorem wX0_voyages_179 : y_w M_X0_voyages mc ms Q (179, lv, st, ω, c, s) = y_ldI lv 6 (fun v => y_w M_X0_voyages mc ms Q (181, lv, v :: st, ω, c, s)) := w_iload dX0_voyages_179 rfl
theorem wX0_voyages_181 : y_w M_X0_voyages mc ms Q (181, lv, .int j :: .ref a :: r, ω, c, s) = y_rI (ω.2 a) j (fun x => y_w M_X0_voyages mc ms Q (182, lv, .int x :: r, ω, c, s)) := w_iaload dX0_voyages_181 rfl
theorem wX0_voyages_182 : y_w M_X0_voyages mc ms Q (182, lv, .int y :: .int x :: r, ω, c, s) = y_w M_X0_voyages mc ms Q (183, lv, .int (x <<< (y &&& 31)) :: r, ω, c, s) := w_ishl dX0_voyages_182 rfl
theorem wX0_voyages_183 : y_w M_X0_voyages mc ms Q (183, lv, st, ω, c, s) = y_w M_X0_voyages mc ms Q (187, lv, st, ω, c, s) := w_goto dX0_voyages_183 (tgt := 187) (by decide) rfl
theorem wX0_voyages_186 : y_w M_X0_voyages mc ms Q (186, lv, st, ω, c, s) = y_w M_X0_voyages mc ms Q (187, lv, .int 0 :: st, ω, c, s) := w_iconst dX0_voyages_186 (v := 0) (by decide) rfl
theorem wX0_voyages_187 : y_w M_X0_voyages mc ms Q (187, lv, .int y :: .int x :: r, ω, c, s) = y_w M_X0_voyages mc ms Q (188, lv, .int (x ||| y) :: r, ω, c, s) := w_ior dX0_voyages_187 rfl
theorem wX0_voyages_188 : y_w M_X0_voyages mc ms Q (188, lv, .int x :: r, ω, c, s) = y_w M_X0_voyages mc ms Q (190, (5, .int x) :: y_kill 5 lv, r, ω, c, s) := w_istore dX0_voyages_188 (y_dle rfl) rfl
theorem wX0_voyages_190 : y_w M_X0_voyages mc ms Q (190, lv, st, ω, c, s) = y_inc lv 6 (fun x => y_w M_X0_voyages mc ms Q (193, (6, .int (x + 1)) :: y_kill 6 lv, st, ω, c, s)) := w_iinc dX0_voyages_190 (d := 1) (by decide) (y_dle rfl) rfl
theorem wX0_voyages_193 : y_w M_X0_voyages mc ms Q (193, lv, st, ω, c, s) = ∃ lv2, y_lsub lv2 lv ∧ y_w M_X0_voyages mc ms Q (58, lv2, st, ω, c, s) := w_back dX0_voyages_193 (tgt := 58) (by decide) rfl
theorem wX0_voyages_196 : y_w M_X0_voyages mc ms Q (196, lv, st, ω, c, s) = y_ldI lv 5 (fun v => y_w M_X0_voyages mc ms Q (198, lv, v :: st, ω, c, s)) := w_iload dX0_voyages_196 rfl
theorem wX0_voyages_198 : y_w M_X0_voyages mc ms Q (198, lv, .int x :: r, ω, c, s) = y_w M_X0_voyages mc ms Q (199, (3, .int x) :: y_kill 3 lv, r, ω, c, s) := w_istore_n dX0_voyages_198 rfl (y_dle rfl) rfl
theorem wX0_voyages_199 : y_w M_X0_voyages mc ms Q (199, lv, st, ω, c, s) = y_inc lv 4 (fun x => y_w M_X0_voyages mc ms Q (202, (4, .int (x + 1)) :: y_kill 4 lv, st, ω, c, s)) := w_iinc dX0_voyages_199 (d := 1) (by decide) (y_dle rfl) rfl
theorem wX0_voyages_202 : y_w M_X0_voyages mc ms Q (202, lv, st, ω, c, s) = ∃ lv2, y_lsub lv2 lv ∧ y_w M_X0_voyages mc ms Q (34, lv2, st, ω, c, s) := w_back dX0_voyages_202 (tgt := 34) (by decide) rfl
theorem wX0_voyages_205 : y_w M_X0_voyages mc ms Q (205, lv, st, ω, c, s) = y_w M_X0_voyages mc ms Q (207, lv, .int (-1000000) :: st, ω, c, s) := w_ldc dX0_voyages_205 rfl rfl rfl
theorem wX0_voyages_207 : y_w M_X0_voyages mc ms Q (207, lv, [.int x], ω, c, s) = Q (.returned (some (.int x))) ω c s := w_ireturnI dX0_voyages_207 rfl
def P_X0_ageAt : y_Pool := ([(39, 0, 4, (.object "YoungerBack$League"), true), (216, 1, 10, (.array .int), true), (182, 1, 9, (.array .int), true)], [], [], [], [], [], [])
def M_X0_ageAt : y_Md := (cX0_ageAt, "YoungerBack", (3, (some FieldType.int)), (0, 0), false, P_X0_ageAt, [])
def F_X0_ageAt : y_Tr := y_F M_X0_ageAt
theorem nX0_ageAt : y_nL M_X0_ageAt = 3 := rfl
theorem fX0_ageAt_39_0 : y_ffP P_X0_ageAt 39 0 = some (4, (.object "YoungerBack$League"), true) := rfl
theorem fX0_ageAt_216_1 : y_ffP P_X0_ageAt 216 1 = some (10, (.array .int), true) := rfl
theorem fX0_ageAt_182_1 : y_ffP P_X0_ageAt 182 1 = some (9, (.array .int), true) := rfl
theorem wX0_ageAt_0 : y_w M_X0_ageAt mc ms Q (0, lv, st, ω, c, s) = y_ldA lv 0 (fun v => y_w M_X0_ageAt mc ms Q (1, lv, v :: st, ω, c, s)) := w_aload_n dX0_ageAt_0 rfl rfl
theorem wX0_ageAt_1 : y_w M_X0_ageAt mc ms Q (1, lv, .ref a :: r, ω, c, s) = y_gf P_X0_ageAt 39 (ω.2 a) (fun v => y_w M_X0_ageAt mc ms Q (4, lv, v :: r, ω, c, s)) := w_getfield dX0_ageAt_1 rfl rfl
theorem wX0_ageAt_4 : y_w M_X0_ageAt mc ms Q (4, lv, .ref a :: r, ω, c, s) = y_gf P_X0_ageAt 216 (ω.2 a) (fun v => y_w M_X0_ageAt mc ms Q (7, lv, v :: r, ω, c, s)) := w_getfield dX0_ageAt_4 rfl rfl
theorem wX0_ageAt_7 : y_w M_X0_ageAt mc ms Q (7, lv, st, ω, c, s) = y_ldI lv 1 (fun v => y_w M_X0_ageAt mc ms Q (8, lv, v :: st, ω, c, s)) := w_iload_n dX0_ageAt_7 rfl rfl
theorem wX0_ageAt_8 : y_w M_X0_ageAt mc ms Q (8, lv, .int j :: .ref a :: r, ω, c, s) = y_rI (ω.2 a) j (fun x => y_w M_X0_ageAt mc ms Q (9, lv, .int x :: r, ω, c, s)) := w_iaload dX0_ageAt_8 rfl
theorem wX0_ageAt_9 : y_w M_X0_ageAt mc ms Q (9, lv, st, ω, c, s) = y_ldI lv 2 (fun v => y_w M_X0_ageAt mc ms Q (10, lv, v :: st, ω, c, s)) := w_iload_n dX0_ageAt_9 rfl rfl
theorem wX0_ageAt_10 : y_w M_X0_ageAt mc ms Q (10, lv, .int y :: .int x :: r, ω, c, s) = y_w M_X0_ageAt mc ms Q (11, lv, .int (x + y) :: r, ω, c, s) := w_iadd dX0_ageAt_10 rfl
theorem wX0_ageAt_11 : y_w M_X0_ageAt mc ms Q (11, lv, st, ω, c, s) = y_ldA lv 0 (fun v => y_w M_X0_ageAt mc ms Q (12, lv, v :: st, ω, c, s)) := w_aload_n dX0_ageAt_11 rfl rfl
theorem wX0_ageAt_12 : y_w M_X0_ageAt mc ms Q (12, lv, .ref a :: r, ω, c, s) = y_gf P_X0_ageAt 39 (ω.2 a) (fun v => y_w M_X0_ageAt mc ms Q (15, lv, v :: r, ω, c, s)) := w_getfield dX0_ageAt_12 rfl rfl
theorem wX0_ageAt_15 : y_w M_X0_ageAt mc ms Q (15, lv, .ref a :: r, ω, c, s) = y_gf P_X0_ageAt 182 (ω.2 a) (fun v => y_w M_X0_ageAt mc ms Q (18, lv, v :: r, ω, c, s)) := w_getfield dX0_ageAt_15 rfl rfl
theorem wX0_ageAt_18 : y_w M_X0_ageAt mc ms Q (18, lv, st, ω, c, s) = y_ldI lv 1 (fun v => y_w M_X0_ageAt mc ms Q (19, lv, v :: st, ω, c, s)) := w_iload_n dX0_ageAt_18 rfl rfl
theorem wX0_ageAt_19 : y_w M_X0_ageAt mc ms Q (19, lv, .int j :: .ref a :: r, ω, c, s) = y_rI (ω.2 a) j (fun x => y_w M_X0_ageAt mc ms Q (20, lv, .int x :: r, ω, c, s)) := w_iaload dX0_ageAt_19 rfl
theorem wX0_ageAt_20 : y_w M_X0_ageAt mc ms Q (20, lv, .int y :: .int x :: r, ω, c, s) = y_w M_X0_ageAt mc ms Q (21, lv, .int (x - y) :: r, ω, c, s) := w_isub dX0_ageAt_20 rfl
theorem wX0_ageAt_21 : y_w M_X0_ageAt mc ms Q (21, lv, [.int x], ω, c, s) = Q (.returned (some (.int x))) ω c s := w_ireturnI dX0_ageAt_21 rfl
def P_X0_gainsAt : y_Pool := ([(39, 0, 4, (.object "YoungerBack$League"), true), (182, 1, 9, (.array .int), true)], [], [(260, .long (lN 40))], [(79, 0, 0, 3, (1, 25), F_X0_isIn)], [], [], [])
def M_X0_gainsAt : y_Md := (cX0_gainsAt, "YoungerBack", (6, (some FieldType.long)), (1, 25), false, P_X0_gainsAt, [])
def F_X0_gainsAt : y_Tr := y_F M_X0_gainsAt
theorem nX0_gainsAt : y_nL M_X0_gainsAt = 6 := rfl
theorem fX0_gainsAt_39_0 : y_ffP P_X0_gainsAt 39 0 = some (4, (.object "YoungerBack$League"), true) := rfl
theorem fX0_gainsAt_182_1 : y_ffP P_X0_gainsAt 182 1 = some (9, (.array .int), true) := rfl
theorem wX0_gainsAt_0 : y_w M_X0_gainsAt mc ms Q (0, lv, st, ω, c, s) = y_ldI lv 4 (fun v => y_w M_X0_gainsAt mc ms Q (2, lv, v :: st, ω, c, s)) := w_iload dX0_gainsAt_0 rfl
theorem wX0_gainsAt_2 : y_w M_X0_gainsAt mc ms Q (2, lv, st, ω, c, s) = y_ldA lv 0 (fun v => y_w M_X0_gainsAt mc ms Q (3, lv, v :: st, ω, c, s)) := w_aload_n dX0_gainsAt_2 rfl rfl
theorem wX0_gainsAt_3 : y_w M_X0_gainsAt mc ms Q (3, lv, .ref a :: r, ω, c, s) = y_gf P_X0_gainsAt 39 (ω.2 a) (fun v => y_w M_X0_gainsAt mc ms Q (6, lv, v :: r, ω, c, s)) := w_getfield dX0_gainsAt_3 rfl rfl
theorem wX0_gainsAt_6 : y_w M_X0_gainsAt mc ms Q (6, lv, .ref a :: r, ω, c, s) = y_gf P_X0_gainsAt 182 (ω.2 a) (fun v => y_w M_X0_gainsAt mc ms Q (9, lv, v :: r, ω, c, s)) := w_getfield dX0_gainsAt_6 rfl rfl
theorem wX0_gainsAt_9 : y_w M_X0_gainsAt mc ms Q (9, lv, st, ω, c, s) = y_ldI lv 2 (fun v => y_w M_X0_gainsAt mc ms Q (10, lv, v :: st, ω, c, s)) := w_iload_n dX0_gainsAt_9 rfl rfl
theorem wX0_gainsAt_10 : y_w M_X0_gainsAt mc ms Q (10, lv, .int j :: .ref a :: r, ω, c, s) = y_rI (ω.2 a) j (fun x => y_w M_X0_gainsAt mc ms Q (11, lv, .int x :: r, ω, c, s)) := w_iaload dX0_gainsAt_10 rfl
theorem wX0_gainsAt_11 : y_w M_X0_gainsAt mc ms Q (11, lv, .int y :: .int x :: r, ω, c, s) = y_w M_X0_gainsAt mc ms Q (12, lv, .int (x - y) :: r, ω, c, s) := w_isub dX0_gainsAt_11 rfl
theorem wX0_gainsAt_12 : y_w M_X0_gainsAt mc ms Q (12, lv, .int x :: r, ω, c, s) = y_w M_X0_gainsAt mc ms Q (14, (5, .int x) :: y_kill 5 lv, r, ω, c, s) := w_istore dX0_gainsAt_12 (y_dle rfl) rfl
theorem wX0_gainsAt_14 : y_w M_X0_gainsAt mc ms Q (14, lv, st, ω, c, s) = y_ldI lv 5 (fun v => y_w M_X0_gainsAt mc ms Q (16, lv, v :: st, ω, c, s)) := w_iload dX0_gainsAt_14 rfl
theorem wX0_gainsAt_16 : y_w M_X0_gainsAt mc ms Q (16, lv, .int x :: r, ω, c, s) = y_w M_X0_gainsAt mc ms Q (17, lv, .long x.toInt64 :: r, ω, c, s) := w_i2l dX0_gainsAt_16 rfl
theorem wX0_gainsAt_17 : y_w M_X0_gainsAt mc ms Q (17, lv, st, ω, c, s) = y_w M_X0_gainsAt mc ms Q (18, lv, .long 0 :: st, ω, c, s) := w_lconst dX0_gainsAt_17 (v := 0) (by decide) rfl
theorem wX0_gainsAt_18 : y_w M_X0_gainsAt mc ms Q (18, lv, st, ω, c, s) = y_w M_X0_gainsAt mc ms Q (21, lv, .long (lN 40) :: st, ω, c, s) := w_ldc2_w dX0_gainsAt_18 rfl rfl rfl
theorem wX0_gainsAt_21 : y_w M_X0_gainsAt mc ms Q (21, lv, v2 :: v1 :: v0 :: r, ω, c, s) = (y_cat r ≤ 8 ∧ F_X0_isIn mc ms [v0, v1, v2] ω c s (y_aft M_X0_gainsAt 21 3 lv r (y_w M_X0_gainsAt mc ms Q) Q)) := w_call0 (av := [v0, v1, v2]) ⟨Or.inr ⟨rfl, rfl⟩, rfl⟩ dX0_gainsAt_21 rfl (y_F_mono _) (y_dle rfl) (y_dle rfl) rfl rfl
theorem wX0_gainsAt_24 : y_w M_X0_gainsAt mc ms Q (24, lv, .int x :: r, ω, c, s) = ((x = 0 → y_w M_X0_gainsAt mc ms Q (38, lv, r, ω, c, s)) ∧ (¬ (x = 0) → y_w M_X0_gainsAt mc ms Q (27, lv, r, ω, c, s))) := w_if dX0_gainsAt_24 (tgt := 38) rfl rfl rfl
theorem wX0_gainsAt_27 : y_w M_X0_gainsAt mc ms Q (27, lv, st, ω, c, s) = y_ldA lv 1 (fun v => y_w M_X0_gainsAt mc ms Q (28, lv, v :: st, ω, c, s)) := w_aload_n dX0_gainsAt_27 rfl rfl
theorem wX0_gainsAt_28 : y_w M_X0_gainsAt mc ms Q (28, lv, st, ω, c, s) = y_w M_X0_gainsAt mc ms Q (29, lv, .int (nI 5) :: st, ω, c, s) := w_iconst dX0_gainsAt_28 (v := (nI 5)) (by decide) rfl
theorem wX0_gainsAt_29 : y_w M_X0_gainsAt mc ms Q (29, lv, st, ω, c, s) = y_ldI lv 5 (fun v => y_w M_X0_gainsAt mc ms Q (31, lv, v :: st, ω, c, s)) := w_iload dX0_gainsAt_29 rfl
theorem wX0_gainsAt_31 : y_w M_X0_gainsAt mc ms Q (31, lv, .int y :: .int x :: r, ω, c, s) = y_w M_X0_gainsAt mc ms Q (32, lv, .int (x * y) :: r, ω, c, s) := w_imul dX0_gainsAt_31 rfl
theorem wX0_gainsAt_32 : y_w M_X0_gainsAt mc ms Q (32, lv, st, ω, c, s) = y_ldI lv 3 (fun v => y_w M_X0_gainsAt mc ms Q (33, lv, v :: st, ω, c, s)) := w_iload_n dX0_gainsAt_32 rfl rfl
theorem wX0_gainsAt_33 : y_w M_X0_gainsAt mc ms Q (33, lv, .int y :: .int x :: r, ω, c, s) = y_w M_X0_gainsAt mc ms Q (34, lv, .int (x + y) :: r, ω, c, s) := w_iadd dX0_gainsAt_33 rfl
theorem wX0_gainsAt_34 : y_w M_X0_gainsAt mc ms Q (34, lv, .int j :: .ref a :: r, ω, c, s) = y_rL (ω.2 a) j (fun x => y_w M_X0_gainsAt mc ms Q (35, lv, .long x :: r, ω, c, s)) := w_laload dX0_gainsAt_34 rfl
theorem wX0_gainsAt_35 : y_w M_X0_gainsAt mc ms Q (35, lv, st, ω, c, s) = y_w M_X0_gainsAt mc ms Q (39, lv, st, ω, c, s) := w_goto dX0_gainsAt_35 (tgt := 39) (by decide) rfl
theorem wX0_gainsAt_38 : y_w M_X0_gainsAt mc ms Q (38, lv, st, ω, c, s) = y_w M_X0_gainsAt mc ms Q (39, lv, .long 0 :: st, ω, c, s) := w_lconst dX0_gainsAt_38 (v := 0) (by decide) rfl
theorem wX0_gainsAt_39 : y_w M_X0_gainsAt mc ms Q (39, lv, [.long z], ω, c, s) = Q (.returned (some (.long z))) ω c s := w_lreturn dX0_gainsAt_39 rfl
def P_X0_even : y_Pool := ([(57, 0, 10, (.array .long), true), (61, 0, 11, (.array .long), true), (39, 0, 4, (.object "YoungerBack$League"), true), (182, 1, 9, (.array .int), true)], [], [(93, .int (-1000001)), (295, .long (-40)), (260, .long (lN 40)), (181, .int (-1000000))], [(219, 1, 0, 3, (4, 83), F_X0_areTwo), (257, 1, 0, 2, (2, 46), F_X0_isHarbour), (262, 1, 0, 3, (5, 116), F_X0_lay), (284, 0, 0, 2, (1, 21), F_J13_max), (289, 0, 0, 2, (1, 21), F_J13_min), (292, 1, 0, 3, (1, 22), F_X0_ageAt), (79, 0, 0, 3, (1, 25), F_X0_isIn), (297, 1, 0, 5, (2, 50), F_X0_gainsAt)], [], [], [])
def M_X0_even : y_Md := (cX0_even, "YoungerBack", (10, (some FieldType.int)), (5, 116), false, P_X0_even, [])
def F_X0_even : y_Tr := y_F M_X0_even
theorem nX0_even : y_nL M_X0_even = 10 := rfl
theorem fX0_even_57_0 : y_ffP P_X0_even 57 0 = some (10, (.array .long), true) := rfl
theorem fX0_even_61_0 : y_ffP P_X0_even 61 0 = some (11, (.array .long), true) := rfl
theorem fX0_even_39_0 : y_ffP P_X0_even 39 0 = some (4, (.object "YoungerBack$League"), true) := rfl
theorem fX0_even_182_1 : y_ffP P_X0_even 182 1 = some (9, (.array .int), true) := rfl
theorem wX0_even_0 : y_w M_X0_even mc ms Q (0, lv, st, ω, c, s) = y_ldA lv 0 (fun v => y_w M_X0_even mc ms Q (1, lv, v :: st, ω, c, s)) := w_aload_n dX0_even_0 rfl rfl
theorem wX0_even_1 : y_w M_X0_even mc ms Q (1, lv, st, ω, c, s) = y_ldI lv 1 (fun v => y_w M_X0_even mc ms Q (2, lv, v :: st, ω, c, s)) := w_iload_n dX0_even_1 rfl rfl
theorem wX0_even_2 : y_w M_X0_even mc ms Q (2, lv, st, ω, c, s) = y_ldI lv 2 (fun v => y_w M_X0_even mc ms Q (3, lv, v :: st, ω, c, s)) := w_iload_n dX0_even_2 rfl rfl
theorem wX0_even_3 (hc : y_cls ω a = some 0) : y_w M_X0_even mc ms Q (3, lv, v2 :: v1 :: .ref a :: r, ω, c, s) = (y_cat r ≤ 8 ∧ F_X0_areTwo mc ms [.ref a, v1, v2] ω c s (y_aft M_X0_even 3 3 lv r (y_w M_X0_even mc ms Q) Q)) := w_call1 (av := [v1, v2]) (Or.inl ⟨⟨rfl, rfl⟩, rfl⟩) dX0_even_3 rfl hc rfl (y_F_mono _) (y_dle rfl) (y_dle rfl) rfl rfl
theorem wX0_even_6 : y_w M_X0_even mc ms Q (6, lv, .int x :: r, ω, c, s) = ((x = 0 → y_w M_X0_even mc ms Q (17, lv, r, ω, c, s)) ∧ (¬ (x = 0) → y_w M_X0_even mc ms Q (9, lv, r, ω, c, s))) := w_if dX0_even_6 (tgt := 17) rfl rfl rfl
theorem wX0_even_9 : y_w M_X0_even mc ms Q (9, lv, st, ω, c, s) = y_ldA lv 0 (fun v => y_w M_X0_even mc ms Q (10, lv, v :: st, ω, c, s)) := w_aload_n dX0_even_9 rfl rfl
theorem wX0_even_10 : y_w M_X0_even mc ms Q (10, lv, st, ω, c, s) = y_ldI lv 3 (fun v => y_w M_X0_even mc ms Q (11, lv, v :: st, ω, c, s)) := w_iload_n dX0_even_10 rfl rfl
theorem wX0_even_11 (hc : y_cls ω a = some 0) : y_w M_X0_even mc ms Q (11, lv, v1 :: .ref a :: r, ω, c, s) = (y_cat r ≤ 8 ∧ F_X0_isHarbour mc ms [.ref a, v1] ω c s (y_aft M_X0_even 11 3 lv r (y_w M_X0_even mc ms Q) Q)) := w_call1 (av := [v1]) (Or.inl ⟨⟨rfl, rfl⟩, rfl⟩) dX0_even_11 rfl hc rfl (y_F_mono _) (y_dle rfl) (y_dle rfl) rfl rfl
theorem wX0_even_14 : y_w M_X0_even mc ms Q (14, lv, .int x :: r, ω, c, s) = ((¬ x = 0 → y_w M_X0_even mc ms Q (20, lv, r, ω, c, s)) ∧ (¬ (¬ x = 0) → y_w M_X0_even mc ms Q (17, lv, r, ω, c, s))) := w_if dX0_even_14 (tgt := 20) rfl rfl rfl
theorem wX0_even_17 : y_w M_X0_even mc ms Q (17, lv, st, ω, c, s) = y_w M_X0_even mc ms Q (19, lv, .int (-1000001) :: st, ω, c, s) := w_ldc dX0_even_17 rfl rfl rfl
theorem wX0_even_19 : y_w M_X0_even mc ms Q (19, lv, [.int x], ω, c, s) = Q (.returned (some (.int x))) ω c s := w_ireturnI dX0_even_19 rfl
theorem wX0_even_20 : y_w M_X0_even mc ms Q (20, lv, st, ω, c, s) = y_ldA lv 0 (fun v => y_w M_X0_even mc ms Q (21, lv, v :: st, ω, c, s)) := w_aload_n dX0_even_20 rfl rfl
theorem wX0_even_21 : y_w M_X0_even mc ms Q (21, lv, st, ω, c, s) = y_ldI lv 1 (fun v => y_w M_X0_even mc ms Q (22, lv, v :: st, ω, c, s)) := w_iload_n dX0_even_21 rfl rfl
theorem wX0_even_22 : y_w M_X0_even mc ms Q (22, lv, st, ω, c, s) = y_ldA lv 0 (fun v => y_w M_X0_even mc ms Q (23, lv, v :: st, ω, c, s)) := w_aload_n dX0_even_22 rfl rfl
theorem wX0_even_23 : y_w M_X0_even mc ms Q (23, lv, .ref a :: r, ω, c, s) = y_gf P_X0_even 57 (ω.2 a) (fun v => y_w M_X0_even mc ms Q (26, lv, v :: r, ω, c, s)) := w_getfield dX0_even_23 rfl rfl
theorem wX0_even_26 (hc : y_cls ω a = some 0) : y_w M_X0_even mc ms Q (26, lv, v2 :: v1 :: .ref a :: r, ω, c, s) = (y_cat r ≤ 8 ∧ F_X0_lay mc ms [.ref a, v1, v2] ω c s (y_aft M_X0_even 26 3 lv r (y_w M_X0_even mc ms Q) Q)) := w_call1 (av := [v1, v2]) (Or.inl ⟨⟨rfl, rfl⟩, rfl⟩) dX0_even_26 rfl hc rfl (y_F_mono _) (y_dle rfl) (y_dle rfl) rfl rfl
theorem wX0_even_29 : y_w M_X0_even mc ms Q (29, lv, st, ω, c, s) = y_ldA lv 0 (fun v => y_w M_X0_even mc ms Q (30, lv, v :: st, ω, c, s)) := w_aload_n dX0_even_29 rfl rfl
theorem wX0_even_30 : y_w M_X0_even mc ms Q (30, lv, st, ω, c, s) = y_ldI lv 2 (fun v => y_w M_X0_even mc ms Q (31, lv, v :: st, ω, c, s)) := w_iload_n dX0_even_30 rfl rfl
theorem wX0_even_31 : y_w M_X0_even mc ms Q (31, lv, st, ω, c, s) = y_ldA lv 0 (fun v => y_w M_X0_even mc ms Q (32, lv, v :: st, ω, c, s)) := w_aload_n dX0_even_31 rfl rfl
theorem wX0_even_32 : y_w M_X0_even mc ms Q (32, lv, .ref a :: r, ω, c, s) = y_gf P_X0_even 61 (ω.2 a) (fun v => y_w M_X0_even mc ms Q (35, lv, v :: r, ω, c, s)) := w_getfield dX0_even_32 rfl rfl
theorem wX0_even_35 (hc : y_cls ω a = some 0) : y_w M_X0_even mc ms Q (35, lv, v2 :: v1 :: .ref a :: r, ω, c, s) = (y_cat r ≤ 8 ∧ F_X0_lay mc ms [.ref a, v1, v2] ω c s (y_aft M_X0_even 35 3 lv r (y_w M_X0_even mc ms Q) Q)) := w_call1 (av := [v1, v2]) (Or.inl ⟨⟨rfl, rfl⟩, rfl⟩) dX0_even_35 rfl hc rfl (y_F_mono _) (y_dle rfl) (y_dle rfl) rfl rfl
theorem wX0_even_38 : y_w M_X0_even mc ms Q (38, lv, st, ω, c, s) = y_ldA lv 0 (fun v => y_w M_X0_even mc ms Q (39, lv, v :: st, ω, c, s)) := w_aload_n dX0_even_38 rfl rfl
theorem wX0_even_39 : y_w M_X0_even mc ms Q (39, lv, .ref a :: r, ω, c, s) = y_gf P_X0_even 39 (ω.2 a) (fun v => y_w M_X0_even mc ms Q (42, lv, v :: r, ω, c, s)) := w_getfield dX0_even_39 rfl rfl
theorem wX0_even_42 : y_w M_X0_even mc ms Q (42, lv, .ref a :: r, ω, c, s) = y_gf P_X0_even 182 (ω.2 a) (fun v => y_w M_X0_even mc ms Q (45, lv, v :: r, ω, c, s)) := w_getfield dX0_even_42 rfl rfl
theorem wX0_even_45 : y_w M_X0_even mc ms Q (45, lv, st, ω, c, s) = y_ldI lv 1 (fun v => y_w M_X0_even mc ms Q (46, lv, v :: st, ω, c, s)) := w_iload_n dX0_even_45 rfl rfl
theorem wX0_even_46 : y_w M_X0_even mc ms Q (46, lv, .int j :: .ref a :: r, ω, c, s) = y_rI (ω.2 a) j (fun x => y_w M_X0_even mc ms Q (47, lv, .int x :: r, ω, c, s)) := w_iaload dX0_even_46 rfl
theorem wX0_even_47 : y_w M_X0_even mc ms Q (47, lv, st, ω, c, s) = y_ldA lv 0 (fun v => y_w M_X0_even mc ms Q (48, lv, v :: st, ω, c, s)) := w_aload_n dX0_even_47 rfl rfl
theorem wX0_even_48 : y_w M_X0_even mc ms Q (48, lv, .ref a :: r, ω, c, s) = y_gf P_X0_even 39 (ω.2 a) (fun v => y_w M_X0_even mc ms Q (51, lv, v :: r, ω, c, s)) := w_getfield dX0_even_48 rfl rfl
theorem wX0_even_51 : y_w M_X0_even mc ms Q (51, lv, .ref a :: r, ω, c, s) = y_gf P_X0_even 182 (ω.2 a) (fun v => y_w M_X0_even mc ms Q (54, lv, v :: r, ω, c, s)) := w_getfield dX0_even_51 rfl rfl
theorem wX0_even_54 : y_w M_X0_even mc ms Q (54, lv, st, ω, c, s) = y_ldI lv 2 (fun v => y_w M_X0_even mc ms Q (55, lv, v :: st, ω, c, s)) := w_iload_n dX0_even_54 rfl rfl
theorem wX0_even_55 : y_w M_X0_even mc ms Q (55, lv, .int j :: .ref a :: r, ω, c, s) = y_rI (ω.2 a) j (fun x => y_w M_X0_even mc ms Q (56, lv, .int x :: r, ω, c, s)) := w_iaload dX0_even_55 rfl
theorem wX0_even_56 : y_w M_X0_even mc ms Q (56, lv, v1 :: v0 :: r, ω, c, s) = (y_cat r ≤ 8 ∧ F_J13_max mc ms [v0, v1] ω c s (y_aft M_X0_even 56 3 lv r (y_w M_X0_even mc ms Q) Q)) := w_call0 (av := [v0, v1]) ⟨Or.inr ⟨rfl, rfl⟩, rfl⟩ dX0_even_56 rfl (y_F_mono _) (y_dle rfl) (y_dle rfl) rfl rfl
theorem wX0_even_59 : y_w M_X0_even mc ms Q (59, lv, .int x :: r, ω, c, s) = y_w M_X0_even mc ms Q (61, (4, .int x) :: y_kill 4 lv, r, ω, c, s) := w_istore dX0_even_59 (y_dle rfl) rfl
theorem wX0_even_61 : y_w M_X0_even mc ms Q (61, lv, st, ω, c, s) = y_ldI lv 4 (fun v => y_w M_X0_even mc ms Q (63, lv, v :: st, ω, c, s)) := w_iload dX0_even_61 rfl
theorem wX0_even_63 : y_w M_X0_even mc ms Q (63, lv, st, ω, c, s) = y_ldA lv 0 (fun v => y_w M_X0_even mc ms Q (64, lv, v :: st, ω, c, s)) := w_aload_n dX0_even_63 rfl rfl
theorem wX0_even_64 : y_w M_X0_even mc ms Q (64, lv, .ref a :: r, ω, c, s) = y_gf P_X0_even 39 (ω.2 a) (fun v => y_w M_X0_even mc ms Q (67, lv, v :: r, ω, c, s)) := w_getfield dX0_even_64 rfl rfl
theorem wX0_even_67 : y_w M_X0_even mc ms Q (67, lv, .ref a :: r, ω, c, s) = y_gf P_X0_even 182 (ω.2 a) (fun v => y_w M_X0_even mc ms Q (70, lv, v :: r, ω, c, s)) := w_getfield dX0_even_67 rfl rfl
theorem wX0_even_70 : y_w M_X0_even mc ms Q (70, lv, st, ω, c, s) = y_ldI lv 1 (fun v => y_w M_X0_even mc ms Q (71, lv, v :: st, ω, c, s)) := w_iload_n dX0_even_70 rfl rfl
theorem wX0_even_71 : y_w M_X0_even mc ms Q (71, lv, .int j :: .ref a :: r, ω, c, s) = y_rI (ω.2 a) j (fun x => y_w M_X0_even mc ms Q (72, lv, .int x :: r, ω, c, s)) := w_iaload dX0_even_71 rfl
theorem wX0_even_72 : y_w M_X0_even mc ms Q (72, lv, st, ω, c, s) = y_ldA lv 0 (fun v => y_w M_X0_even mc ms Q (73, lv, v :: st, ω, c, s)) := w_aload_n dX0_even_72 rfl rfl
theorem wX0_even_73 : y_w M_X0_even mc ms Q (73, lv, .ref a :: r, ω, c, s) = y_gf P_X0_even 39 (ω.2 a) (fun v => y_w M_X0_even mc ms Q (76, lv, v :: r, ω, c, s)) := w_getfield dX0_even_73 rfl rfl
theorem wX0_even_76 : y_w M_X0_even mc ms Q (76, lv, .ref a :: r, ω, c, s) = y_gf P_X0_even 182 (ω.2 a) (fun v => y_w M_X0_even mc ms Q (79, lv, v :: r, ω, c, s)) := w_getfield dX0_even_76 rfl rfl
theorem wX0_even_79 : y_w M_X0_even mc ms Q (79, lv, st, ω, c, s) = y_ldI lv 2 (fun v => y_w M_X0_even mc ms Q (80, lv, v :: st, ω, c, s)) := w_iload_n dX0_even_79 rfl rfl
theorem wX0_even_80 : y_w M_X0_even mc ms Q (80, lv, .int j :: .ref a :: r, ω, c, s) = y_rI (ω.2 a) j (fun x => y_w M_X0_even mc ms Q (81, lv, .int x :: r, ω, c, s)) := w_iaload dX0_even_80 rfl
theorem wX0_even_81 : y_w M_X0_even mc ms Q (81, lv, v1 :: v0 :: r, ω, c, s) = (y_cat r ≤ 8 ∧ F_J13_min mc ms [v0, v1] ω c s (y_aft M_X0_even 81 3 lv r (y_w M_X0_even mc ms Q) Q)) := w_call0 (av := [v0, v1]) ⟨Or.inr ⟨rfl, rfl⟩, rfl⟩ dX0_even_81 rfl (y_F_mono _) (y_dle rfl) (y_dle rfl) rfl rfl
theorem wX0_even_84 : y_w M_X0_even mc ms Q (84, lv, st, ω, c, s) = y_w M_X0_even mc ms Q (86, lv, .int (nI 40) :: st, ω, c, s) := w_bipush dX0_even_84 (v := (nI 40)) (by decide) rfl
theorem wX0_even_86 : y_w M_X0_even mc ms Q (86, lv, .int y :: .int x :: r, ω, c, s) = y_w M_X0_even mc ms Q (87, lv, .int (x + y) :: r, ω, c, s) := w_iadd dX0_even_86 rfl
theorem wX0_even_87 : y_w M_X0_even mc ms Q (87, lv, .int y :: .int x :: r, ω, c, s) = ((y < x → y_w M_X0_even mc ms Q (199, lv, r, ω, c, s)) ∧ (¬ (y < x) → y_w M_X0_even mc ms Q (90, lv, r, ω, c, s))) := w_icmp dX0_even_87 (tgt := 199) rfl rfl rfl
theorem wX0_even_90 : y_w M_X0_even mc ms Q (90, lv, st, ω, c, s) = y_ldA lv 0 (fun v => y_w M_X0_even mc ms Q (91, lv, v :: st, ω, c, s)) := w_aload_n dX0_even_90 rfl rfl
theorem wX0_even_91 : y_w M_X0_even mc ms Q (91, lv, st, ω, c, s) = y_ldI lv 1 (fun v => y_w M_X0_even mc ms Q (92, lv, v :: st, ω, c, s)) := w_iload_n dX0_even_91 rfl rfl
theorem wX0_even_92 : y_w M_X0_even mc ms Q (92, lv, st, ω, c, s) = y_ldI lv 4 (fun v => y_w M_X0_even mc ms Q (94, lv, v :: st, ω, c, s)) := w_iload dX0_even_92 rfl
theorem wX0_even_94 (hc : y_cls ω a = some 0) : y_w M_X0_even mc ms Q (94, lv, v2 :: v1 :: .ref a :: r, ω, c, s) = (y_cat r ≤ 8 ∧ F_X0_ageAt mc ms [.ref a, v1, v2] ω c s (y_aft M_X0_even 94 3 lv r (y_w M_X0_even mc ms Q) Q)) := w_call1 (av := [v1, v2]) (Or.inl ⟨⟨rfl, rfl⟩, rfl⟩) dX0_even_94 rfl hc rfl (y_F_mono _) (y_dle rfl) (y_dle rfl) rfl rfl
theorem wX0_even_97 : y_w M_X0_even mc ms Q (97, lv, st, ω, c, s) = y_ldA lv 0 (fun v => y_w M_X0_even mc ms Q (98, lv, v :: st, ω, c, s)) := w_aload_n dX0_even_97 rfl rfl
theorem wX0_even_98 : y_w M_X0_even mc ms Q (98, lv, st, ω, c, s) = y_ldI lv 2 (fun v => y_w M_X0_even mc ms Q (99, lv, v :: st, ω, c, s)) := w_iload_n dX0_even_98 rfl rfl
theorem wX0_even_99 : y_w M_X0_even mc ms Q (99, lv, st, ω, c, s) = y_ldI lv 4 (fun v => y_w M_X0_even mc ms Q (101, lv, v :: st, ω, c, s)) := w_iload dX0_even_99 rfl
theorem wX0_even_101 (hc : y_cls ω a = some 0) : y_w M_X0_even mc ms Q (101, lv, v2 :: v1 :: .ref a :: r, ω, c, s) = (y_cat r ≤ 8 ∧ F_X0_ageAt mc ms [.ref a, v1, v2] ω c s (y_aft M_X0_even 101 3 lv r (y_w M_X0_even mc ms Q) Q)) := w_call1 (av := [v1, v2]) (Or.inl ⟨⟨rfl, rfl⟩, rfl⟩) dX0_even_101 rfl hc rfl (y_F_mono _) (y_dle rfl) (y_dle rfl) rfl rfl
theorem wX0_even_104 : y_w M_X0_even mc ms Q (104, lv, .int y :: .int x :: r, ω, c, s) = y_w M_X0_even mc ms Q (105, lv, .int (x - y) :: r, ω, c, s) := w_isub dX0_even_104 rfl
theorem wX0_even_105 : y_w M_X0_even mc ms Q (105, lv, .int x :: r, ω, c, s) = y_w M_X0_even mc ms Q (107, (5, .int x) :: y_kill 5 lv, r, ω, c, s) := w_istore dX0_even_105 (y_dle rfl) rfl
theorem wX0_even_107 : y_w M_X0_even mc ms Q (107, lv, st, ω, c, s) = y_ldI lv 5 (fun v => y_w M_X0_even mc ms Q (109, lv, v :: st, ω, c, s)) := w_iload dX0_even_107 rfl
theorem wX0_even_109 : y_w M_X0_even mc ms Q (109, lv, .int x :: r, ω, c, s) = y_w M_X0_even mc ms Q (110, lv, .long x.toInt64 :: r, ω, c, s) := w_i2l dX0_even_109 rfl
theorem wX0_even_110 : y_w M_X0_even mc ms Q (110, lv, st, ω, c, s) = y_w M_X0_even mc ms Q (113, lv, .long (-40) :: st, ω, c, s) := w_ldc2_w dX0_even_110 rfl rfl rfl
theorem wX0_even_113 : y_w M_X0_even mc ms Q (113, lv, st, ω, c, s) = y_w M_X0_even mc ms Q (116, lv, .long (lN 40) :: st, ω, c, s) := w_ldc2_w dX0_even_113 rfl rfl rfl
theorem wX0_even_116 : y_w M_X0_even mc ms Q (116, lv, v2 :: v1 :: v0 :: r, ω, c, s) = (y_cat r ≤ 8 ∧ F_X0_isIn mc ms [v0, v1, v2] ω c s (y_aft M_X0_even 116 3 lv r (y_w M_X0_even mc ms Q) Q)) := w_call0 (av := [v0, v1, v2]) ⟨Or.inr ⟨rfl, rfl⟩, rfl⟩ dX0_even_116 rfl (y_F_mono _) (y_dle rfl) (y_dle rfl) rfl rfl
theorem wX0_even_119 : y_w M_X0_even mc ms Q (119, lv, .int x :: r, ω, c, s) = ((¬ x = 0 → y_w M_X0_even mc ms Q (125, lv, r, ω, c, s)) ∧ (¬ (¬ x = 0) → y_w M_X0_even mc ms Q (122, lv, r, ω, c, s))) := w_if dX0_even_119 (tgt := 125) rfl rfl rfl
theorem wX0_even_122 : y_w M_X0_even mc ms Q (122, lv, st, ω, c, s) = y_w M_X0_even mc ms Q (193, lv, st, ω, c, s) := w_goto dX0_even_122 (tgt := 193) (by decide) rfl
theorem wX0_even_125 : y_w M_X0_even mc ms Q (125, lv, st, ω, c, s) = y_ldA lv 0 (fun v => y_w M_X0_even mc ms Q (126, lv, v :: st, ω, c, s)) := w_aload_n dX0_even_125 rfl rfl
theorem wX0_even_126 : y_w M_X0_even mc ms Q (126, lv, st, ω, c, s) = y_ldA lv 0 (fun v => y_w M_X0_even mc ms Q (127, lv, v :: st, ω, c, s)) := w_aload_n dX0_even_126 rfl rfl
theorem wX0_even_127 : y_w M_X0_even mc ms Q (127, lv, .ref a :: r, ω, c, s) = y_gf P_X0_even 57 (ω.2 a) (fun v => y_w M_X0_even mc ms Q (130, lv, v :: r, ω, c, s)) := w_getfield dX0_even_127 rfl rfl
theorem wX0_even_130 : y_w M_X0_even mc ms Q (130, lv, st, ω, c, s) = y_ldI lv 1 (fun v => y_w M_X0_even mc ms Q (131, lv, v :: st, ω, c, s)) := w_iload_n dX0_even_130 rfl rfl
theorem wX0_even_131 : y_w M_X0_even mc ms Q (131, lv, st, ω, c, s) = y_ldI lv 3 (fun v => y_w M_X0_even mc ms Q (132, lv, v :: st, ω, c, s)) := w_iload_n dX0_even_131 rfl rfl
theorem wX0_even_132 : y_w M_X0_even mc ms Q (132, lv, st, ω, c, s) = y_ldI lv 4 (fun v => y_w M_X0_even mc ms Q (134, lv, v :: st, ω, c, s)) := w_iload dX0_even_132 rfl
theorem wX0_even_134 (hc : y_cls ω a = some 0) : y_w M_X0_even mc ms Q (134, lv, v4 :: v3 :: v2 :: v1 :: .ref a :: r, ω, c, s) = (y_cat r ≤ 8 ∧ F_X0_gainsAt mc ms [.ref a, v1, v2, v3, v4] ω c s (y_aft M_X0_even 134 3 lv r (y_w M_X0_even mc ms Q) Q)) := w_call1 (av := [v1, v2, v3, v4]) (Or.inl ⟨⟨rfl, rfl⟩, rfl⟩) dX0_even_134 rfl hc rfl (y_F_mono _) (y_dle rfl) (y_dle rfl) rfl rfl
theorem wX0_even_137 : y_w M_X0_even mc ms Q (137, lv, .long z :: r, ω, c, s) = y_w M_X0_even mc ms Q (139, (6, .long z) :: y_kill2 6 lv, r, ω, c, s) := w_lstore dX0_even_137 (y_dle rfl) rfl
theorem wX0_even_139 : y_w M_X0_even mc ms Q (139, lv, st, ω, c, s) = y_ldA lv 0 (fun v => y_w M_X0_even mc ms Q (140, lv, v :: st, ω, c, s)) := w_aload_n dX0_even_139 rfl rfl
theorem wX0_even_140 : y_w M_X0_even mc ms Q (140, lv, st, ω, c, s) = y_ldA lv 0 (fun v => y_w M_X0_even mc ms Q (141, lv, v :: st, ω, c, s)) := w_aload_n dX0_even_140 rfl rfl
theorem wX0_even_141 : y_w M_X0_even mc ms Q (141, lv, .ref a :: r, ω, c, s) = y_gf P_X0_even 61 (ω.2 a) (fun v => y_w M_X0_even mc ms Q (144, lv, v :: r, ω, c, s)) := w_getfield dX0_even_141 rfl rfl
theorem wX0_even_144 : y_w M_X0_even mc ms Q (144, lv, st, ω, c, s) = y_ldI lv 2 (fun v => y_w M_X0_even mc ms Q (145, lv, v :: st, ω, c, s)) := w_iload_n dX0_even_144 rfl rfl
theorem wX0_even_145 : y_w M_X0_even mc ms Q (145, lv, st, ω, c, s) = y_ldI lv 3 (fun v => y_w M_X0_even mc ms Q (146, lv, v :: st, ω, c, s)) := w_iload_n dX0_even_145 rfl rfl
theorem wX0_even_146 : y_w M_X0_even mc ms Q (146, lv, st, ω, c, s) = y_ldI lv 4 (fun v => y_w M_X0_even mc ms Q (148, lv, v :: st, ω, c, s)) := w_iload dX0_even_146 rfl
theorem wX0_even_148 (hc : y_cls ω a = some 0) : y_w M_X0_even mc ms Q (148, lv, v4 :: v3 :: v2 :: v1 :: .ref a :: r, ω, c, s) = (y_cat r ≤ 8 ∧ F_X0_gainsAt mc ms [.ref a, v1, v2, v3, v4] ω c s (y_aft M_X0_even 148 3 lv r (y_w M_X0_even mc ms Q) Q)) := w_call1 (av := [v1, v2, v3, v4]) (Or.inl ⟨⟨rfl, rfl⟩, rfl⟩) dX0_even_148 rfl hc rfl (y_F_mono _) (y_dle rfl) (y_dle rfl) rfl rfl
theorem wX0_even_151 : y_w M_X0_even mc ms Q (151, lv, .long z :: r, ω, c, s) = y_w M_X0_even mc ms Q (153, (8, .long z) :: y_kill2 8 lv, r, ω, c, s) := w_lstore dX0_even_151 (y_dle rfl) rfl
theorem wX0_even_153 : y_w M_X0_even mc ms Q (153, lv, st, ω, c, s) = y_ldI lv 5 (fun v => y_w M_X0_even mc ms Q (155, lv, v :: st, ω, c, s)) := w_iload dX0_even_153 rfl
theorem wX0_even_155 : y_w M_X0_even mc ms Q (155, lv, .int x :: r, ω, c, s) = ((x < 0 → y_w M_X0_even mc ms Q (166, lv, r, ω, c, s)) ∧ (¬ (x < 0) → y_w M_X0_even mc ms Q (158, lv, r, ω, c, s))) := w_if dX0_even_155 (tgt := 166) rfl rfl rfl
theorem wX0_even_158 : y_w M_X0_even mc ms Q (158, lv, st, ω, c, s) = y_ldL lv 6 (fun v => y_w M_X0_even mc ms Q (160, lv, v :: st, ω, c, s)) := w_lload dX0_even_158 rfl
theorem wX0_even_160 : y_w M_X0_even mc ms Q (160, lv, st, ω, c, s) = y_ldI lv 5 (fun v => y_w M_X0_even mc ms Q (162, lv, v :: st, ω, c, s)) := w_iload dX0_even_160 rfl
theorem wX0_even_162 : y_w M_X0_even mc ms Q (162, lv, .int y :: .long z :: r, ω, c, s) = y_w M_X0_even mc ms Q (163, lv, .long (z >>> (y.toInt64 &&& 63)) :: r, ω, c, s) := w_lshr dX0_even_162 rfl
theorem wX0_even_163 : y_w M_X0_even mc ms Q (163, lv, st, ω, c, s) = y_w M_X0_even mc ms Q (168, lv, st, ω, c, s) := w_goto dX0_even_163 (tgt := 168) (by decide) rfl
theorem wX0_even_166 : y_w M_X0_even mc ms Q (166, lv, st, ω, c, s) = y_ldL lv 6 (fun v => y_w M_X0_even mc ms Q (168, lv, v :: st, ω, c, s)) := w_lload dX0_even_166 rfl
theorem wX0_even_168 : y_w M_X0_even mc ms Q (168, lv, st, ω, c, s) = y_ldI lv 5 (fun v => y_w M_X0_even mc ms Q (170, lv, v :: st, ω, c, s)) := w_iload dX0_even_168 rfl
theorem wX0_even_170 : y_w M_X0_even mc ms Q (170, lv, .int x :: r, ω, c, s) = ((0 ≤ x → y_w M_X0_even mc ms Q (182, lv, r, ω, c, s)) ∧ (¬ (0 ≤ x) → y_w M_X0_even mc ms Q (173, lv, r, ω, c, s))) := w_if dX0_even_170 (tgt := 182) rfl rfl rfl
theorem wX0_even_173 : y_w M_X0_even mc ms Q (173, lv, st, ω, c, s) = y_ldL lv 8 (fun v => y_w M_X0_even mc ms Q (175, lv, v :: st, ω, c, s)) := w_lload dX0_even_173 rfl
theorem wX0_even_175 : y_w M_X0_even mc ms Q (175, lv, st, ω, c, s) = y_ldI lv 5 (fun v => y_w M_X0_even mc ms Q (177, lv, v :: st, ω, c, s)) := w_iload dX0_even_175 rfl
theorem wX0_even_177 : y_w M_X0_even mc ms Q (177, lv, .int x :: r, ω, c, s) = y_w M_X0_even mc ms Q (178, lv, .int (-x) :: r, ω, c, s) := w_ineg dX0_even_177 rfl
theorem wX0_even_178 : y_w M_X0_even mc ms Q (178, lv, .int y :: .long z :: r, ω, c, s) = y_w M_X0_even mc ms Q (179, lv, .long (z >>> (y.toInt64 &&& 63)) :: r, ω, c, s) := w_lshr dX0_even_178 rfl
theorem wX0_even_179 : y_w M_X0_even mc ms Q (179, lv, st, ω, c, s) = y_w M_X0_even mc ms Q (184, lv, st, ω, c, s) := w_goto dX0_even_179 (tgt := 184) (by decide) rfl
theorem wX0_even_182 : y_w M_X0_even mc ms Q (182, lv, st, ω, c, s) = y_ldL lv 8 (fun v => y_w M_X0_even mc ms Q (184, lv, v :: st, ω, c, s)) := w_lload dX0_even_182 rfl
theorem wX0_even_184 : y_w M_X0_even mc ms Q (184, lv, .long w :: .long z :: r, ω, c, s) = y_w M_X0_even mc ms Q (185, lv, .long (z &&& w) :: r, ω, c, s) := w_land dX0_even_184 rfl
theorem wX0_even_185 : y_w M_X0_even mc ms Q (185, lv, st, ω, c, s) = y_w M_X0_even mc ms Q (186, lv, .long 0 :: st, ω, c, s) := w_lconst dX0_even_185 (v := 0) (by decide) rfl
theorem wX0_even_186 : y_w M_X0_even mc ms Q (186, lv, .long w :: .long z :: r, ω, c, s) = y_w M_X0_even mc ms Q (187, lv, .int (lg_cmp z w) :: r, ω, c, s) := w_lcmp dX0_even_186 rfl
theorem wX0_even_187 : y_w M_X0_even mc ms Q (187, lv, .int x :: r, ω, c, s) = ((x = 0 → y_w M_X0_even mc ms Q (193, lv, r, ω, c, s)) ∧ (¬ (x = 0) → y_w M_X0_even mc ms Q (190, lv, r, ω, c, s))) := w_if dX0_even_187 (tgt := 193) rfl rfl rfl
theorem wX0_even_190 : y_w M_X0_even mc ms Q (190, lv, st, ω, c, s) = y_ldI lv 4 (fun v => y_w M_X0_even mc ms Q (192, lv, v :: st, ω, c, s)) := w_iload dX0_even_190 rfl
theorem wX0_even_192 : y_w M_X0_even mc ms Q (192, lv, [.int x], ω, c, s) = Q (.returned (some (.int x))) ω c s := w_ireturnI dX0_even_192 rfl
theorem wX0_even_193 : y_w M_X0_even mc ms Q (193, lv, st, ω, c, s) = y_inc lv 4 (fun x => y_w M_X0_even mc ms Q (196, (4, .int (x + 1)) :: y_kill 4 lv, st, ω, c, s)) := w_iinc dX0_even_193 (d := 1) (by decide) (y_dle rfl) rfl
theorem wX0_even_196 : y_w M_X0_even mc ms Q (196, lv, st, ω, c, s) = ∃ lv2, y_lsub lv2 lv ∧ y_w M_X0_even mc ms Q (61, lv2, st, ω, c, s) := w_back dX0_even_196 (tgt := 61) (by decide) rfl
theorem wX0_even_199 : y_w M_X0_even mc ms Q (199, lv, st, ω, c, s) = y_w M_X0_even mc ms Q (201, lv, .int (-1000000) :: st, ω, c, s) := w_ldc dX0_even_199 rfl rfl rfl
theorem wX0_even_201 : y_w M_X0_even mc ms Q (201, lv, [.int x], ω, c, s) = Q (.returned (some (.int x))) ω c s := w_ireturnI dX0_even_201 rfl
def P_X0_where : y_Pool := ([(57, 0, 10, (.array .long), true), (39, 0, 4, (.object "YoungerBack$League"), true), (165, 1, 0, .int, false)], [], [(301, .long (lN 200)), (303, .long (lN 399)), (93, .int (-1000001)), (260, .long (lN 40))], [(168, 1, 0, 2, (3, 61), F_X0_isPerson), (79, 0, 0, 3, (1, 25), F_X0_isIn), (262, 1, 0, 3, (5, 116), F_X0_lay), (292, 1, 0, 3, (1, 22), F_X0_ageAt), (297, 1, 0, 5, (2, 50), F_X0_gainsAt)], [], [], [])
def M_X0_where : y_Md := (cX0_where, "YoungerBack", (7, (some FieldType.int)), (5, 116), false, P_X0_where, [])
def F_X0_where : y_Tr := y_F M_X0_where
theorem nX0_where : y_nL M_X0_where = 7 := rfl
theorem fX0_where_57_0 : y_ffP P_X0_where 57 0 = some (10, (.array .long), true) := rfl
theorem fX0_where_39_0 : y_ffP P_X0_where 39 0 = some (4, (.object "YoungerBack$League"), true) := rfl
theorem fX0_where_165_1 : y_ffP P_X0_where 165 1 = some (0, .int, false) := rfl
theorem wX0_where_0 : y_w M_X0_where mc ms Q (0, lv, st, ω, c, s) = y_ldA lv 0 (fun v => y_w M_X0_where mc ms Q (1, lv, v :: st, ω, c, s)) := w_aload_n dX0_where_0 rfl rfl
theorem wX0_where_1 : y_w M_X0_where mc ms Q (1, lv, st, ω, c, s) = y_ldI lv 1 (fun v => y_w M_X0_where mc ms Q (2, lv, v :: st, ω, c, s)) := w_iload_n dX0_where_1 rfl rfl
theorem wX0_where_2 (hc : y_cls ω a = some 0) : y_w M_X0_where mc ms Q (2, lv, v1 :: .ref a :: r, ω, c, s) = (y_cat r ≤ 8 ∧ F_X0_isPerson mc ms [.ref a, v1] ω c s (y_aft M_X0_where 2 3 lv r (y_w M_X0_where mc ms Q) Q)) := w_call1 (av := [v1]) (Or.inl ⟨⟨rfl, rfl⟩, rfl⟩) dX0_where_2 rfl hc rfl (y_F_mono _) (y_dle rfl) (y_dle rfl) rfl rfl
theorem wX0_where_5 : y_w M_X0_where mc ms Q (5, lv, .int x :: r, ω, c, s) = ((x = 0 → y_w M_X0_where mc ms Q (32, lv, r, ω, c, s)) ∧ (¬ (x = 0) → y_w M_X0_where mc ms Q (8, lv, r, ω, c, s))) := w_if dX0_where_5 (tgt := 32) rfl rfl rfl
theorem wX0_where_8 : y_w M_X0_where mc ms Q (8, lv, st, ω, c, s) = y_ldI lv 2 (fun v => y_w M_X0_where mc ms Q (9, lv, v :: st, ω, c, s)) := w_iload_n dX0_where_8 rfl rfl
theorem wX0_where_9 : y_w M_X0_where mc ms Q (9, lv, .int x :: r, ω, c, s) = y_w M_X0_where mc ms Q (10, lv, .long x.toInt64 :: r, ω, c, s) := w_i2l dX0_where_9 rfl
theorem wX0_where_10 : y_w M_X0_where mc ms Q (10, lv, st, ω, c, s) = y_w M_X0_where mc ms Q (11, lv, .long 0 :: st, ω, c, s) := w_lconst dX0_where_10 (v := 0) (by decide) rfl
theorem wX0_where_11 : y_w M_X0_where mc ms Q (11, lv, st, ω, c, s) = y_w M_X0_where mc ms Q (14, lv, .long (lN 200) :: st, ω, c, s) := w_ldc2_w dX0_where_11 rfl rfl rfl
theorem wX0_where_14 : y_w M_X0_where mc ms Q (14, lv, v2 :: v1 :: v0 :: r, ω, c, s) = (y_cat r ≤ 8 ∧ F_X0_isIn mc ms [v0, v1, v2] ω c s (y_aft M_X0_where 14 3 lv r (y_w M_X0_where mc ms Q) Q)) := w_call0 (av := [v0, v1, v2]) ⟨Or.inr ⟨rfl, rfl⟩, rfl⟩ dX0_where_14 rfl (y_F_mono _) (y_dle rfl) (y_dle rfl) rfl rfl
theorem wX0_where_17 : y_w M_X0_where mc ms Q (17, lv, .int x :: r, ω, c, s) = ((x = 0 → y_w M_X0_where mc ms Q (32, lv, r, ω, c, s)) ∧ (¬ (x = 0) → y_w M_X0_where mc ms Q (20, lv, r, ω, c, s))) := w_if dX0_where_17 (tgt := 32) rfl rfl rfl
theorem wX0_where_20 : y_w M_X0_where mc ms Q (20, lv, st, ω, c, s) = y_ldI lv 3 (fun v => y_w M_X0_where mc ms Q (21, lv, v :: st, ω, c, s)) := w_iload_n dX0_where_20 rfl rfl
theorem wX0_where_21 : y_w M_X0_where mc ms Q (21, lv, .int x :: r, ω, c, s) = y_w M_X0_where mc ms Q (22, lv, .long x.toInt64 :: r, ω, c, s) := w_i2l dX0_where_21 rfl
theorem wX0_where_22 : y_w M_X0_where mc ms Q (22, lv, st, ω, c, s) = y_w M_X0_where mc ms Q (23, lv, .long 0 :: st, ω, c, s) := w_lconst dX0_where_22 (v := 0) (by decide) rfl
theorem wX0_where_23 : y_w M_X0_where mc ms Q (23, lv, st, ω, c, s) = y_w M_X0_where mc ms Q (26, lv, .long (lN 399) :: st, ω, c, s) := w_ldc2_w dX0_where_23 rfl rfl rfl
theorem wX0_where_26 : y_w M_X0_where mc ms Q (26, lv, v2 :: v1 :: v0 :: r, ω, c, s) = (y_cat r ≤ 8 ∧ F_X0_isIn mc ms [v0, v1, v2] ω c s (y_aft M_X0_where 26 3 lv r (y_w M_X0_where mc ms Q) Q)) := w_call0 (av := [v0, v1, v2]) ⟨Or.inr ⟨rfl, rfl⟩, rfl⟩ dX0_where_26 rfl (y_F_mono _) (y_dle rfl) (y_dle rfl) rfl rfl
theorem wX0_where_29 : y_w M_X0_where mc ms Q (29, lv, .int x :: r, ω, c, s) = ((¬ x = 0 → y_w M_X0_where mc ms Q (35, lv, r, ω, c, s)) ∧ (¬ (¬ x = 0) → y_w M_X0_where mc ms Q (32, lv, r, ω, c, s))) := w_if dX0_where_29 (tgt := 35) rfl rfl rfl
theorem wX0_where_32 : y_w M_X0_where mc ms Q (32, lv, st, ω, c, s) = y_w M_X0_where mc ms Q (34, lv, .int (-1000001) :: st, ω, c, s) := w_ldc dX0_where_32 rfl rfl rfl
theorem wX0_where_34 : y_w M_X0_where mc ms Q (34, lv, [.int x], ω, c, s) = Q (.returned (some (.int x))) ω c s := w_ireturnI dX0_where_34 rfl
theorem wX0_where_35 : y_w M_X0_where mc ms Q (35, lv, st, ω, c, s) = y_ldA lv 0 (fun v => y_w M_X0_where mc ms Q (36, lv, v :: st, ω, c, s)) := w_aload_n dX0_where_35 rfl rfl
theorem wX0_where_36 : y_w M_X0_where mc ms Q (36, lv, st, ω, c, s) = y_ldI lv 1 (fun v => y_w M_X0_where mc ms Q (37, lv, v :: st, ω, c, s)) := w_iload_n dX0_where_36 rfl rfl
theorem wX0_where_37 : y_w M_X0_where mc ms Q (37, lv, st, ω, c, s) = y_ldA lv 0 (fun v => y_w M_X0_where mc ms Q (38, lv, v :: st, ω, c, s)) := w_aload_n dX0_where_37 rfl rfl
theorem wX0_where_38 : y_w M_X0_where mc ms Q (38, lv, .ref a :: r, ω, c, s) = y_gf P_X0_where 57 (ω.2 a) (fun v => y_w M_X0_where mc ms Q (41, lv, v :: r, ω, c, s)) := w_getfield dX0_where_38 rfl rfl
theorem wX0_where_41 (hc : y_cls ω a = some 0) : y_w M_X0_where mc ms Q (41, lv, v2 :: v1 :: .ref a :: r, ω, c, s) = (y_cat r ≤ 8 ∧ F_X0_lay mc ms [.ref a, v1, v2] ω c s (y_aft M_X0_where 41 3 lv r (y_w M_X0_where mc ms Q) Q)) := w_call1 (av := [v1, v2]) (Or.inl ⟨⟨rfl, rfl⟩, rfl⟩) dX0_where_41 rfl hc rfl (y_F_mono _) (y_dle rfl) (y_dle rfl) rfl rfl
theorem wX0_where_44 : y_w M_X0_where mc ms Q (44, lv, st, ω, c, s) = y_ldA lv 0 (fun v => y_w M_X0_where mc ms Q (45, lv, v :: st, ω, c, s)) := w_aload_n dX0_where_44 rfl rfl
theorem wX0_where_45 : y_w M_X0_where mc ms Q (45, lv, st, ω, c, s) = y_ldI lv 1 (fun v => y_w M_X0_where mc ms Q (46, lv, v :: st, ω, c, s)) := w_iload_n dX0_where_45 rfl rfl
theorem wX0_where_46 : y_w M_X0_where mc ms Q (46, lv, st, ω, c, s) = y_ldI lv 2 (fun v => y_w M_X0_where mc ms Q (47, lv, v :: st, ω, c, s)) := w_iload_n dX0_where_46 rfl rfl
theorem wX0_where_47 (hc : y_cls ω a = some 0) : y_w M_X0_where mc ms Q (47, lv, v2 :: v1 :: .ref a :: r, ω, c, s) = (y_cat r ≤ 8 ∧ F_X0_ageAt mc ms [.ref a, v1, v2] ω c s (y_aft M_X0_where 47 3 lv r (y_w M_X0_where mc ms Q) Q)) := w_call1 (av := [v1, v2]) (Or.inl ⟨⟨rfl, rfl⟩, rfl⟩) dX0_where_47 rfl hc rfl (y_F_mono _) (y_dle rfl) (y_dle rfl) rfl rfl
theorem wX0_where_50 : y_w M_X0_where mc ms Q (50, lv, st, ω, c, s) = y_ldI lv 3 (fun v => y_w M_X0_where mc ms Q (51, lv, v :: st, ω, c, s)) := w_iload_n dX0_where_50 rfl rfl
theorem wX0_where_51 : y_w M_X0_where mc ms Q (51, lv, .int y :: .int x :: r, ω, c, s) = y_w M_X0_where mc ms Q (52, lv, .int (x - y) :: r, ω, c, s) := w_isub dX0_where_51 rfl
theorem wX0_where_52 : y_w M_X0_where mc ms Q (52, lv, .int x :: r, ω, c, s) = y_w M_X0_where mc ms Q (54, (4, .int x) :: y_kill 4 lv, r, ω, c, s) := w_istore dX0_where_52 (y_dle rfl) rfl
theorem wX0_where_54 : y_w M_X0_where mc ms Q (54, lv, st, ω, c, s) = y_w M_X0_where mc ms Q (55, lv, .int 0 :: st, ω, c, s) := w_iconst dX0_where_54 (v := 0) (by decide) rfl
theorem wX0_where_55 : y_w M_X0_where mc ms Q (55, lv, .int x :: r, ω, c, s) = y_w M_X0_where mc ms Q (57, (5, .int x) :: y_kill 5 lv, r, ω, c, s) := w_istore dX0_where_55 (y_dle rfl) rfl
theorem wX0_where_57 : y_w M_X0_where mc ms Q (57, lv, st, ω, c, s) = y_w M_X0_where mc ms Q (58, lv, .int 0 :: st, ω, c, s) := w_iconst dX0_where_57 (v := 0) (by decide) rfl
theorem wX0_where_58 : y_w M_X0_where mc ms Q (58, lv, .int x :: r, ω, c, s) = y_w M_X0_where mc ms Q (60, (6, .int x) :: y_kill 6 lv, r, ω, c, s) := w_istore dX0_where_58 (y_dle rfl) rfl
theorem wX0_where_60 : y_w M_X0_where mc ms Q (60, lv, st, ω, c, s) = y_ldI lv 6 (fun v => y_w M_X0_where mc ms Q (62, lv, v :: st, ω, c, s)) := w_iload dX0_where_60 rfl
theorem wX0_where_62 : y_w M_X0_where mc ms Q (62, lv, st, ω, c, s) = y_ldA lv 0 (fun v => y_w M_X0_where mc ms Q (63, lv, v :: st, ω, c, s)) := w_aload_n dX0_where_62 rfl rfl
theorem wX0_where_63 : y_w M_X0_where mc ms Q (63, lv, .ref a :: r, ω, c, s) = y_gf P_X0_where 39 (ω.2 a) (fun v => y_w M_X0_where mc ms Q (66, lv, v :: r, ω, c, s)) := w_getfield dX0_where_63 rfl rfl
theorem wX0_where_66 : y_w M_X0_where mc ms Q (66, lv, .ref a :: r, ω, c, s) = y_gf P_X0_where 165 (ω.2 a) (fun v => y_w M_X0_where mc ms Q (69, lv, v :: r, ω, c, s)) := w_getfield dX0_where_66 rfl rfl
theorem wX0_where_69 : y_w M_X0_where mc ms Q (69, lv, .int y :: .int x :: r, ω, c, s) = ((y ≤ x → y_w M_X0_where mc ms Q (126, lv, r, ω, c, s)) ∧ (¬ (y ≤ x) → y_w M_X0_where mc ms Q (72, lv, r, ω, c, s))) := w_icmp dX0_where_69 (tgt := 126) rfl rfl rfl
theorem wX0_where_72 : y_w M_X0_where mc ms Q (72, lv, st, ω, c, s) = y_ldI lv 4 (fun v => y_w M_X0_where mc ms Q (74, lv, v :: st, ω, c, s)) := w_iload dX0_where_72 rfl
theorem wX0_where_74 : y_w M_X0_where mc ms Q (74, lv, .int x :: r, ω, c, s) = y_w M_X0_where mc ms Q (75, lv, .long x.toInt64 :: r, ω, c, s) := w_i2l dX0_where_74 rfl
theorem wX0_where_75 : y_w M_X0_where mc ms Q (75, lv, st, ω, c, s) = y_w M_X0_where mc ms Q (76, lv, .long 0 :: st, ω, c, s) := w_lconst dX0_where_75 (v := 0) (by decide) rfl
theorem wX0_where_76 : y_w M_X0_where mc ms Q (76, lv, st, ω, c, s) = y_w M_X0_where mc ms Q (79, lv, .long (lN 40) :: st, ω, c, s) := w_ldc2_w dX0_where_76 rfl rfl rfl
theorem wX0_where_79 : y_w M_X0_where mc ms Q (79, lv, v2 :: v1 :: v0 :: r, ω, c, s) = (y_cat r ≤ 8 ∧ F_X0_isIn mc ms [v0, v1, v2] ω c s (y_aft M_X0_where 79 3 lv r (y_w M_X0_where mc ms Q) Q)) := w_call0 (av := [v0, v1, v2]) ⟨Or.inr ⟨rfl, rfl⟩, rfl⟩ dX0_where_79 rfl (y_F_mono _) (y_dle rfl) (y_dle rfl) rfl rfl
theorem wX0_where_82 : y_w M_X0_where mc ms Q (82, lv, .int x :: r, ω, c, s) = ((x = 0 → y_w M_X0_where mc ms Q (126, lv, r, ω, c, s)) ∧ (¬ (x = 0) → y_w M_X0_where mc ms Q (85, lv, r, ω, c, s))) := w_if dX0_where_82 (tgt := 126) rfl rfl rfl
theorem wX0_where_85 : y_w M_X0_where mc ms Q (85, lv, st, ω, c, s) = y_ldI lv 5 (fun v => y_w M_X0_where mc ms Q (87, lv, v :: st, ω, c, s)) := w_iload dX0_where_85 rfl
theorem wX0_where_87 : y_w M_X0_where mc ms Q (87, lv, st, ω, c, s) = y_ldA lv 0 (fun v => y_w M_X0_where mc ms Q (88, lv, v :: st, ω, c, s)) := w_aload_n dX0_where_87 rfl rfl
theorem wX0_where_88 : y_w M_X0_where mc ms Q (88, lv, st, ω, c, s) = y_ldA lv 0 (fun v => y_w M_X0_where mc ms Q (89, lv, v :: st, ω, c, s)) := w_aload_n dX0_where_88 rfl rfl
theorem wX0_where_89 : y_w M_X0_where mc ms Q (89, lv, .ref a :: r, ω, c, s) = y_gf P_X0_where 57 (ω.2 a) (fun v => y_w M_X0_where mc ms Q (92, lv, v :: r, ω, c, s)) := w_getfield dX0_where_89 rfl rfl
theorem wX0_where_92 : y_w M_X0_where mc ms Q (92, lv, st, ω, c, s) = y_ldI lv 1 (fun v => y_w M_X0_where mc ms Q (93, lv, v :: st, ω, c, s)) := w_iload_n dX0_where_92 rfl rfl
theorem wX0_where_93 : y_w M_X0_where mc ms Q (93, lv, st, ω, c, s) = y_ldI lv 6 (fun v => y_w M_X0_where mc ms Q (95, lv, v :: st, ω, c, s)) := w_iload dX0_where_93 rfl
theorem wX0_where_95 : y_w M_X0_where mc ms Q (95, lv, st, ω, c, s) = y_ldI lv 2 (fun v => y_w M_X0_where mc ms Q (96, lv, v :: st, ω, c, s)) := w_iload_n dX0_where_95 rfl rfl
theorem wX0_where_96 (hc : y_cls ω a = some 0) : y_w M_X0_where mc ms Q (96, lv, v4 :: v3 :: v2 :: v1 :: .ref a :: r, ω, c, s) = (y_cat r ≤ 8 ∧ F_X0_gainsAt mc ms [.ref a, v1, v2, v3, v4] ω c s (y_aft M_X0_where 96 3 lv r (y_w M_X0_where mc ms Q) Q)) := w_call1 (av := [v1, v2, v3, v4]) (Or.inl ⟨⟨rfl, rfl⟩, rfl⟩) dX0_where_96 rfl hc rfl (y_F_mono _) (y_dle rfl) (y_dle rfl) rfl rfl
theorem wX0_where_99 : y_w M_X0_where mc ms Q (99, lv, st, ω, c, s) = y_ldI lv 4 (fun v => y_w M_X0_where mc ms Q (101, lv, v :: st, ω, c, s)) := w_iload dX0_where_99 rfl
theorem wX0_where_101 : y_w M_X0_where mc ms Q (101, lv, .int y :: .long z :: r, ω, c, s) = y_w M_X0_where mc ms Q (102, lv, .long (z >>> (y.toInt64 &&& 63)) :: r, ω, c, s) := w_lshr dX0_where_101 rfl
theorem wX0_where_102 : y_w M_X0_where mc ms Q (102, lv, st, ω, c, s) = y_w M_X0_where mc ms Q (103, lv, .long 1 :: st, ω, c, s) := w_lconst dX0_where_102 (v := 1) (by decide) rfl
theorem wX0_where_103 : y_w M_X0_where mc ms Q (103, lv, .long w :: .long z :: r, ω, c, s) = y_w M_X0_where mc ms Q (104, lv, .long (z &&& w) :: r, ω, c, s) := w_land dX0_where_103 rfl
theorem wX0_where_104 : y_w M_X0_where mc ms Q (104, lv, st, ω, c, s) = y_w M_X0_where mc ms Q (105, lv, .long 1 :: st, ω, c, s) := w_lconst dX0_where_104 (v := 1) (by decide) rfl
theorem wX0_where_105 : y_w M_X0_where mc ms Q (105, lv, .long w :: .long z :: r, ω, c, s) = y_w M_X0_where mc ms Q (106, lv, .int (lg_cmp z w) :: r, ω, c, s) := w_lcmp dX0_where_105 rfl
theorem wX0_where_106 : y_w M_X0_where mc ms Q (106, lv, .int x :: r, ω, c, s) = ((¬ x = 0 → y_w M_X0_where mc ms Q (116, lv, r, ω, c, s)) ∧ (¬ (¬ x = 0) → y_w M_X0_where mc ms Q (109, lv, r, ω, c, s))) := w_if dX0_where_106 (tgt := 116) rfl rfl rfl
theorem wX0_where_109 : y_w M_X0_where mc ms Q (109, lv, st, ω, c, s) = y_w M_X0_where mc ms Q (110, lv, .int 1 :: st, ω, c, s) := w_iconst dX0_where_109 (v := 1) (by decide) rfl
theorem wX0_where_110 : y_w M_X0_where mc ms Q (110, lv, st, ω, c, s) = y_ldI lv 6 (fun v => y_w M_X0_where mc ms Q (112, lv, v :: st, ω, c, s)) := w_iload dX0_where_110 rfl
theorem wX0_where_112 : y_w M_X0_where mc ms Q (112, lv, .int y :: .int x :: r, ω, c, s) = y_w M_X0_where mc ms Q (113, lv, .int (x <<< (y &&& 31)) :: r, ω, c, s) := w_ishl dX0_where_112 rfl
theorem wX0_where_113 : y_w M_X0_where mc ms Q (113, lv, st, ω, c, s) = y_w M_X0_where mc ms Q (117, lv, st, ω, c, s) := w_goto dX0_where_113 (tgt := 117) (by decide) rfl
theorem wX0_where_116 : y_w M_X0_where mc ms Q (116, lv, st, ω, c, s) = y_w M_X0_where mc ms Q (117, lv, .int 0 :: st, ω, c, s) := w_iconst dX0_where_116 (v := 0) (by decide) rfl
theorem wX0_where_117 : y_w M_X0_where mc ms Q (117, lv, .int y :: .int x :: r, ω, c, s) = y_w M_X0_where mc ms Q (118, lv, .int (x ||| y) :: r, ω, c, s) := w_ior dX0_where_117 rfl
theorem wX0_where_118 : y_w M_X0_where mc ms Q (118, lv, .int x :: r, ω, c, s) = y_w M_X0_where mc ms Q (120, (5, .int x) :: y_kill 5 lv, r, ω, c, s) := w_istore dX0_where_118 (y_dle rfl) rfl
theorem wX0_where_120 : y_w M_X0_where mc ms Q (120, lv, st, ω, c, s) = y_inc lv 6 (fun x => y_w M_X0_where mc ms Q (123, (6, .int (x + 1)) :: y_kill 6 lv, st, ω, c, s)) := w_iinc dX0_where_120 (d := 1) (by decide) (y_dle rfl) rfl
theorem wX0_where_123 : y_w M_X0_where mc ms Q (123, lv, st, ω, c, s) = ∃ lv2, y_lsub lv2 lv ∧ y_w M_X0_where mc ms Q (60, lv2, st, ω, c, s) := w_back dX0_where_123 (tgt := 60) (by decide) rfl
theorem wX0_where_126 : y_w M_X0_where mc ms Q (126, lv, st, ω, c, s) = y_ldI lv 5 (fun v => y_w M_X0_where mc ms Q (128, lv, v :: st, ω, c, s)) := w_iload dX0_where_126 rfl
theorem wX0_where_128 : y_w M_X0_where mc ms Q (128, lv, [.int x], ω, c, s) = Q (.returned (some (.int x))) ω c s := w_ireturnI dX0_where_128 rfl
def P_X0_gone : y_Pool := ([(39, 0, 4, (.object "YoungerBack$League"), true)], [], [(93, .int (-1000001))], [(168, 1, 0, 2, (3, 61), F_X0_isPerson), (224, 1, 1, 2, (3, 68), F_X1_owedByShore), (250, 1, 1, 2, (3, 68), F_X1_owedByOwn)], [], [], [])
def M_X0_gone : y_Md := (cX0_gone, "YoungerBack", (2, (some FieldType.int)), (3, 68), false, P_X0_gone, [])
def F_X0_gone : y_Tr := y_F M_X0_gone
theorem nX0_gone : y_nL M_X0_gone = 2 := rfl
theorem fX0_gone_39_0 : y_ffP P_X0_gone 39 0 = some (4, (.object "YoungerBack$League"), true) := rfl
theorem wX0_gone_0 : y_w M_X0_gone mc ms Q (0, lv, st, ω, c, s) = y_ldA lv 0 (fun v => y_w M_X0_gone mc ms Q (1, lv, v :: st, ω, c, s)) := w_aload_n dX0_gone_0 rfl rfl
theorem wX0_gone_1 : y_w M_X0_gone mc ms Q (1, lv, st, ω, c, s) = y_ldI lv 1 (fun v => y_w M_X0_gone mc ms Q (2, lv, v :: st, ω, c, s)) := w_iload_n dX0_gone_1 rfl rfl
theorem wX0_gone_2 (hc : y_cls ω a = some 0) : y_w M_X0_gone mc ms Q (2, lv, v1 :: .ref a :: r, ω, c, s) = (y_cat r ≤ 8 ∧ F_X0_isPerson mc ms [.ref a, v1] ω c s (y_aft M_X0_gone 2 3 lv r (y_w M_X0_gone mc ms Q) Q)) := w_call1 (av := [v1]) (Or.inl ⟨⟨rfl, rfl⟩, rfl⟩) dX0_gone_2 rfl hc rfl (y_F_mono _) (y_dle rfl) (y_dle rfl) rfl rfl
theorem wX0_gone_5 : y_w M_X0_gone mc ms Q (5, lv, .int x :: r, ω, c, s) = ((x = 0 → y_w M_X0_gone mc ms Q (28, lv, r, ω, c, s)) ∧ (¬ (x = 0) → y_w M_X0_gone mc ms Q (8, lv, r, ω, c, s))) := w_if dX0_gone_5 (tgt := 28) rfl rfl rfl
theorem wX0_gone_8 : y_w M_X0_gone mc ms Q (8, lv, st, ω, c, s) = y_ldA lv 0 (fun v => y_w M_X0_gone mc ms Q (9, lv, v :: st, ω, c, s)) := w_aload_n dX0_gone_8 rfl rfl
theorem wX0_gone_9 : y_w M_X0_gone mc ms Q (9, lv, .ref a :: r, ω, c, s) = y_gf P_X0_gone 39 (ω.2 a) (fun v => y_w M_X0_gone mc ms Q (12, lv, v :: r, ω, c, s)) := w_getfield dX0_gone_9 rfl rfl
theorem wX0_gone_12 : y_w M_X0_gone mc ms Q (12, lv, st, ω, c, s) = y_ldI lv 1 (fun v => y_w M_X0_gone mc ms Q (13, lv, v :: st, ω, c, s)) := w_iload_n dX0_gone_12 rfl rfl
theorem wX0_gone_13 (hc : y_cls ω a = some 1) : y_w M_X0_gone mc ms Q (13, lv, v1 :: .ref a :: r, ω, c, s) = (y_cat r ≤ 8 ∧ F_X1_owedByShore mc ms [.ref a, v1] ω c s (y_aft M_X0_gone 13 3 lv r (y_w M_X0_gone mc ms Q) Q)) := w_call1 (av := [v1]) (Or.inl ⟨⟨rfl, rfl⟩, rfl⟩) dX0_gone_13 rfl hc rfl (y_F_mono _) (y_dle rfl) (y_dle rfl) rfl rfl
theorem wX0_gone_16 : y_w M_X0_gone mc ms Q (16, lv, st, ω, c, s) = y_ldA lv 0 (fun v => y_w M_X0_gone mc ms Q (17, lv, v :: st, ω, c, s)) := w_aload_n dX0_gone_16 rfl rfl
theorem wX0_gone_17 : y_w M_X0_gone mc ms Q (17, lv, .ref a :: r, ω, c, s) = y_gf P_X0_gone 39 (ω.2 a) (fun v => y_w M_X0_gone mc ms Q (20, lv, v :: r, ω, c, s)) := w_getfield dX0_gone_17 rfl rfl
theorem wX0_gone_20 : y_w M_X0_gone mc ms Q (20, lv, st, ω, c, s) = y_ldI lv 1 (fun v => y_w M_X0_gone mc ms Q (21, lv, v :: st, ω, c, s)) := w_iload_n dX0_gone_20 rfl rfl
theorem wX0_gone_21 (hc : y_cls ω a = some 1) : y_w M_X0_gone mc ms Q (21, lv, v1 :: .ref a :: r, ω, c, s) = (y_cat r ≤ 8 ∧ F_X1_owedByOwn mc ms [.ref a, v1] ω c s (y_aft M_X0_gone 21 3 lv r (y_w M_X0_gone mc ms Q) Q)) := w_call1 (av := [v1]) (Or.inl ⟨⟨rfl, rfl⟩, rfl⟩) dX0_gone_21 rfl hc rfl (y_F_mono _) (y_dle rfl) (y_dle rfl) rfl rfl
theorem wX0_gone_24 : y_w M_X0_gone mc ms Q (24, lv, .int y :: .int x :: r, ω, c, s) = y_w M_X0_gone mc ms Q (25, lv, .int (x - y) :: r, ω, c, s) := w_isub dX0_gone_24 rfl
theorem wX0_gone_25 : y_w M_X0_gone mc ms Q (25, lv, st, ω, c, s) = y_w M_X0_gone mc ms Q (30, lv, st, ω, c, s) := w_goto dX0_gone_25 (tgt := 30) (by decide) rfl
theorem wX0_gone_28 : y_w M_X0_gone mc ms Q (28, lv, st, ω, c, s) = y_w M_X0_gone mc ms Q (30, lv, .int (-1000001) :: st, ω, c, s) := w_ldc dX0_gone_28 rfl rfl rfl
theorem wX0_gone_30 : y_w M_X0_gone mc ms Q (30, lv, [.int x], ω, c, s) = Q (.returned (some (.int x))) ω c s := w_ireturnI dX0_gone_30 rfl
def P_X0_isLeague : y_Pool := ([(39, 0, 4, (.object "YoungerBack$League"), true), (165, 1, 0, .int, false)], [], [], [], [], [], [])
def M_X0_isLeague : y_Md := (cX0_isLeague, "YoungerBack", (1, (some FieldType.boolean)), (0, 0), false, P_X0_isLeague, [])
def F_X0_isLeague : y_Tr := y_F M_X0_isLeague
theorem nX0_isLeague : y_nL M_X0_isLeague = 1 := rfl
theorem fX0_isLeague_39_0 : y_ffP P_X0_isLeague 39 0 = some (4, (.object "YoungerBack$League"), true) := rfl
theorem fX0_isLeague_165_1 : y_ffP P_X0_isLeague 165 1 = some (0, .int, false) := rfl
theorem wX0_isLeague_0 : y_w M_X0_isLeague mc ms Q (0, lv, st, ω, c, s) = y_ldA lv 0 (fun v => y_w M_X0_isLeague mc ms Q (1, lv, v :: st, ω, c, s)) := w_aload_n dX0_isLeague_0 rfl rfl
theorem wX0_isLeague_1 : y_w M_X0_isLeague mc ms Q (1, lv, .ref a :: r, ω, c, s) = y_gf P_X0_isLeague 39 (ω.2 a) (fun v => y_w M_X0_isLeague mc ms Q (4, lv, v :: r, ω, c, s)) := w_getfield dX0_isLeague_1 rfl rfl
theorem wX0_isLeague_4 : y_w M_X0_isLeague mc ms Q (4, lv, .ref a :: r, ω, c, s) = y_gf P_X0_isLeague 165 (ω.2 a) (fun v => y_w M_X0_isLeague mc ms Q (7, lv, v :: r, ω, c, s)) := w_getfield dX0_isLeague_4 rfl rfl
theorem wX0_isLeague_7 : y_w M_X0_isLeague mc ms Q (7, lv, .int x :: r, ω, c, s) = ((x ≤ 0 → y_w M_X0_isLeague mc ms Q (14, lv, r, ω, c, s)) ∧ (¬ (x ≤ 0) → y_w M_X0_isLeague mc ms Q (10, lv, r, ω, c, s))) := w_if dX0_isLeague_7 (tgt := 14) rfl rfl rfl
theorem wX0_isLeague_10 : y_w M_X0_isLeague mc ms Q (10, lv, st, ω, c, s) = y_w M_X0_isLeague mc ms Q (11, lv, .int 1 :: st, ω, c, s) := w_iconst dX0_isLeague_10 (v := 1) (by decide) rfl
theorem wX0_isLeague_11 : y_w M_X0_isLeague mc ms Q (11, lv, st, ω, c, s) = y_w M_X0_isLeague mc ms Q (15, lv, st, ω, c, s) := w_goto dX0_isLeague_11 (tgt := 15) (by decide) rfl
theorem wX0_isLeague_14 : y_w M_X0_isLeague mc ms Q (14, lv, st, ω, c, s) = y_w M_X0_isLeague mc ms Q (15, lv, .int 0 :: st, ω, c, s) := w_iconst dX0_isLeague_14 (v := 0) (by decide) rfl
theorem wX0_isLeague_15 : y_w M_X0_isLeague mc ms Q (15, lv, [.int x], ω, c, s) = (narrow FieldType.boolean (.int x) = .int x ∧ Q (.returned (some (.int x))) ω c s) := w_ireturn dX0_isLeague_15 rfl
def P_X0_isHalf : y_Pool := ([], [], [], [(79, 0, 0, 3, (1, 25), F_X0_isIn)], [], [], [])
def M_X0_isHalf : y_Md := (cX0_isHalf, "YoungerBack", (1, (some FieldType.boolean)), (1, 25), false, P_X0_isHalf, [])
def F_X0_isHalf : y_Tr := y_F M_X0_isHalf
theorem nX0_isHalf : y_nL M_X0_isHalf = 1 := rfl
theorem wX0_isHalf_0 : y_w M_X0_isHalf mc ms Q (0, lv, st, ω, c, s) = y_ldI lv 0 (fun v => y_w M_X0_isHalf mc ms Q (1, lv, v :: st, ω, c, s)) := w_iload_n dX0_isHalf_0 rfl rfl
theorem wX0_isHalf_1 : y_w M_X0_isHalf mc ms Q (1, lv, .int x :: r, ω, c, s) = y_w M_X0_isHalf mc ms Q (2, lv, .long x.toInt64 :: r, ω, c, s) := w_i2l dX0_isHalf_1 rfl
theorem wX0_isHalf_2 : y_w M_X0_isHalf mc ms Q (2, lv, st, ω, c, s) = y_w M_X0_isHalf mc ms Q (3, lv, .long 0 :: st, ω, c, s) := w_lconst dX0_isHalf_2 (v := 0) (by decide) rfl
theorem wX0_isHalf_3 : y_w M_X0_isHalf mc ms Q (3, lv, st, ω, c, s) = y_w M_X0_isHalf mc ms Q (4, lv, .long 1 :: st, ω, c, s) := w_lconst dX0_isHalf_3 (v := 1) (by decide) rfl
theorem wX0_isHalf_4 : y_w M_X0_isHalf mc ms Q (4, lv, v2 :: v1 :: v0 :: r, ω, c, s) = (y_cat r ≤ 8 ∧ F_X0_isIn mc ms [v0, v1, v2] ω c s (y_aft M_X0_isHalf 4 3 lv r (y_w M_X0_isHalf mc ms Q) Q)) := w_call0 (av := [v0, v1, v2]) ⟨Or.inr ⟨rfl, rfl⟩, rfl⟩ dX0_isHalf_4 rfl (y_F_mono _) (y_dle rfl) (y_dle rfl) rfl rfl
theorem wX0_isHalf_7 : y_w M_X0_isHalf mc ms Q (7, lv, [.int x], ω, c, s) = (narrow FieldType.boolean (.int x) = .int x ∧ Q (.returned (some (.int x))) ω c s) := w_ireturn dX0_isHalf_7 rfl
def P_X0_eldest : y_Pool := ([(39, 0, 4, (.object "YoungerBack$League"), true), (216, 1, 10, (.array .int), true), (236, 1, 7, (.object "java/util/List"), false), (248, 9, 1, .int, true), (248, 10, 1, .int, true), (248, 11, 1, .int, true), (248, 12, 1, .int, true), (248, 13, 1, .int, true)], [], [(192, .int (-1000002)), (93, .int (-1000001)), (181, .int (-1000000))], [(305, 1, 0, 1, (1, 20), F_X0_isLeague), (309, 0, 0, 1, (2, 45), F_X0_isHalf), (161, 1, 1, 1, (2, 40), F_X1_many), (240, 3, 14, 2, (3, 64), F_J2_get), (284, 0, 0, 2, (1, 21), F_J13_max)], [(246, 9, 1), (246, 10, 1), (246, 11, 1), (246, 12, 1), (246, 13, 1)], [], [])
def M_X0_eldest : y_Md := (cX0_eldest, "YoungerBack", (6, (some FieldType.int)), (3, 64), false, P_X0_eldest, [])
def F_X0_eldest : y_Tr := y_F M_X0_eldest
theorem nX0_eldest : y_nL M_X0_eldest = 6 := rfl
theorem tX0_eldest_246_9 : y_ft M_X0_eldest 246 9 = some 1 := rfl
theorem tX0_eldest_246_10 : y_ft M_X0_eldest 246 10 = some 1 := rfl
theorem tX0_eldest_246_11 : y_ft M_X0_eldest 246 11 = some 1 := rfl
theorem tX0_eldest_246_12 : y_ft M_X0_eldest 246 12 = some 1 := rfl
theorem tX0_eldest_246_13 : y_ft M_X0_eldest 246 13 = some 1 := rfl
theorem fX0_eldest_39_0 : y_ffP P_X0_eldest 39 0 = some (4, (.object "YoungerBack$League"), true) := rfl
theorem fX0_eldest_216_1 : y_ffP P_X0_eldest 216 1 = some (10, (.array .int), true) := rfl
theorem fX0_eldest_236_1 : y_ffP P_X0_eldest 236 1 = some (7, (.object "java/util/List"), false) := rfl
theorem fX0_eldest_248_9 : y_ffP P_X0_eldest 248 9 = some (1, .int, true) := rfl
theorem fX0_eldest_248_10 : y_ffP P_X0_eldest 248 10 = some (1, .int, true) := rfl
theorem fX0_eldest_248_11 : y_ffP P_X0_eldest 248 11 = some (1, .int, true) := rfl
theorem fX0_eldest_248_12 : y_ffP P_X0_eldest 248 12 = some (1, .int, true) := rfl
theorem fX0_eldest_248_13 : y_ffP P_X0_eldest 248 13 = some (1, .int, true) := rfl
theorem wX0_eldest_0 : y_w M_X0_eldest mc ms Q (0, lv, st, ω, c, s) = y_ldA lv 0 (fun v => y_w M_X0_eldest mc ms Q (1, lv, v :: st, ω, c, s)) := w_aload_n dX0_eldest_0 rfl rfl
theorem wX0_eldest_1 (hc : y_cls ω a = some 0) : y_w M_X0_eldest mc ms Q (1, lv, .ref a :: r, ω, c, s) = (y_cat r ≤ 8 ∧ F_X0_isLeague mc ms [.ref a] ω c s (y_aft M_X0_eldest 1 3 lv r (y_w M_X0_eldest mc ms Q) Q)) := w_call1 (av := []) (Or.inl ⟨⟨rfl, rfl⟩, rfl⟩) dX0_eldest_1 rfl hc rfl (y_F_mono _) (y_dle rfl) (y_dle rfl) rfl rfl
theorem wX0_eldest_4 : y_w M_X0_eldest mc ms Q (4, lv, .int x :: r, ω, c, s) = ((¬ x = 0 → y_w M_X0_eldest mc ms Q (10, lv, r, ω, c, s)) ∧ (¬ (¬ x = 0) → y_w M_X0_eldest mc ms Q (7, lv, r, ω, c, s))) := w_if dX0_eldest_4 (tgt := 10) rfl rfl rfl
theorem wX0_eldest_7 : y_w M_X0_eldest mc ms Q (7, lv, st, ω, c, s) = y_w M_X0_eldest mc ms Q (9, lv, .int (-1000002) :: st, ω, c, s) := w_ldc dX0_eldest_7 rfl rfl rfl
theorem wX0_eldest_9 : y_w M_X0_eldest mc ms Q (9, lv, [.int x], ω, c, s) = Q (.returned (some (.int x))) ω c s := w_ireturnI dX0_eldest_9 rfl
theorem wX0_eldest_10 : y_w M_X0_eldest mc ms Q (10, lv, st, ω, c, s) = y_ldI lv 1 (fun v => y_w M_X0_eldest mc ms Q (11, lv, v :: st, ω, c, s)) := w_iload_n dX0_eldest_10 rfl rfl
theorem wX0_eldest_11 : y_w M_X0_eldest mc ms Q (11, lv, v0 :: r, ω, c, s) = (y_cat r ≤ 8 ∧ F_X0_isHalf mc ms [v0] ω c s (y_aft M_X0_eldest 11 3 lv r (y_w M_X0_eldest mc ms Q) Q)) := w_call0 (av := [v0]) ⟨Or.inr ⟨rfl, rfl⟩, rfl⟩ dX0_eldest_11 rfl (y_F_mono _) (y_dle rfl) (y_dle rfl) rfl rfl
theorem wX0_eldest_14 : y_w M_X0_eldest mc ms Q (14, lv, .int x :: r, ω, c, s) = ((¬ x = 0 → y_w M_X0_eldest mc ms Q (20, lv, r, ω, c, s)) ∧ (¬ (¬ x = 0) → y_w M_X0_eldest mc ms Q (17, lv, r, ω, c, s))) := w_if dX0_eldest_14 (tgt := 20) rfl rfl rfl
theorem wX0_eldest_17 : y_w M_X0_eldest mc ms Q (17, lv, st, ω, c, s) = y_w M_X0_eldest mc ms Q (19, lv, .int (-1000001) :: st, ω, c, s) := w_ldc dX0_eldest_17 rfl rfl rfl
theorem wX0_eldest_19 : y_w M_X0_eldest mc ms Q (19, lv, [.int x], ω, c, s) = Q (.returned (some (.int x))) ω c s := w_ireturnI dX0_eldest_19 rfl
theorem wX0_eldest_20 : y_w M_X0_eldest mc ms Q (20, lv, st, ω, c, s) = y_w M_X0_eldest mc ms Q (22, lv, .int (-1000000) :: st, ω, c, s) := w_ldc dX0_eldest_20 rfl rfl rfl
theorem wX0_eldest_22 : y_w M_X0_eldest mc ms Q (22, lv, .int x :: r, ω, c, s) = y_w M_X0_eldest mc ms Q (23, (2, .int x) :: y_kill 2 lv, r, ω, c, s) := w_istore_n dX0_eldest_22 rfl (y_dle rfl) rfl
theorem wX0_eldest_23 : y_w M_X0_eldest mc ms Q (23, lv, st, ω, c, s) = y_w M_X0_eldest mc ms Q (24, lv, .int (-1) :: st, ω, c, s) := w_iconst dX0_eldest_23 (v := (-1)) (by decide) rfl
theorem wX0_eldest_24 : y_w M_X0_eldest mc ms Q (24, lv, .int x :: r, ω, c, s) = y_w M_X0_eldest mc ms Q (25, (3, .int x) :: y_kill 3 lv, r, ω, c, s) := w_istore_n dX0_eldest_24 rfl (y_dle rfl) rfl
theorem wX0_eldest_25 : y_w M_X0_eldest mc ms Q (25, lv, st, ω, c, s) = y_w M_X0_eldest mc ms Q (26, lv, .int 0 :: st, ω, c, s) := w_iconst dX0_eldest_25 (v := 0) (by decide) rfl
theorem wX0_eldest_26 : y_w M_X0_eldest mc ms Q (26, lv, .int x :: r, ω, c, s) = y_w M_X0_eldest mc ms Q (28, (4, .int x) :: y_kill 4 lv, r, ω, c, s) := w_istore dX0_eldest_26 (y_dle rfl) rfl
theorem wX0_eldest_28 : y_w M_X0_eldest mc ms Q (28, lv, st, ω, c, s) = y_ldI lv 4 (fun v => y_w M_X0_eldest mc ms Q (30, lv, v :: st, ω, c, s)) := w_iload dX0_eldest_28 rfl
theorem wX0_eldest_30 : y_w M_X0_eldest mc ms Q (30, lv, st, ω, c, s) = y_ldA lv 0 (fun v => y_w M_X0_eldest mc ms Q (31, lv, v :: st, ω, c, s)) := w_aload_n dX0_eldest_30 rfl rfl
theorem wX0_eldest_31 : y_w M_X0_eldest mc ms Q (31, lv, .ref a :: r, ω, c, s) = y_gf P_X0_eldest 39 (ω.2 a) (fun v => y_w M_X0_eldest mc ms Q (34, lv, v :: r, ω, c, s)) := w_getfield dX0_eldest_31 rfl rfl
theorem wX0_eldest_34 (hc : y_cls ω a = some 1) : y_w M_X0_eldest mc ms Q (34, lv, .ref a :: r, ω, c, s) = (y_cat r ≤ 8 ∧ F_X1_many mc ms [.ref a] ω c s (y_aft M_X0_eldest 34 3 lv r (y_w M_X0_eldest mc ms Q) Q)) := w_call1 (av := []) (Or.inl ⟨⟨rfl, rfl⟩, rfl⟩) dX0_eldest_34 rfl hc rfl (y_F_mono _) (y_dle rfl) (y_dle rfl) rfl rfl
theorem wX0_eldest_37 : y_w M_X0_eldest mc ms Q (37, lv, .int y :: .int x :: r, ω, c, s) = ((y ≤ x → y_w M_X0_eldest mc ms Q (105, lv, r, ω, c, s)) ∧ (¬ (y ≤ x) → y_w M_X0_eldest mc ms Q (40, lv, r, ω, c, s))) := w_icmp dX0_eldest_37 (tgt := 105) rfl rfl rfl
theorem wX0_eldest_40 : y_w M_X0_eldest mc ms Q (40, lv, st, ω, c, s) = y_ldI lv 1 (fun v => y_w M_X0_eldest mc ms Q (41, lv, v :: st, ω, c, s)) := w_iload_n dX0_eldest_40 rfl rfl
theorem wX0_eldest_41 : y_w M_X0_eldest mc ms Q (41, lv, .int x :: r, ω, c, s) = ((¬ x = 0 → y_w M_X0_eldest mc ms Q (57, lv, r, ω, c, s)) ∧ (¬ (¬ x = 0) → y_w M_X0_eldest mc ms Q (44, lv, r, ω, c, s))) := w_if dX0_eldest_41 (tgt := 57) rfl rfl rfl
theorem wX0_eldest_44 : y_w M_X0_eldest mc ms Q (44, lv, st, ω, c, s) = y_ldA lv 0 (fun v => y_w M_X0_eldest mc ms Q (45, lv, v :: st, ω, c, s)) := w_aload_n dX0_eldest_44 rfl rfl
theorem wX0_eldest_45 : y_w M_X0_eldest mc ms Q (45, lv, .ref a :: r, ω, c, s) = y_gf P_X0_eldest 39 (ω.2 a) (fun v => y_w M_X0_eldest mc ms Q (48, lv, v :: r, ω, c, s)) := w_getfield dX0_eldest_45 rfl rfl
theorem wX0_eldest_48 : y_w M_X0_eldest mc ms Q (48, lv, .ref a :: r, ω, c, s) = y_gf P_X0_eldest 216 (ω.2 a) (fun v => y_w M_X0_eldest mc ms Q (51, lv, v :: r, ω, c, s)) := w_getfield dX0_eldest_48 rfl rfl
theorem wX0_eldest_51 : y_w M_X0_eldest mc ms Q (51, lv, st, ω, c, s) = y_ldI lv 4 (fun v => y_w M_X0_eldest mc ms Q (53, lv, v :: st, ω, c, s)) := w_iload dX0_eldest_51 rfl
theorem wX0_eldest_53 : y_w M_X0_eldest mc ms Q (53, lv, .int j :: .ref a :: r, ω, c, s) = y_rI (ω.2 a) j (fun x => y_w M_X0_eldest mc ms Q (54, lv, .int x :: r, ω, c, s)) := w_iaload dX0_eldest_53 rfl
theorem wX0_eldest_54 : y_w M_X0_eldest mc ms Q (54, lv, st, ω, c, s) = y_w M_X0_eldest mc ms Q (77, lv, st, ω, c, s) := w_goto dX0_eldest_54 (tgt := 77) (by decide) rfl
theorem wX0_eldest_57 : y_w M_X0_eldest mc ms Q (57, lv, st, ω, c, s) = y_ldA lv 0 (fun v => y_w M_X0_eldest mc ms Q (58, lv, v :: st, ω, c, s)) := w_aload_n dX0_eldest_57 rfl rfl
theorem wX0_eldest_58 : y_w M_X0_eldest mc ms Q (58, lv, .ref a :: r, ω, c, s) = y_gf P_X0_eldest 39 (ω.2 a) (fun v => y_w M_X0_eldest mc ms Q (61, lv, v :: r, ω, c, s)) := w_getfield dX0_eldest_58 rfl rfl
theorem wX0_eldest_61 : y_w M_X0_eldest mc ms Q (61, lv, .ref a :: r, ω, c, s) = y_gf P_X0_eldest 236 (ω.2 a) (fun v => y_w M_X0_eldest mc ms Q (64, lv, v :: r, ω, c, s)) := w_getfield dX0_eldest_61 rfl rfl
theorem wX0_eldest_64 : y_w M_X0_eldest mc ms Q (64, lv, st, ω, c, s) = y_ldI lv 4 (fun v => y_w M_X0_eldest mc ms Q (66, lv, v :: st, ω, c, s)) := w_iload dX0_eldest_64 rfl
theorem wX0_eldest_66 (hc : y_cls ω a = some 14) : y_w M_X0_eldest mc ms Q (66, lv, v1 :: .ref a :: r, ω, c, s) = (y_cat r ≤ 8 ∧ F_J2_get mc ms [.ref a, v1] ω c s (y_aft M_X0_eldest 66 5 lv r (y_w M_X0_eldest mc ms Q) Q)) := w_call1 (av := [v1]) (Or.inr ⟨⟨⟨_, rfl⟩, rfl⟩, rfl⟩) dX0_eldest_66 rfl hc rfl (y_F_mono _) (y_dle rfl) (y_dle rfl) rfl rfl
theorem wX0_eldest_71 : y_w M_X0_eldest mc ms Q (71, lv, .ref a :: r, ω, c, s) = y_tsc M_X0_eldest 246 (ω.2 a) (y_w M_X0_eldest mc ms Q (74, lv, .ref a :: r, ω, c, s)) (y_vmt M_X0_eldest mc ms 18 71 lv ω c s (y_w M_X0_eldest mc ms Q) Q) := w_checkcast dX0_eldest_71 rfl
theorem wX0_eldest_74 : y_w M_X0_eldest mc ms Q (74, lv, .ref a :: r, ω, c, s) = y_gf P_X0_eldest 248 (ω.2 a) (fun v => y_w M_X0_eldest mc ms Q (77, lv, v :: r, ω, c, s)) := w_getfield dX0_eldest_74 rfl rfl
theorem wX0_eldest_77 : y_w M_X0_eldest mc ms Q (77, lv, .int x :: r, ω, c, s) = y_w M_X0_eldest mc ms Q (79, (5, .int x) :: y_kill 5 lv, r, ω, c, s) := w_istore dX0_eldest_77 (y_dle rfl) rfl
theorem wX0_eldest_79 : y_w M_X0_eldest mc ms Q (79, lv, st, ω, c, s) = y_ldI lv 5 (fun v => y_w M_X0_eldest mc ms Q (81, lv, v :: st, ω, c, s)) := w_iload dX0_eldest_79 rfl
theorem wX0_eldest_81 : y_w M_X0_eldest mc ms Q (81, lv, st, ω, c, s) = y_ldI lv 3 (fun v => y_w M_X0_eldest mc ms Q (82, lv, v :: st, ω, c, s)) := w_iload_n dX0_eldest_81 rfl rfl
theorem wX0_eldest_82 : y_w M_X0_eldest mc ms Q (82, lv, .int y :: .int x :: r, ω, c, s) = ((x ≤ y → y_w M_X0_eldest mc ms Q (90, lv, r, ω, c, s)) ∧ (¬ (x ≤ y) → y_w M_X0_eldest mc ms Q (85, lv, r, ω, c, s))) := w_icmp dX0_eldest_82 (tgt := 90) rfl rfl rfl
theorem wX0_eldest_85 : y_w M_X0_eldest mc ms Q (85, lv, st, ω, c, s) = y_ldI lv 4 (fun v => y_w M_X0_eldest mc ms Q (87, lv, v :: st, ω, c, s)) := w_iload dX0_eldest_85 rfl
theorem wX0_eldest_87 : y_w M_X0_eldest mc ms Q (87, lv, st, ω, c, s) = y_w M_X0_eldest mc ms Q (91, lv, st, ω, c, s) := w_goto dX0_eldest_87 (tgt := 91) (by decide) rfl
theorem wX0_eldest_90 : y_w M_X0_eldest mc ms Q (90, lv, st, ω, c, s) = y_ldI lv 2 (fun v => y_w M_X0_eldest mc ms Q (91, lv, v :: st, ω, c, s)) := w_iload_n dX0_eldest_90 rfl rfl
theorem wX0_eldest_91 : y_w M_X0_eldest mc ms Q (91, lv, .int x :: r, ω, c, s) = y_w M_X0_eldest mc ms Q (92, (2, .int x) :: y_kill 2 lv, r, ω, c, s) := w_istore_n dX0_eldest_91 rfl (y_dle rfl) rfl
theorem wX0_eldest_92 : y_w M_X0_eldest mc ms Q (92, lv, st, ω, c, s) = y_ldI lv 3 (fun v => y_w M_X0_eldest mc ms Q (93, lv, v :: st, ω, c, s)) := w_iload_n dX0_eldest_92 rfl rfl
theorem wX0_eldest_93 : y_w M_X0_eldest mc ms Q (93, lv, st, ω, c, s) = y_ldI lv 5 (fun v => y_w M_X0_eldest mc ms Q (95, lv, v :: st, ω, c, s)) := w_iload dX0_eldest_93 rfl
theorem wX0_eldest_95 : y_w M_X0_eldest mc ms Q (95, lv, v1 :: v0 :: r, ω, c, s) = (y_cat r ≤ 8 ∧ F_J13_max mc ms [v0, v1] ω c s (y_aft M_X0_eldest 95 3 lv r (y_w M_X0_eldest mc ms Q) Q)) := w_call0 (av := [v0, v1]) ⟨Or.inr ⟨rfl, rfl⟩, rfl⟩ dX0_eldest_95 rfl (y_F_mono _) (y_dle rfl) (y_dle rfl) rfl rfl
theorem wX0_eldest_98 : y_w M_X0_eldest mc ms Q (98, lv, .int x :: r, ω, c, s) = y_w M_X0_eldest mc ms Q (99, (3, .int x) :: y_kill 3 lv, r, ω, c, s) := w_istore_n dX0_eldest_98 rfl (y_dle rfl) rfl
theorem wX0_eldest_99 : y_w M_X0_eldest mc ms Q (99, lv, st, ω, c, s) = y_inc lv 4 (fun x => y_w M_X0_eldest mc ms Q (102, (4, .int (x + 1)) :: y_kill 4 lv, st, ω, c, s)) := w_iinc dX0_eldest_99 (d := 1) (by decide) (y_dle rfl) rfl
theorem wX0_eldest_102 : y_w M_X0_eldest mc ms Q (102, lv, st, ω, c, s) = ∃ lv2, y_lsub lv2 lv ∧ y_w M_X0_eldest mc ms Q (28, lv2, st, ω, c, s) := w_back dX0_eldest_102 (tgt := 28) (by decide) rfl
theorem wX0_eldest_105 : y_w M_X0_eldest mc ms Q (105, lv, st, ω, c, s) = y_ldI lv 2 (fun v => y_w M_X0_eldest mc ms Q (106, lv, v :: st, ω, c, s)) := w_iload_n dX0_eldest_105 rfl rfl
theorem wX0_eldest_106 : y_w M_X0_eldest mc ms Q (106, lv, [.int x], ω, c, s) = Q (.returned (some (.int x))) ω c s := w_ireturnI dX0_eldest_106 rfl
def P_X0_image (ad : y_Ad) : y_Pool := ([(47, 0, 7, (.array (.object "YoungerBack$League")), true), (39, 0, 4, (.object "YoungerBack$League"), true)], [(36, 1, [.int 0, .int 0, .int 0, .null, .null, .null, .null, .null, .null, .null, .null, .null, .null, .null])], [(93, .int (-1000001)), (192, .int (-1000002))], [(79, 0, 0, 3, (1, 25), F_X0_isIn), (305, 1, 0, 1, (1, 20), F_X0_isLeague), (38, 2, 0, 1, (5, 100), (y_ref (F_X1_init ad))), (154, 1, 1, 2, (2, 81), F_X1_become)], [], [], [])
def M_X0_image (ad : y_Ad) : y_Md := (cX0_image, "YoungerBack", (2, (some FieldType.int)), (5, 100), false, (P_X0_image ad), [])
def F_X0_image (ad : y_Ad) : y_Tr := y_F (M_X0_image ad)
theorem nX0_image : y_nL (M_X0_image ad) = 2 := rfl
theorem fX0_image_47_0 : y_ffP (P_X0_image ad) 47 0 = some (7, (.array (.object "YoungerBack$League")), true) := rfl
theorem fX0_image_39_0 : y_ffP (P_X0_image ad) 39 0 = some (4, (.object "YoungerBack$League"), true) := rfl
theorem wX0_image_0 : y_w (M_X0_image ad) mc ms Q (0, lv, st, ω, c, s) = y_ldI lv 1 (fun v => y_w (M_X0_image ad) mc ms Q (1, lv, v :: st, ω, c, s)) := w_iload_n dX0_image_0 rfl rfl
theorem wX0_image_1 : y_w (M_X0_image ad) mc ms Q (1, lv, .int x :: r, ω, c, s) = y_w (M_X0_image ad) mc ms Q (2, lv, .long x.toInt64 :: r, ω, c, s) := w_i2l dX0_image_1 rfl
theorem wX0_image_2 : y_w (M_X0_image ad) mc ms Q (2, lv, st, ω, c, s) = y_w (M_X0_image ad) mc ms Q (3, lv, .long 0 :: st, ω, c, s) := w_lconst dX0_image_2 (v := 0) (by decide) rfl
theorem wX0_image_3 : y_w (M_X0_image ad) mc ms Q (3, lv, st, ω, c, s) = y_w (M_X0_image ad) mc ms Q (4, lv, .long 1 :: st, ω, c, s) := w_lconst dX0_image_3 (v := 1) (by decide) rfl
theorem wX0_image_4 : y_w (M_X0_image ad) mc ms Q (4, lv, v2 :: v1 :: v0 :: r, ω, c, s) = (y_cat r ≤ 8 ∧ F_X0_isIn mc ms [v0, v1, v2] ω c s (y_aft (M_X0_image ad) 4 3 lv r (y_w (M_X0_image ad) mc ms Q) Q)) := w_call0 (av := [v0, v1, v2]) ⟨Or.inr ⟨rfl, rfl⟩, rfl⟩ dX0_image_4 rfl (y_F_mono _) (y_dle rfl) (y_dle rfl) rfl rfl
theorem wX0_image_7 : y_w (M_X0_image ad) mc ms Q (7, lv, .int x :: r, ω, c, s) = ((¬ x = 0 → y_w (M_X0_image ad) mc ms Q (13, lv, r, ω, c, s)) ∧ (¬ (¬ x = 0) → y_w (M_X0_image ad) mc ms Q (10, lv, r, ω, c, s))) := w_if dX0_image_7 (tgt := 13) rfl rfl rfl
theorem wX0_image_10 : y_w (M_X0_image ad) mc ms Q (10, lv, st, ω, c, s) = y_w (M_X0_image ad) mc ms Q (12, lv, .int (-1000001) :: st, ω, c, s) := w_ldc dX0_image_10 rfl rfl rfl
theorem wX0_image_12 : y_w (M_X0_image ad) mc ms Q (12, lv, [.int x], ω, c, s) = Q (.returned (some (.int x))) ω c s := w_ireturnI dX0_image_12 rfl
theorem wX0_image_13 : y_w (M_X0_image ad) mc ms Q (13, lv, st, ω, c, s) = y_ldA lv 0 (fun v => y_w (M_X0_image ad) mc ms Q (14, lv, v :: st, ω, c, s)) := w_aload_n dX0_image_13 rfl rfl
theorem wX0_image_14 (hc : y_cls ω a = some 0) : y_w (M_X0_image ad) mc ms Q (14, lv, .ref a :: r, ω, c, s) = (y_cat r ≤ 8 ∧ F_X0_isLeague mc ms [.ref a] ω c s (y_aft (M_X0_image ad) 14 3 lv r (y_w (M_X0_image ad) mc ms Q) Q)) := w_call1 (av := []) (Or.inl ⟨⟨rfl, rfl⟩, rfl⟩) dX0_image_14 rfl hc rfl (y_F_mono _) (y_dle rfl) (y_dle rfl) rfl rfl
theorem wX0_image_17 : y_w (M_X0_image ad) mc ms Q (17, lv, .int x :: r, ω, c, s) = ((¬ x = 0 → y_w (M_X0_image ad) mc ms Q (23, lv, r, ω, c, s)) ∧ (¬ (¬ x = 0) → y_w (M_X0_image ad) mc ms Q (20, lv, r, ω, c, s))) := w_if dX0_image_17 (tgt := 23) rfl rfl rfl
theorem wX0_image_20 : y_w (M_X0_image ad) mc ms Q (20, lv, st, ω, c, s) = y_w (M_X0_image ad) mc ms Q (22, lv, .int (-1000002) :: st, ω, c, s) := w_ldc dX0_image_20 rfl rfl rfl
theorem wX0_image_22 : y_w (M_X0_image ad) mc ms Q (22, lv, [.int x], ω, c, s) = Q (.returned (some (.int x))) ω c s := w_ireturnI dX0_image_22 rfl
theorem wX0_image_23 : y_w (M_X0_image ad) mc ms Q (23, lv, st, ω, c, s) = y_ldA lv 0 (fun v => y_w (M_X0_image ad) mc ms Q (24, lv, v :: st, ω, c, s)) := w_aload_n dX0_image_23 rfl rfl
theorem wX0_image_24 : y_w (M_X0_image ad) mc ms Q (24, lv, .ref a :: r, ω, c, s) = y_gf (P_X0_image ad) 47 (ω.2 a) (fun v => y_w (M_X0_image ad) mc ms Q (27, lv, v :: r, ω, c, s)) := w_getfield dX0_image_24 rfl rfl
theorem wX0_image_27 : y_w (M_X0_image ad) mc ms Q (27, lv, st, ω, c, s) = y_ldI lv 1 (fun v => y_w (M_X0_image ad) mc ms Q (28, lv, v :: st, ω, c, s)) := w_iload_n dX0_image_27 rfl rfl
theorem wX0_image_28 : y_w (M_X0_image ad) mc ms Q (28, lv, .int j :: .ref a :: r, ω, c, s) = y_rA (ω.2 a) j (fun x => y_w (M_X0_image ad) mc ms Q (29, lv, x :: r, ω, c, s)) := w_aaload dX0_image_28 rfl
theorem wX0_image_29 : y_w (M_X0_image ad) mc ms Q (29, lv, v :: r, ω, c, s) = y_nul v (y_w (M_X0_image ad) mc ms Q (32, lv, r, ω, c, s)) (y_w (M_X0_image ad) mc ms Q (45, lv, r, ω, c, s)) := w_ifnonnull dX0_image_29 rfl rfl
theorem wX0_image_32 : y_w (M_X0_image ad) mc ms Q (32, lv, st, ω, c, s) = y_ldA lv 0 (fun v => y_w (M_X0_image ad) mc ms Q (33, lv, v :: st, ω, c, s)) := w_aload_n dX0_image_32 rfl rfl
theorem wX0_image_33 : y_w (M_X0_image ad) mc ms Q (33, lv, .ref a :: r, ω, c, s) = y_gf (P_X0_image ad) 47 (ω.2 a) (fun v => y_w (M_X0_image ad) mc ms Q (36, lv, v :: r, ω, c, s)) := w_getfield dX0_image_33 rfl rfl
theorem wX0_image_36 : y_w (M_X0_image ad) mc ms Q (36, lv, st, ω, c, s) = y_ldI lv 1 (fun v => y_w (M_X0_image ad) mc ms Q (37, lv, v :: st, ω, c, s)) := w_iload_n dX0_image_36 rfl rfl
theorem wX0_image_37 : y_w (M_X0_image ad) mc ms Q (37, lv, st, ω, c, s) = (y_room mc ms c s 14 ∧ y_w (M_X0_image ad) mc ms Q (40, lv, .ref ω.1 :: st, y_hnew ω (.inr (1, [.int 0, .int 0, .int 0, .null, .null, .null, .null, .null, .null, .null, .null, .null, .null, .null])), c + 1, s + 14)) := w_new dX0_image_37 rfl rfl rfl
theorem wX0_image_40 : y_w (M_X0_image ad) mc ms Q (40, lv, v :: r, ω, c, s) = (v.category = 1 ∧ y_w (M_X0_image ad) mc ms Q (41, lv, v :: v :: r, ω, c, s)) := w_dup dX0_image_40 rfl
theorem wX0_image_41 : y_w (M_X0_image ad) mc ms Q (41, lv, v0 :: r, ω, c, s) = (y_cat r ≤ 8 ∧ (y_ref (F_X1_init ad)) mc ms [v0] ω c s (y_aft (M_X0_image ad) 41 3 lv r (y_w (M_X0_image ad) mc ms Q) Q)) := w_call0 (av := [v0]) ⟨Or.inl ⟨rfl, rfl⟩, rfl⟩ dX0_image_41 rfl (y_ref_mono (y_F_mono _)) (y_dle rfl) (y_dle rfl) rfl rfl
theorem wX0_image_44 : y_w (M_X0_image ad) mc ms Q (44, lv, v :: .int j :: .ref a :: r, ω, c, s) = y_wA (ω.2 a) j v ω (fun e => y_w (M_X0_image ad) mc ms Q (45, lv, r, y_hup ω a e, c, s)) := w_aastore dX0_image_44 rfl
theorem wX0_image_45 : y_w (M_X0_image ad) mc ms Q (45, lv, st, ω, c, s) = y_ldA lv 0 (fun v => y_w (M_X0_image ad) mc ms Q (46, lv, v :: st, ω, c, s)) := w_aload_n dX0_image_45 rfl rfl
theorem wX0_image_46 : y_w (M_X0_image ad) mc ms Q (46, lv, .ref a :: r, ω, c, s) = y_gf (P_X0_image ad) 47 (ω.2 a) (fun v => y_w (M_X0_image ad) mc ms Q (49, lv, v :: r, ω, c, s)) := w_getfield dX0_image_46 rfl rfl
theorem wX0_image_49 : y_w (M_X0_image ad) mc ms Q (49, lv, st, ω, c, s) = y_ldI lv 1 (fun v => y_w (M_X0_image ad) mc ms Q (50, lv, v :: st, ω, c, s)) := w_iload_n dX0_image_49 rfl rfl
theorem wX0_image_50 : y_w (M_X0_image ad) mc ms Q (50, lv, .int j :: .ref a :: r, ω, c, s) = y_rA (ω.2 a) j (fun x => y_w (M_X0_image ad) mc ms Q (51, lv, x :: r, ω, c, s)) := w_aaload dX0_image_50 rfl
theorem wX0_image_51 : y_w (M_X0_image ad) mc ms Q (51, lv, st, ω, c, s) = y_ldA lv 0 (fun v => y_w (M_X0_image ad) mc ms Q (52, lv, v :: st, ω, c, s)) := w_aload_n dX0_image_51 rfl rfl
theorem wX0_image_52 : y_w (M_X0_image ad) mc ms Q (52, lv, .ref a :: r, ω, c, s) = y_gf (P_X0_image ad) 39 (ω.2 a) (fun v => y_w (M_X0_image ad) mc ms Q (55, lv, v :: r, ω, c, s)) := w_getfield dX0_image_52 rfl rfl
theorem wX0_image_55 (hc : y_cls ω a = some 1) : y_w (M_X0_image ad) mc ms Q (55, lv, v1 :: .ref a :: r, ω, c, s) = (y_cat r ≤ 8 ∧ F_X1_become mc ms [.ref a, v1] ω c s (y_aft (M_X0_image ad) 55 3 lv r (y_w (M_X0_image ad) mc ms Q) Q)) := w_call1 (av := [v1]) (Or.inl ⟨⟨rfl, rfl⟩, rfl⟩) dX0_image_55 rfl hc rfl (y_F_mono _) (y_dle rfl) (y_dle rfl) rfl rfl
theorem wX0_image_58 : y_w (M_X0_image ad) mc ms Q (58, lv, v :: r, ω, c, s) = (v.category = 1 ∧ y_w (M_X0_image ad) mc ms Q (59, lv, r, ω, c, s)) := w_pop dX0_image_58 rfl
theorem wX0_image_59 : y_w (M_X0_image ad) mc ms Q (59, lv, st, ω, c, s) = y_w (M_X0_image ad) mc ms Q (60, lv, .int 1 :: st, ω, c, s) := w_iconst dX0_image_59 (v := 1) (by decide) rfl
theorem wX0_image_60 : y_w (M_X0_image ad) mc ms Q (60, lv, [.int x], ω, c, s) = Q (.returned (some (.int x))) ω c s := w_ireturnI dX0_image_60 rfl
def P_X0_restore : y_Pool := ([(47, 0, 7, (.array (.object "YoungerBack$League")), true), (39, 0, 4, (.object "YoungerBack$League"), true), (158, 0, 6, .int, false)], [], [(93, .int (-1000001)), (192, .int (-1000002))], [(79, 0, 0, 3, (1, 25), F_X0_isIn), (154, 1, 1, 2, (2, 81), F_X1_become)], [], [], [])
def M_X0_restore : y_Md := (cX0_restore, "YoungerBack", (2, (some FieldType.int)), (2, 81), false, P_X0_restore, [])
def F_X0_restore : y_Tr := y_F M_X0_restore
theorem nX0_restore : y_nL M_X0_restore = 2 := rfl
theorem fX0_restore_47_0 : y_ffP P_X0_restore 47 0 = some (7, (.array (.object "YoungerBack$League")), true) := rfl
theorem fX0_restore_39_0 : y_ffP P_X0_restore 39 0 = some (4, (.object "YoungerBack$League"), true) := rfl
theorem fX0_restore_158_0 : y_ffP P_X0_restore 158 0 = some (6, .int, false) := rfl
theorem wX0_restore_0 : y_w M_X0_restore mc ms Q (0, lv, st, ω, c, s) = y_ldI lv 1 (fun v => y_w M_X0_restore mc ms Q (1, lv, v :: st, ω, c, s)) := w_iload_n dX0_restore_0 rfl rfl
theorem wX0_restore_1 : y_w M_X0_restore mc ms Q (1, lv, .int x :: r, ω, c, s) = y_w M_X0_restore mc ms Q (2, lv, .long x.toInt64 :: r, ω, c, s) := w_i2l dX0_restore_1 rfl
theorem wX0_restore_2 : y_w M_X0_restore mc ms Q (2, lv, st, ω, c, s) = y_w M_X0_restore mc ms Q (3, lv, .long 0 :: st, ω, c, s) := w_lconst dX0_restore_2 (v := 0) (by decide) rfl
theorem wX0_restore_3 : y_w M_X0_restore mc ms Q (3, lv, st, ω, c, s) = y_w M_X0_restore mc ms Q (4, lv, .long 1 :: st, ω, c, s) := w_lconst dX0_restore_3 (v := 1) (by decide) rfl
theorem wX0_restore_4 : y_w M_X0_restore mc ms Q (4, lv, v2 :: v1 :: v0 :: r, ω, c, s) = (y_cat r ≤ 8 ∧ F_X0_isIn mc ms [v0, v1, v2] ω c s (y_aft M_X0_restore 4 3 lv r (y_w M_X0_restore mc ms Q) Q)) := w_call0 (av := [v0, v1, v2]) ⟨Or.inr ⟨rfl, rfl⟩, rfl⟩ dX0_restore_4 rfl (y_F_mono _) (y_dle rfl) (y_dle rfl) rfl rfl
theorem wX0_restore_7 : y_w M_X0_restore mc ms Q (7, lv, .int x :: r, ω, c, s) = ((¬ x = 0 → y_w M_X0_restore mc ms Q (13, lv, r, ω, c, s)) ∧ (¬ (¬ x = 0) → y_w M_X0_restore mc ms Q (10, lv, r, ω, c, s))) := w_if dX0_restore_7 (tgt := 13) rfl rfl rfl
theorem wX0_restore_10 : y_w M_X0_restore mc ms Q (10, lv, st, ω, c, s) = y_w M_X0_restore mc ms Q (12, lv, .int (-1000001) :: st, ω, c, s) := w_ldc dX0_restore_10 rfl rfl rfl
theorem wX0_restore_12 : y_w M_X0_restore mc ms Q (12, lv, [.int x], ω, c, s) = Q (.returned (some (.int x))) ω c s := w_ireturnI dX0_restore_12 rfl
theorem wX0_restore_13 : y_w M_X0_restore mc ms Q (13, lv, st, ω, c, s) = y_ldA lv 0 (fun v => y_w M_X0_restore mc ms Q (14, lv, v :: st, ω, c, s)) := w_aload_n dX0_restore_13 rfl rfl
theorem wX0_restore_14 : y_w M_X0_restore mc ms Q (14, lv, .ref a :: r, ω, c, s) = y_gf P_X0_restore 47 (ω.2 a) (fun v => y_w M_X0_restore mc ms Q (17, lv, v :: r, ω, c, s)) := w_getfield dX0_restore_14 rfl rfl
theorem wX0_restore_17 : y_w M_X0_restore mc ms Q (17, lv, st, ω, c, s) = y_ldI lv 1 (fun v => y_w M_X0_restore mc ms Q (18, lv, v :: st, ω, c, s)) := w_iload_n dX0_restore_17 rfl rfl
theorem wX0_restore_18 : y_w M_X0_restore mc ms Q (18, lv, .int j :: .ref a :: r, ω, c, s) = y_rA (ω.2 a) j (fun x => y_w M_X0_restore mc ms Q (19, lv, x :: r, ω, c, s)) := w_aaload dX0_restore_18 rfl
theorem wX0_restore_19 : y_w M_X0_restore mc ms Q (19, lv, v :: r, ω, c, s) = y_nul v (y_w M_X0_restore mc ms Q (22, lv, r, ω, c, s)) (y_w M_X0_restore mc ms Q (25, lv, r, ω, c, s)) := w_ifnonnull dX0_restore_19 rfl rfl
theorem wX0_restore_22 : y_w M_X0_restore mc ms Q (22, lv, st, ω, c, s) = y_w M_X0_restore mc ms Q (24, lv, .int (-1000002) :: st, ω, c, s) := w_ldc dX0_restore_22 rfl rfl rfl
theorem wX0_restore_24 : y_w M_X0_restore mc ms Q (24, lv, [.int x], ω, c, s) = Q (.returned (some (.int x))) ω c s := w_ireturnI dX0_restore_24 rfl
theorem wX0_restore_25 : y_w M_X0_restore mc ms Q (25, lv, st, ω, c, s) = y_ldA lv 0 (fun v => y_w M_X0_restore mc ms Q (26, lv, v :: st, ω, c, s)) := w_aload_n dX0_restore_25 rfl rfl
theorem wX0_restore_26 : y_w M_X0_restore mc ms Q (26, lv, .ref a :: r, ω, c, s) = y_gf P_X0_restore 39 (ω.2 a) (fun v => y_w M_X0_restore mc ms Q (29, lv, v :: r, ω, c, s)) := w_getfield dX0_restore_26 rfl rfl
theorem wX0_restore_29 : y_w M_X0_restore mc ms Q (29, lv, st, ω, c, s) = y_ldA lv 0 (fun v => y_w M_X0_restore mc ms Q (30, lv, v :: st, ω, c, s)) := w_aload_n dX0_restore_29 rfl rfl
theorem wX0_restore_30 : y_w M_X0_restore mc ms Q (30, lv, .ref a :: r, ω, c, s) = y_gf P_X0_restore 47 (ω.2 a) (fun v => y_w M_X0_restore mc ms Q (33, lv, v :: r, ω, c, s)) := w_getfield dX0_restore_30 rfl rfl
theorem wX0_restore_33 : y_w M_X0_restore mc ms Q (33, lv, st, ω, c, s) = y_ldI lv 1 (fun v => y_w M_X0_restore mc ms Q (34, lv, v :: st, ω, c, s)) := w_iload_n dX0_restore_33 rfl rfl
theorem wX0_restore_34 : y_w M_X0_restore mc ms Q (34, lv, .int j :: .ref a :: r, ω, c, s) = y_rA (ω.2 a) j (fun x => y_w M_X0_restore mc ms Q (35, lv, x :: r, ω, c, s)) := w_aaload dX0_restore_34 rfl
theorem wX0_restore_35 (hc : y_cls ω a = some 1) : y_w M_X0_restore mc ms Q (35, lv, v1 :: .ref a :: r, ω, c, s) = (y_cat r ≤ 8 ∧ F_X1_become mc ms [.ref a, v1] ω c s (y_aft M_X0_restore 35 3 lv r (y_w M_X0_restore mc ms Q) Q)) := w_call1 (av := [v1]) (Or.inl ⟨⟨rfl, rfl⟩, rfl⟩) dX0_restore_35 rfl hc rfl (y_F_mono _) (y_dle rfl) (y_dle rfl) rfl rfl
theorem wX0_restore_38 : y_w M_X0_restore mc ms Q (38, lv, v :: r, ω, c, s) = (v.category = 1 ∧ y_w M_X0_restore mc ms Q (39, lv, r, ω, c, s)) := w_pop dX0_restore_38 rfl
theorem wX0_restore_39 : y_w M_X0_restore mc ms Q (39, lv, st, ω, c, s) = y_ldA lv 0 (fun v => y_w M_X0_restore mc ms Q (40, lv, v :: st, ω, c, s)) := w_aload_n dX0_restore_39 rfl rfl
theorem wX0_restore_40 : y_w M_X0_restore mc ms Q (40, lv, st, ω, c, s) = y_w M_X0_restore mc ms Q (41, lv, .int 0 :: st, ω, c, s) := w_iconst dX0_restore_40 (v := 0) (by decide) rfl
theorem wX0_restore_41 : y_w M_X0_restore mc ms Q (41, lv, v :: .ref a :: r, ω, c, s) = y_pf P_X0_restore false 158 (ω.2 a) v (fun ci fs => y_w M_X0_restore mc ms Q (44, lv, r, y_hup ω a (.inr (ci, fs)), c, s)) := w_putfield dX0_restore_41 rfl rfl rfl
theorem wX0_restore_44 : y_w M_X0_restore mc ms Q (44, lv, st, ω, c, s) = y_w M_X0_restore mc ms Q (45, lv, .int 1 :: st, ω, c, s) := w_iconst dX0_restore_44 (v := 1) (by decide) rfl
theorem wX0_restore_45 : y_w M_X0_restore mc ms Q (45, lv, [.int x], ω, c, s) = Q (.returned (some (.int x))) ω c s := w_ireturnI dX0_restore_45 rfl
def P_X9_kind : y_Pool := ([], [], [], [], [], [], [])
def M_X9_kind : y_Md := (cX9_kind, "YoungerBack$Captain", (1, (some FieldType.int)), (0, 0), false, P_X9_kind, [])
def F_X9_kind : y_Tr := y_F M_X9_kind
theorem nX9_kind : y_nL M_X9_kind = 1 := rfl
theorem wX9_kind_0 : y_w M_X9_kind mc ms Q (0, lv, st, ω, c, s) = y_w M_X9_kind mc ms Q (1, lv, .int 1 :: st, ω, c, s) := w_iconst dX9_kind_0 (v := 1) (by decide) rfl
theorem wX9_kind_1 : y_w M_X9_kind mc ms Q (1, lv, [.int x], ω, c, s) = Q (.returned (some (.int x))) ω c s := w_ireturnI dX9_kind_1 rfl
def P_X10_kind : y_Pool := ([], [], [], [], [], [], [])
def M_X10_kind : y_Md := (cX10_kind, "YoungerBack$Pilot", (1, (some FieldType.int)), (0, 0), false, P_X10_kind, [])
def F_X10_kind : y_Tr := y_F M_X10_kind
theorem nX10_kind : y_nL M_X10_kind = 1 := rfl
theorem wX10_kind_0 : y_w M_X10_kind mc ms Q (0, lv, st, ω, c, s) = y_w M_X10_kind mc ms Q (1, lv, .int (nI 2) :: st, ω, c, s) := w_iconst dX10_kind_0 (v := (nI 2)) (by decide) rfl
theorem wX10_kind_1 : y_w M_X10_kind mc ms Q (1, lv, [.int x], ω, c, s) = Q (.returned (some (.int x))) ω c s := w_ireturnI dX10_kind_1 rfl
def P_X11_kind : y_Pool := ([], [], [], [], [], [], [])
def M_X11_kind : y_Md := (cX11_kind, "YoungerBack$Monk", (1, (some FieldType.int)), (0, 0), false, P_X11_kind, [])
def F_X11_kind : y_Tr := y_F M_X11_kind
theorem nX11_kind : y_nL M_X11_kind = 1 := rfl
theorem wX11_kind_0 : y_w M_X11_kind mc ms Q (0, lv, st, ω, c, s) = y_w M_X11_kind mc ms Q (1, lv, .int (nI 3) :: st, ω, c, s) := w_iconst dX11_kind_0 (v := (nI 3)) (by decide) rfl
theorem wX11_kind_1 : y_w M_X11_kind mc ms Q (1, lv, [.int x], ω, c, s) = Q (.returned (some (.int x))) ω c s := w_ireturnI dX11_kind_1 rfl
def P_X12_kind : y_Pool := ([], [], [], [], [], [], [])
def M_X12_kind : y_Md := (cX12_kind, "YoungerBack$Clerk", (1, (some FieldType.int)), (0, 0), false, P_X12_kind, [])
def F_X12_kind : y_Tr := y_F M_X12_kind
theorem nX12_kind : y_nL M_X12_kind = 1 := rfl
theorem wX12_kind_0 : y_w M_X12_kind mc ms Q (0, lv, st, ω, c, s) = y_w M_X12_kind mc ms Q (1, lv, .int (nI 4) :: st, ω, c, s) := w_iconst dX12_kind_0 (v := (nI 4)) (by decide) rfl
theorem wX12_kind_1 : y_w M_X12_kind mc ms Q (1, lv, [.int x], ω, c, s) = Q (.returned (some (.int x))) ω c s := w_ireturnI dX12_kind_1 rfl
def P_X13_kind : y_Pool := ([], [], [], [], [], [], [])
def M_X13_kind : y_Md := (cX13_kind, "YoungerBack$Boy", (1, (some FieldType.int)), (0, 0), false, P_X13_kind, [])
def F_X13_kind : y_Tr := y_F M_X13_kind
theorem nX13_kind : y_nL M_X13_kind = 1 := rfl
theorem wX13_kind_0 : y_w M_X13_kind mc ms Q (0, lv, st, ω, c, s) = y_w M_X13_kind mc ms Q (1, lv, .int (nI 5) :: st, ω, c, s) := w_iconst dX13_kind_0 (v := (nI 5)) (by decide) rfl
theorem wX13_kind_1 : y_w M_X13_kind mc ms Q (1, lv, [.int x], ω, c, s) = Q (.returned (some (.int x))) ω c s := w_ireturnI dX13_kind_1 rfl
def P_X0_kind : y_Pool := ([(39, 0, 4, (.object "YoungerBack$League"), true), (236, 1, 7, (.object "java/util/List"), false)], [], [(93, .int (-1000001))], [(168, 1, 0, 2, (3, 61), F_X0_isPerson), (240, 3, 14, 2, (3, 64), F_J2_get), (312, 1, 9, 1, (1, 20), F_X9_kind), (312, 1, 10, 1, (1, 20), F_X10_kind), (312, 1, 11, 1, (1, 20), F_X11_kind), (312, 1, 12, 1, (1, 20), F_X12_kind), (312, 1, 13, 1, (1, 20), F_X13_kind)], [(246, 9, 1), (246, 10, 1), (246, 11, 1), (246, 12, 1), (246, 13, 1)], [], [])
def M_X0_kind : y_Md := (cX0_kind, "YoungerBack", (2, (some FieldType.int)), (3, 64), false, P_X0_kind, [])
def F_X0_kind : y_Tr := y_F M_X0_kind
theorem nX0_kind : y_nL M_X0_kind = 2 := rfl
theorem tX0_kind_246_9 : y_ft M_X0_kind 246 9 = some 1 := rfl
theorem tX0_kind_246_10 : y_ft M_X0_kind 246 10 = some 1 := rfl
theorem tX0_kind_246_11 : y_ft M_X0_kind 246 11 = some 1 := rfl
theorem tX0_kind_246_12 : y_ft M_X0_kind 246 12 = some 1 := rfl
theorem tX0_kind_246_13 : y_ft M_X0_kind 246 13 = some 1 := rfl
theorem fX0_kind_39_0 : y_ffP P_X0_kind 39 0 = some (4, (.object "YoungerBack$League"), true) := rfl
theorem fX0_kind_236_1 : y_ffP P_X0_kind 236 1 = some (7, (.object "java/util/List"), false) := rfl
theorem wX0_kind_0 : y_w M_X0_kind mc ms Q (0, lv, st, ω, c, s) = y_ldA lv 0 (fun v => y_w M_X0_kind mc ms Q (1, lv, v :: st, ω, c, s)) := w_aload_n dX0_kind_0 rfl rfl
theorem wX0_kind_1 : y_w M_X0_kind mc ms Q (1, lv, st, ω, c, s) = y_ldI lv 1 (fun v => y_w M_X0_kind mc ms Q (2, lv, v :: st, ω, c, s)) := w_iload_n dX0_kind_1 rfl rfl
theorem wX0_kind_2 (hc : y_cls ω a = some 0) : y_w M_X0_kind mc ms Q (2, lv, v1 :: .ref a :: r, ω, c, s) = (y_cat r ≤ 8 ∧ F_X0_isPerson mc ms [.ref a, v1] ω c s (y_aft M_X0_kind 2 3 lv r (y_w M_X0_kind mc ms Q) Q)) := w_call1 (av := [v1]) (Or.inl ⟨⟨rfl, rfl⟩, rfl⟩) dX0_kind_2 rfl hc rfl (y_F_mono _) (y_dle rfl) (y_dle rfl) rfl rfl
theorem wX0_kind_5 : y_w M_X0_kind mc ms Q (5, lv, .int x :: r, ω, c, s) = ((x = 0 → y_w M_X0_kind mc ms Q (30, lv, r, ω, c, s)) ∧ (¬ (x = 0) → y_w M_X0_kind mc ms Q (8, lv, r, ω, c, s))) := w_if dX0_kind_5 (tgt := 30) rfl rfl rfl
theorem wX0_kind_8 : y_w M_X0_kind mc ms Q (8, lv, st, ω, c, s) = y_ldA lv 0 (fun v => y_w M_X0_kind mc ms Q (9, lv, v :: st, ω, c, s)) := w_aload_n dX0_kind_8 rfl rfl
theorem wX0_kind_9 : y_w M_X0_kind mc ms Q (9, lv, .ref a :: r, ω, c, s) = y_gf P_X0_kind 39 (ω.2 a) (fun v => y_w M_X0_kind mc ms Q (12, lv, v :: r, ω, c, s)) := w_getfield dX0_kind_9 rfl rfl
theorem wX0_kind_12 : y_w M_X0_kind mc ms Q (12, lv, .ref a :: r, ω, c, s) = y_gf P_X0_kind 236 (ω.2 a) (fun v => y_w M_X0_kind mc ms Q (15, lv, v :: r, ω, c, s)) := w_getfield dX0_kind_12 rfl rfl
theorem wX0_kind_15 : y_w M_X0_kind mc ms Q (15, lv, st, ω, c, s) = y_ldI lv 1 (fun v => y_w M_X0_kind mc ms Q (16, lv, v :: st, ω, c, s)) := w_iload_n dX0_kind_15 rfl rfl
theorem wX0_kind_16 (hc : y_cls ω a = some 14) : y_w M_X0_kind mc ms Q (16, lv, v1 :: .ref a :: r, ω, c, s) = (y_cat r ≤ 8 ∧ F_J2_get mc ms [.ref a, v1] ω c s (y_aft M_X0_kind 16 5 lv r (y_w M_X0_kind mc ms Q) Q)) := w_call1 (av := [v1]) (Or.inr ⟨⟨⟨_, rfl⟩, rfl⟩, rfl⟩) dX0_kind_16 rfl hc rfl (y_F_mono _) (y_dle rfl) (y_dle rfl) rfl rfl
theorem wX0_kind_21 : y_w M_X0_kind mc ms Q (21, lv, .ref a :: r, ω, c, s) = y_tsc M_X0_kind 246 (ω.2 a) (y_w M_X0_kind mc ms Q (24, lv, .ref a :: r, ω, c, s)) (y_vmt M_X0_kind mc ms 18 21 lv ω c s (y_w M_X0_kind mc ms Q) Q) := w_checkcast dX0_kind_21 rfl
theorem wX0_kind_24_c9 (hc : y_cls ω a = some 9) : y_w M_X0_kind mc ms Q (24, lv, .ref a :: r, ω, c, s) = (y_cat r ≤ 8 ∧ F_X9_kind mc ms [.ref a] ω c s (y_aft M_X0_kind 24 3 lv r (y_w M_X0_kind mc ms Q) Q)) := w_call1 (av := []) (Or.inl ⟨⟨rfl, rfl⟩, rfl⟩) dX0_kind_24 rfl hc rfl (y_F_mono _) (y_dle rfl) (y_dle rfl) rfl rfl
theorem wX0_kind_24_c10 (hc : y_cls ω a = some 10) : y_w M_X0_kind mc ms Q (24, lv, .ref a :: r, ω, c, s) = (y_cat r ≤ 8 ∧ F_X10_kind mc ms [.ref a] ω c s (y_aft M_X0_kind 24 3 lv r (y_w M_X0_kind mc ms Q) Q)) := w_call1 (av := []) (Or.inl ⟨⟨rfl, rfl⟩, rfl⟩) dX0_kind_24 rfl hc rfl (y_F_mono _) (y_dle rfl) (y_dle rfl) rfl rfl
theorem wX0_kind_24_c11 (hc : y_cls ω a = some 11) : y_w M_X0_kind mc ms Q (24, lv, .ref a :: r, ω, c, s) = (y_cat r ≤ 8 ∧ F_X11_kind mc ms [.ref a] ω c s (y_aft M_X0_kind 24 3 lv r (y_w M_X0_kind mc ms Q) Q)) := w_call1 (av := []) (Or.inl ⟨⟨rfl, rfl⟩, rfl⟩) dX0_kind_24 rfl hc rfl (y_F_mono _) (y_dle rfl) (y_dle rfl) rfl rfl
theorem wX0_kind_24_c12 (hc : y_cls ω a = some 12) : y_w M_X0_kind mc ms Q (24, lv, .ref a :: r, ω, c, s) = (y_cat r ≤ 8 ∧ F_X12_kind mc ms [.ref a] ω c s (y_aft M_X0_kind 24 3 lv r (y_w M_X0_kind mc ms Q) Q)) := w_call1 (av := []) (Or.inl ⟨⟨rfl, rfl⟩, rfl⟩) dX0_kind_24 rfl hc rfl (y_F_mono _) (y_dle rfl) (y_dle rfl) rfl rfl
theorem wX0_kind_24_c13 (hc : y_cls ω a = some 13) : y_w M_X0_kind mc ms Q (24, lv, .ref a :: r, ω, c, s) = (y_cat r ≤ 8 ∧ F_X13_kind mc ms [.ref a] ω c s (y_aft M_X0_kind 24 3 lv r (y_w M_X0_kind mc ms Q) Q)) := w_call1 (av := []) (Or.inl ⟨⟨rfl, rfl⟩, rfl⟩) dX0_kind_24 rfl hc rfl (y_F_mono _) (y_dle rfl) (y_dle rfl) rfl rfl
theorem wX0_kind_27 : y_w M_X0_kind mc ms Q (27, lv, st, ω, c, s) = y_w M_X0_kind mc ms Q (32, lv, st, ω, c, s) := w_goto dX0_kind_27 (tgt := 32) (by decide) rfl
theorem wX0_kind_30 : y_w M_X0_kind mc ms Q (30, lv, st, ω, c, s) = y_w M_X0_kind mc ms Q (32, lv, .int (-1000001) :: st, ω, c, s) := w_ldc dX0_kind_30 rfl rfl rfl
theorem wX0_kind_32 : y_w M_X0_kind mc ms Q (32, lv, [.int x], ω, c, s) = Q (.returned (some (.int x))) ω c s := w_ireturnI dX0_kind_32 rfl
def P_X8_number : y_Pool := ([(7, 9, 0, .int, true), (7, 10, 0, .int, true), (7, 11, 0, .int, true), (7, 12, 0, .int, true), (7, 13, 0, .int, true)], [], [], [], [], [], [])
def M_X8_number : y_Md := (cX8_number, "YoungerBack$Person", (1, (some FieldType.int)), (0, 0), false, P_X8_number, [])
def F_X8_number : y_Tr := y_F M_X8_number
theorem nX8_number : y_nL M_X8_number = 1 := rfl
theorem fX8_number_7_9 : y_ffP P_X8_number 7 9 = some (0, .int, true) := rfl
theorem fX8_number_7_10 : y_ffP P_X8_number 7 10 = some (0, .int, true) := rfl
theorem fX8_number_7_11 : y_ffP P_X8_number 7 11 = some (0, .int, true) := rfl
theorem fX8_number_7_12 : y_ffP P_X8_number 7 12 = some (0, .int, true) := rfl
theorem fX8_number_7_13 : y_ffP P_X8_number 7 13 = some (0, .int, true) := rfl
theorem wX8_number_0 : y_w M_X8_number mc ms Q (0, lv, st, ω, c, s) = y_ldA lv 0 (fun v => y_w M_X8_number mc ms Q (1, lv, v :: st, ω, c, s)) := w_aload_n dX8_number_0 rfl rfl
theorem wX8_number_1 : y_w M_X8_number mc ms Q (1, lv, .ref a :: r, ω, c, s) = y_gf P_X8_number 7 (ω.2 a) (fun v => y_w M_X8_number mc ms Q (4, lv, v :: r, ω, c, s)) := w_getfield dX8_number_1 rfl rfl
theorem wX8_number_4 : y_w M_X8_number mc ms Q (4, lv, [.int x], ω, c, s) = Q (.returned (some (.int x))) ω c s := w_ireturnI dX8_number_4 rfl
def P_X0_as (ad : y_Ad) : y_Pool := ([(39, 0, 4, (.object "YoungerBack$League"), true), (236, 1, 7, (.object "java/util/List"), false)], [(65, 4, [.null, .null, .null, .null, .null, .int 0, .int 0])], [(314, .long (lN 5)), (93, .int (-1000001))], [(168, 1, 0, 2, (3, 61), F_X0_isPerson), (79, 0, 0, 3, (1, 25), F_X0_isIn), (240, 3, 14, 2, (3, 64), F_J2_get), (316, 1, 9, 1, (1, 20), F_X8_number), (316, 1, 10, 1, (1, 20), F_X8_number), (316, 1, 11, 1, (1, 20), F_X8_number), (316, 1, 12, 1, (1, 20), F_X8_number), (316, 1, 13, 1, (1, 20), F_X8_number), (95, 1, 0, 2, (1, 21), F_X0_well), (74, 2, 0, 2, (4, 89), (y_ref (F_X4_init ad))), (99, 1, 0, 2, (1, 21), F_X0_found)], [(246, 9, 1), (246, 10, 1), (246, 11, 1), (246, 12, 1), (246, 13, 1), (3, 9, 1), (3, 10, 1), (3, 11, 1), (3, 12, 0), (3, 13, 0), (9, 9, 0), (9, 10, 1), (9, 11, 0), (9, 12, 0), (9, 13, 0), (12, 9, 0), (12, 10, 0), (12, 11, 1), (12, 12, 0), (12, 13, 0), (15, 9, 0), (15, 10, 0), (15, 11, 0), (15, 12, 1), (15, 13, 1), (18, 9, 0), (18, 10, 0), (18, 11, 0), (18, 12, 0), (18, 13, 1), (318, 4, 2), (318, 7, 2), (318, 17, 2), (318, 18, 3), (65, 4, 3), (65, 7, 2), (65, 17, 2), (65, 18, 2)], [], [])
def M_X0_as (ad : y_Ad) : y_Md := (cX0_as, "YoungerBack", (5, (some FieldType.int)), (8, 10280), false, (P_X0_as ad), [(40, 111, 112, 318), (23, 111, 123, 65), (112, 123, 123, 65)])
def F_X0_as (ad : y_Ad) : y_Tr := y_F (M_X0_as ad)
theorem nX0_as : y_nL (M_X0_as ad) = 5 := rfl
theorem tX0_as_246_9 : y_ft (M_X0_as ad) 246 9 = some 1 := rfl
theorem tX0_as_246_10 : y_ft (M_X0_as ad) 246 10 = some 1 := rfl
theorem tX0_as_246_11 : y_ft (M_X0_as ad) 246 11 = some 1 := rfl
theorem tX0_as_246_12 : y_ft (M_X0_as ad) 246 12 = some 1 := rfl
theorem tX0_as_246_13 : y_ft (M_X0_as ad) 246 13 = some 1 := rfl
theorem tX0_as_3_9 : y_ft (M_X0_as ad) 3 9 = some 1 := rfl
theorem tX0_as_3_10 : y_ft (M_X0_as ad) 3 10 = some 1 := rfl
theorem tX0_as_3_11 : y_ft (M_X0_as ad) 3 11 = some 1 := rfl
theorem tX0_as_3_12 : y_ft (M_X0_as ad) 3 12 = some 0 := rfl
theorem tX0_as_3_13 : y_ft (M_X0_as ad) 3 13 = some 0 := rfl
theorem tX0_as_9_9 : y_ft (M_X0_as ad) 9 9 = some 0 := rfl
theorem tX0_as_9_10 : y_ft (M_X0_as ad) 9 10 = some 1 := rfl
theorem tX0_as_9_11 : y_ft (M_X0_as ad) 9 11 = some 0 := rfl
theorem tX0_as_9_12 : y_ft (M_X0_as ad) 9 12 = some 0 := rfl
theorem tX0_as_9_13 : y_ft (M_X0_as ad) 9 13 = some 0 := rfl
theorem tX0_as_12_9 : y_ft (M_X0_as ad) 12 9 = some 0 := rfl
theorem tX0_as_12_10 : y_ft (M_X0_as ad) 12 10 = some 0 := rfl
theorem tX0_as_12_11 : y_ft (M_X0_as ad) 12 11 = some 1 := rfl
theorem tX0_as_12_12 : y_ft (M_X0_as ad) 12 12 = some 0 := rfl
theorem tX0_as_12_13 : y_ft (M_X0_as ad) 12 13 = some 0 := rfl
theorem tX0_as_15_9 : y_ft (M_X0_as ad) 15 9 = some 0 := rfl
theorem tX0_as_15_10 : y_ft (M_X0_as ad) 15 10 = some 0 := rfl
theorem tX0_as_15_11 : y_ft (M_X0_as ad) 15 11 = some 0 := rfl
theorem tX0_as_15_12 : y_ft (M_X0_as ad) 15 12 = some 1 := rfl
theorem tX0_as_15_13 : y_ft (M_X0_as ad) 15 13 = some 1 := rfl
theorem tX0_as_18_9 : y_ft (M_X0_as ad) 18 9 = some 0 := rfl
theorem tX0_as_18_10 : y_ft (M_X0_as ad) 18 10 = some 0 := rfl
theorem tX0_as_18_11 : y_ft (M_X0_as ad) 18 11 = some 0 := rfl
theorem tX0_as_18_12 : y_ft (M_X0_as ad) 18 12 = some 0 := rfl
theorem tX0_as_18_13 : y_ft (M_X0_as ad) 18 13 = some 1 := rfl
theorem tX0_as_318_4 : y_fh (M_X0_as ad) 318 4 = some 2 := rfl
theorem tX0_as_318_7 : y_fh (M_X0_as ad) 318 7 = some 2 := rfl
theorem tX0_as_318_17 : y_fh (M_X0_as ad) 318 17 = some 2 := rfl
theorem tX0_as_318_18 : y_fh (M_X0_as ad) 318 18 = some 3 := rfl
theorem tX0_as_65_4 : y_fh (M_X0_as ad) 65 4 = some 3 := rfl
theorem tX0_as_65_7 : y_fh (M_X0_as ad) 65 7 = some 2 := rfl
theorem tX0_as_65_17 : y_fh (M_X0_as ad) 65 17 = some 2 := rfl
theorem tX0_as_65_18 : y_fh (M_X0_as ad) 65 18 = some 2 := rfl
theorem fX0_as_39_0 : y_ffP (P_X0_as ad) 39 0 = some (4, (.object "YoungerBack$League"), true) := rfl
theorem fX0_as_236_1 : y_ffP (P_X0_as ad) 236 1 = some (7, (.object "java/util/List"), false) := rfl
theorem wX0_as_0 : y_w (M_X0_as ad) mc ms Q (0, lv, st, ω, c, s) = y_ldA lv 0 (fun v => y_w (M_X0_as ad) mc ms Q (1, lv, v :: st, ω, c, s)) := w_aload_n dX0_as_0 rfl rfl
theorem wX0_as_1 : y_w (M_X0_as ad) mc ms Q (1, lv, st, ω, c, s) = y_ldI lv 1 (fun v => y_w (M_X0_as ad) mc ms Q (2, lv, v :: st, ω, c, s)) := w_iload_n dX0_as_1 rfl rfl
theorem wX0_as_2 (hc : y_cls ω a = some 0) : y_w (M_X0_as ad) mc ms Q (2, lv, v1 :: .ref a :: r, ω, c, s) = (y_cat r ≤ 8 ∧ F_X0_isPerson mc ms [.ref a, v1] ω c s (y_aft (M_X0_as ad) 2 3 lv r (y_w (M_X0_as ad) mc ms Q) Q)) := w_call1 (av := [v1]) (Or.inl ⟨⟨rfl, rfl⟩, rfl⟩) dX0_as_2 rfl hc rfl (y_F_mono _) (y_dle rfl) (y_dle rfl) rfl rfl
theorem wX0_as_5 : y_w (M_X0_as ad) mc ms Q (5, lv, .int x :: r, ω, c, s) = ((x = 0 → y_w (M_X0_as ad) mc ms Q (20, lv, r, ω, c, s)) ∧ (¬ (x = 0) → y_w (M_X0_as ad) mc ms Q (8, lv, r, ω, c, s))) := w_if dX0_as_5 (tgt := 20) rfl rfl rfl
theorem wX0_as_8 : y_w (M_X0_as ad) mc ms Q (8, lv, st, ω, c, s) = y_ldI lv 2 (fun v => y_w (M_X0_as ad) mc ms Q (9, lv, v :: st, ω, c, s)) := w_iload_n dX0_as_8 rfl rfl
theorem wX0_as_9 : y_w (M_X0_as ad) mc ms Q (9, lv, .int x :: r, ω, c, s) = y_w (M_X0_as ad) mc ms Q (10, lv, .long x.toInt64 :: r, ω, c, s) := w_i2l dX0_as_9 rfl
theorem wX0_as_10 : y_w (M_X0_as ad) mc ms Q (10, lv, st, ω, c, s) = y_w (M_X0_as ad) mc ms Q (11, lv, .long 0 :: st, ω, c, s) := w_lconst dX0_as_10 (v := 0) (by decide) rfl
theorem wX0_as_11 : y_w (M_X0_as ad) mc ms Q (11, lv, st, ω, c, s) = y_w (M_X0_as ad) mc ms Q (14, lv, .long (lN 5) :: st, ω, c, s) := w_ldc2_w dX0_as_11 rfl rfl rfl
theorem wX0_as_14 : y_w (M_X0_as ad) mc ms Q (14, lv, v2 :: v1 :: v0 :: r, ω, c, s) = (y_cat r ≤ 8 ∧ F_X0_isIn mc ms [v0, v1, v2] ω c s (y_aft (M_X0_as ad) 14 3 lv r (y_w (M_X0_as ad) mc ms Q) Q)) := w_call0 (av := [v0, v1, v2]) ⟨Or.inr ⟨rfl, rfl⟩, rfl⟩ dX0_as_14 rfl (y_F_mono _) (y_dle rfl) (y_dle rfl) rfl rfl
theorem wX0_as_17 : y_w (M_X0_as ad) mc ms Q (17, lv, .int x :: r, ω, c, s) = ((¬ x = 0 → y_w (M_X0_as ad) mc ms Q (23, lv, r, ω, c, s)) ∧ (¬ (¬ x = 0) → y_w (M_X0_as ad) mc ms Q (20, lv, r, ω, c, s))) := w_if dX0_as_17 (tgt := 23) rfl rfl rfl
theorem wX0_as_20 : y_w (M_X0_as ad) mc ms Q (20, lv, st, ω, c, s) = y_w (M_X0_as ad) mc ms Q (22, lv, .int (-1000001) :: st, ω, c, s) := w_ldc dX0_as_20 rfl rfl rfl
theorem wX0_as_22 : y_w (M_X0_as ad) mc ms Q (22, lv, [.int x], ω, c, s) = Q (.returned (some (.int x))) ω c s := w_ireturnI dX0_as_22 rfl
theorem wX0_as_23 : y_w (M_X0_as ad) mc ms Q (23, lv, st, ω, c, s) = y_ldA lv 0 (fun v => y_w (M_X0_as ad) mc ms Q (24, lv, v :: st, ω, c, s)) := w_aload_n dX0_as_23 rfl rfl
theorem wX0_as_24 : y_w (M_X0_as ad) mc ms Q (24, lv, .ref a :: r, ω, c, s) = y_gf (P_X0_as ad) 39 (ω.2 a) (fun v => y_w (M_X0_as ad) mc ms Q (27, lv, v :: r, ω, c, s)) := w_getfield dX0_as_24 rfl rfl
theorem wX0_as_27 : y_w (M_X0_as ad) mc ms Q (27, lv, .ref a :: r, ω, c, s) = y_gf (P_X0_as ad) 236 (ω.2 a) (fun v => y_w (M_X0_as ad) mc ms Q (30, lv, v :: r, ω, c, s)) := w_getfield dX0_as_27 rfl rfl
theorem wX0_as_30 : y_w (M_X0_as ad) mc ms Q (30, lv, st, ω, c, s) = y_ldI lv 1 (fun v => y_w (M_X0_as ad) mc ms Q (31, lv, v :: st, ω, c, s)) := w_iload_n dX0_as_30 rfl rfl
theorem wX0_as_31 (hc : y_cls ω a = some 14) : y_w (M_X0_as ad) mc ms Q (31, lv, v1 :: .ref a :: r, ω, c, s) = (y_cat r ≤ 8 ∧ F_J2_get mc ms [.ref a, v1] ω c s (y_aft (M_X0_as ad) 31 5 lv r (y_w (M_X0_as ad) mc ms Q) Q)) := w_call1 (av := [v1]) (Or.inr ⟨⟨⟨_, rfl⟩, rfl⟩, rfl⟩) dX0_as_31 rfl hc rfl (y_F_mono _) (y_dle rfl) (y_dle rfl) rfl rfl
theorem wX0_as_36 : y_w (M_X0_as ad) mc ms Q (36, lv, .ref a :: r, ω, c, s) = y_tsc (M_X0_as ad) 246 (ω.2 a) (y_w (M_X0_as ad) mc ms Q (39, lv, .ref a :: r, ω, c, s)) (y_vmt (M_X0_as ad) mc ms 18 36 lv ω c s (y_w (M_X0_as ad) mc ms Q) Q) := w_checkcast dX0_as_36 rfl
theorem wX0_as_39 : y_w (M_X0_as ad) mc ms Q (39, lv, v :: r, ω, c, s) = (y_isA v = true ∧ y_w (M_X0_as ad) mc ms Q (40, (3, v) :: y_kill 3 lv, r, ω, c, s)) := w_astore_n dX0_as_39 rfl (y_dle rfl) rfl
theorem wX0_as_40 : y_w (M_X0_as ad) mc ms Q (40, lv, st, ω, c, s) = y_ldI lv 2 (fun v => y_w (M_X0_as ad) mc ms Q (41, lv, v :: st, ω, c, s)) := w_iload_n dX0_as_40 rfl rfl
theorem wX0_as_41 : y_w (M_X0_as ad) mc ms Q (41, lv, .int x :: r, ω, c, s) = ((¬ x = 0 → y_w (M_X0_as ad) mc ms Q (48, lv, r, ω, c, s)) ∧ (¬ (¬ x = 0) → y_w (M_X0_as ad) mc ms Q (44, lv, r, ω, c, s))) := w_if dX0_as_41 (tgt := 48) rfl rfl rfl
theorem wX0_as_44 : y_w (M_X0_as ad) mc ms Q (44, lv, st, ω, c, s) = y_ldA lv 3 (fun v => y_w (M_X0_as ad) mc ms Q (45, lv, v :: st, ω, c, s)) := w_aload_n dX0_as_44 rfl rfl
theorem wX0_as_45 : y_w (M_X0_as ad) mc ms Q (45, lv, st, ω, c, s) = y_w (M_X0_as ad) mc ms Q (100, lv, st, ω, c, s) := w_goto dX0_as_45 (tgt := 100) (by decide) rfl
theorem wX0_as_48 : y_w (M_X0_as ad) mc ms Q (48, lv, st, ω, c, s) = y_ldI lv 2 (fun v => y_w (M_X0_as ad) mc ms Q (49, lv, v :: st, ω, c, s)) := w_iload_n dX0_as_48 rfl rfl
theorem wX0_as_49 : y_w (M_X0_as ad) mc ms Q (49, lv, st, ω, c, s) = y_w (M_X0_as ad) mc ms Q (50, lv, .int 1 :: st, ω, c, s) := w_iconst dX0_as_49 (v := 1) (by decide) rfl
theorem wX0_as_50 : y_w (M_X0_as ad) mc ms Q (50, lv, .int y :: .int x :: r, ω, c, s) = ((¬ x = y → y_w (M_X0_as ad) mc ms Q (60, lv, r, ω, c, s)) ∧ (¬ (¬ x = y) → y_w (M_X0_as ad) mc ms Q (53, lv, r, ω, c, s))) := w_icmp dX0_as_50 (tgt := 60) rfl rfl rfl
theorem wX0_as_53 : y_w (M_X0_as ad) mc ms Q (53, lv, st, ω, c, s) = y_ldA lv 3 (fun v => y_w (M_X0_as ad) mc ms Q (54, lv, v :: st, ω, c, s)) := w_aload_n dX0_as_53 rfl rfl
theorem wX0_as_54 : y_w (M_X0_as ad) mc ms Q (54, lv, .ref a :: r, ω, c, s) = y_tsc (M_X0_as ad) 3 (ω.2 a) (y_w (M_X0_as ad) mc ms Q (57, lv, .ref a :: r, ω, c, s)) (y_vmt (M_X0_as ad) mc ms 18 54 lv ω c s (y_w (M_X0_as ad) mc ms Q) Q) := w_checkcast dX0_as_54 rfl
theorem wX0_as_57 : y_w (M_X0_as ad) mc ms Q (57, lv, st, ω, c, s) = y_w (M_X0_as ad) mc ms Q (100, lv, st, ω, c, s) := w_goto dX0_as_57 (tgt := 100) (by decide) rfl
theorem wX0_as_60 : y_w (M_X0_as ad) mc ms Q (60, lv, st, ω, c, s) = y_ldI lv 2 (fun v => y_w (M_X0_as ad) mc ms Q (61, lv, v :: st, ω, c, s)) := w_iload_n dX0_as_60 rfl rfl
theorem wX0_as_61 : y_w (M_X0_as ad) mc ms Q (61, lv, st, ω, c, s) = y_w (M_X0_as ad) mc ms Q (62, lv, .int (nI 2) :: st, ω, c, s) := w_iconst dX0_as_61 (v := (nI 2)) (by decide) rfl
theorem wX0_as_62 : y_w (M_X0_as ad) mc ms Q (62, lv, .int y :: .int x :: r, ω, c, s) = ((¬ x = y → y_w (M_X0_as ad) mc ms Q (72, lv, r, ω, c, s)) ∧ (¬ (¬ x = y) → y_w (M_X0_as ad) mc ms Q (65, lv, r, ω, c, s))) := w_icmp dX0_as_62 (tgt := 72) rfl rfl rfl
theorem wX0_as_65 : y_w (M_X0_as ad) mc ms Q (65, lv, st, ω, c, s) = y_ldA lv 3 (fun v => y_w (M_X0_as ad) mc ms Q (66, lv, v :: st, ω, c, s)) := w_aload_n dX0_as_65 rfl rfl
theorem wX0_as_66 : y_w (M_X0_as ad) mc ms Q (66, lv, .ref a :: r, ω, c, s) = y_tsc (M_X0_as ad) 9 (ω.2 a) (y_w (M_X0_as ad) mc ms Q (69, lv, .ref a :: r, ω, c, s)) (y_vmt (M_X0_as ad) mc ms 18 66 lv ω c s (y_w (M_X0_as ad) mc ms Q) Q) := w_checkcast dX0_as_66 rfl
theorem wX0_as_69 : y_w (M_X0_as ad) mc ms Q (69, lv, st, ω, c, s) = y_w (M_X0_as ad) mc ms Q (100, lv, st, ω, c, s) := w_goto dX0_as_69 (tgt := 100) (by decide) rfl
theorem wX0_as_72 : y_w (M_X0_as ad) mc ms Q (72, lv, st, ω, c, s) = y_ldI lv 2 (fun v => y_w (M_X0_as ad) mc ms Q (73, lv, v :: st, ω, c, s)) := w_iload_n dX0_as_72 rfl rfl
theorem wX0_as_73 : y_w (M_X0_as ad) mc ms Q (73, lv, st, ω, c, s) = y_w (M_X0_as ad) mc ms Q (74, lv, .int (nI 3) :: st, ω, c, s) := w_iconst dX0_as_73 (v := (nI 3)) (by decide) rfl
theorem wX0_as_74 : y_w (M_X0_as ad) mc ms Q (74, lv, .int y :: .int x :: r, ω, c, s) = ((¬ x = y → y_w (M_X0_as ad) mc ms Q (84, lv, r, ω, c, s)) ∧ (¬ (¬ x = y) → y_w (M_X0_as ad) mc ms Q (77, lv, r, ω, c, s))) := w_icmp dX0_as_74 (tgt := 84) rfl rfl rfl
theorem wX0_as_77 : y_w (M_X0_as ad) mc ms Q (77, lv, st, ω, c, s) = y_ldA lv 3 (fun v => y_w (M_X0_as ad) mc ms Q (78, lv, v :: st, ω, c, s)) := w_aload_n dX0_as_77 rfl rfl
theorem wX0_as_78 : y_w (M_X0_as ad) mc ms Q (78, lv, .ref a :: r, ω, c, s) = y_tsc (M_X0_as ad) 12 (ω.2 a) (y_w (M_X0_as ad) mc ms Q (81, lv, .ref a :: r, ω, c, s)) (y_vmt (M_X0_as ad) mc ms 18 78 lv ω c s (y_w (M_X0_as ad) mc ms Q) Q) := w_checkcast dX0_as_78 rfl
theorem wX0_as_81 : y_w (M_X0_as ad) mc ms Q (81, lv, st, ω, c, s) = y_w (M_X0_as ad) mc ms Q (100, lv, st, ω, c, s) := w_goto dX0_as_81 (tgt := 100) (by decide) rfl
theorem wX0_as_84 : y_w (M_X0_as ad) mc ms Q (84, lv, st, ω, c, s) = y_ldI lv 2 (fun v => y_w (M_X0_as ad) mc ms Q (85, lv, v :: st, ω, c, s)) := w_iload_n dX0_as_84 rfl rfl
theorem wX0_as_85 : y_w (M_X0_as ad) mc ms Q (85, lv, st, ω, c, s) = y_w (M_X0_as ad) mc ms Q (86, lv, .int (nI 4) :: st, ω, c, s) := w_iconst dX0_as_85 (v := (nI 4)) (by decide) rfl
theorem wX0_as_86 : y_w (M_X0_as ad) mc ms Q (86, lv, .int y :: .int x :: r, ω, c, s) = ((¬ x = y → y_w (M_X0_as ad) mc ms Q (96, lv, r, ω, c, s)) ∧ (¬ (¬ x = y) → y_w (M_X0_as ad) mc ms Q (89, lv, r, ω, c, s))) := w_icmp dX0_as_86 (tgt := 96) rfl rfl rfl
theorem wX0_as_89 : y_w (M_X0_as ad) mc ms Q (89, lv, st, ω, c, s) = y_ldA lv 3 (fun v => y_w (M_X0_as ad) mc ms Q (90, lv, v :: st, ω, c, s)) := w_aload_n dX0_as_89 rfl rfl
theorem wX0_as_90 : y_w (M_X0_as ad) mc ms Q (90, lv, .ref a :: r, ω, c, s) = y_tsc (M_X0_as ad) 15 (ω.2 a) (y_w (M_X0_as ad) mc ms Q (93, lv, .ref a :: r, ω, c, s)) (y_vmt (M_X0_as ad) mc ms 18 90 lv ω c s (y_w (M_X0_as ad) mc ms Q) Q) := w_checkcast dX0_as_90 rfl
theorem wX0_as_93 : y_w (M_X0_as ad) mc ms Q (93, lv, st, ω, c, s) = y_w (M_X0_as ad) mc ms Q (100, lv, st, ω, c, s) := w_goto dX0_as_93 (tgt := 100) (by decide) rfl
theorem wX0_as_96 : y_w (M_X0_as ad) mc ms Q (96, lv, st, ω, c, s) = y_ldA lv 3 (fun v => y_w (M_X0_as ad) mc ms Q (97, lv, v :: st, ω, c, s)) := w_aload_n dX0_as_96 rfl rfl
theorem wX0_as_97 : y_w (M_X0_as ad) mc ms Q (97, lv, .ref a :: r, ω, c, s) = y_tsc (M_X0_as ad) 18 (ω.2 a) (y_w (M_X0_as ad) mc ms Q (100, lv, .ref a :: r, ω, c, s)) (y_vmt (M_X0_as ad) mc ms 18 97 lv ω c s (y_w (M_X0_as ad) mc ms Q) Q) := w_checkcast dX0_as_97 rfl
theorem wX0_as_100 : y_w (M_X0_as ad) mc ms Q (100, lv, v :: r, ω, c, s) = (y_isA v = true ∧ y_w (M_X0_as ad) mc ms Q (102, (4, v) :: y_kill 4 lv, r, ω, c, s)) := w_astore dX0_as_100 (y_dle rfl) rfl
theorem wX0_as_102 : y_w (M_X0_as ad) mc ms Q (102, lv, st, ω, c, s) = y_ldA lv 0 (fun v => y_w (M_X0_as ad) mc ms Q (103, lv, v :: st, ω, c, s)) := w_aload_n dX0_as_102 rfl rfl
theorem wX0_as_103 : y_w (M_X0_as ad) mc ms Q (103, lv, st, ω, c, s) = y_ldA lv 4 (fun v => y_w (M_X0_as ad) mc ms Q (105, lv, v :: st, ω, c, s)) := w_aload dX0_as_103 rfl
theorem wX0_as_105_c9 (hc : y_cls ω a = some 9) : y_w (M_X0_as ad) mc ms Q (105, lv, .ref a :: r, ω, c, s) = (y_cat r ≤ 8 ∧ F_X8_number mc ms [.ref a] ω c s (y_aft (M_X0_as ad) 105 3 lv r (y_w (M_X0_as ad) mc ms Q) Q)) := w_call1 (av := []) (Or.inl ⟨⟨rfl, rfl⟩, rfl⟩) dX0_as_105 rfl hc rfl (y_F_mono _) (y_dle rfl) (y_dle rfl) rfl rfl
theorem wX0_as_105_c10 (hc : y_cls ω a = some 10) : y_w (M_X0_as ad) mc ms Q (105, lv, .ref a :: r, ω, c, s) = (y_cat r ≤ 8 ∧ F_X8_number mc ms [.ref a] ω c s (y_aft (M_X0_as ad) 105 3 lv r (y_w (M_X0_as ad) mc ms Q) Q)) := w_call1 (av := []) (Or.inl ⟨⟨rfl, rfl⟩, rfl⟩) dX0_as_105 rfl hc rfl (y_F_mono _) (y_dle rfl) (y_dle rfl) rfl rfl
theorem wX0_as_105_c11 (hc : y_cls ω a = some 11) : y_w (M_X0_as ad) mc ms Q (105, lv, .ref a :: r, ω, c, s) = (y_cat r ≤ 8 ∧ F_X8_number mc ms [.ref a] ω c s (y_aft (M_X0_as ad) 105 3 lv r (y_w (M_X0_as ad) mc ms Q) Q)) := w_call1 (av := []) (Or.inl ⟨⟨rfl, rfl⟩, rfl⟩) dX0_as_105 rfl hc rfl (y_F_mono _) (y_dle rfl) (y_dle rfl) rfl rfl
theorem wX0_as_105_c12 (hc : y_cls ω a = some 12) : y_w (M_X0_as ad) mc ms Q (105, lv, .ref a :: r, ω, c, s) = (y_cat r ≤ 8 ∧ F_X8_number mc ms [.ref a] ω c s (y_aft (M_X0_as ad) 105 3 lv r (y_w (M_X0_as ad) mc ms Q) Q)) := w_call1 (av := []) (Or.inl ⟨⟨rfl, rfl⟩, rfl⟩) dX0_as_105 rfl hc rfl (y_F_mono _) (y_dle rfl) (y_dle rfl) rfl rfl
theorem wX0_as_105_c13 (hc : y_cls ω a = some 13) : y_w (M_X0_as ad) mc ms Q (105, lv, .ref a :: r, ω, c, s) = (y_cat r ≤ 8 ∧ F_X8_number mc ms [.ref a] ω c s (y_aft (M_X0_as ad) 105 3 lv r (y_w (M_X0_as ad) mc ms Q) Q)) := w_call1 (av := []) (Or.inl ⟨⟨rfl, rfl⟩, rfl⟩) dX0_as_105 rfl hc rfl (y_F_mono _) (y_dle rfl) (y_dle rfl) rfl rfl
theorem wX0_as_108 (hc : y_cls ω a = some 0) : y_w (M_X0_as ad) mc ms Q (108, lv, v1 :: .ref a :: r, ω, c, s) = (y_cat r ≤ 8 ∧ F_X0_well mc ms [.ref a, v1] ω c s (y_aft (M_X0_as ad) 108 3 lv r (y_w (M_X0_as ad) mc ms Q) Q)) := w_call1 (av := [v1]) (Or.inl ⟨⟨rfl, rfl⟩, rfl⟩) dX0_as_108 rfl hc rfl (y_F_mono _) (y_dle rfl) (y_dle rfl) rfl rfl
theorem wX0_as_111 : y_w (M_X0_as ad) mc ms Q (111, lv, [.int x], ω, c, s) = Q (.returned (some (.int x))) ω c s := w_ireturnI dX0_as_111 rfl
theorem wX0_as_112 : y_w (M_X0_as ad) mc ms Q (112, lv, v :: r, ω, c, s) = (y_isA v = true ∧ y_w (M_X0_as ad) mc ms Q (114, (4, v) :: y_kill 4 lv, r, ω, c, s)) := w_astore dX0_as_112 (y_dle rfl) rfl
theorem wX0_as_114 : y_w (M_X0_as ad) mc ms Q (114, lv, st, ω, c, s) = (y_room mc ms c s 7 ∧ y_w (M_X0_as ad) mc ms Q (117, lv, .ref ω.1 :: st, y_hnew ω (.inr (4, [.null, .null, .null, .null, .null, .int 0, .int 0])), c + 1, s + 7)) := w_new dX0_as_114 rfl rfl rfl
theorem wX0_as_117 : y_w (M_X0_as ad) mc ms Q (117, lv, v :: r, ω, c, s) = (v.category = 1 ∧ y_w (M_X0_as ad) mc ms Q (118, lv, v :: v :: r, ω, c, s)) := w_dup dX0_as_117 rfl
theorem wX0_as_118 : y_w (M_X0_as ad) mc ms Q (118, lv, st, ω, c, s) = y_w (M_X0_as ad) mc ms Q (119, lv, .int (nI 3) :: st, ω, c, s) := w_iconst dX0_as_118 (v := (nI 3)) (by decide) rfl
theorem wX0_as_119 : y_w (M_X0_as ad) mc ms Q (119, lv, v1 :: v0 :: r, ω, c, s) = (y_cat r ≤ 8 ∧ (y_ref (F_X4_init ad)) mc ms [v0, v1] ω c s (y_aft (M_X0_as ad) 119 3 lv r (y_w (M_X0_as ad) mc ms Q) Q)) := w_call0 (av := [v0, v1]) ⟨Or.inl ⟨rfl, rfl⟩, rfl⟩ dX0_as_119 rfl (y_ref_mono (y_F_mono _)) (y_dle rfl) (y_dle rfl) rfl rfl
theorem wX0_as_122 : y_w (M_X0_as ad) mc ms Q (122, lv, .ref a :: r, ω, c, s) = y_thr (M_X0_as ad) 122 lv ω a c s (y_w (M_X0_as ad) mc ms Q) Q [(40, 111, 112, 318), (23, 111, 123, 65), (112, 123, 123, 65)] := w_athrow dX0_as_122
theorem wX0_as_123 : y_w (M_X0_as ad) mc ms Q (123, lv, v :: r, ω, c, s) = (y_isA v = true ∧ y_w (M_X0_as ad) mc ms Q (124, (3, v) :: y_kill 3 lv, r, ω, c, s)) := w_astore_n dX0_as_123 rfl (y_dle rfl) rfl
theorem wX0_as_124 : y_w (M_X0_as ad) mc ms Q (124, lv, st, ω, c, s) = y_ldA lv 0 (fun v => y_w (M_X0_as ad) mc ms Q (125, lv, v :: st, ω, c, s)) := w_aload_n dX0_as_124 rfl rfl
theorem wX0_as_125 : y_w (M_X0_as ad) mc ms Q (125, lv, st, ω, c, s) = y_ldA lv 3 (fun v => y_w (M_X0_as ad) mc ms Q (126, lv, v :: st, ω, c, s)) := w_aload_n dX0_as_125 rfl rfl
theorem wX0_as_126 (hc : y_cls ω a = some 0) : y_w (M_X0_as ad) mc ms Q (126, lv, v1 :: .ref a :: r, ω, c, s) = (y_cat r ≤ 8 ∧ F_X0_found mc ms [.ref a, v1] ω c s (y_aft (M_X0_as ad) 126 3 lv r (y_w (M_X0_as ad) mc ms Q) Q)) := w_call1 (av := [v1]) (Or.inl ⟨⟨rfl, rfl⟩, rfl⟩) dX0_as_126 rfl hc rfl (y_F_mono _) (y_dle rfl) (y_dle rfl) rfl rfl
theorem wX0_as_129 : y_w (M_X0_as ad) mc ms Q (129, lv, [.int x], ω, c, s) = Q (.returned (some (.int x))) ω c s := w_ireturnI dX0_as_129 rfl
def P_X2_begins : y_Pool := ([(15, 2, 1, .int, false), (9, 2, 0, (.array .int), true)], [], [], [], [], [], [])
def M_X2_begins : y_Md := (cX2_begins, "YoungerBack$Trail", (2, none), (0, 0), false, P_X2_begins, [])
def F_X2_begins : y_Tr := y_F M_X2_begins
theorem nX2_begins : y_nL M_X2_begins = 2 := rfl
theorem fX2_begins_15_2 : y_ffP P_X2_begins 15 2 = some (1, .int, false) := rfl
theorem fX2_begins_9_2 : y_ffP P_X2_begins 9 2 = some (0, (.array .int), true) := rfl
theorem wX2_begins_0 : y_w M_X2_begins mc ms Q (0, lv, st, ω, c, s) = y_ldA lv 0 (fun v => y_w M_X2_begins mc ms Q (1, lv, v :: st, ω, c, s)) := w_aload_n dX2_begins_0 rfl rfl
theorem wX2_begins_1 : y_w M_X2_begins mc ms Q (1, lv, .ref a :: r, ω, c, s) = y_gf P_X2_begins 15 (ω.2 a) (fun v => y_w M_X2_begins mc ms Q (4, lv, v :: r, ω, c, s)) := w_getfield dX2_begins_1 rfl rfl
theorem wX2_begins_4 : y_w M_X2_begins mc ms Q (4, lv, st, ω, c, s) = y_w M_X2_begins mc ms Q (6, lv, .int (nI 16) :: st, ω, c, s) := w_bipush dX2_begins_4 (v := (nI 16)) (by decide) rfl
theorem wX2_begins_6 : y_w M_X2_begins mc ms Q (6, lv, .int y :: .int x :: r, ω, c, s) = ((y ≤ x → y_w M_X2_begins mc ms Q (26, lv, r, ω, c, s)) ∧ (¬ (y ≤ x) → y_w M_X2_begins mc ms Q (9, lv, r, ω, c, s))) := w_icmp dX2_begins_6 (tgt := 26) rfl rfl rfl
theorem wX2_begins_9 : y_w M_X2_begins mc ms Q (9, lv, st, ω, c, s) = y_ldA lv 0 (fun v => y_w M_X2_begins mc ms Q (10, lv, v :: st, ω, c, s)) := w_aload_n dX2_begins_9 rfl rfl
theorem wX2_begins_10 : y_w M_X2_begins mc ms Q (10, lv, .ref a :: r, ω, c, s) = y_gf P_X2_begins 9 (ω.2 a) (fun v => y_w M_X2_begins mc ms Q (13, lv, v :: r, ω, c, s)) := w_getfield dX2_begins_10 rfl rfl
theorem wX2_begins_13 : y_w M_X2_begins mc ms Q (13, lv, st, ω, c, s) = y_ldA lv 0 (fun v => y_w M_X2_begins mc ms Q (14, lv, v :: st, ω, c, s)) := w_aload_n dX2_begins_13 rfl rfl
theorem wX2_begins_14 : y_w M_X2_begins mc ms Q (14, lv, v :: r, ω, c, s) = (v.category = 1 ∧ y_w M_X2_begins mc ms Q (15, lv, v :: v :: r, ω, c, s)) := w_dup dX2_begins_14 rfl
theorem wX2_begins_15 : y_w M_X2_begins mc ms Q (15, lv, .ref a :: r, ω, c, s) = y_gf P_X2_begins 15 (ω.2 a) (fun v => y_w M_X2_begins mc ms Q (18, lv, v :: r, ω, c, s)) := w_getfield dX2_begins_15 rfl rfl
theorem wX2_begins_18 : y_w M_X2_begins mc ms Q (18, lv, v :: v1 :: r, ω, c, s) = ((v.category = 1 ∧ v1.category = 1) ∧ y_w M_X2_begins mc ms Q (19, lv, v :: v1 :: v :: r, ω, c, s)) := w_dup_x1 dX2_begins_18 rfl
theorem wX2_begins_19 : y_w M_X2_begins mc ms Q (19, lv, st, ω, c, s) = y_w M_X2_begins mc ms Q (20, lv, .int 1 :: st, ω, c, s) := w_iconst dX2_begins_19 (v := 1) (by decide) rfl
theorem wX2_begins_20 : y_w M_X2_begins mc ms Q (20, lv, .int y :: .int x :: r, ω, c, s) = y_w M_X2_begins mc ms Q (21, lv, .int (x + y) :: r, ω, c, s) := w_iadd dX2_begins_20 rfl
theorem wX2_begins_21 : y_w M_X2_begins mc ms Q (21, lv, v :: .ref a :: r, ω, c, s) = y_pf P_X2_begins false 15 (ω.2 a) v (fun ci fs => y_w M_X2_begins mc ms Q (24, lv, r, y_hup ω a (.inr (ci, fs)), c, s)) := w_putfield dX2_begins_21 rfl rfl rfl
theorem wX2_begins_24 : y_w M_X2_begins mc ms Q (24, lv, st, ω, c, s) = y_ldI lv 1 (fun v => y_w M_X2_begins mc ms Q (25, lv, v :: st, ω, c, s)) := w_iload_n dX2_begins_24 rfl rfl
theorem wX2_begins_25 : y_w M_X2_begins mc ms Q (25, lv, .int x :: .int j :: .ref a :: r, ω, c, s) = y_wI (ω.2 a) j x (fun e => y_w M_X2_begins mc ms Q (26, lv, r, y_hup ω a e, c, s)) := w_iastore dX2_begins_25 rfl
theorem wX2_begins_26 : y_w M_X2_begins mc ms Q (26, lv, [], ω, c, s) = Q (.returned none) ω c s := w_return dX2_begins_26 rfl
def P_X8_size : y_Pool := ([(22, 1, 10, (.array .int), true), (7, 9, 0, .int, true), (7, 10, 0, .int, true), (7, 11, 0, .int, true), (7, 12, 0, .int, true), (7, 13, 0, .int, true)], [], [], [(16, 1, 2, 2, (1, 21), F_X2_begins)], [], [], [])
def M_X8_size : y_Md := (cX8_size, "YoungerBack$Person", (3, (some FieldType.int)), (1, 21), false, P_X8_size, [])
def F_X8_size : y_Tr := y_F M_X8_size
theorem nX8_size : y_nL M_X8_size = 3 := rfl
theorem fX8_size_22_1 : y_ffP P_X8_size 22 1 = some (10, (.array .int), true) := rfl
theorem fX8_size_7_9 : y_ffP P_X8_size 7 9 = some (0, .int, true) := rfl
theorem fX8_size_7_10 : y_ffP P_X8_size 7 10 = some (0, .int, true) := rfl
theorem fX8_size_7_11 : y_ffP P_X8_size 7 11 = some (0, .int, true) := rfl
theorem fX8_size_7_12 : y_ffP P_X8_size 7 12 = some (0, .int, true) := rfl
theorem fX8_size_7_13 : y_ffP P_X8_size 7 13 = some (0, .int, true) := rfl
theorem wX8_size_0 : y_w M_X8_size mc ms Q (0, lv, st, ω, c, s) = y_ldA lv 1 (fun v => y_w M_X8_size mc ms Q (1, lv, v :: st, ω, c, s)) := w_aload_n dX8_size_0 rfl rfl
theorem wX8_size_1 : y_w M_X8_size mc ms Q (1, lv, st, ω, c, s) = y_w M_X8_size mc ms Q (3, lv, .int (nI 10) :: st, ω, c, s) := w_bipush dX8_size_1 (v := (nI 10)) (by decide) rfl
theorem wX8_size_3 (hc : y_cls ω a = some 2) : y_w M_X8_size mc ms Q (3, lv, v1 :: .ref a :: r, ω, c, s) = (y_cat r ≤ 8 ∧ F_X2_begins mc ms [.ref a, v1] ω c s (y_aft M_X8_size 3 3 lv r (y_w M_X8_size mc ms Q) Q)) := w_call1 (av := [v1]) (Or.inl ⟨⟨rfl, rfl⟩, rfl⟩) dX8_size_3 rfl hc rfl (y_F_mono _) (y_dle rfl) (y_dle rfl) rfl rfl
theorem wX8_size_6 : y_w M_X8_size mc ms Q (6, lv, st, ω, c, s) = y_ldA lv 2 (fun v => y_w M_X8_size mc ms Q (7, lv, v :: st, ω, c, s)) := w_aload_n dX8_size_6 rfl rfl
theorem wX8_size_7 : y_w M_X8_size mc ms Q (7, lv, .ref a :: r, ω, c, s) = y_gf P_X8_size 22 (ω.2 a) (fun v => y_w M_X8_size mc ms Q (10, lv, v :: r, ω, c, s)) := w_getfield dX8_size_7 rfl rfl
theorem wX8_size_10 : y_w M_X8_size mc ms Q (10, lv, st, ω, c, s) = y_ldA lv 0 (fun v => y_w M_X8_size mc ms Q (11, lv, v :: st, ω, c, s)) := w_aload_n dX8_size_10 rfl rfl
theorem wX8_size_11 : y_w M_X8_size mc ms Q (11, lv, .ref a :: r, ω, c, s) = y_gf P_X8_size 7 (ω.2 a) (fun v => y_w M_X8_size mc ms Q (14, lv, v :: r, ω, c, s)) := w_getfield dX8_size_11 rfl rfl
theorem wX8_size_14 : y_w M_X8_size mc ms Q (14, lv, .int j :: .ref a :: r, ω, c, s) = y_rI (ω.2 a) j (fun x => y_w M_X8_size mc ms Q (15, lv, .int x :: r, ω, c, s)) := w_iaload dX8_size_14 rfl
theorem wX8_size_15 : y_w M_X8_size mc ms Q (15, lv, [.int x], ω, c, s) = Q (.returned (some (.int x))) ω c s := w_ireturnI dX8_size_15 rfl
def P_X14_mark : y_Pool := ([], [], [], [(1, 1, 2, 2, (1, 21), F_X2_begins), (7, 3, 9, 1, (1, 20), F_X8_number), (7, 3, 10, 1, (1, 20), F_X8_number), (7, 3, 11, 1, (1, 20), F_X8_number), (7, 3, 12, 1, (1, 20), F_X8_number), (7, 3, 13, 1, (1, 20), F_X8_number)], [], [], [])
def M_X14_mark : y_Md := (cX14_mark, "YoungerBack$Marked", (3, (some FieldType.int)), (1, 21), false, P_X14_mark, [])
def F_X14_mark : y_Tr := y_F M_X14_mark
theorem nX14_mark : y_nL M_X14_mark = 3 := rfl
theorem wX14_mark_0 : y_w M_X14_mark mc ms Q (0, lv, st, ω, c, s) = y_ldA lv 1 (fun v => y_w M_X14_mark mc ms Q (1, lv, v :: st, ω, c, s)) := w_aload_n dX14_mark_0 rfl rfl
theorem wX14_mark_1 : y_w M_X14_mark mc ms Q (1, lv, st, ω, c, s) = y_w M_X14_mark mc ms Q (3, lv, .int (nI 20) :: st, ω, c, s) := w_bipush dX14_mark_1 (v := (nI 20)) (by decide) rfl
theorem wX14_mark_3 (hc : y_cls ω a = some 2) : y_w M_X14_mark mc ms Q (3, lv, v1 :: .ref a :: r, ω, c, s) = (y_cat r ≤ 8 ∧ F_X2_begins mc ms [.ref a, v1] ω c s (y_aft M_X14_mark 3 3 lv r (y_w M_X14_mark mc ms Q) Q)) := w_call1 (av := [v1]) (Or.inl ⟨⟨rfl, rfl⟩, rfl⟩) dX14_mark_3 rfl hc rfl (y_F_mono _) (y_dle rfl) (y_dle rfl) rfl rfl
theorem wX14_mark_6 : y_w M_X14_mark mc ms Q (6, lv, st, ω, c, s) = y_ldA lv 0 (fun v => y_w M_X14_mark mc ms Q (7, lv, v :: st, ω, c, s)) := w_aload_n dX14_mark_6 rfl rfl
theorem wX14_mark_7_c9 (hc : y_cls ω a = some 9) : y_w M_X14_mark mc ms Q (7, lv, .ref a :: r, ω, c, s) = (y_cat r ≤ 8 ∧ F_X8_number mc ms [.ref a] ω c s (y_aft M_X14_mark 7 5 lv r (y_w M_X14_mark mc ms Q) Q)) := w_call1 (av := []) (Or.inr ⟨⟨⟨_, rfl⟩, rfl⟩, rfl⟩) dX14_mark_7 rfl hc rfl (y_F_mono _) (y_dle rfl) (y_dle rfl) rfl rfl
theorem wX14_mark_7_c10 (hc : y_cls ω a = some 10) : y_w M_X14_mark mc ms Q (7, lv, .ref a :: r, ω, c, s) = (y_cat r ≤ 8 ∧ F_X8_number mc ms [.ref a] ω c s (y_aft M_X14_mark 7 5 lv r (y_w M_X14_mark mc ms Q) Q)) := w_call1 (av := []) (Or.inr ⟨⟨⟨_, rfl⟩, rfl⟩, rfl⟩) dX14_mark_7 rfl hc rfl (y_F_mono _) (y_dle rfl) (y_dle rfl) rfl rfl
theorem wX14_mark_7_c11 (hc : y_cls ω a = some 11) : y_w M_X14_mark mc ms Q (7, lv, .ref a :: r, ω, c, s) = (y_cat r ≤ 8 ∧ F_X8_number mc ms [.ref a] ω c s (y_aft M_X14_mark 7 5 lv r (y_w M_X14_mark mc ms Q) Q)) := w_call1 (av := []) (Or.inr ⟨⟨⟨_, rfl⟩, rfl⟩, rfl⟩) dX14_mark_7 rfl hc rfl (y_F_mono _) (y_dle rfl) (y_dle rfl) rfl rfl
theorem wX14_mark_7_c12 (hc : y_cls ω a = some 12) : y_w M_X14_mark mc ms Q (7, lv, .ref a :: r, ω, c, s) = (y_cat r ≤ 8 ∧ F_X8_number mc ms [.ref a] ω c s (y_aft M_X14_mark 7 5 lv r (y_w M_X14_mark mc ms Q) Q)) := w_call1 (av := []) (Or.inr ⟨⟨⟨_, rfl⟩, rfl⟩, rfl⟩) dX14_mark_7 rfl hc rfl (y_F_mono _) (y_dle rfl) (y_dle rfl) rfl rfl
theorem wX14_mark_7_c13 (hc : y_cls ω a = some 13) : y_w M_X14_mark mc ms Q (7, lv, .ref a :: r, ω, c, s) = (y_cat r ≤ 8 ∧ F_X8_number mc ms [.ref a] ω c s (y_aft M_X14_mark 7 5 lv r (y_w M_X14_mark mc ms Q) Q)) := w_call1 (av := []) (Or.inr ⟨⟨⟨_, rfl⟩, rfl⟩, rfl⟩) dX14_mark_7 rfl hc rfl (y_F_mono _) (y_dle rfl) (y_dle rfl) rfl rfl
theorem wX14_mark_12 : y_w M_X14_mark mc ms Q (12, lv, [.int x], ω, c, s) = Q (.returned (some (.int x))) ω c s := w_ireturnI dX14_mark_12 rfl
def P_X9_mark : y_Pool := ([(25, 1, 8, (.array .int), true)], [], [], [(9, 1, 2, 2, (1, 21), F_X2_begins), (24, 2, 0, 3, (2, 43), (y_self F_X14_mark)), (31, 1, 9, 1, (1, 20), F_X8_number), (31, 1, 10, 1, (1, 20), F_X8_number), (31, 1, 11, 1, (1, 20), F_X8_number)], [], [], [])
def M_X9_mark : y_Md := (cX9_mark, "YoungerBack$Captain", (3, (some FieldType.int)), (2, 43), false, P_X9_mark, [])
def F_X9_mark : y_Tr := y_F M_X9_mark
theorem nX9_mark : y_nL M_X9_mark = 3 := rfl
theorem fX9_mark_25_1 : y_ffP P_X9_mark 25 1 = some (8, (.array .int), true) := rfl
theorem wX9_mark_0 : y_w M_X9_mark mc ms Q (0, lv, st, ω, c, s) = y_ldA lv 1 (fun v => y_w M_X9_mark mc ms Q (1, lv, v :: st, ω, c, s)) := w_aload_n dX9_mark_0 rfl rfl
theorem wX9_mark_1 : y_w M_X9_mark mc ms Q (1, lv, st, ω, c, s) = y_w M_X9_mark mc ms Q (3, lv, .int (nI 21) :: st, ω, c, s) := w_bipush dX9_mark_1 (v := (nI 21)) (by decide) rfl
theorem wX9_mark_3 (hc : y_cls ω a = some 2) : y_w M_X9_mark mc ms Q (3, lv, v1 :: .ref a :: r, ω, c, s) = (y_cat r ≤ 8 ∧ F_X2_begins mc ms [.ref a, v1] ω c s (y_aft M_X9_mark 3 3 lv r (y_w M_X9_mark mc ms Q) Q)) := w_call1 (av := [v1]) (Or.inl ⟨⟨rfl, rfl⟩, rfl⟩) dX9_mark_3 rfl hc rfl (y_F_mono _) (y_dle rfl) (y_dle rfl) rfl rfl
theorem wX9_mark_6 : y_w M_X9_mark mc ms Q (6, lv, st, ω, c, s) = y_ldA lv 0 (fun v => y_w M_X9_mark mc ms Q (7, lv, v :: st, ω, c, s)) := w_aload_n dX9_mark_6 rfl rfl
theorem wX9_mark_7 : y_w M_X9_mark mc ms Q (7, lv, st, ω, c, s) = y_ldA lv 1 (fun v => y_w M_X9_mark mc ms Q (8, lv, v :: st, ω, c, s)) := w_aload_n dX9_mark_7 rfl rfl
theorem wX9_mark_8 : y_w M_X9_mark mc ms Q (8, lv, st, ω, c, s) = y_ldA lv 2 (fun v => y_w M_X9_mark mc ms Q (9, lv, v :: st, ω, c, s)) := w_aload_n dX9_mark_8 rfl rfl
theorem wX9_mark_9 : y_w M_X9_mark mc ms Q (9, lv, v2 :: v1 :: v0 :: r, ω, c, s) = (y_cat r ≤ 8 ∧ (y_self F_X14_mark) mc ms [v0, v1, v2] ω c s (y_aft M_X9_mark 9 3 lv r (y_w M_X9_mark mc ms Q) Q)) := w_call0 (av := [v0, v1, v2]) ⟨Or.inl ⟨rfl, rfl⟩, rfl⟩ dX9_mark_9 rfl (y_self_mono (y_F_mono _)) (y_dle rfl) (y_dle rfl) rfl rfl
theorem wX9_mark_12 : y_w M_X9_mark mc ms Q (12, lv, st, ω, c, s) = y_ldA lv 2 (fun v => y_w M_X9_mark mc ms Q (13, lv, v :: st, ω, c, s)) := w_aload_n dX9_mark_12 rfl rfl
theorem wX9_mark_13 : y_w M_X9_mark mc ms Q (13, lv, .ref a :: r, ω, c, s) = y_gf P_X9_mark 25 (ω.2 a) (fun v => y_w M_X9_mark mc ms Q (16, lv, v :: r, ω, c, s)) := w_getfield dX9_mark_13 rfl rfl
theorem wX9_mark_16 : y_w M_X9_mark mc ms Q (16, lv, st, ω, c, s) = y_ldA lv 0 (fun v => y_w M_X9_mark mc ms Q (17, lv, v :: st, ω, c, s)) := w_aload_n dX9_mark_16 rfl rfl
theorem wX9_mark_17_c9 (hc : y_cls ω a = some 9) : y_w M_X9_mark mc ms Q (17, lv, .ref a :: r, ω, c, s) = (y_cat r ≤ 8 ∧ F_X8_number mc ms [.ref a] ω c s (y_aft M_X9_mark 17 3 lv r (y_w M_X9_mark mc ms Q) Q)) := w_call1 (av := []) (Or.inl ⟨⟨rfl, rfl⟩, rfl⟩) dX9_mark_17 rfl hc rfl (y_F_mono _) (y_dle rfl) (y_dle rfl) rfl rfl
theorem wX9_mark_17_c10 (hc : y_cls ω a = some 10) : y_w M_X9_mark mc ms Q (17, lv, .ref a :: r, ω, c, s) = (y_cat r ≤ 8 ∧ F_X8_number mc ms [.ref a] ω c s (y_aft M_X9_mark 17 3 lv r (y_w M_X9_mark mc ms Q) Q)) := w_call1 (av := []) (Or.inl ⟨⟨rfl, rfl⟩, rfl⟩) dX9_mark_17 rfl hc rfl (y_F_mono _) (y_dle rfl) (y_dle rfl) rfl rfl
theorem wX9_mark_17_c11 (hc : y_cls ω a = some 11) : y_w M_X9_mark mc ms Q (17, lv, .ref a :: r, ω, c, s) = (y_cat r ≤ 8 ∧ F_X8_number mc ms [.ref a] ω c s (y_aft M_X9_mark 17 3 lv r (y_w M_X9_mark mc ms Q) Q)) := w_call1 (av := []) (Or.inl ⟨⟨rfl, rfl⟩, rfl⟩) dX9_mark_17 rfl hc rfl (y_F_mono _) (y_dle rfl) (y_dle rfl) rfl rfl
theorem wX9_mark_20 : y_w M_X9_mark mc ms Q (20, lv, .int j :: .ref a :: r, ω, c, s) = y_rI (ω.2 a) j (fun x => y_w M_X9_mark mc ms Q (21, lv, .int x :: r, ω, c, s)) := w_iaload dX9_mark_20 rfl
theorem wX9_mark_21 : y_w M_X9_mark mc ms Q (21, lv, .int y :: .int x :: r, ω, c, s) = y_w M_X9_mark mc ms Q (22, lv, .int (x + y) :: r, ω, c, s) := w_iadd dX9_mark_21 rfl
theorem wX9_mark_22 : y_w M_X9_mark mc ms Q (22, lv, [.int x], ω, c, s) = Q (.returned (some (.int x))) ω c s := w_ireturnI dX9_mark_22 rfl
def P_X10_mark : y_Pool := ([], [], [], [(18, 1, 2, 2, (1, 21), F_X2_begins), (28, 2, 0, 3, (3, 65), (y_self F_X9_mark))], [], [], [])
def M_X10_mark : y_Md := (cX10_mark, "YoungerBack$Pilot", (3, (some FieldType.int)), (3, 65), false, P_X10_mark, [])
def F_X10_mark : y_Tr := y_F M_X10_mark
theorem nX10_mark : y_nL M_X10_mark = 3 := rfl
theorem wX10_mark_0 : y_w M_X10_mark mc ms Q (0, lv, st, ω, c, s) = y_ldA lv 1 (fun v => y_w M_X10_mark mc ms Q (1, lv, v :: st, ω, c, s)) := w_aload_n dX10_mark_0 rfl rfl
theorem wX10_mark_1 : y_w M_X10_mark mc ms Q (1, lv, st, ω, c, s) = y_w M_X10_mark mc ms Q (3, lv, .int (nI 24) :: st, ω, c, s) := w_bipush dX10_mark_1 (v := (nI 24)) (by decide) rfl
theorem wX10_mark_3 (hc : y_cls ω a = some 2) : y_w M_X10_mark mc ms Q (3, lv, v1 :: .ref a :: r, ω, c, s) = (y_cat r ≤ 8 ∧ F_X2_begins mc ms [.ref a, v1] ω c s (y_aft M_X10_mark 3 3 lv r (y_w M_X10_mark mc ms Q) Q)) := w_call1 (av := [v1]) (Or.inl ⟨⟨rfl, rfl⟩, rfl⟩) dX10_mark_3 rfl hc rfl (y_F_mono _) (y_dle rfl) (y_dle rfl) rfl rfl
theorem wX10_mark_6 : y_w M_X10_mark mc ms Q (6, lv, st, ω, c, s) = y_w M_X10_mark mc ms Q (7, lv, .int (nI 2) :: st, ω, c, s) := w_iconst dX10_mark_6 (v := (nI 2)) (by decide) rfl
theorem wX10_mark_7 : y_w M_X10_mark mc ms Q (7, lv, st, ω, c, s) = y_ldA lv 0 (fun v => y_w M_X10_mark mc ms Q (8, lv, v :: st, ω, c, s)) := w_aload_n dX10_mark_7 rfl rfl
theorem wX10_mark_8 : y_w M_X10_mark mc ms Q (8, lv, st, ω, c, s) = y_ldA lv 1 (fun v => y_w M_X10_mark mc ms Q (9, lv, v :: st, ω, c, s)) := w_aload_n dX10_mark_8 rfl rfl
theorem wX10_mark_9 : y_w M_X10_mark mc ms Q (9, lv, st, ω, c, s) = y_ldA lv 2 (fun v => y_w M_X10_mark mc ms Q (10, lv, v :: st, ω, c, s)) := w_aload_n dX10_mark_9 rfl rfl
theorem wX10_mark_10 : y_w M_X10_mark mc ms Q (10, lv, v2 :: v1 :: v0 :: r, ω, c, s) = (y_cat r ≤ 8 ∧ (y_self F_X9_mark) mc ms [v0, v1, v2] ω c s (y_aft M_X10_mark 10 3 lv r (y_w M_X10_mark mc ms Q) Q)) := w_call0 (av := [v0, v1, v2]) ⟨Or.inl ⟨rfl, rfl⟩, rfl⟩ dX10_mark_10 rfl (y_self_mono (y_F_mono _)) (y_dle rfl) (y_dle rfl) rfl rfl
theorem wX10_mark_13 : y_w M_X10_mark mc ms Q (13, lv, .int y :: .int x :: r, ω, c, s) = y_w M_X10_mark mc ms Q (14, lv, .int (x * y) :: r, ω, c, s) := w_imul dX10_mark_13 rfl
theorem wX10_mark_14 : y_w M_X10_mark mc ms Q (14, lv, [.int x], ω, c, s) = Q (.returned (some (.int x))) ω c s := w_ireturnI dX10_mark_14 rfl
def P_X11_mark : y_Pool := ([], [], [], [(9, 1, 2, 2, (1, 21), F_X2_begins), (15, 2, 0, 3, (3, 65), (y_self F_X9_mark))], [], [], [])
def M_X11_mark : y_Md := (cX11_mark, "YoungerBack$Monk", (3, (some FieldType.int)), (3, 65), false, P_X11_mark, [])
def F_X11_mark : y_Tr := y_F M_X11_mark
theorem nX11_mark : y_nL M_X11_mark = 3 := rfl
theorem wX11_mark_0 : y_w M_X11_mark mc ms Q (0, lv, st, ω, c, s) = y_ldA lv 1 (fun v => y_w M_X11_mark mc ms Q (1, lv, v :: st, ω, c, s)) := w_aload_n dX11_mark_0 rfl rfl
theorem wX11_mark_1 : y_w M_X11_mark mc ms Q (1, lv, st, ω, c, s) = y_w M_X11_mark mc ms Q (3, lv, .int (nI 22) :: st, ω, c, s) := w_bipush dX11_mark_1 (v := (nI 22)) (by decide) rfl
theorem wX11_mark_3 (hc : y_cls ω a = some 2) : y_w M_X11_mark mc ms Q (3, lv, v1 :: .ref a :: r, ω, c, s) = (y_cat r ≤ 8 ∧ F_X2_begins mc ms [.ref a, v1] ω c s (y_aft M_X11_mark 3 3 lv r (y_w M_X11_mark mc ms Q) Q)) := w_call1 (av := [v1]) (Or.inl ⟨⟨rfl, rfl⟩, rfl⟩) dX11_mark_3 rfl hc rfl (y_F_mono _) (y_dle rfl) (y_dle rfl) rfl rfl
theorem wX11_mark_6 : y_w M_X11_mark mc ms Q (6, lv, st, ω, c, s) = y_ldA lv 0 (fun v => y_w M_X11_mark mc ms Q (7, lv, v :: st, ω, c, s)) := w_aload_n dX11_mark_6 rfl rfl
theorem wX11_mark_7 : y_w M_X11_mark mc ms Q (7, lv, st, ω, c, s) = y_ldA lv 1 (fun v => y_w M_X11_mark mc ms Q (8, lv, v :: st, ω, c, s)) := w_aload_n dX11_mark_7 rfl rfl
theorem wX11_mark_8 : y_w M_X11_mark mc ms Q (8, lv, st, ω, c, s) = y_ldA lv 2 (fun v => y_w M_X11_mark mc ms Q (9, lv, v :: st, ω, c, s)) := w_aload_n dX11_mark_8 rfl rfl
theorem wX11_mark_9 : y_w M_X11_mark mc ms Q (9, lv, v2 :: v1 :: v0 :: r, ω, c, s) = (y_cat r ≤ 8 ∧ (y_self F_X9_mark) mc ms [v0, v1, v2] ω c s (y_aft M_X11_mark 9 3 lv r (y_w M_X11_mark mc ms Q) Q)) := w_call0 (av := [v0, v1, v2]) ⟨Or.inl ⟨rfl, rfl⟩, rfl⟩ dX11_mark_9 rfl (y_self_mono (y_F_mono _)) (y_dle rfl) (y_dle rfl) rfl rfl
theorem wX11_mark_12 : y_w M_X11_mark mc ms Q (12, lv, st, ω, c, s) = y_w M_X11_mark mc ms Q (15, lv, .int (nI 1000) :: st, ω, c, s) := w_sipush dX11_mark_12 (v := (nI 1000)) (by decide) rfl
theorem wX11_mark_15 : y_w M_X11_mark mc ms Q (15, lv, .int y :: .int x :: r, ω, c, s) = y_w M_X11_mark mc ms Q (16, lv, .int (x - y) :: r, ω, c, s) := w_isub dX11_mark_15 rfl
theorem wX11_mark_16 : y_w M_X11_mark mc ms Q (16, lv, [.int x], ω, c, s) = Q (.returned (some (.int x))) ω c s := w_ireturnI dX11_mark_16 rfl
def P_X9_size : y_Pool := ([], [], [], [(9, 1, 2, 2, (1, 21), F_X2_begins), (15, 2, 0, 3, (2, 43), (y_self F_X8_size)), (19, 1, 9, 3, (3, 65), F_X9_mark), (19, 1, 10, 3, (4, 87), F_X10_mark), (19, 1, 11, 3, (4, 87), F_X11_mark)], [], [], [])
def M_X9_size : y_Md := (cX9_size, "YoungerBack$Captain", (3, (some FieldType.int)), (4, 87), false, P_X9_size, [])
def F_X9_size : y_Tr := y_F M_X9_size
theorem nX9_size : y_nL M_X9_size = 3 := rfl
theorem wX9_size_0 : y_w M_X9_size mc ms Q (0, lv, st, ω, c, s) = y_ldA lv 1 (fun v => y_w M_X9_size mc ms Q (1, lv, v :: st, ω, c, s)) := w_aload_n dX9_size_0 rfl rfl
theorem wX9_size_1 : y_w M_X9_size mc ms Q (1, lv, st, ω, c, s) = y_w M_X9_size mc ms Q (3, lv, .int (nI 11) :: st, ω, c, s) := w_bipush dX9_size_1 (v := (nI 11)) (by decide) rfl
theorem wX9_size_3 (hc : y_cls ω a = some 2) : y_w M_X9_size mc ms Q (3, lv, v1 :: .ref a :: r, ω, c, s) = (y_cat r ≤ 8 ∧ F_X2_begins mc ms [.ref a, v1] ω c s (y_aft M_X9_size 3 3 lv r (y_w M_X9_size mc ms Q) Q)) := w_call1 (av := [v1]) (Or.inl ⟨⟨rfl, rfl⟩, rfl⟩) dX9_size_3 rfl hc rfl (y_F_mono _) (y_dle rfl) (y_dle rfl) rfl rfl
theorem wX9_size_6 : y_w M_X9_size mc ms Q (6, lv, st, ω, c, s) = y_ldA lv 0 (fun v => y_w M_X9_size mc ms Q (7, lv, v :: st, ω, c, s)) := w_aload_n dX9_size_6 rfl rfl
theorem wX9_size_7 : y_w M_X9_size mc ms Q (7, lv, st, ω, c, s) = y_ldA lv 1 (fun v => y_w M_X9_size mc ms Q (8, lv, v :: st, ω, c, s)) := w_aload_n dX9_size_7 rfl rfl
theorem wX9_size_8 : y_w M_X9_size mc ms Q (8, lv, st, ω, c, s) = y_ldA lv 2 (fun v => y_w M_X9_size mc ms Q (9, lv, v :: st, ω, c, s)) := w_aload_n dX9_size_8 rfl rfl
theorem wX9_size_9 : y_w M_X9_size mc ms Q (9, lv, v2 :: v1 :: v0 :: r, ω, c, s) = (y_cat r ≤ 8 ∧ (y_self F_X8_size) mc ms [v0, v1, v2] ω c s (y_aft M_X9_size 9 3 lv r (y_w M_X9_size mc ms Q) Q)) := w_call0 (av := [v0, v1, v2]) ⟨Or.inl ⟨rfl, rfl⟩, rfl⟩ dX9_size_9 rfl (y_self_mono (y_F_mono _)) (y_dle rfl) (y_dle rfl) rfl rfl
theorem wX9_size_12 : y_w M_X9_size mc ms Q (12, lv, st, ω, c, s) = y_ldA lv 0 (fun v => y_w M_X9_size mc ms Q (13, lv, v :: st, ω, c, s)) := w_aload_n dX9_size_12 rfl rfl
theorem wX9_size_13 : y_w M_X9_size mc ms Q (13, lv, st, ω, c, s) = y_ldA lv 1 (fun v => y_w M_X9_size mc ms Q (14, lv, v :: st, ω, c, s)) := w_aload_n dX9_size_13 rfl rfl
theorem wX9_size_14 : y_w M_X9_size mc ms Q (14, lv, st, ω, c, s) = y_ldA lv 2 (fun v => y_w M_X9_size mc ms Q (15, lv, v :: st, ω, c, s)) := w_aload_n dX9_size_14 rfl rfl
theorem wX9_size_15_c9 (hc : y_cls ω a = some 9) : y_w M_X9_size mc ms Q (15, lv, v2 :: v1 :: .ref a :: r, ω, c, s) = (y_cat r ≤ 8 ∧ F_X9_mark mc ms [.ref a, v1, v2] ω c s (y_aft M_X9_size 15 3 lv r (y_w M_X9_size mc ms Q) Q)) := w_call1 (av := [v1, v2]) (Or.inl ⟨⟨rfl, rfl⟩, rfl⟩) dX9_size_15 rfl hc rfl (y_F_mono _) (y_dle rfl) (y_dle rfl) rfl rfl
theorem wX9_size_15_c10 (hc : y_cls ω a = some 10) : y_w M_X9_size mc ms Q (15, lv, v2 :: v1 :: .ref a :: r, ω, c, s) = (y_cat r ≤ 8 ∧ F_X10_mark mc ms [.ref a, v1, v2] ω c s (y_aft M_X9_size 15 3 lv r (y_w M_X9_size mc ms Q) Q)) := w_call1 (av := [v1, v2]) (Or.inl ⟨⟨rfl, rfl⟩, rfl⟩) dX9_size_15 rfl hc rfl (y_F_mono _) (y_dle rfl) (y_dle rfl) rfl rfl
theorem wX9_size_15_c11 (hc : y_cls ω a = some 11) : y_w M_X9_size mc ms Q (15, lv, v2 :: v1 :: .ref a :: r, ω, c, s) = (y_cat r ≤ 8 ∧ F_X11_mark mc ms [.ref a, v1, v2] ω c s (y_aft M_X9_size 15 3 lv r (y_w M_X9_size mc ms Q) Q)) := w_call1 (av := [v1, v2]) (Or.inl ⟨⟨rfl, rfl⟩, rfl⟩) dX9_size_15 rfl hc rfl (y_F_mono _) (y_dle rfl) (y_dle rfl) rfl rfl
theorem wX9_size_18 : y_w M_X9_size mc ms Q (18, lv, .int y :: .int x :: r, ω, c, s) = y_w M_X9_size mc ms Q (19, lv, .int (x + y) :: r, ω, c, s) := w_iadd dX9_size_18 rfl
theorem wX9_size_19 : y_w M_X9_size mc ms Q (19, lv, [.int x], ω, c, s) = Q (.returned (some (.int x))) ω c s := w_ireturnI dX9_size_19 rfl
def P_X10_size : y_Pool := ([], [], [], [(18, 1, 2, 2, (1, 21), F_X2_begins), (24, 2, 0, 3, (5, 109), (y_self F_X9_size))], [], [], [])
def M_X10_size : y_Md := (cX10_size, "YoungerBack$Pilot", (3, (some FieldType.int)), (5, 109), false, P_X10_size, [])
def F_X10_size : y_Tr := y_F M_X10_size
theorem nX10_size : y_nL M_X10_size = 3 := rfl
theorem wX10_size_0 : y_w M_X10_size mc ms Q (0, lv, st, ω, c, s) = y_ldA lv 1 (fun v => y_w M_X10_size mc ms Q (1, lv, v :: st, ω, c, s)) := w_aload_n dX10_size_0 rfl rfl
theorem wX10_size_1 : y_w M_X10_size mc ms Q (1, lv, st, ω, c, s) = y_w M_X10_size mc ms Q (3, lv, .int (nI 12) :: st, ω, c, s) := w_bipush dX10_size_1 (v := (nI 12)) (by decide) rfl
theorem wX10_size_3 (hc : y_cls ω a = some 2) : y_w M_X10_size mc ms Q (3, lv, v1 :: .ref a :: r, ω, c, s) = (y_cat r ≤ 8 ∧ F_X2_begins mc ms [.ref a, v1] ω c s (y_aft M_X10_size 3 3 lv r (y_w M_X10_size mc ms Q) Q)) := w_call1 (av := [v1]) (Or.inl ⟨⟨rfl, rfl⟩, rfl⟩) dX10_size_3 rfl hc rfl (y_F_mono _) (y_dle rfl) (y_dle rfl) rfl rfl
theorem wX10_size_6 : y_w M_X10_size mc ms Q (6, lv, st, ω, c, s) = y_ldA lv 0 (fun v => y_w M_X10_size mc ms Q (7, lv, v :: st, ω, c, s)) := w_aload_n dX10_size_6 rfl rfl
theorem wX10_size_7 : y_w M_X10_size mc ms Q (7, lv, st, ω, c, s) = y_ldA lv 1 (fun v => y_w M_X10_size mc ms Q (8, lv, v :: st, ω, c, s)) := w_aload_n dX10_size_7 rfl rfl
theorem wX10_size_8 : y_w M_X10_size mc ms Q (8, lv, st, ω, c, s) = y_ldA lv 2 (fun v => y_w M_X10_size mc ms Q (9, lv, v :: st, ω, c, s)) := w_aload_n dX10_size_8 rfl rfl
theorem wX10_size_9 : y_w M_X10_size mc ms Q (9, lv, v2 :: v1 :: v0 :: r, ω, c, s) = (y_cat r ≤ 8 ∧ (y_self F_X9_size) mc ms [v0, v1, v2] ω c s (y_aft M_X10_size 9 3 lv r (y_w M_X10_size mc ms Q) Q)) := w_call0 (av := [v0, v1, v2]) ⟨Or.inl ⟨rfl, rfl⟩, rfl⟩ dX10_size_9 rfl (y_self_mono (y_F_mono _)) (y_dle rfl) (y_dle rfl) rfl rfl
theorem wX10_size_12 : y_w M_X10_size mc ms Q (12, lv, .int x :: r, ω, c, s) = y_w M_X10_size mc ms Q (13, lv, .int (-x) :: r, ω, c, s) := w_ineg dX10_size_12 rfl
theorem wX10_size_13 : y_w M_X10_size mc ms Q (13, lv, [.int x], ω, c, s) = Q (.returned (some (.int x))) ω c s := w_ireturnI dX10_size_13 rfl
def P_X12_size : y_Pool := ([], [], [], [(9, 1, 2, 2, (1, 21), F_X2_begins), (15, 2, 0, 3, (2, 43), (y_self F_X8_size))], [], [], [])
def M_X12_size : y_Md := (cX12_size, "YoungerBack$Clerk", (3, (some FieldType.int)), (2, 43), false, P_X12_size, [])
def F_X12_size : y_Tr := y_F M_X12_size
theorem nX12_size : y_nL M_X12_size = 3 := rfl
theorem wX12_size_0 : y_w M_X12_size mc ms Q (0, lv, st, ω, c, s) = y_ldA lv 1 (fun v => y_w M_X12_size mc ms Q (1, lv, v :: st, ω, c, s)) := w_aload_n dX12_size_0 rfl rfl
theorem wX12_size_1 : y_w M_X12_size mc ms Q (1, lv, st, ω, c, s) = y_w M_X12_size mc ms Q (3, lv, .int (nI 13) :: st, ω, c, s) := w_bipush dX12_size_1 (v := (nI 13)) (by decide) rfl
theorem wX12_size_3 (hc : y_cls ω a = some 2) : y_w M_X12_size mc ms Q (3, lv, v1 :: .ref a :: r, ω, c, s) = (y_cat r ≤ 8 ∧ F_X2_begins mc ms [.ref a, v1] ω c s (y_aft M_X12_size 3 3 lv r (y_w M_X12_size mc ms Q) Q)) := w_call1 (av := [v1]) (Or.inl ⟨⟨rfl, rfl⟩, rfl⟩) dX12_size_3 rfl hc rfl (y_F_mono _) (y_dle rfl) (y_dle rfl) rfl rfl
theorem wX12_size_6 : y_w M_X12_size mc ms Q (6, lv, st, ω, c, s) = y_ldA lv 0 (fun v => y_w M_X12_size mc ms Q (7, lv, v :: st, ω, c, s)) := w_aload_n dX12_size_6 rfl rfl
theorem wX12_size_7 : y_w M_X12_size mc ms Q (7, lv, st, ω, c, s) = y_ldA lv 1 (fun v => y_w M_X12_size mc ms Q (8, lv, v :: st, ω, c, s)) := w_aload_n dX12_size_7 rfl rfl
theorem wX12_size_8 : y_w M_X12_size mc ms Q (8, lv, st, ω, c, s) = y_ldA lv 2 (fun v => y_w M_X12_size mc ms Q (9, lv, v :: st, ω, c, s)) := w_aload_n dX12_size_8 rfl rfl
theorem wX12_size_9 : y_w M_X12_size mc ms Q (9, lv, v2 :: v1 :: v0 :: r, ω, c, s) = (y_cat r ≤ 8 ∧ (y_self F_X8_size) mc ms [v0, v1, v2] ω c s (y_aft M_X12_size 9 3 lv r (y_w M_X12_size mc ms Q) Q)) := w_call0 (av := [v0, v1, v2]) ⟨Or.inl ⟨rfl, rfl⟩, rfl⟩ dX12_size_9 rfl (y_self_mono (y_F_mono _)) (y_dle rfl) (y_dle rfl) rfl rfl
theorem wX12_size_12 : y_w M_X12_size mc ms Q (12, lv, st, ω, c, s) = y_w M_X12_size mc ms Q (14, lv, .int (nI 100) :: st, ω, c, s) := w_bipush dX12_size_12 (v := (nI 100)) (by decide) rfl
theorem wX12_size_14 : y_w M_X12_size mc ms Q (14, lv, .int y :: .int x :: r, ω, c, s) = y_w M_X12_size mc ms Q (15, lv, .int (x - y) :: r, ω, c, s) := w_isub dX12_size_14 rfl
theorem wX12_size_15 : y_w M_X12_size mc ms Q (15, lv, [.int x], ω, c, s) = Q (.returned (some (.int x))) ω c s := w_ireturnI dX12_size_15 rfl
def P_X13_size : y_Pool := ([], [], [], [(9, 1, 2, 2, (1, 21), F_X2_begins), (15, 2, 0, 3, (3, 65), (y_self F_X12_size))], [], [], [])
def M_X13_size : y_Md := (cX13_size, "YoungerBack$Boy", (3, (some FieldType.int)), (3, 65), false, P_X13_size, [])
def F_X13_size : y_Tr := y_F M_X13_size
theorem nX13_size : y_nL M_X13_size = 3 := rfl
theorem wX13_size_0 : y_w M_X13_size mc ms Q (0, lv, st, ω, c, s) = y_ldA lv 1 (fun v => y_w M_X13_size mc ms Q (1, lv, v :: st, ω, c, s)) := w_aload_n dX13_size_0 rfl rfl
theorem wX13_size_1 : y_w M_X13_size mc ms Q (1, lv, st, ω, c, s) = y_w M_X13_size mc ms Q (3, lv, .int (nI 14) :: st, ω, c, s) := w_bipush dX13_size_1 (v := (nI 14)) (by decide) rfl
theorem wX13_size_3 (hc : y_cls ω a = some 2) : y_w M_X13_size mc ms Q (3, lv, v1 :: .ref a :: r, ω, c, s) = (y_cat r ≤ 8 ∧ F_X2_begins mc ms [.ref a, v1] ω c s (y_aft M_X13_size 3 3 lv r (y_w M_X13_size mc ms Q) Q)) := w_call1 (av := [v1]) (Or.inl ⟨⟨rfl, rfl⟩, rfl⟩) dX13_size_3 rfl hc rfl (y_F_mono _) (y_dle rfl) (y_dle rfl) rfl rfl
theorem wX13_size_6 : y_w M_X13_size mc ms Q (6, lv, st, ω, c, s) = y_w M_X13_size mc ms Q (7, lv, .int (nI 2) :: st, ω, c, s) := w_iconst dX13_size_6 (v := (nI 2)) (by decide) rfl
theorem wX13_size_7 : y_w M_X13_size mc ms Q (7, lv, st, ω, c, s) = y_ldA lv 0 (fun v => y_w M_X13_size mc ms Q (8, lv, v :: st, ω, c, s)) := w_aload_n dX13_size_7 rfl rfl
theorem wX13_size_8 : y_w M_X13_size mc ms Q (8, lv, st, ω, c, s) = y_ldA lv 1 (fun v => y_w M_X13_size mc ms Q (9, lv, v :: st, ω, c, s)) := w_aload_n dX13_size_8 rfl rfl
theorem wX13_size_9 : y_w M_X13_size mc ms Q (9, lv, st, ω, c, s) = y_ldA lv 2 (fun v => y_w M_X13_size mc ms Q (10, lv, v :: st, ω, c, s)) := w_aload_n dX13_size_9 rfl rfl
theorem wX13_size_10 : y_w M_X13_size mc ms Q (10, lv, v2 :: v1 :: v0 :: r, ω, c, s) = (y_cat r ≤ 8 ∧ (y_self F_X12_size) mc ms [v0, v1, v2] ω c s (y_aft M_X13_size 10 3 lv r (y_w M_X13_size mc ms Q) Q)) := w_call0 (av := [v0, v1, v2]) ⟨Or.inl ⟨rfl, rfl⟩, rfl⟩ dX13_size_10 rfl (y_self_mono (y_F_mono _)) (y_dle rfl) (y_dle rfl) rfl rfl
theorem wX13_size_13 : y_w M_X13_size mc ms Q (13, lv, .int y :: .int x :: r, ω, c, s) = y_w M_X13_size mc ms Q (14, lv, .int (x * y) :: r, ω, c, s) := w_imul dX13_size_13 rfl
theorem wX13_size_14 : y_w M_X13_size mc ms Q (14, lv, [.int x], ω, c, s) = Q (.returned (some (.int x))) ω c s := w_ireturnI dX13_size_14 rfl
def P_X12_mark : y_Pool := ([], [], [], [(9, 1, 2, 2, (1, 21), F_X2_begins), (19, 2, 0, 3, (2, 43), (y_self F_X14_mark)), (22, 1, 12, 3, (3, 65), F_X12_size), (22, 1, 13, 3, (4, 87), F_X13_size)], [], [], [])
def M_X12_mark : y_Md := (cX12_mark, "YoungerBack$Clerk", (3, (some FieldType.int)), (4, 87), false, P_X12_mark, [])
def F_X12_mark : y_Tr := y_F M_X12_mark
theorem nX12_mark : y_nL M_X12_mark = 3 := rfl
theorem wX12_mark_0 : y_w M_X12_mark mc ms Q (0, lv, st, ω, c, s) = y_ldA lv 1 (fun v => y_w M_X12_mark mc ms Q (1, lv, v :: st, ω, c, s)) := w_aload_n dX12_mark_0 rfl rfl
theorem wX12_mark_1 : y_w M_X12_mark mc ms Q (1, lv, st, ω, c, s) = y_w M_X12_mark mc ms Q (3, lv, .int (nI 23) :: st, ω, c, s) := w_bipush dX12_mark_1 (v := (nI 23)) (by decide) rfl
theorem wX12_mark_3 (hc : y_cls ω a = some 2) : y_w M_X12_mark mc ms Q (3, lv, v1 :: .ref a :: r, ω, c, s) = (y_cat r ≤ 8 ∧ F_X2_begins mc ms [.ref a, v1] ω c s (y_aft M_X12_mark 3 3 lv r (y_w M_X12_mark mc ms Q) Q)) := w_call1 (av := [v1]) (Or.inl ⟨⟨rfl, rfl⟩, rfl⟩) dX12_mark_3 rfl hc rfl (y_F_mono _) (y_dle rfl) (y_dle rfl) rfl rfl
theorem wX12_mark_6 : y_w M_X12_mark mc ms Q (6, lv, st, ω, c, s) = y_ldA lv 0 (fun v => y_w M_X12_mark mc ms Q (7, lv, v :: st, ω, c, s)) := w_aload_n dX12_mark_6 rfl rfl
theorem wX12_mark_7 : y_w M_X12_mark mc ms Q (7, lv, st, ω, c, s) = y_ldA lv 1 (fun v => y_w M_X12_mark mc ms Q (8, lv, v :: st, ω, c, s)) := w_aload_n dX12_mark_7 rfl rfl
theorem wX12_mark_8 : y_w M_X12_mark mc ms Q (8, lv, st, ω, c, s) = y_ldA lv 2 (fun v => y_w M_X12_mark mc ms Q (9, lv, v :: st, ω, c, s)) := w_aload_n dX12_mark_8 rfl rfl
theorem wX12_mark_9 : y_w M_X12_mark mc ms Q (9, lv, v2 :: v1 :: v0 :: r, ω, c, s) = (y_cat r ≤ 8 ∧ (y_self F_X14_mark) mc ms [v0, v1, v2] ω c s (y_aft M_X12_mark 9 3 lv r (y_w M_X12_mark mc ms Q) Q)) := w_call0 (av := [v0, v1, v2]) ⟨Or.inl ⟨rfl, rfl⟩, rfl⟩ dX12_mark_9 rfl (y_self_mono (y_F_mono _)) (y_dle rfl) (y_dle rfl) rfl rfl
theorem wX12_mark_12 : y_w M_X12_mark mc ms Q (12, lv, st, ω, c, s) = y_ldA lv 0 (fun v => y_w M_X12_mark mc ms Q (13, lv, v :: st, ω, c, s)) := w_aload_n dX12_mark_12 rfl rfl
theorem wX12_mark_13 : y_w M_X12_mark mc ms Q (13, lv, st, ω, c, s) = y_ldA lv 1 (fun v => y_w M_X12_mark mc ms Q (14, lv, v :: st, ω, c, s)) := w_aload_n dX12_mark_13 rfl rfl
theorem wX12_mark_14 : y_w M_X12_mark mc ms Q (14, lv, st, ω, c, s) = y_ldA lv 2 (fun v => y_w M_X12_mark mc ms Q (15, lv, v :: st, ω, c, s)) := w_aload_n dX12_mark_14 rfl rfl
theorem wX12_mark_15_c12 (hc : y_cls ω a = some 12) : y_w M_X12_mark mc ms Q (15, lv, v2 :: v1 :: .ref a :: r, ω, c, s) = (y_cat r ≤ 8 ∧ F_X12_size mc ms [.ref a, v1, v2] ω c s (y_aft M_X12_mark 15 3 lv r (y_w M_X12_mark mc ms Q) Q)) := w_call1 (av := [v1, v2]) (Or.inl ⟨⟨rfl, rfl⟩, rfl⟩) dX12_mark_15 rfl hc rfl (y_F_mono _) (y_dle rfl) (y_dle rfl) rfl rfl
theorem wX12_mark_15_c13 (hc : y_cls ω a = some 13) : y_w M_X12_mark mc ms Q (15, lv, v2 :: v1 :: .ref a :: r, ω, c, s) = (y_cat r ≤ 8 ∧ F_X13_size mc ms [.ref a, v1, v2] ω c s (y_aft M_X12_mark 15 3 lv r (y_w M_X12_mark mc ms Q) Q)) := w_call1 (av := [v1, v2]) (Or.inl ⟨⟨rfl, rfl⟩, rfl⟩) dX12_mark_15 rfl hc rfl (y_F_mono _) (y_dle rfl) (y_dle rfl) rfl rfl
theorem wX12_mark_18 : y_w M_X12_mark mc ms Q (18, lv, .int y :: .int x :: r, ω, c, s) = y_w M_X12_mark mc ms Q (19, lv, .int (x - y) :: r, ω, c, s) := w_isub dX12_mark_18 rfl
theorem wX12_mark_19 : y_w M_X12_mark mc ms Q (19, lv, [.int x], ω, c, s) = Q (.returned (some (.int x))) ω c s := w_ireturnI dX12_mark_19 rfl
def P_X0_ask : y_Pool := ([(53, 0, 8, (.object "YoungerBack$Trail"), false), (39, 0, 4, (.object "YoungerBack$League"), true), (236, 1, 7, (.object "java/util/List"), false)], [(50, 2, [.null, .int 0])], [(93, .int (-1000001))], [(168, 1, 0, 2, (3, 61), F_X0_isPerson), (309, 0, 0, 1, (2, 45), F_X0_isHalf), (52, 2, 0, 1, (2, 40), (y_ref F_X2_init)), (240, 3, 14, 2, (3, 64), F_J2_get), (320, 1, 9, 3, (5, 109), F_X9_size), (320, 1, 10, 3, (6, 131), F_X10_size), (320, 1, 11, 3, (5, 109), F_X9_size), (320, 1, 12, 3, (3, 65), F_X12_size), (320, 1, 13, 3, (4, 87), F_X13_size), (324, 1, 9, 3, (3, 65), F_X9_mark), (324, 1, 10, 3, (4, 87), F_X10_mark), (324, 1, 11, 3, (4, 87), F_X11_mark), (324, 1, 12, 3, (5, 109), F_X12_mark), (324, 1, 13, 3, (5, 109), F_X12_mark)], [(246, 9, 1), (246, 10, 1), (246, 11, 1), (246, 12, 1), (246, 13, 1)], [], [])
def M_X0_ask : y_Md := (cX0_ask, "YoungerBack", (4, (some FieldType.int)), (6, 131), false, P_X0_ask, [])
def F_X0_ask : y_Tr := y_F M_X0_ask
theorem nX0_ask : y_nL M_X0_ask = 4 := rfl
theorem tX0_ask_246_9 : y_ft M_X0_ask 246 9 = some 1 := rfl
theorem tX0_ask_246_10 : y_ft M_X0_ask 246 10 = some 1 := rfl
theorem tX0_ask_246_11 : y_ft M_X0_ask 246 11 = some 1 := rfl
theorem tX0_ask_246_12 : y_ft M_X0_ask 246 12 = some 1 := rfl
theorem tX0_ask_246_13 : y_ft M_X0_ask 246 13 = some 1 := rfl
theorem fX0_ask_53_0 : y_ffP P_X0_ask 53 0 = some (8, (.object "YoungerBack$Trail"), false) := rfl
theorem fX0_ask_39_0 : y_ffP P_X0_ask 39 0 = some (4, (.object "YoungerBack$League"), true) := rfl
theorem fX0_ask_236_1 : y_ffP P_X0_ask 236 1 = some (7, (.object "java/util/List"), false) := rfl
theorem wX0_ask_0 : y_w M_X0_ask mc ms Q (0, lv, st, ω, c, s) = y_ldA lv 0 (fun v => y_w M_X0_ask mc ms Q (1, lv, v :: st, ω, c, s)) := w_aload_n dX0_ask_0 rfl rfl
theorem wX0_ask_1 : y_w M_X0_ask mc ms Q (1, lv, st, ω, c, s) = y_ldI lv 1 (fun v => y_w M_X0_ask mc ms Q (2, lv, v :: st, ω, c, s)) := w_iload_n dX0_ask_1 rfl rfl
theorem wX0_ask_2 (hc : y_cls ω a = some 0) : y_w M_X0_ask mc ms Q (2, lv, v1 :: .ref a :: r, ω, c, s) = (y_cat r ≤ 8 ∧ F_X0_isPerson mc ms [.ref a, v1] ω c s (y_aft M_X0_ask 2 3 lv r (y_w M_X0_ask mc ms Q) Q)) := w_call1 (av := [v1]) (Or.inl ⟨⟨rfl, rfl⟩, rfl⟩) dX0_ask_2 rfl hc rfl (y_F_mono _) (y_dle rfl) (y_dle rfl) rfl rfl
theorem wX0_ask_5 : y_w M_X0_ask mc ms Q (5, lv, .int x :: r, ω, c, s) = ((x = 0 → y_w M_X0_ask mc ms Q (15, lv, r, ω, c, s)) ∧ (¬ (x = 0) → y_w M_X0_ask mc ms Q (8, lv, r, ω, c, s))) := w_if dX0_ask_5 (tgt := 15) rfl rfl rfl
theorem wX0_ask_8 : y_w M_X0_ask mc ms Q (8, lv, st, ω, c, s) = y_ldI lv 2 (fun v => y_w M_X0_ask mc ms Q (9, lv, v :: st, ω, c, s)) := w_iload_n dX0_ask_8 rfl rfl
theorem wX0_ask_9 : y_w M_X0_ask mc ms Q (9, lv, v0 :: r, ω, c, s) = (y_cat r ≤ 8 ∧ F_X0_isHalf mc ms [v0] ω c s (y_aft M_X0_ask 9 3 lv r (y_w M_X0_ask mc ms Q) Q)) := w_call0 (av := [v0]) ⟨Or.inr ⟨rfl, rfl⟩, rfl⟩ dX0_ask_9 rfl (y_F_mono _) (y_dle rfl) (y_dle rfl) rfl rfl
theorem wX0_ask_12 : y_w M_X0_ask mc ms Q (12, lv, .int x :: r, ω, c, s) = ((¬ x = 0 → y_w M_X0_ask mc ms Q (18, lv, r, ω, c, s)) ∧ (¬ (¬ x = 0) → y_w M_X0_ask mc ms Q (15, lv, r, ω, c, s))) := w_if dX0_ask_12 (tgt := 18) rfl rfl rfl
theorem wX0_ask_15 : y_w M_X0_ask mc ms Q (15, lv, st, ω, c, s) = y_w M_X0_ask mc ms Q (17, lv, .int (-1000001) :: st, ω, c, s) := w_ldc dX0_ask_15 rfl rfl rfl
theorem wX0_ask_17 : y_w M_X0_ask mc ms Q (17, lv, [.int x], ω, c, s) = Q (.returned (some (.int x))) ω c s := w_ireturnI dX0_ask_17 rfl
theorem wX0_ask_18 : y_w M_X0_ask mc ms Q (18, lv, st, ω, c, s) = y_ldA lv 0 (fun v => y_w M_X0_ask mc ms Q (19, lv, v :: st, ω, c, s)) := w_aload_n dX0_ask_18 rfl rfl
theorem wX0_ask_19 : y_w M_X0_ask mc ms Q (19, lv, st, ω, c, s) = (y_room mc ms c s 2 ∧ y_w M_X0_ask mc ms Q (22, lv, .ref ω.1 :: st, y_hnew ω (.inr (2, [.null, .int 0])), c + 1, s + 2)) := w_new dX0_ask_19 rfl rfl rfl
theorem wX0_ask_22 : y_w M_X0_ask mc ms Q (22, lv, v :: r, ω, c, s) = (v.category = 1 ∧ y_w M_X0_ask mc ms Q (23, lv, v :: v :: r, ω, c, s)) := w_dup dX0_ask_22 rfl
theorem wX0_ask_23 : y_w M_X0_ask mc ms Q (23, lv, v0 :: r, ω, c, s) = (y_cat r ≤ 8 ∧ (y_ref F_X2_init) mc ms [v0] ω c s (y_aft M_X0_ask 23 3 lv r (y_w M_X0_ask mc ms Q) Q)) := w_call0 (av := [v0]) ⟨Or.inl ⟨rfl, rfl⟩, rfl⟩ dX0_ask_23 rfl (y_ref_mono (y_F_mono _)) (y_dle rfl) (y_dle rfl) rfl rfl
theorem wX0_ask_26 : y_w M_X0_ask mc ms Q (26, lv, v :: .ref a :: r, ω, c, s) = y_pf P_X0_ask false 53 (ω.2 a) v (fun ci fs => y_w M_X0_ask mc ms Q (29, lv, r, y_hup ω a (.inr (ci, fs)), c, s)) := w_putfield dX0_ask_26 rfl rfl rfl
theorem wX0_ask_29 : y_w M_X0_ask mc ms Q (29, lv, st, ω, c, s) = y_ldA lv 0 (fun v => y_w M_X0_ask mc ms Q (30, lv, v :: st, ω, c, s)) := w_aload_n dX0_ask_29 rfl rfl
theorem wX0_ask_30 : y_w M_X0_ask mc ms Q (30, lv, .ref a :: r, ω, c, s) = y_gf P_X0_ask 39 (ω.2 a) (fun v => y_w M_X0_ask mc ms Q (33, lv, v :: r, ω, c, s)) := w_getfield dX0_ask_30 rfl rfl
theorem wX0_ask_33 : y_w M_X0_ask mc ms Q (33, lv, .ref a :: r, ω, c, s) = y_gf P_X0_ask 236 (ω.2 a) (fun v => y_w M_X0_ask mc ms Q (36, lv, v :: r, ω, c, s)) := w_getfield dX0_ask_33 rfl rfl
theorem wX0_ask_36 : y_w M_X0_ask mc ms Q (36, lv, st, ω, c, s) = y_ldI lv 1 (fun v => y_w M_X0_ask mc ms Q (37, lv, v :: st, ω, c, s)) := w_iload_n dX0_ask_36 rfl rfl
theorem wX0_ask_37 (hc : y_cls ω a = some 14) : y_w M_X0_ask mc ms Q (37, lv, v1 :: .ref a :: r, ω, c, s) = (y_cat r ≤ 8 ∧ F_J2_get mc ms [.ref a, v1] ω c s (y_aft M_X0_ask 37 5 lv r (y_w M_X0_ask mc ms Q) Q)) := w_call1 (av := [v1]) (Or.inr ⟨⟨⟨_, rfl⟩, rfl⟩, rfl⟩) dX0_ask_37 rfl hc rfl (y_F_mono _) (y_dle rfl) (y_dle rfl) rfl rfl
theorem wX0_ask_42 : y_w M_X0_ask mc ms Q (42, lv, .ref a :: r, ω, c, s) = y_tsc M_X0_ask 246 (ω.2 a) (y_w M_X0_ask mc ms Q (45, lv, .ref a :: r, ω, c, s)) (y_vmt M_X0_ask mc ms 18 42 lv ω c s (y_w M_X0_ask mc ms Q) Q) := w_checkcast dX0_ask_42 rfl
theorem wX0_ask_45 : y_w M_X0_ask mc ms Q (45, lv, v :: r, ω, c, s) = (y_isA v = true ∧ y_w M_X0_ask mc ms Q (46, (3, v) :: y_kill 3 lv, r, ω, c, s)) := w_astore_n dX0_ask_45 rfl (y_dle rfl) rfl
theorem wX0_ask_46 : y_w M_X0_ask mc ms Q (46, lv, st, ω, c, s) = y_ldI lv 2 (fun v => y_w M_X0_ask mc ms Q (47, lv, v :: st, ω, c, s)) := w_iload_n dX0_ask_46 rfl rfl
theorem wX0_ask_47 : y_w M_X0_ask mc ms Q (47, lv, .int x :: r, ω, c, s) = ((¬ x = 0 → y_w M_X0_ask mc ms Q (65, lv, r, ω, c, s)) ∧ (¬ (¬ x = 0) → y_w M_X0_ask mc ms Q (50, lv, r, ω, c, s))) := w_if dX0_ask_47 (tgt := 65) rfl rfl rfl
theorem wX0_ask_50 : y_w M_X0_ask mc ms Q (50, lv, st, ω, c, s) = y_ldA lv 3 (fun v => y_w M_X0_ask mc ms Q (51, lv, v :: st, ω, c, s)) := w_aload_n dX0_ask_50 rfl rfl
theorem wX0_ask_51 : y_w M_X0_ask mc ms Q (51, lv, st, ω, c, s) = y_ldA lv 0 (fun v => y_w M_X0_ask mc ms Q (52, lv, v :: st, ω, c, s)) := w_aload_n dX0_ask_51 rfl rfl
theorem wX0_ask_52 : y_w M_X0_ask mc ms Q (52, lv, .ref a :: r, ω, c, s) = y_gf P_X0_ask 53 (ω.2 a) (fun v => y_w M_X0_ask mc ms Q (55, lv, v :: r, ω, c, s)) := w_getfield dX0_ask_52 rfl rfl
theorem wX0_ask_55 : y_w M_X0_ask mc ms Q (55, lv, st, ω, c, s) = y_ldA lv 0 (fun v => y_w M_X0_ask mc ms Q (56, lv, v :: st, ω, c, s)) := w_aload_n dX0_ask_55 rfl rfl
theorem wX0_ask_56 : y_w M_X0_ask mc ms Q (56, lv, .ref a :: r, ω, c, s) = y_gf P_X0_ask 39 (ω.2 a) (fun v => y_w M_X0_ask mc ms Q (59, lv, v :: r, ω, c, s)) := w_getfield dX0_ask_56 rfl rfl
theorem wX0_ask_59_c9 (hc : y_cls ω a = some 9) : y_w M_X0_ask mc ms Q (59, lv, v2 :: v1 :: .ref a :: r, ω, c, s) = (y_cat r ≤ 8 ∧ F_X9_size mc ms [.ref a, v1, v2] ω c s (y_aft M_X0_ask 59 3 lv r (y_w M_X0_ask mc ms Q) Q)) := w_call1 (av := [v1, v2]) (Or.inl ⟨⟨rfl, rfl⟩, rfl⟩) dX0_ask_59 rfl hc rfl (y_F_mono _) (y_dle rfl) (y_dle rfl) rfl rfl
theorem wX0_ask_59_c10 (hc : y_cls ω a = some 10) : y_w M_X0_ask mc ms Q (59, lv, v2 :: v1 :: .ref a :: r, ω, c, s) = (y_cat r ≤ 8 ∧ F_X10_size mc ms [.ref a, v1, v2] ω c s (y_aft M_X0_ask 59 3 lv r (y_w M_X0_ask mc ms Q) Q)) := w_call1 (av := [v1, v2]) (Or.inl ⟨⟨rfl, rfl⟩, rfl⟩) dX0_ask_59 rfl hc rfl (y_F_mono _) (y_dle rfl) (y_dle rfl) rfl rfl
theorem wX0_ask_59_c11 (hc : y_cls ω a = some 11) : y_w M_X0_ask mc ms Q (59, lv, v2 :: v1 :: .ref a :: r, ω, c, s) = (y_cat r ≤ 8 ∧ F_X9_size mc ms [.ref a, v1, v2] ω c s (y_aft M_X0_ask 59 3 lv r (y_w M_X0_ask mc ms Q) Q)) := w_call1 (av := [v1, v2]) (Or.inl ⟨⟨rfl, rfl⟩, rfl⟩) dX0_ask_59 rfl hc rfl (y_F_mono _) (y_dle rfl) (y_dle rfl) rfl rfl
theorem wX0_ask_59_c12 (hc : y_cls ω a = some 12) : y_w M_X0_ask mc ms Q (59, lv, v2 :: v1 :: .ref a :: r, ω, c, s) = (y_cat r ≤ 8 ∧ F_X12_size mc ms [.ref a, v1, v2] ω c s (y_aft M_X0_ask 59 3 lv r (y_w M_X0_ask mc ms Q) Q)) := w_call1 (av := [v1, v2]) (Or.inl ⟨⟨rfl, rfl⟩, rfl⟩) dX0_ask_59 rfl hc rfl (y_F_mono _) (y_dle rfl) (y_dle rfl) rfl rfl
theorem wX0_ask_59_c13 (hc : y_cls ω a = some 13) : y_w M_X0_ask mc ms Q (59, lv, v2 :: v1 :: .ref a :: r, ω, c, s) = (y_cat r ≤ 8 ∧ F_X13_size mc ms [.ref a, v1, v2] ω c s (y_aft M_X0_ask 59 3 lv r (y_w M_X0_ask mc ms Q) Q)) := w_call1 (av := [v1, v2]) (Or.inl ⟨⟨rfl, rfl⟩, rfl⟩) dX0_ask_59 rfl hc rfl (y_F_mono _) (y_dle rfl) (y_dle rfl) rfl rfl
theorem wX0_ask_62 : y_w M_X0_ask mc ms Q (62, lv, st, ω, c, s) = y_w M_X0_ask mc ms Q (77, lv, st, ω, c, s) := w_goto dX0_ask_62 (tgt := 77) (by decide) rfl
theorem wX0_ask_65 : y_w M_X0_ask mc ms Q (65, lv, st, ω, c, s) = y_ldA lv 3 (fun v => y_w M_X0_ask mc ms Q (66, lv, v :: st, ω, c, s)) := w_aload_n dX0_ask_65 rfl rfl
theorem wX0_ask_66 : y_w M_X0_ask mc ms Q (66, lv, st, ω, c, s) = y_ldA lv 0 (fun v => y_w M_X0_ask mc ms Q (67, lv, v :: st, ω, c, s)) := w_aload_n dX0_ask_66 rfl rfl
theorem wX0_ask_67 : y_w M_X0_ask mc ms Q (67, lv, .ref a :: r, ω, c, s) = y_gf P_X0_ask 53 (ω.2 a) (fun v => y_w M_X0_ask mc ms Q (70, lv, v :: r, ω, c, s)) := w_getfield dX0_ask_67 rfl rfl
theorem wX0_ask_70 : y_w M_X0_ask mc ms Q (70, lv, st, ω, c, s) = y_ldA lv 0 (fun v => y_w M_X0_ask mc ms Q (71, lv, v :: st, ω, c, s)) := w_aload_n dX0_ask_70 rfl rfl
theorem wX0_ask_71 : y_w M_X0_ask mc ms Q (71, lv, .ref a :: r, ω, c, s) = y_gf P_X0_ask 39 (ω.2 a) (fun v => y_w M_X0_ask mc ms Q (74, lv, v :: r, ω, c, s)) := w_getfield dX0_ask_71 rfl rfl
theorem wX0_ask_74_c9 (hc : y_cls ω a = some 9) : y_w M_X0_ask mc ms Q (74, lv, v2 :: v1 :: .ref a :: r, ω, c, s) = (y_cat r ≤ 8 ∧ F_X9_mark mc ms [.ref a, v1, v2] ω c s (y_aft M_X0_ask 74 3 lv r (y_w M_X0_ask mc ms Q) Q)) := w_call1 (av := [v1, v2]) (Or.inl ⟨⟨rfl, rfl⟩, rfl⟩) dX0_ask_74 rfl hc rfl (y_F_mono _) (y_dle rfl) (y_dle rfl) rfl rfl
theorem wX0_ask_74_c10 (hc : y_cls ω a = some 10) : y_w M_X0_ask mc ms Q (74, lv, v2 :: v1 :: .ref a :: r, ω, c, s) = (y_cat r ≤ 8 ∧ F_X10_mark mc ms [.ref a, v1, v2] ω c s (y_aft M_X0_ask 74 3 lv r (y_w M_X0_ask mc ms Q) Q)) := w_call1 (av := [v1, v2]) (Or.inl ⟨⟨rfl, rfl⟩, rfl⟩) dX0_ask_74 rfl hc rfl (y_F_mono _) (y_dle rfl) (y_dle rfl) rfl rfl
theorem wX0_ask_74_c11 (hc : y_cls ω a = some 11) : y_w M_X0_ask mc ms Q (74, lv, v2 :: v1 :: .ref a :: r, ω, c, s) = (y_cat r ≤ 8 ∧ F_X11_mark mc ms [.ref a, v1, v2] ω c s (y_aft M_X0_ask 74 3 lv r (y_w M_X0_ask mc ms Q) Q)) := w_call1 (av := [v1, v2]) (Or.inl ⟨⟨rfl, rfl⟩, rfl⟩) dX0_ask_74 rfl hc rfl (y_F_mono _) (y_dle rfl) (y_dle rfl) rfl rfl
theorem wX0_ask_74_c12 (hc : y_cls ω a = some 12) : y_w M_X0_ask mc ms Q (74, lv, v2 :: v1 :: .ref a :: r, ω, c, s) = (y_cat r ≤ 8 ∧ F_X12_mark mc ms [.ref a, v1, v2] ω c s (y_aft M_X0_ask 74 3 lv r (y_w M_X0_ask mc ms Q) Q)) := w_call1 (av := [v1, v2]) (Or.inl ⟨⟨rfl, rfl⟩, rfl⟩) dX0_ask_74 rfl hc rfl (y_F_mono _) (y_dle rfl) (y_dle rfl) rfl rfl
theorem wX0_ask_74_c13 (hc : y_cls ω a = some 13) : y_w M_X0_ask mc ms Q (74, lv, v2 :: v1 :: .ref a :: r, ω, c, s) = (y_cat r ≤ 8 ∧ F_X12_mark mc ms [.ref a, v1, v2] ω c s (y_aft M_X0_ask 74 3 lv r (y_w M_X0_ask mc ms Q) Q)) := w_call1 (av := [v1, v2]) (Or.inl ⟨⟨rfl, rfl⟩, rfl⟩) dX0_ask_74 rfl hc rfl (y_F_mono _) (y_dle rfl) (y_dle rfl) rfl rfl
theorem wX0_ask_77 : y_w M_X0_ask mc ms Q (77, lv, [.int x], ω, c, s) = Q (.returned (some (.int x))) ω c s := w_ireturnI dX0_ask_77 rfl
def P_X0_trace : y_Pool := ([(53, 0, 8, (.object "YoungerBack$Trail"), false), (327, 2, 1, .int, true), (329, 2, 0, (.array .int), true)], [], [(181, .int (-1000000))], [(79, 0, 0, 3, (1, 25), F_X0_isIn)], [], [], [])
def M_X0_trace : y_Md := (cX0_trace, "YoungerBack", (2, (some FieldType.int)), (1, 25), false, P_X0_trace, [])
def F_X0_trace : y_Tr := y_F M_X0_trace
theorem nX0_trace : y_nL M_X0_trace = 2 := rfl
theorem fX0_trace_53_0 : y_ffP P_X0_trace 53 0 = some (8, (.object "YoungerBack$Trail"), false) := rfl
theorem fX0_trace_327_2 : y_ffP P_X0_trace 327 2 = some (1, .int, true) := rfl
theorem fX0_trace_329_2 : y_ffP P_X0_trace 329 2 = some (0, (.array .int), true) := rfl
theorem wX0_trace_0 : y_w M_X0_trace mc ms Q (0, lv, st, ω, c, s) = y_ldI lv 1 (fun v => y_w M_X0_trace mc ms Q (1, lv, v :: st, ω, c, s)) := w_iload_n dX0_trace_0 rfl rfl
theorem wX0_trace_1 : y_w M_X0_trace mc ms Q (1, lv, .int x :: r, ω, c, s) = y_w M_X0_trace mc ms Q (2, lv, .long x.toInt64 :: r, ω, c, s) := w_i2l dX0_trace_1 rfl
theorem wX0_trace_2 : y_w M_X0_trace mc ms Q (2, lv, st, ω, c, s) = y_w M_X0_trace mc ms Q (3, lv, .long 0 :: st, ω, c, s) := w_lconst dX0_trace_2 (v := 0) (by decide) rfl
theorem wX0_trace_3 : y_w M_X0_trace mc ms Q (3, lv, st, ω, c, s) = y_ldA lv 0 (fun v => y_w M_X0_trace mc ms Q (4, lv, v :: st, ω, c, s)) := w_aload_n dX0_trace_3 rfl rfl
theorem wX0_trace_4 : y_w M_X0_trace mc ms Q (4, lv, .ref a :: r, ω, c, s) = y_gf P_X0_trace 53 (ω.2 a) (fun v => y_w M_X0_trace mc ms Q (7, lv, v :: r, ω, c, s)) := w_getfield dX0_trace_4 rfl rfl
theorem wX0_trace_7 : y_w M_X0_trace mc ms Q (7, lv, .ref a :: r, ω, c, s) = y_gf P_X0_trace 327 (ω.2 a) (fun v => y_w M_X0_trace mc ms Q (10, lv, v :: r, ω, c, s)) := w_getfield dX0_trace_7 rfl rfl
theorem wX0_trace_10 : y_w M_X0_trace mc ms Q (10, lv, st, ω, c, s) = y_w M_X0_trace mc ms Q (11, lv, .int 1 :: st, ω, c, s) := w_iconst dX0_trace_10 (v := 1) (by decide) rfl
theorem wX0_trace_11 : y_w M_X0_trace mc ms Q (11, lv, .int y :: .int x :: r, ω, c, s) = y_w M_X0_trace mc ms Q (12, lv, .int (x - y) :: r, ω, c, s) := w_isub dX0_trace_11 rfl
theorem wX0_trace_12 : y_w M_X0_trace mc ms Q (12, lv, .int x :: r, ω, c, s) = y_w M_X0_trace mc ms Q (13, lv, .long x.toInt64 :: r, ω, c, s) := w_i2l dX0_trace_12 rfl
theorem wX0_trace_13 : y_w M_X0_trace mc ms Q (13, lv, v2 :: v1 :: v0 :: r, ω, c, s) = (y_cat r ≤ 8 ∧ F_X0_isIn mc ms [v0, v1, v2] ω c s (y_aft M_X0_trace 13 3 lv r (y_w M_X0_trace mc ms Q) Q)) := w_call0 (av := [v0, v1, v2]) ⟨Or.inr ⟨rfl, rfl⟩, rfl⟩ dX0_trace_13 rfl (y_F_mono _) (y_dle rfl) (y_dle rfl) rfl rfl
theorem wX0_trace_16 : y_w M_X0_trace mc ms Q (16, lv, .int x :: r, ω, c, s) = ((x = 0 → y_w M_X0_trace mc ms Q (31, lv, r, ω, c, s)) ∧ (¬ (x = 0) → y_w M_X0_trace mc ms Q (19, lv, r, ω, c, s))) := w_if dX0_trace_16 (tgt := 31) rfl rfl rfl
theorem wX0_trace_19 : y_w M_X0_trace mc ms Q (19, lv, st, ω, c, s) = y_ldA lv 0 (fun v => y_w M_X0_trace mc ms Q (20, lv, v :: st, ω, c, s)) := w_aload_n dX0_trace_19 rfl rfl
theorem wX0_trace_20 : y_w M_X0_trace mc ms Q (20, lv, .ref a :: r, ω, c, s) = y_gf P_X0_trace 53 (ω.2 a) (fun v => y_w M_X0_trace mc ms Q (23, lv, v :: r, ω, c, s)) := w_getfield dX0_trace_20 rfl rfl
theorem wX0_trace_23 : y_w M_X0_trace mc ms Q (23, lv, .ref a :: r, ω, c, s) = y_gf P_X0_trace 329 (ω.2 a) (fun v => y_w M_X0_trace mc ms Q (26, lv, v :: r, ω, c, s)) := w_getfield dX0_trace_23 rfl rfl
theorem wX0_trace_26 : y_w M_X0_trace mc ms Q (26, lv, st, ω, c, s) = y_ldI lv 1 (fun v => y_w M_X0_trace mc ms Q (27, lv, v :: st, ω, c, s)) := w_iload_n dX0_trace_26 rfl rfl
theorem wX0_trace_27 : y_w M_X0_trace mc ms Q (27, lv, .int j :: .ref a :: r, ω, c, s) = y_rI (ω.2 a) j (fun x => y_w M_X0_trace mc ms Q (28, lv, .int x :: r, ω, c, s)) := w_iaload dX0_trace_27 rfl
theorem wX0_trace_28 : y_w M_X0_trace mc ms Q (28, lv, st, ω, c, s) = y_w M_X0_trace mc ms Q (33, lv, st, ω, c, s) := w_goto dX0_trace_28 (tgt := 33) (by decide) rfl
theorem wX0_trace_31 : y_w M_X0_trace mc ms Q (31, lv, st, ω, c, s) = y_w M_X0_trace mc ms Q (33, lv, .int (-1000000) :: st, ω, c, s) := w_ldc dX0_trace_31 rfl rfl rfl
theorem wX0_trace_33 : y_w M_X0_trace mc ms Q (33, lv, [.int x], ω, c, s) = Q (.returned (some (.int x))) ω c s := w_ireturnI dX0_trace_33 rfl
def P_X0_count : y_Pool := ([(28, 0, 0, (.array (.object "YoungerBack$Row")), true), (39, 0, 4, (.object "YoungerBack$League"), true), (171, 1, 2, .int, false), (165, 1, 0, .int, false), (158, 0, 6, .int, false), (332, 1, 1, .int, false), (127, 0, 2, .int, false)], [], [(93, .int (-1000001))], [(161, 1, 1, 1, (2, 40), F_X1_many)], [], [], [])
def M_X0_count : y_Md := (cX0_count, "YoungerBack", (4, (some FieldType.int)), (2, 40), false, P_X0_count, [])
def F_X0_count : y_Tr := y_F M_X0_count
theorem nX0_count : y_nL M_X0_count = 4 := rfl
theorem fX0_count_28_0 : y_ffP P_X0_count 28 0 = some (0, (.array (.object "YoungerBack$Row")), true) := rfl
theorem fX0_count_39_0 : y_ffP P_X0_count 39 0 = some (4, (.object "YoungerBack$League"), true) := rfl
theorem fX0_count_171_1 : y_ffP P_X0_count 171 1 = some (2, .int, false) := rfl
theorem fX0_count_165_1 : y_ffP P_X0_count 165 1 = some (0, .int, false) := rfl
theorem fX0_count_158_0 : y_ffP P_X0_count 158 0 = some (6, .int, false) := rfl
theorem fX0_count_332_1 : y_ffP P_X0_count 332 1 = some (1, .int, false) := rfl
theorem fX0_count_127_0 : y_ffP P_X0_count 127 0 = some (2, .int, false) := rfl
theorem wX0_count_0 : y_w M_X0_count mc ms Q (0, lv, st, ω, c, s) = y_w M_X0_count mc ms Q (1, lv, .int 0 :: st, ω, c, s) := w_iconst dX0_count_0 (v := 0) (by decide) rfl
theorem wX0_count_1 : y_w M_X0_count mc ms Q (1, lv, .int x :: r, ω, c, s) = y_w M_X0_count mc ms Q (2, (2, .int x) :: y_kill 2 lv, r, ω, c, s) := w_istore_n dX0_count_1 rfl (y_dle rfl) rfl
theorem wX0_count_2 : y_w M_X0_count mc ms Q (2, lv, st, ω, c, s) = y_ldI lv 1 (fun v => y_w M_X0_count mc ms Q (3, lv, v :: st, ω, c, s)) := w_iload_n dX0_count_2 rfl rfl
theorem wX0_count_3 : y_w M_X0_count mc ms Q (3, lv, .int x :: r, ω, c, s) = y_sw x 0 [44, 77, 85, 93, 101, 106, 114] 119 (fun t => y_w M_X0_count mc ms Q (t, lv, r, ω, c, s)) := w_tsw dX0_count_3 (dt := 119) (ts := [44, 77, 85, 93, 101, 106, 114]) rfl (by decide) (by decide)
theorem wX0_count_44 : y_w M_X0_count mc ms Q (44, lv, st, ω, c, s) = y_w M_X0_count mc ms Q (45, lv, .int 0 :: st, ω, c, s) := w_iconst dX0_count_44 (v := 0) (by decide) rfl
theorem wX0_count_45 : y_w M_X0_count mc ms Q (45, lv, .int x :: r, ω, c, s) = y_w M_X0_count mc ms Q (46, (3, .int x) :: y_kill 3 lv, r, ω, c, s) := w_istore_n dX0_count_45 rfl (y_dle rfl) rfl
theorem wX0_count_46 : y_w M_X0_count mc ms Q (46, lv, st, ω, c, s) = y_ldI lv 3 (fun v => y_w M_X0_count mc ms Q (47, lv, v :: st, ω, c, s)) := w_iload_n dX0_count_46 rfl rfl
theorem wX0_count_47 : y_w M_X0_count mc ms Q (47, lv, st, ω, c, s) = y_w M_X0_count mc ms Q (49, lv, .int (nI 8) :: st, ω, c, s) := w_bipush dX0_count_47 (v := (nI 8)) (by decide) rfl
theorem wX0_count_49 : y_w M_X0_count mc ms Q (49, lv, .int y :: .int x :: r, ω, c, s) = ((y ≤ x → y_w M_X0_count mc ms Q (75, lv, r, ω, c, s)) ∧ (¬ (y ≤ x) → y_w M_X0_count mc ms Q (52, lv, r, ω, c, s))) := w_icmp dX0_count_49 (tgt := 75) rfl rfl rfl
theorem wX0_count_52 : y_w M_X0_count mc ms Q (52, lv, st, ω, c, s) = y_ldI lv 2 (fun v => y_w M_X0_count mc ms Q (53, lv, v :: st, ω, c, s)) := w_iload_n dX0_count_52 rfl rfl
theorem wX0_count_53 : y_w M_X0_count mc ms Q (53, lv, st, ω, c, s) = y_ldA lv 0 (fun v => y_w M_X0_count mc ms Q (54, lv, v :: st, ω, c, s)) := w_aload_n dX0_count_53 rfl rfl
theorem wX0_count_54 : y_w M_X0_count mc ms Q (54, lv, .ref a :: r, ω, c, s) = y_gf P_X0_count 28 (ω.2 a) (fun v => y_w M_X0_count mc ms Q (57, lv, v :: r, ω, c, s)) := w_getfield dX0_count_54 rfl rfl
theorem wX0_count_57 : y_w M_X0_count mc ms Q (57, lv, st, ω, c, s) = y_ldI lv 3 (fun v => y_w M_X0_count mc ms Q (58, lv, v :: st, ω, c, s)) := w_iload_n dX0_count_57 rfl rfl
theorem wX0_count_58 : y_w M_X0_count mc ms Q (58, lv, .int j :: .ref a :: r, ω, c, s) = y_rA (ω.2 a) j (fun x => y_w M_X0_count mc ms Q (59, lv, x :: r, ω, c, s)) := w_aaload dX0_count_58 rfl
theorem wX0_count_59 : y_w M_X0_count mc ms Q (59, lv, v :: r, ω, c, s) = y_nul v (y_w M_X0_count mc ms Q (62, lv, r, ω, c, s)) (y_w M_X0_count mc ms Q (66, lv, r, ω, c, s)) := w_ifnonnull dX0_count_59 rfl rfl
theorem wX0_count_62 : y_w M_X0_count mc ms Q (62, lv, st, ω, c, s) = y_w M_X0_count mc ms Q (63, lv, .int 0 :: st, ω, c, s) := w_iconst dX0_count_62 (v := 0) (by decide) rfl
theorem wX0_count_63 : y_w M_X0_count mc ms Q (63, lv, st, ω, c, s) = y_w M_X0_count mc ms Q (67, lv, st, ω, c, s) := w_goto dX0_count_63 (tgt := 67) (by decide) rfl
theorem wX0_count_66 : y_w M_X0_count mc ms Q (66, lv, st, ω, c, s) = y_w M_X0_count mc ms Q (67, lv, .int 1 :: st, ω, c, s) := w_iconst dX0_count_66 (v := 1) (by decide) rfl
theorem wX0_count_67 : y_w M_X0_count mc ms Q (67, lv, .int y :: .int x :: r, ω, c, s) = y_w M_X0_count mc ms Q (68, lv, .int (x + y) :: r, ω, c, s) := w_iadd dX0_count_67 rfl
theorem wX0_count_68 : y_w M_X0_count mc ms Q (68, lv, .int x :: r, ω, c, s) = y_w M_X0_count mc ms Q (69, (2, .int x) :: y_kill 2 lv, r, ω, c, s) := w_istore_n dX0_count_68 rfl (y_dle rfl) rfl
theorem wX0_count_69 : y_w M_X0_count mc ms Q (69, lv, st, ω, c, s) = y_inc lv 3 (fun x => y_w M_X0_count mc ms Q (72, (3, .int (x + 1)) :: y_kill 3 lv, st, ω, c, s)) := w_iinc dX0_count_69 (d := 1) (by decide) (y_dle rfl) rfl
theorem wX0_count_72 : y_w M_X0_count mc ms Q (72, lv, st, ω, c, s) = ∃ lv2, y_lsub lv2 lv ∧ y_w M_X0_count mc ms Q (46, lv2, st, ω, c, s) := w_back dX0_count_72 (tgt := 46) (by decide) rfl
theorem wX0_count_75 : y_w M_X0_count mc ms Q (75, lv, st, ω, c, s) = y_ldI lv 2 (fun v => y_w M_X0_count mc ms Q (76, lv, v :: st, ω, c, s)) := w_iload_n dX0_count_75 rfl rfl
theorem wX0_count_76 : y_w M_X0_count mc ms Q (76, lv, [.int x], ω, c, s) = Q (.returned (some (.int x))) ω c s := w_ireturnI dX0_count_76 rfl
theorem wX0_count_77 : y_w M_X0_count mc ms Q (77, lv, st, ω, c, s) = y_ldA lv 0 (fun v => y_w M_X0_count mc ms Q (78, lv, v :: st, ω, c, s)) := w_aload_n dX0_count_77 rfl rfl
theorem wX0_count_78 : y_w M_X0_count mc ms Q (78, lv, .ref a :: r, ω, c, s) = y_gf P_X0_count 39 (ω.2 a) (fun v => y_w M_X0_count mc ms Q (81, lv, v :: r, ω, c, s)) := w_getfield dX0_count_78 rfl rfl
theorem wX0_count_81 (hc : y_cls ω a = some 1) : y_w M_X0_count mc ms Q (81, lv, .ref a :: r, ω, c, s) = (y_cat r ≤ 8 ∧ F_X1_many mc ms [.ref a] ω c s (y_aft M_X0_count 81 3 lv r (y_w M_X0_count mc ms Q) Q)) := w_call1 (av := []) (Or.inl ⟨⟨rfl, rfl⟩, rfl⟩) dX0_count_81 rfl hc rfl (y_F_mono _) (y_dle rfl) (y_dle rfl) rfl rfl
theorem wX0_count_84 : y_w M_X0_count mc ms Q (84, lv, [.int x], ω, c, s) = Q (.returned (some (.int x))) ω c s := w_ireturnI dX0_count_84 rfl
theorem wX0_count_85 : y_w M_X0_count mc ms Q (85, lv, st, ω, c, s) = y_ldA lv 0 (fun v => y_w M_X0_count mc ms Q (86, lv, v :: st, ω, c, s)) := w_aload_n dX0_count_85 rfl rfl
theorem wX0_count_86 : y_w M_X0_count mc ms Q (86, lv, .ref a :: r, ω, c, s) = y_gf P_X0_count 39 (ω.2 a) (fun v => y_w M_X0_count mc ms Q (89, lv, v :: r, ω, c, s)) := w_getfield dX0_count_86 rfl rfl
theorem wX0_count_89 : y_w M_X0_count mc ms Q (89, lv, .ref a :: r, ω, c, s) = y_gf P_X0_count 171 (ω.2 a) (fun v => y_w M_X0_count mc ms Q (92, lv, v :: r, ω, c, s)) := w_getfield dX0_count_89 rfl rfl
theorem wX0_count_92 : y_w M_X0_count mc ms Q (92, lv, [.int x], ω, c, s) = Q (.returned (some (.int x))) ω c s := w_ireturnI dX0_count_92 rfl
theorem wX0_count_93 : y_w M_X0_count mc ms Q (93, lv, st, ω, c, s) = y_ldA lv 0 (fun v => y_w M_X0_count mc ms Q (94, lv, v :: st, ω, c, s)) := w_aload_n dX0_count_93 rfl rfl
theorem wX0_count_94 : y_w M_X0_count mc ms Q (94, lv, .ref a :: r, ω, c, s) = y_gf P_X0_count 39 (ω.2 a) (fun v => y_w M_X0_count mc ms Q (97, lv, v :: r, ω, c, s)) := w_getfield dX0_count_94 rfl rfl
theorem wX0_count_97 : y_w M_X0_count mc ms Q (97, lv, .ref a :: r, ω, c, s) = y_gf P_X0_count 165 (ω.2 a) (fun v => y_w M_X0_count mc ms Q (100, lv, v :: r, ω, c, s)) := w_getfield dX0_count_97 rfl rfl
theorem wX0_count_100 : y_w M_X0_count mc ms Q (100, lv, [.int x], ω, c, s) = Q (.returned (some (.int x))) ω c s := w_ireturnI dX0_count_100 rfl
theorem wX0_count_101 : y_w M_X0_count mc ms Q (101, lv, st, ω, c, s) = y_ldA lv 0 (fun v => y_w M_X0_count mc ms Q (102, lv, v :: st, ω, c, s)) := w_aload_n dX0_count_101 rfl rfl
theorem wX0_count_102 : y_w M_X0_count mc ms Q (102, lv, .ref a :: r, ω, c, s) = y_gf P_X0_count 158 (ω.2 a) (fun v => y_w M_X0_count mc ms Q (105, lv, v :: r, ω, c, s)) := w_getfield dX0_count_102 rfl rfl
theorem wX0_count_105 : y_w M_X0_count mc ms Q (105, lv, [.int x], ω, c, s) = Q (.returned (some (.int x))) ω c s := w_ireturnI dX0_count_105 rfl
theorem wX0_count_106 : y_w M_X0_count mc ms Q (106, lv, st, ω, c, s) = y_ldA lv 0 (fun v => y_w M_X0_count mc ms Q (107, lv, v :: st, ω, c, s)) := w_aload_n dX0_count_106 rfl rfl
theorem wX0_count_107 : y_w M_X0_count mc ms Q (107, lv, .ref a :: r, ω, c, s) = y_gf P_X0_count 39 (ω.2 a) (fun v => y_w M_X0_count mc ms Q (110, lv, v :: r, ω, c, s)) := w_getfield dX0_count_107 rfl rfl
theorem wX0_count_110 : y_w M_X0_count mc ms Q (110, lv, .ref a :: r, ω, c, s) = y_gf P_X0_count 332 (ω.2 a) (fun v => y_w M_X0_count mc ms Q (113, lv, v :: r, ω, c, s)) := w_getfield dX0_count_110 rfl rfl
theorem wX0_count_113 : y_w M_X0_count mc ms Q (113, lv, [.int x], ω, c, s) = Q (.returned (some (.int x))) ω c s := w_ireturnI dX0_count_113 rfl
theorem wX0_count_114 : y_w M_X0_count mc ms Q (114, lv, st, ω, c, s) = y_ldA lv 0 (fun v => y_w M_X0_count mc ms Q (115, lv, v :: st, ω, c, s)) := w_aload_n dX0_count_114 rfl rfl
theorem wX0_count_115 : y_w M_X0_count mc ms Q (115, lv, .ref a :: r, ω, c, s) = y_gf P_X0_count 127 (ω.2 a) (fun v => y_w M_X0_count mc ms Q (118, lv, v :: r, ω, c, s)) := w_getfield dX0_count_115 rfl rfl
theorem wX0_count_118 : y_w M_X0_count mc ms Q (118, lv, [.int x], ω, c, s) = Q (.returned (some (.int x))) ω c s := w_ireturnI dX0_count_118 rfl
theorem wX0_count_119 : y_w M_X0_count mc ms Q (119, lv, st, ω, c, s) = y_w M_X0_count mc ms Q (121, lv, .int (-1000001) :: st, ω, c, s) := w_ldc dX0_count_119 rfl rfl rfl
theorem wX0_count_121 : y_w M_X0_count mc ms Q (121, lv, [.int x], ω, c, s) = Q (.returned (some (.int x))) ω c s := w_ireturnI dX0_count_121 rfl
def P_X0_status : y_Pool := ([(70, 0, 9, .int, false)], [], [], [], [], [], [])
def M_X0_status : y_Md := (cX0_status, "YoungerBack", (1, (some FieldType.int)), (0, 0), false, P_X0_status, [])
def F_X0_status : y_Tr := y_F M_X0_status
theorem nX0_status : y_nL M_X0_status = 1 := rfl
theorem fX0_status_70_0 : y_ffP P_X0_status 70 0 = some (9, .int, false) := rfl
theorem wX0_status_0 : y_w M_X0_status mc ms Q (0, lv, st, ω, c, s) = y_ldA lv 0 (fun v => y_w M_X0_status mc ms Q (1, lv, v :: st, ω, c, s)) := w_aload_n dX0_status_0 rfl rfl
theorem wX0_status_1 : y_w M_X0_status mc ms Q (1, lv, .ref a :: r, ω, c, s) = y_gf P_X0_status 70 (ω.2 a) (fun v => y_w M_X0_status mc ms Q (4, lv, v :: r, ω, c, s)) := w_getfield dX0_status_1 rfl rfl
theorem wX0_status_4 : y_w M_X0_status mc ms Q (4, lv, [.int x], ω, c, s) = Q (.returned (some (.int x))) ω c s := w_ireturnI dX0_status_4 rfl
def P_X3_init : y_Pool := ([(7, 3, 2, (.array .int), true), (13, 3, 3, (.array .int), true), (16, 3, 4, (.array .int), true), (19, 3, 5, (.array .int), true), (22, 3, 6, (.array .int), true), (25, 3, 7, (.array .int), true), (28, 3, 9, (.array .int), true), (31, 3, 19, (.array .long), true), (35, 3, 20, (.array .long), true), (38, 3, 21, (.array .boolean), true), (42, 3, 22, (.array .int), true), (45, 3, 23, (.array .int), true)], [], [], [(1, 2, 0, 1, (1, 20), y_oinit)], [], [], [])
def M_X3_init : y_Md := (cX3_init, "YoungerBackModel", (1, none), (1, 20), true, P_X3_init, [])
def F_X3_init : y_Tr := y_F M_X3_init
theorem nX3_init : y_nL M_X3_init = 1 := rfl
theorem fX3_init_7_3 : y_ffP P_X3_init 7 3 = some (2, (.array .int), true) := rfl
theorem fX3_init_13_3 : y_ffP P_X3_init 13 3 = some (3, (.array .int), true) := rfl
theorem fX3_init_16_3 : y_ffP P_X3_init 16 3 = some (4, (.array .int), true) := rfl
theorem fX3_init_19_3 : y_ffP P_X3_init 19 3 = some (5, (.array .int), true) := rfl
theorem fX3_init_22_3 : y_ffP P_X3_init 22 3 = some (6, (.array .int), true) := rfl
theorem fX3_init_25_3 : y_ffP P_X3_init 25 3 = some (7, (.array .int), true) := rfl
theorem fX3_init_28_3 : y_ffP P_X3_init 28 3 = some (9, (.array .int), true) := rfl
theorem fX3_init_31_3 : y_ffP P_X3_init 31 3 = some (19, (.array .long), true) := rfl
theorem fX3_init_35_3 : y_ffP P_X3_init 35 3 = some (20, (.array .long), true) := rfl
theorem fX3_init_38_3 : y_ffP P_X3_init 38 3 = some (21, (.array .boolean), true) := rfl
theorem fX3_init_42_3 : y_ffP P_X3_init 42 3 = some (22, (.array .int), true) := rfl
theorem fX3_init_45_3 : y_ffP P_X3_init 45 3 = some (23, (.array .int), true) := rfl
theorem wX3_init_0 : y_w M_X3_init mc ms Q (0, lv, st, ω, c, s) = y_ldA lv 0 (fun v => y_w M_X3_init mc ms Q (1, lv, v :: st, ω, c, s)) := w_aload_n dX3_init_0 rfl rfl
theorem wX3_init_1 : y_w M_X3_init mc ms Q (1, lv, v0 :: r, ω, c, s) = (y_cat r ≤ 8 ∧ y_oinit mc ms [v0] ω c s (y_aft M_X3_init 1 3 lv r (y_w M_X3_init mc ms Q) Q)) := w_call0 (av := [v0]) ⟨Or.inl ⟨rfl, rfl⟩, rfl⟩ dX3_init_1 rfl y_oinit_mono (y_dle rfl) (y_dle rfl) rfl rfl
theorem wX3_init_4 : y_w M_X3_init mc ms Q (4, lv, st, ω, c, s) = y_ldA lv 0 (fun v => y_w M_X3_init mc ms Q (5, lv, v :: st, ω, c, s)) := w_aload_n dX3_init_4 rfl rfl
theorem wX3_init_5 : y_w M_X3_init mc ms Q (5, lv, st, ω, c, s) = y_w M_X3_init mc ms Q (7, lv, .int (nI 8) :: st, ω, c, s) := w_bipush dX3_init_5 (v := (nI 8)) (by decide) rfl
theorem wX3_init_7 : y_w M_X3_init mc ms Q (7, lv, .int x :: r, ω, c, s) = ((¬ x < 0 ∧ x.toNatClampNeg * 4 ≤ 536870912 ∧ y_room mc ms c s x.toNatClampNeg) ∧ y_w M_X3_init mc ms Q (9, lv, .ref ω.1 :: r, y_hnew ω (.inl (0, y_at2 0 x.toNatClampNeg)), c + 1, s + x.toNatClampNeg)) := w_newarray dX3_init_7 rfl rfl rfl
theorem wX3_init_9 : y_w M_X3_init mc ms Q (9, lv, v :: r, ω, c, s) = (v.category = 1 ∧ y_w M_X3_init mc ms Q (10, lv, v :: v :: r, ω, c, s)) := w_dup dX3_init_9 rfl
theorem wX3_init_10 : y_w M_X3_init mc ms Q (10, lv, st, ω, c, s) = y_w M_X3_init mc ms Q (11, lv, .int 0 :: st, ω, c, s) := w_iconst dX3_init_10 (v := 0) (by decide) rfl
theorem wX3_init_11 : y_w M_X3_init mc ms Q (11, lv, st, ω, c, s) = y_w M_X3_init mc ms Q (12, lv, .int (-1) :: st, ω, c, s) := w_iconst dX3_init_11 (v := (-1)) (by decide) rfl
theorem wX3_init_12 : y_w M_X3_init mc ms Q (12, lv, .int x :: .int j :: .ref a :: r, ω, c, s) = y_wI (ω.2 a) j x (fun e => y_w M_X3_init mc ms Q (13, lv, r, y_hup ω a e, c, s)) := w_iastore dX3_init_12 rfl
theorem wX3_init_13 : y_w M_X3_init mc ms Q (13, lv, v :: r, ω, c, s) = (v.category = 1 ∧ y_w M_X3_init mc ms Q (14, lv, v :: v :: r, ω, c, s)) := w_dup dX3_init_13 rfl
theorem wX3_init_14 : y_w M_X3_init mc ms Q (14, lv, st, ω, c, s) = y_w M_X3_init mc ms Q (15, lv, .int 1 :: st, ω, c, s) := w_iconst dX3_init_14 (v := 1) (by decide) rfl
theorem wX3_init_15 : y_w M_X3_init mc ms Q (15, lv, st, ω, c, s) = y_w M_X3_init mc ms Q (16, lv, .int (-1) :: st, ω, c, s) := w_iconst dX3_init_15 (v := (-1)) (by decide) rfl
theorem wX3_init_16 : y_w M_X3_init mc ms Q (16, lv, .int x :: .int j :: .ref a :: r, ω, c, s) = y_wI (ω.2 a) j x (fun e => y_w M_X3_init mc ms Q (17, lv, r, y_hup ω a e, c, s)) := w_iastore dX3_init_16 rfl
theorem wX3_init_17 : y_w M_X3_init mc ms Q (17, lv, v :: r, ω, c, s) = (v.category = 1 ∧ y_w M_X3_init mc ms Q (18, lv, v :: v :: r, ω, c, s)) := w_dup dX3_init_17 rfl
theorem wX3_init_18 : y_w M_X3_init mc ms Q (18, lv, st, ω, c, s) = y_w M_X3_init mc ms Q (19, lv, .int (nI 2) :: st, ω, c, s) := w_iconst dX3_init_18 (v := (nI 2)) (by decide) rfl
theorem wX3_init_19 : y_w M_X3_init mc ms Q (19, lv, st, ω, c, s) = y_w M_X3_init mc ms Q (20, lv, .int (-1) :: st, ω, c, s) := w_iconst dX3_init_19 (v := (-1)) (by decide) rfl
theorem wX3_init_20 : y_w M_X3_init mc ms Q (20, lv, .int x :: .int j :: .ref a :: r, ω, c, s) = y_wI (ω.2 a) j x (fun e => y_w M_X3_init mc ms Q (21, lv, r, y_hup ω a e, c, s)) := w_iastore dX3_init_20 rfl
theorem wX3_init_21 : y_w M_X3_init mc ms Q (21, lv, v :: r, ω, c, s) = (v.category = 1 ∧ y_w M_X3_init mc ms Q (22, lv, v :: v :: r, ω, c, s)) := w_dup dX3_init_21 rfl
theorem wX3_init_22 : y_w M_X3_init mc ms Q (22, lv, st, ω, c, s) = y_w M_X3_init mc ms Q (23, lv, .int (nI 3) :: st, ω, c, s) := w_iconst dX3_init_22 (v := (nI 3)) (by decide) rfl
theorem wX3_init_23 : y_w M_X3_init mc ms Q (23, lv, st, ω, c, s) = y_w M_X3_init mc ms Q (24, lv, .int (-1) :: st, ω, c, s) := w_iconst dX3_init_23 (v := (-1)) (by decide) rfl
theorem wX3_init_24 : y_w M_X3_init mc ms Q (24, lv, .int x :: .int j :: .ref a :: r, ω, c, s) = y_wI (ω.2 a) j x (fun e => y_w M_X3_init mc ms Q (25, lv, r, y_hup ω a e, c, s)) := w_iastore dX3_init_24 rfl
theorem wX3_init_25 : y_w M_X3_init mc ms Q (25, lv, v :: r, ω, c, s) = (v.category = 1 ∧ y_w M_X3_init mc ms Q (26, lv, v :: v :: r, ω, c, s)) := w_dup dX3_init_25 rfl
theorem wX3_init_26 : y_w M_X3_init mc ms Q (26, lv, st, ω, c, s) = y_w M_X3_init mc ms Q (27, lv, .int (nI 4) :: st, ω, c, s) := w_iconst dX3_init_26 (v := (nI 4)) (by decide) rfl
theorem wX3_init_27 : y_w M_X3_init mc ms Q (27, lv, st, ω, c, s) = y_w M_X3_init mc ms Q (28, lv, .int (-1) :: st, ω, c, s) := w_iconst dX3_init_27 (v := (-1)) (by decide) rfl
theorem wX3_init_28 : y_w M_X3_init mc ms Q (28, lv, .int x :: .int j :: .ref a :: r, ω, c, s) = y_wI (ω.2 a) j x (fun e => y_w M_X3_init mc ms Q (29, lv, r, y_hup ω a e, c, s)) := w_iastore dX3_init_28 rfl
theorem wX3_init_29 : y_w M_X3_init mc ms Q (29, lv, v :: r, ω, c, s) = (v.category = 1 ∧ y_w M_X3_init mc ms Q (30, lv, v :: v :: r, ω, c, s)) := w_dup dX3_init_29 rfl
theorem wX3_init_30 : y_w M_X3_init mc ms Q (30, lv, st, ω, c, s) = y_w M_X3_init mc ms Q (31, lv, .int (nI 5) :: st, ω, c, s) := w_iconst dX3_init_30 (v := (nI 5)) (by decide) rfl
theorem wX3_init_31 : y_w M_X3_init mc ms Q (31, lv, st, ω, c, s) = y_w M_X3_init mc ms Q (32, lv, .int (-1) :: st, ω, c, s) := w_iconst dX3_init_31 (v := (-1)) (by decide) rfl
theorem wX3_init_32 : y_w M_X3_init mc ms Q (32, lv, .int x :: .int j :: .ref a :: r, ω, c, s) = y_wI (ω.2 a) j x (fun e => y_w M_X3_init mc ms Q (33, lv, r, y_hup ω a e, c, s)) := w_iastore dX3_init_32 rfl
theorem wX3_init_33 : y_w M_X3_init mc ms Q (33, lv, v :: r, ω, c, s) = (v.category = 1 ∧ y_w M_X3_init mc ms Q (34, lv, v :: v :: r, ω, c, s)) := w_dup dX3_init_33 rfl
theorem wX3_init_34 : y_w M_X3_init mc ms Q (34, lv, st, ω, c, s) = y_w M_X3_init mc ms Q (36, lv, .int (nI 6) :: st, ω, c, s) := w_bipush dX3_init_34 (v := (nI 6)) (by decide) rfl
theorem wX3_init_36 : y_w M_X3_init mc ms Q (36, lv, st, ω, c, s) = y_w M_X3_init mc ms Q (37, lv, .int (-1) :: st, ω, c, s) := w_iconst dX3_init_36 (v := (-1)) (by decide) rfl
theorem wX3_init_37 : y_w M_X3_init mc ms Q (37, lv, .int x :: .int j :: .ref a :: r, ω, c, s) = y_wI (ω.2 a) j x (fun e => y_w M_X3_init mc ms Q (38, lv, r, y_hup ω a e, c, s)) := w_iastore dX3_init_37 rfl
theorem wX3_init_38 : y_w M_X3_init mc ms Q (38, lv, v :: r, ω, c, s) = (v.category = 1 ∧ y_w M_X3_init mc ms Q (39, lv, v :: v :: r, ω, c, s)) := w_dup dX3_init_38 rfl
theorem wX3_init_39 : y_w M_X3_init mc ms Q (39, lv, st, ω, c, s) = y_w M_X3_init mc ms Q (41, lv, .int (nI 7) :: st, ω, c, s) := w_bipush dX3_init_39 (v := (nI 7)) (by decide) rfl
theorem wX3_init_41 : y_w M_X3_init mc ms Q (41, lv, st, ω, c, s) = y_w M_X3_init mc ms Q (42, lv, .int (-1) :: st, ω, c, s) := w_iconst dX3_init_41 (v := (-1)) (by decide) rfl
theorem wX3_init_42 : y_w M_X3_init mc ms Q (42, lv, .int x :: .int j :: .ref a :: r, ω, c, s) = y_wI (ω.2 a) j x (fun e => y_w M_X3_init mc ms Q (43, lv, r, y_hup ω a e, c, s)) := w_iastore dX3_init_42 rfl
theorem wX3_init_43 : y_w M_X3_init mc ms Q (43, lv, v :: .ref a :: r, ω, c, s) = y_pf P_X3_init true 7 (ω.2 a) v (fun ci fs => y_w M_X3_init mc ms Q (46, lv, r, y_hup ω a (.inr (ci, fs)), c, s)) := w_putfield dX3_init_43 rfl rfl rfl
theorem wX3_init_46 : y_w M_X3_init mc ms Q (46, lv, st, ω, c, s) = y_ldA lv 0 (fun v => y_w M_X3_init mc ms Q (47, lv, v :: st, ω, c, s)) := w_aload_n dX3_init_46 rfl rfl
theorem wX3_init_47 : y_w M_X3_init mc ms Q (47, lv, st, ω, c, s) = y_w M_X3_init mc ms Q (49, lv, .int (nI 8) :: st, ω, c, s) := w_bipush dX3_init_47 (v := (nI 8)) (by decide) rfl
theorem wX3_init_49 : y_w M_X3_init mc ms Q (49, lv, .int x :: r, ω, c, s) = ((¬ x < 0 ∧ x.toNatClampNeg * 4 ≤ 536870912 ∧ y_room mc ms c s x.toNatClampNeg) ∧ y_w M_X3_init mc ms Q (51, lv, .ref ω.1 :: r, y_hnew ω (.inl (0, y_at2 0 x.toNatClampNeg)), c + 1, s + x.toNatClampNeg)) := w_newarray dX3_init_49 rfl rfl rfl
theorem wX3_init_51 : y_w M_X3_init mc ms Q (51, lv, v :: .ref a :: r, ω, c, s) = y_pf P_X3_init true 13 (ω.2 a) v (fun ci fs => y_w M_X3_init mc ms Q (54, lv, r, y_hup ω a (.inr (ci, fs)), c, s)) := w_putfield dX3_init_51 rfl rfl rfl
theorem wX3_init_54 : y_w M_X3_init mc ms Q (54, lv, st, ω, c, s) = y_ldA lv 0 (fun v => y_w M_X3_init mc ms Q (55, lv, v :: st, ω, c, s)) := w_aload_n dX3_init_54 rfl rfl
theorem wX3_init_55 : y_w M_X3_init mc ms Q (55, lv, st, ω, c, s) = y_w M_X3_init mc ms Q (58, lv, .int (nI 320) :: st, ω, c, s) := w_sipush dX3_init_55 (v := (nI 320)) (by decide) rfl
theorem wX3_init_58 : y_w M_X3_init mc ms Q (58, lv, .int x :: r, ω, c, s) = ((¬ x < 0 ∧ x.toNatClampNeg * 4 ≤ 536870912 ∧ y_room mc ms c s x.toNatClampNeg) ∧ y_w M_X3_init mc ms Q (60, lv, .ref ω.1 :: r, y_hnew ω (.inl (0, y_at2 0 x.toNatClampNeg)), c + 1, s + x.toNatClampNeg)) := w_newarray dX3_init_58 rfl rfl rfl
theorem wX3_init_60 : y_w M_X3_init mc ms Q (60, lv, v :: .ref a :: r, ω, c, s) = y_pf P_X3_init true 16 (ω.2 a) v (fun ci fs => y_w M_X3_init mc ms Q (63, lv, r, y_hup ω a (.inr (ci, fs)), c, s)) := w_putfield dX3_init_60 rfl rfl rfl
theorem wX3_init_63 : y_w M_X3_init mc ms Q (63, lv, st, ω, c, s) = y_ldA lv 0 (fun v => y_w M_X3_init mc ms Q (64, lv, v :: st, ω, c, s)) := w_aload_n dX3_init_63 rfl rfl
theorem wX3_init_64 : y_w M_X3_init mc ms Q (64, lv, st, ω, c, s) = y_w M_X3_init mc ms Q (66, lv, .int (nI 68) :: st, ω, c, s) := w_bipush dX3_init_64 (v := (nI 68)) (by decide) rfl
theorem wX3_init_66 : y_w M_X3_init mc ms Q (66, lv, .int x :: r, ω, c, s) = ((¬ x < 0 ∧ x.toNatClampNeg * 4 ≤ 536870912 ∧ y_room mc ms c s x.toNatClampNeg) ∧ y_w M_X3_init mc ms Q (68, lv, .ref ω.1 :: r, y_hnew ω (.inl (0, y_at2 0 x.toNatClampNeg)), c + 1, s + x.toNatClampNeg)) := w_newarray dX3_init_66 rfl rfl rfl
theorem wX3_init_68 : y_w M_X3_init mc ms Q (68, lv, v :: .ref a :: r, ω, c, s) = y_pf P_X3_init true 19 (ω.2 a) v (fun ci fs => y_w M_X3_init mc ms Q (71, lv, r, y_hup ω a (.inr (ci, fs)), c, s)) := w_putfield dX3_init_68 rfl rfl rfl
theorem wX3_init_71 : y_w M_X3_init mc ms Q (71, lv, st, ω, c, s) = y_ldA lv 0 (fun v => y_w M_X3_init mc ms Q (72, lv, v :: st, ω, c, s)) := w_aload_n dX3_init_71 rfl rfl
theorem wX3_init_72 : y_w M_X3_init mc ms Q (72, lv, st, ω, c, s) = y_w M_X3_init mc ms Q (74, lv, .int (nI 68) :: st, ω, c, s) := w_bipush dX3_init_72 (v := (nI 68)) (by decide) rfl
theorem wX3_init_74 : y_w M_X3_init mc ms Q (74, lv, .int x :: r, ω, c, s) = ((¬ x < 0 ∧ x.toNatClampNeg * 4 ≤ 536870912 ∧ y_room mc ms c s x.toNatClampNeg) ∧ y_w M_X3_init mc ms Q (76, lv, .ref ω.1 :: r, y_hnew ω (.inl (0, y_at2 0 x.toNatClampNeg)), c + 1, s + x.toNatClampNeg)) := w_newarray dX3_init_74 rfl rfl rfl
theorem wX3_init_76 : y_w M_X3_init mc ms Q (76, lv, v :: .ref a :: r, ω, c, s) = y_pf P_X3_init true 22 (ω.2 a) v (fun ci fs => y_w M_X3_init mc ms Q (79, lv, r, y_hup ω a (.inr (ci, fs)), c, s)) := w_putfield dX3_init_76 rfl rfl rfl
theorem wX3_init_79 : y_w M_X3_init mc ms Q (79, lv, st, ω, c, s) = y_ldA lv 0 (fun v => y_w M_X3_init mc ms Q (80, lv, v :: st, ω, c, s)) := w_aload_n dX3_init_79 rfl rfl
theorem wX3_init_80 : y_w M_X3_init mc ms Q (80, lv, st, ω, c, s) = y_w M_X3_init mc ms Q (83, lv, .int (nI 1632) :: st, ω, c, s) := w_sipush dX3_init_80 (v := (nI 1632)) (by decide) rfl
theorem wX3_init_83 : y_w M_X3_init mc ms Q (83, lv, .int x :: r, ω, c, s) = ((¬ x < 0 ∧ x.toNatClampNeg * 4 ≤ 536870912 ∧ y_room mc ms c s x.toNatClampNeg) ∧ y_w M_X3_init mc ms Q (85, lv, .ref ω.1 :: r, y_hnew ω (.inl (0, y_at2 0 x.toNatClampNeg)), c + 1, s + x.toNatClampNeg)) := w_newarray dX3_init_83 rfl rfl rfl
theorem wX3_init_85 : y_w M_X3_init mc ms Q (85, lv, v :: .ref a :: r, ω, c, s) = y_pf P_X3_init true 25 (ω.2 a) v (fun ci fs => y_w M_X3_init mc ms Q (88, lv, r, y_hup ω a (.inr (ci, fs)), c, s)) := w_putfield dX3_init_85 rfl rfl rfl
theorem wX3_init_88 : y_w M_X3_init mc ms Q (88, lv, st, ω, c, s) = y_ldA lv 0 (fun v => y_w M_X3_init mc ms Q (89, lv, v :: st, ω, c, s)) := w_aload_n dX3_init_88 rfl rfl
theorem wX3_init_89 : y_w M_X3_init mc ms Q (89, lv, st, ω, c, s) = y_w M_X3_init mc ms Q (92, lv, .int (nI 400) :: st, ω, c, s) := w_sipush dX3_init_89 (v := (nI 400)) (by decide) rfl
theorem wX3_init_92 : y_w M_X3_init mc ms Q (92, lv, .int x :: r, ω, c, s) = ((¬ x < 0 ∧ x.toNatClampNeg * 4 ≤ 536870912 ∧ y_room mc ms c s x.toNatClampNeg) ∧ y_w M_X3_init mc ms Q (94, lv, .ref ω.1 :: r, y_hnew ω (.inl (0, y_at2 0 x.toNatClampNeg)), c + 1, s + x.toNatClampNeg)) := w_newarray dX3_init_92 rfl rfl rfl
theorem wX3_init_94 : y_w M_X3_init mc ms Q (94, lv, v :: .ref a :: r, ω, c, s) = y_pf P_X3_init true 28 (ω.2 a) v (fun ci fs => y_w M_X3_init mc ms Q (97, lv, r, y_hup ω a (.inr (ci, fs)), c, s)) := w_putfield dX3_init_94 rfl rfl rfl
theorem wX3_init_97 : y_w M_X3_init mc ms Q (97, lv, st, ω, c, s) = y_ldA lv 0 (fun v => y_w M_X3_init mc ms Q (98, lv, v :: st, ω, c, s)) := w_aload_n dX3_init_97 rfl rfl
theorem wX3_init_98 : y_w M_X3_init mc ms Q (98, lv, st, ω, c, s) = y_w M_X3_init mc ms Q (101, lv, .int (nI 205) :: st, ω, c, s) := w_sipush dX3_init_98 (v := (nI 205)) (by decide) rfl
theorem wX3_init_101 : y_w M_X3_init mc ms Q (101, lv, .int x :: r, ω, c, s) = ((¬ x < 0 ∧ x.toNatClampNeg * 8 ≤ 536870912 ∧ y_room mc ms c s x.toNatClampNeg) ∧ y_w M_X3_init mc ms Q (103, lv, .ref ω.1 :: r, y_hnew ω (.inl (2, y_at2 2 x.toNatClampNeg)), c + 1, s + x.toNatClampNeg)) := w_newarray dX3_init_101 rfl rfl rfl
theorem wX3_init_103 : y_w M_X3_init mc ms Q (103, lv, v :: .ref a :: r, ω, c, s) = y_pf P_X3_init true 31 (ω.2 a) v (fun ci fs => y_w M_X3_init mc ms Q (106, lv, r, y_hup ω a (.inr (ci, fs)), c, s)) := w_putfield dX3_init_103 rfl rfl rfl
theorem wX3_init_106 : y_w M_X3_init mc ms Q (106, lv, st, ω, c, s) = y_ldA lv 0 (fun v => y_w M_X3_init mc ms Q (107, lv, v :: st, ω, c, s)) := w_aload_n dX3_init_106 rfl rfl
theorem wX3_init_107 : y_w M_X3_init mc ms Q (107, lv, st, ω, c, s) = y_w M_X3_init mc ms Q (110, lv, .int (nI 205) :: st, ω, c, s) := w_sipush dX3_init_107 (v := (nI 205)) (by decide) rfl
theorem wX3_init_110 : y_w M_X3_init mc ms Q (110, lv, .int x :: r, ω, c, s) = ((¬ x < 0 ∧ x.toNatClampNeg * 8 ≤ 536870912 ∧ y_room mc ms c s x.toNatClampNeg) ∧ y_w M_X3_init mc ms Q (112, lv, .ref ω.1 :: r, y_hnew ω (.inl (2, y_at2 2 x.toNatClampNeg)), c + 1, s + x.toNatClampNeg)) := w_newarray dX3_init_110 rfl rfl rfl
theorem wX3_init_112 : y_w M_X3_init mc ms Q (112, lv, v :: .ref a :: r, ω, c, s) = y_pf P_X3_init true 35 (ω.2 a) v (fun ci fs => y_w M_X3_init mc ms Q (115, lv, r, y_hup ω a (.inr (ci, fs)), c, s)) := w_putfield dX3_init_112 rfl rfl rfl
theorem wX3_init_115 : y_w M_X3_init mc ms Q (115, lv, st, ω, c, s) = y_ldA lv 0 (fun v => y_w M_X3_init mc ms Q (116, lv, v :: st, ω, c, s)) := w_aload_n dX3_init_115 rfl rfl
theorem wX3_init_116 : y_w M_X3_init mc ms Q (116, lv, st, ω, c, s) = y_w M_X3_init mc ms Q (117, lv, .int (nI 2) :: st, ω, c, s) := w_iconst dX3_init_116 (v := (nI 2)) (by decide) rfl
theorem wX3_init_117 : y_w M_X3_init mc ms Q (117, lv, .int x :: r, ω, c, s) = ((¬ x < 0 ∧ x.toNatClampNeg * 1 ≤ 536870912 ∧ y_room mc ms c s x.toNatClampNeg) ∧ y_w M_X3_init mc ms Q (119, lv, .ref ω.1 :: r, y_hnew ω (.inl (3, y_at2 3 x.toNatClampNeg)), c + 1, s + x.toNatClampNeg)) := w_newarray dX3_init_117 rfl rfl rfl
theorem wX3_init_119 : y_w M_X3_init mc ms Q (119, lv, v :: .ref a :: r, ω, c, s) = y_pf P_X3_init true 38 (ω.2 a) v (fun ci fs => y_w M_X3_init mc ms Q (122, lv, r, y_hup ω a (.inr (ci, fs)), c, s)) := w_putfield dX3_init_119 rfl rfl rfl
theorem wX3_init_122 : y_w M_X3_init mc ms Q (122, lv, st, ω, c, s) = y_ldA lv 0 (fun v => y_w M_X3_init mc ms Q (123, lv, v :: st, ω, c, s)) := w_aload_n dX3_init_122 rfl rfl
theorem wX3_init_123 : y_w M_X3_init mc ms Q (123, lv, st, ω, c, s) = y_w M_X3_init mc ms Q (126, lv, .int (nI 136) :: st, ω, c, s) := w_sipush dX3_init_123 (v := (nI 136)) (by decide) rfl
theorem wX3_init_126 : y_w M_X3_init mc ms Q (126, lv, .int x :: r, ω, c, s) = ((¬ x < 0 ∧ x.toNatClampNeg * 4 ≤ 536870912 ∧ y_room mc ms c s x.toNatClampNeg) ∧ y_w M_X3_init mc ms Q (128, lv, .ref ω.1 :: r, y_hnew ω (.inl (0, y_at2 0 x.toNatClampNeg)), c + 1, s + x.toNatClampNeg)) := w_newarray dX3_init_126 rfl rfl rfl
theorem wX3_init_128 : y_w M_X3_init mc ms Q (128, lv, v :: .ref a :: r, ω, c, s) = y_pf P_X3_init true 42 (ω.2 a) v (fun ci fs => y_w M_X3_init mc ms Q (131, lv, r, y_hup ω a (.inr (ci, fs)), c, s)) := w_putfield dX3_init_128 rfl rfl rfl
theorem wX3_init_131 : y_w M_X3_init mc ms Q (131, lv, st, ω, c, s) = y_ldA lv 0 (fun v => y_w M_X3_init mc ms Q (132, lv, v :: st, ω, c, s)) := w_aload_n dX3_init_131 rfl rfl
theorem wX3_init_132 : y_w M_X3_init mc ms Q (132, lv, st, ω, c, s) = y_w M_X3_init mc ms Q (134, lv, .int (nI 16) :: st, ω, c, s) := w_bipush dX3_init_132 (v := (nI 16)) (by decide) rfl
theorem wX3_init_134 : y_w M_X3_init mc ms Q (134, lv, .int x :: r, ω, c, s) = ((¬ x < 0 ∧ x.toNatClampNeg * 4 ≤ 536870912 ∧ y_room mc ms c s x.toNatClampNeg) ∧ y_w M_X3_init mc ms Q (136, lv, .ref ω.1 :: r, y_hnew ω (.inl (0, y_at2 0 x.toNatClampNeg)), c + 1, s + x.toNatClampNeg)) := w_newarray dX3_init_134 rfl rfl rfl
theorem wX3_init_136 : y_w M_X3_init mc ms Q (136, lv, v :: .ref a :: r, ω, c, s) = y_pf P_X3_init true 45 (ω.2 a) v (fun ci fs => y_w M_X3_init mc ms Q (139, lv, r, y_hup ω a (.inr (ci, fs)), c, s)) := w_putfield dX3_init_136 rfl rfl rfl
theorem wX3_init_139 : y_w M_X3_init mc ms Q (139, lv, [], ω, c, s) = Q (.returned none) ω c s := w_return dX3_init_139 rfl
end
