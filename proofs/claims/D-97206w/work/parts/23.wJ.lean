section
set_option maxRecDepth 100000
variable {mc ms : Nat} {Q : y_Po} {lv : y_Lv} {st r : List Value} {ω : y_Hp} {c s a : Nat} {x y j : Int32} {z w : Int64} {v v0 v1 v2 v3 v4 v5 : Value} {ad : y_Ad}

def P_J0_init : y_Pool := ([], [], [], [(1, 2, 0, 1, (1, 20), y_oinit)], [], [], [])
def M_J0_init : y_Md := (cJ0_init, "java/util/AbstractCollection", (1, none), (1, 20), true, P_J0_init, [])
def F_J0_init : y_Tr := y_F M_J0_init
theorem nJ0_init : y_nL M_J0_init = 1 := rfl
theorem wJ0_init_0 : y_w M_J0_init mc ms Q (0, lv, st, ω, c, s) = y_ldA lv 0 (fun v => y_w M_J0_init mc ms Q (1, lv, v :: st, ω, c, s)) := w_aload_n dJ0_init_0 rfl rfl
theorem wJ0_init_1 : y_w M_J0_init mc ms Q (1, lv, v0 :: r, ω, c, s) = (y_cat r ≤ 8 ∧ y_oinit mc ms [v0] ω c s (y_aft M_J0_init 1 3 lv r (y_w M_J0_init mc ms Q) Q)) := w_call0 (av := [v0]) ⟨Or.inl ⟨rfl, rfl⟩, rfl⟩ dJ0_init_1 rfl y_oinit_mono (y_dle rfl) (y_dle rfl) rfl rfl
theorem wJ0_init_4 : y_w M_J0_init mc ms Q (4, lv, [], ω, c, s) = Q (.returned none) ω c s := w_return dJ0_init_4 rfl
def P_J1_init : y_Pool := ([(7, 14, 0, .int, false)], [], [], [(1, 2, 0, 1, (2, 40), (y_ref F_J0_init))], [], [], [])
def M_J1_init : y_Md := (cJ1_init, "java/util/AbstractList", (1, none), (2, 40), true, P_J1_init, [])
def F_J1_init : y_Tr := y_F M_J1_init
theorem nJ1_init : y_nL M_J1_init = 1 := rfl
theorem fJ1_init_7_14 : y_ffP P_J1_init 7 14 = some (0, .int, false) := rfl
theorem wJ1_init_0 : y_w M_J1_init mc ms Q (0, lv, st, ω, c, s) = y_ldA lv 0 (fun v => y_w M_J1_init mc ms Q (1, lv, v :: st, ω, c, s)) := w_aload_n dJ1_init_0 rfl rfl
theorem wJ1_init_1 : y_w M_J1_init mc ms Q (1, lv, v0 :: r, ω, c, s) = (y_cat r ≤ 8 ∧ (y_ref F_J0_init) mc ms [v0] ω c s (y_aft M_J1_init 1 3 lv r (y_w M_J1_init mc ms Q) Q)) := w_call0 (av := [v0]) ⟨Or.inl ⟨rfl, rfl⟩, rfl⟩ dJ1_init_1 rfl (y_ref_mono (y_F_mono _)) (y_dle rfl) (y_dle rfl) rfl rfl
theorem wJ1_init_4 : y_w M_J1_init mc ms Q (4, lv, st, ω, c, s) = y_ldA lv 0 (fun v => y_w M_J1_init mc ms Q (5, lv, v :: st, ω, c, s)) := w_aload_n dJ1_init_4 rfl rfl
theorem wJ1_init_5 : y_w M_J1_init mc ms Q (5, lv, st, ω, c, s) = y_w M_J1_init mc ms Q (6, lv, .int 0 :: st, ω, c, s) := w_iconst dJ1_init_5 (v := 0) (by decide) rfl
theorem wJ1_init_6 : y_w M_J1_init mc ms Q (6, lv, v :: .ref a :: r, ω, c, s) = y_pf P_J1_init true 7 (ω.2 a) v (fun ci fs => y_w M_J1_init mc ms Q (9, lv, r, y_hup ω a (.inr (ci, fs)), c, s)) := w_putfield dJ1_init_6 rfl rfl rfl
theorem wJ1_init_9 : y_w M_J1_init mc ms Q (9, lv, [], ω, c, s) = Q (.returned none) ω c s := w_return dJ1_init_9 rfl
def P_J2_init (ad : y_Ad) : y_Pool := ([(9, 14, 1, (.array (.object "java/lang/Object")), false)], [], [], [(1, 2, 0, 1, (3, 60), (y_ref F_J1_init))], [], [], [(39, .ref (ad.1 0))])
def M_J2_init (ad : y_Ad) : y_Md := (cJ2_init, "java/util/ArrayList", (1, none), (3, 60), true, (P_J2_init ad), [])
def F_J2_init (ad : y_Ad) : y_Tr := y_F (M_J2_init ad)
theorem nJ2_init : y_nL (M_J2_init ad) = 1 := rfl
theorem fJ2_init_9_14 : y_ffP (P_J2_init ad) 9 14 = some (1, (.array (.object "java/lang/Object")), false) := rfl
theorem wJ2_init_0 : y_w (M_J2_init ad) mc ms Q (0, lv, st, ω, c, s) = y_ldA lv 0 (fun v => y_w (M_J2_init ad) mc ms Q (1, lv, v :: st, ω, c, s)) := w_aload_n dJ2_init_0 rfl rfl
theorem wJ2_init_1 : y_w (M_J2_init ad) mc ms Q (1, lv, v0 :: r, ω, c, s) = (y_cat r ≤ 8 ∧ (y_ref F_J1_init) mc ms [v0] ω c s (y_aft (M_J2_init ad) 1 3 lv r (y_w (M_J2_init ad) mc ms Q) Q)) := w_call0 (av := [v0]) ⟨Or.inl ⟨rfl, rfl⟩, rfl⟩ dJ2_init_1 rfl (y_ref_mono (y_F_mono _)) (y_dle rfl) (y_dle rfl) rfl rfl
theorem wJ2_init_4 : y_w (M_J2_init ad) mc ms Q (4, lv, st, ω, c, s) = y_ldA lv 0 (fun v => y_w (M_J2_init ad) mc ms Q (5, lv, v :: st, ω, c, s)) := w_aload_n dJ2_init_4 rfl rfl
theorem wJ2_init_5 : y_w (M_J2_init ad) mc ms Q (5, lv, st, ω, c, s) = y_w (M_J2_init ad) mc ms Q (8, lv, .ref (ad.1 0) :: st, ω, c, s) := w_getstatic dJ2_init_5 rfl rfl
theorem wJ2_init_8 : y_w (M_J2_init ad) mc ms Q (8, lv, v :: .ref a :: r, ω, c, s) = y_pf (P_J2_init ad) true 9 (ω.2 a) v (fun ci fs => y_w (M_J2_init ad) mc ms Q (11, lv, r, y_hup ω a (.inr (ci, fs)), c, s)) := w_putfield dJ2_init_8 rfl rfl rfl
theorem wJ2_init_11 : y_w (M_J2_init ad) mc ms Q (11, lv, [], ω, c, s) = Q (.returned none) ω c s := w_return dJ2_init_11 rfl
def P_J3_init_2 (ad : y_Ad) : y_Pool := ([(7, 4, 0, (.object "java/lang/Throwable"), false), (7, 7, 0, (.object "java/lang/Throwable"), false), (7, 8, 0, (.object "java/lang/Throwable"), false), (17, 4, 1, (.array (.object "java/lang/StackTraceElement")), false), (17, 7, 1, (.array (.object "java/lang/StackTraceElement")), false), (17, 8, 1, (.array (.object "java/lang/StackTraceElement")), false), (24, 4, 2, (.object "java/util/List"), false), (24, 7, 2, (.object "java/util/List"), false), (24, 8, 2, (.object "java/util/List"), false), (31, 4, 3, (.object "java/lang/String"), false), (31, 7, 3, (.object "java/lang/String"), false), (31, 8, 3, (.object "java/lang/String"), false)], [], [], [(1, 2, 0, 1, (1, 20), y_oinit)], [], [], [(13, va_rf (ad.2 0)), (20, va_rf (ad.2 1))])
def M_J3_init_2 (ad : y_Ad) : y_Md := (cJ3_init_2, "java/lang/Throwable", (5, none), (1, 20), true, (P_J3_init_2 ad), [])
def F_J3_init_2 (ad : y_Ad) : y_Tr := y_F (M_J3_init_2 ad)
theorem nJ3_init_2 : y_nL (M_J3_init_2 ad) = 5 := rfl
theorem fJ3_init_2_7_4 : y_ffP (P_J3_init_2 ad) 7 4 = some (0, (.object "java/lang/Throwable"), false) := rfl
theorem fJ3_init_2_7_7 : y_ffP (P_J3_init_2 ad) 7 7 = some (0, (.object "java/lang/Throwable"), false) := rfl
theorem fJ3_init_2_7_8 : y_ffP (P_J3_init_2 ad) 7 8 = some (0, (.object "java/lang/Throwable"), false) := rfl
theorem fJ3_init_2_17_4 : y_ffP (P_J3_init_2 ad) 17 4 = some (1, (.array (.object "java/lang/StackTraceElement")), false) := rfl
theorem fJ3_init_2_17_7 : y_ffP (P_J3_init_2 ad) 17 7 = some (1, (.array (.object "java/lang/StackTraceElement")), false) := rfl
theorem fJ3_init_2_17_8 : y_ffP (P_J3_init_2 ad) 17 8 = some (1, (.array (.object "java/lang/StackTraceElement")), false) := rfl
theorem fJ3_init_2_24_4 : y_ffP (P_J3_init_2 ad) 24 4 = some (2, (.object "java/util/List"), false) := rfl
theorem fJ3_init_2_24_7 : y_ffP (P_J3_init_2 ad) 24 7 = some (2, (.object "java/util/List"), false) := rfl
theorem fJ3_init_2_24_8 : y_ffP (P_J3_init_2 ad) 24 8 = some (2, (.object "java/util/List"), false) := rfl
theorem fJ3_init_2_31_4 : y_ffP (P_J3_init_2 ad) 31 4 = some (3, (.object "java/lang/String"), false) := rfl
theorem fJ3_init_2_31_7 : y_ffP (P_J3_init_2 ad) 31 7 = some (3, (.object "java/lang/String"), false) := rfl
theorem fJ3_init_2_31_8 : y_ffP (P_J3_init_2 ad) 31 8 = some (3, (.object "java/lang/String"), false) := rfl
theorem wJ3_init_2_0 : y_w (M_J3_init_2 ad) mc ms Q (0, lv, st, ω, c, s) = y_ldA lv 0 (fun v => y_w (M_J3_init_2 ad) mc ms Q (1, lv, v :: st, ω, c, s)) := w_aload_n dJ3_init_2_0 rfl rfl
theorem wJ3_init_2_1 : y_w (M_J3_init_2 ad) mc ms Q (1, lv, v0 :: r, ω, c, s) = (y_cat r ≤ 8 ∧ y_oinit mc ms [v0] ω c s (y_aft (M_J3_init_2 ad) 1 3 lv r (y_w (M_J3_init_2 ad) mc ms Q) Q)) := w_call0 (av := [v0]) ⟨Or.inl ⟨rfl, rfl⟩, rfl⟩ dJ3_init_2_1 rfl y_oinit_mono (y_dle rfl) (y_dle rfl) rfl rfl
theorem wJ3_init_2_4 : y_w (M_J3_init_2 ad) mc ms Q (4, lv, st, ω, c, s) = y_ldA lv 0 (fun v => y_w (M_J3_init_2 ad) mc ms Q (5, lv, v :: st, ω, c, s)) := w_aload_n dJ3_init_2_4 rfl rfl
theorem wJ3_init_2_5 : y_w (M_J3_init_2 ad) mc ms Q (5, lv, st, ω, c, s) = y_ldA lv 0 (fun v => y_w (M_J3_init_2 ad) mc ms Q (6, lv, v :: st, ω, c, s)) := w_aload_n dJ3_init_2_5 rfl rfl
theorem wJ3_init_2_6 : y_w (M_J3_init_2 ad) mc ms Q (6, lv, v :: .ref a :: r, ω, c, s) = y_pf (P_J3_init_2 ad) true 7 (ω.2 a) v (fun ci fs => y_w (M_J3_init_2 ad) mc ms Q (9, lv, r, y_hup ω a (.inr (ci, fs)), c, s)) := w_putfield dJ3_init_2_6 rfl rfl rfl
theorem wJ3_init_2_9 : y_w (M_J3_init_2 ad) mc ms Q (9, lv, st, ω, c, s) = y_ldA lv 0 (fun v => y_w (M_J3_init_2 ad) mc ms Q (10, lv, v :: st, ω, c, s)) := w_aload_n dJ3_init_2_9 rfl rfl
theorem wJ3_init_2_10 : y_w (M_J3_init_2 ad) mc ms Q (10, lv, st, ω, c, s) = y_w (M_J3_init_2 ad) mc ms Q (13, lv, va_rf (ad.2 0) :: st, ω, c, s) := w_getstatic dJ3_init_2_10 rfl rfl
theorem wJ3_init_2_13 : y_w (M_J3_init_2 ad) mc ms Q (13, lv, v :: .ref a :: r, ω, c, s) = y_pf (P_J3_init_2 ad) true 17 (ω.2 a) v (fun ci fs => y_w (M_J3_init_2 ad) mc ms Q (16, lv, r, y_hup ω a (.inr (ci, fs)), c, s)) := w_putfield dJ3_init_2_13 rfl rfl rfl
theorem wJ3_init_2_16 : y_w (M_J3_init_2 ad) mc ms Q (16, lv, st, ω, c, s) = y_ldA lv 0 (fun v => y_w (M_J3_init_2 ad) mc ms Q (17, lv, v :: st, ω, c, s)) := w_aload_n dJ3_init_2_16 rfl rfl
theorem wJ3_init_2_17 : y_w (M_J3_init_2 ad) mc ms Q (17, lv, st, ω, c, s) = y_w (M_J3_init_2 ad) mc ms Q (20, lv, va_rf (ad.2 1) :: st, ω, c, s) := w_getstatic dJ3_init_2_17 rfl rfl
theorem wJ3_init_2_20 : y_w (M_J3_init_2 ad) mc ms Q (20, lv, v :: .ref a :: r, ω, c, s) = y_pf (P_J3_init_2 ad) true 24 (ω.2 a) v (fun ci fs => y_w (M_J3_init_2 ad) mc ms Q (23, lv, r, y_hup ω a (.inr (ci, fs)), c, s)) := w_putfield dJ3_init_2_20 rfl rfl rfl
theorem wJ3_init_2_23 : y_w (M_J3_init_2 ad) mc ms Q (23, lv, st, ω, c, s) = y_ldI lv 4 (fun v => y_w (M_J3_init_2 ad) mc ms Q (25, lv, v :: st, ω, c, s)) := w_iload dJ3_init_2_23 rfl
theorem wJ3_init_2_25 : y_w (M_J3_init_2 ad) mc ms Q (25, lv, .int x :: r, ω, c, s) = ((x = 0 → y_w (M_J3_init_2 ad) mc ms Q (36, lv, r, ω, c, s)) ∧ (¬ (x = 0) → y_w (M_J3_init_2 ad) mc ms Q (28, lv, r, ω, c, s))) := w_if dJ3_init_2_25 (tgt := 36) rfl rfl rfl
theorem wJ3_init_2_28 : y_w (M_J3_init_2 ad) mc ms Q (28, lv, st, ω, c, s) = y_ldA lv 0 (fun v => y_w (M_J3_init_2 ad) mc ms Q (29, lv, v :: st, ω, c, s)) := w_aload_n dJ3_init_2_28 rfl rfl
theorem wJ3_init_2_32 : y_w (M_J3_init_2 ad) mc ms Q (32, lv, v :: r, ω, c, s) = (v.category = 1 ∧ y_w (M_J3_init_2 ad) mc ms Q (33, lv, r, ω, c, s)) := w_pop dJ3_init_2_32 rfl
theorem wJ3_init_2_33 : y_w (M_J3_init_2 ad) mc ms Q (33, lv, st, ω, c, s) = y_w (M_J3_init_2 ad) mc ms Q (41, lv, st, ω, c, s) := w_goto dJ3_init_2_33 (tgt := 41) (by decide) rfl
theorem wJ3_init_2_36 : y_w (M_J3_init_2 ad) mc ms Q (36, lv, st, ω, c, s) = y_ldA lv 0 (fun v => y_w (M_J3_init_2 ad) mc ms Q (37, lv, v :: st, ω, c, s)) := w_aload_n dJ3_init_2_36 rfl rfl
theorem wJ3_init_2_37 : y_w (M_J3_init_2 ad) mc ms Q (37, lv, st, ω, c, s) = y_w (M_J3_init_2 ad) mc ms Q (38, lv, .null :: st, ω, c, s) := w_aconst_null dJ3_init_2_37 rfl
theorem wJ3_init_2_38 : y_w (M_J3_init_2 ad) mc ms Q (38, lv, v :: .ref a :: r, ω, c, s) = y_pf (P_J3_init_2 ad) true 17 (ω.2 a) v (fun ci fs => y_w (M_J3_init_2 ad) mc ms Q (41, lv, r, y_hup ω a (.inr (ci, fs)), c, s)) := w_putfield dJ3_init_2_38 rfl rfl rfl
theorem wJ3_init_2_41 : y_w (M_J3_init_2 ad) mc ms Q (41, lv, st, ω, c, s) = y_ldA lv 0 (fun v => y_w (M_J3_init_2 ad) mc ms Q (42, lv, v :: st, ω, c, s)) := w_aload_n dJ3_init_2_41 rfl rfl
theorem wJ3_init_2_42 : y_w (M_J3_init_2 ad) mc ms Q (42, lv, st, ω, c, s) = y_ldA lv 1 (fun v => y_w (M_J3_init_2 ad) mc ms Q (43, lv, v :: st, ω, c, s)) := w_aload_n dJ3_init_2_42 rfl rfl
theorem wJ3_init_2_43 : y_w (M_J3_init_2 ad) mc ms Q (43, lv, v :: .ref a :: r, ω, c, s) = y_pf (P_J3_init_2 ad) true 31 (ω.2 a) v (fun ci fs => y_w (M_J3_init_2 ad) mc ms Q (46, lv, r, y_hup ω a (.inr (ci, fs)), c, s)) := w_putfield dJ3_init_2_43 rfl rfl rfl
theorem wJ3_init_2_46 : y_w (M_J3_init_2 ad) mc ms Q (46, lv, st, ω, c, s) = y_ldA lv 0 (fun v => y_w (M_J3_init_2 ad) mc ms Q (47, lv, v :: st, ω, c, s)) := w_aload_n dJ3_init_2_46 rfl rfl
theorem wJ3_init_2_47 : y_w (M_J3_init_2 ad) mc ms Q (47, lv, st, ω, c, s) = y_ldA lv 2 (fun v => y_w (M_J3_init_2 ad) mc ms Q (48, lv, v :: st, ω, c, s)) := w_aload_n dJ3_init_2_47 rfl rfl
theorem wJ3_init_2_48 : y_w (M_J3_init_2 ad) mc ms Q (48, lv, v :: .ref a :: r, ω, c, s) = y_pf (P_J3_init_2 ad) true 7 (ω.2 a) v (fun ci fs => y_w (M_J3_init_2 ad) mc ms Q (51, lv, r, y_hup ω a (.inr (ci, fs)), c, s)) := w_putfield dJ3_init_2_48 rfl rfl rfl
theorem wJ3_init_2_51 : y_w (M_J3_init_2 ad) mc ms Q (51, lv, st, ω, c, s) = y_ldI lv 3 (fun v => y_w (M_J3_init_2 ad) mc ms Q (52, lv, v :: st, ω, c, s)) := w_iload_n dJ3_init_2_51 rfl rfl
theorem wJ3_init_2_52 : y_w (M_J3_init_2 ad) mc ms Q (52, lv, .int x :: r, ω, c, s) = ((¬ x = 0 → y_w (M_J3_init_2 ad) mc ms Q (60, lv, r, ω, c, s)) ∧ (¬ (¬ x = 0) → y_w (M_J3_init_2 ad) mc ms Q (55, lv, r, ω, c, s))) := w_if dJ3_init_2_52 (tgt := 60) rfl rfl rfl
theorem wJ3_init_2_55 : y_w (M_J3_init_2 ad) mc ms Q (55, lv, st, ω, c, s) = y_ldA lv 0 (fun v => y_w (M_J3_init_2 ad) mc ms Q (56, lv, v :: st, ω, c, s)) := w_aload_n dJ3_init_2_55 rfl rfl
theorem wJ3_init_2_56 : y_w (M_J3_init_2 ad) mc ms Q (56, lv, st, ω, c, s) = y_w (M_J3_init_2 ad) mc ms Q (57, lv, .null :: st, ω, c, s) := w_aconst_null dJ3_init_2_56 rfl
theorem wJ3_init_2_57 : y_w (M_J3_init_2 ad) mc ms Q (57, lv, v :: .ref a :: r, ω, c, s) = y_pf (P_J3_init_2 ad) true 24 (ω.2 a) v (fun ci fs => y_w (M_J3_init_2 ad) mc ms Q (60, lv, r, y_hup ω a (.inr (ci, fs)), c, s)) := w_putfield dJ3_init_2_57 rfl rfl rfl
theorem wJ3_init_2_60 : y_w (M_J3_init_2 ad) mc ms Q (60, lv, [], ω, c, s) = Q (.returned none) ω c s := w_return dJ3_init_2_60 rfl
def P_J4_init (ad : y_Ad) : y_Pool := ([], [], [], [(16, 2, 0, 5, (2, 44), (y_ref (F_J3_init_2 ad)))], [], [], [])
def M_J4_init (ad : y_Ad) : y_Md := (cJ4_init, "java/lang/Exception", (5, none), (2, 44), true, (P_J4_init ad), [])
def F_J4_init (ad : y_Ad) : y_Tr := y_F (M_J4_init ad)
theorem nJ4_init : y_nL (M_J4_init ad) = 5 := rfl
theorem wJ4_init_0 : y_w (M_J4_init ad) mc ms Q (0, lv, st, ω, c, s) = y_ldA lv 0 (fun v => y_w (M_J4_init ad) mc ms Q (1, lv, v :: st, ω, c, s)) := w_aload_n dJ4_init_0 rfl rfl
theorem wJ4_init_1 : y_w (M_J4_init ad) mc ms Q (1, lv, st, ω, c, s) = y_ldA lv 1 (fun v => y_w (M_J4_init ad) mc ms Q (2, lv, v :: st, ω, c, s)) := w_aload_n dJ4_init_1 rfl rfl
theorem wJ4_init_2 : y_w (M_J4_init ad) mc ms Q (2, lv, st, ω, c, s) = y_ldA lv 2 (fun v => y_w (M_J4_init ad) mc ms Q (3, lv, v :: st, ω, c, s)) := w_aload_n dJ4_init_2 rfl rfl
theorem wJ4_init_3 : y_w (M_J4_init ad) mc ms Q (3, lv, st, ω, c, s) = y_ldI lv 3 (fun v => y_w (M_J4_init ad) mc ms Q (4, lv, v :: st, ω, c, s)) := w_iload_n dJ4_init_3 rfl rfl
theorem wJ4_init_4 : y_w (M_J4_init ad) mc ms Q (4, lv, st, ω, c, s) = y_ldI lv 4 (fun v => y_w (M_J4_init ad) mc ms Q (6, lv, v :: st, ω, c, s)) := w_iload dJ4_init_4 rfl
theorem wJ4_init_6 : y_w (M_J4_init ad) mc ms Q (6, lv, v4 :: v3 :: v2 :: v1 :: v0 :: r, ω, c, s) = (y_cat r ≤ 8 ∧ (y_ref (F_J3_init_2 ad)) mc ms [v0, v1, v2, v3, v4] ω c s (y_aft (M_J4_init ad) 6 3 lv r (y_w (M_J4_init ad) mc ms Q) Q)) := w_call0 (av := [v0, v1, v2, v3, v4]) ⟨Or.inl ⟨rfl, rfl⟩, rfl⟩ dJ4_init_6 rfl (y_ref_mono (y_F_mono _)) (y_dle rfl) (y_dle rfl) rfl rfl
theorem wJ4_init_9 : y_w (M_J4_init ad) mc ms Q (9, lv, [], ω, c, s) = Q (.returned none) ω c s := w_return dJ4_init_9 rfl
def P_J9_init : y_Pool := ([(15, 16, 0, (.array .byte), false), (22, 16, 1, .byte, false)], [], [], [(3, 2, 0, 1, (1, 20), y_oinit)], [], [], [(18, .int 1)])
def M_J9_init : y_Md := (cJ9_init, "java/lang/AbstractStringBuilder", (2, none), (1, 20), true, P_J9_init, [])
def F_J9_init : y_Tr := y_F M_J9_init
theorem nJ9_init : y_nL M_J9_init = 2 := rfl
theorem fJ9_init_15_16 : y_ffP P_J9_init 15 16 = some (0, (.array .byte), false) := rfl
theorem fJ9_init_22_16 : y_ffP P_J9_init 22 16 = some (1, .byte, false) := rfl
theorem wJ9_init_0 : y_w M_J9_init mc ms Q (0, lv, st, ω, c, s) = y_ldA lv 0 (fun v => y_w M_J9_init mc ms Q (1, lv, v :: st, ω, c, s)) := w_aload_n dJ9_init_0 rfl rfl
theorem wJ9_init_1 : y_w M_J9_init mc ms Q (1, lv, v0 :: r, ω, c, s) = (y_cat r ≤ 8 ∧ y_oinit mc ms [v0] ω c s (y_aft M_J9_init 1 3 lv r (y_w M_J9_init mc ms Q) Q)) := w_call0 (av := [v0]) ⟨Or.inl ⟨rfl, rfl⟩, rfl⟩ dJ9_init_1 rfl y_oinit_mono (y_dle rfl) (y_dle rfl) rfl rfl
theorem wJ9_init_4 : y_w M_J9_init mc ms Q (4, lv, st, ω, c, s) = y_w M_J9_init mc ms Q (7, lv, .int 1 :: st, ω, c, s) := w_getstatic dJ9_init_4 rfl rfl
theorem wJ9_init_7 : y_w M_J9_init mc ms Q (7, lv, .int x :: r, ω, c, s) = ((x = 0 → y_w M_J9_init mc ms Q (25, lv, r, ω, c, s)) ∧ (¬ (x = 0) → y_w M_J9_init mc ms Q (10, lv, r, ω, c, s))) := w_if dJ9_init_7 (tgt := 25) rfl rfl rfl
theorem wJ9_init_10 : y_w M_J9_init mc ms Q (10, lv, st, ω, c, s) = y_ldA lv 0 (fun v => y_w M_J9_init mc ms Q (11, lv, v :: st, ω, c, s)) := w_aload_n dJ9_init_10 rfl rfl
theorem wJ9_init_11 : y_w M_J9_init mc ms Q (11, lv, st, ω, c, s) = y_ldI lv 1 (fun v => y_w M_J9_init mc ms Q (12, lv, v :: st, ω, c, s)) := w_iload_n dJ9_init_11 rfl rfl
theorem wJ9_init_12 : y_w M_J9_init mc ms Q (12, lv, .int x :: r, ω, c, s) = ((¬ x < 0 ∧ x.toNatClampNeg * 1 ≤ 536870912 ∧ y_room mc ms c s x.toNatClampNeg) ∧ y_w M_J9_init mc ms Q (14, lv, .ref ω.1 :: r, y_hnew ω (.inl (1, y_at2 1 x.toNatClampNeg)), c + 1, s + x.toNatClampNeg)) := w_newarray dJ9_init_12 rfl rfl rfl
theorem wJ9_init_14 : y_w M_J9_init mc ms Q (14, lv, v :: .ref a :: r, ω, c, s) = y_pf P_J9_init true 15 (ω.2 a) v (fun ci fs => y_w M_J9_init mc ms Q (17, lv, r, y_hup ω a (.inr (ci, fs)), c, s)) := w_putfield dJ9_init_14 rfl rfl rfl
theorem wJ9_init_17 : y_w M_J9_init mc ms Q (17, lv, st, ω, c, s) = y_ldA lv 0 (fun v => y_w M_J9_init mc ms Q (18, lv, v :: st, ω, c, s)) := w_aload_n dJ9_init_17 rfl rfl
theorem wJ9_init_18 : y_w M_J9_init mc ms Q (18, lv, st, ω, c, s) = y_w M_J9_init mc ms Q (19, lv, .int 0 :: st, ω, c, s) := w_iconst dJ9_init_18 (v := 0) (by decide) rfl
theorem wJ9_init_19 : y_w M_J9_init mc ms Q (19, lv, v :: .ref a :: r, ω, c, s) = y_pf P_J9_init true 22 (ω.2 a) v (fun ci fs => y_w M_J9_init mc ms Q (22, lv, r, y_hup ω a (.inr (ci, fs)), c, s)) := w_putfield dJ9_init_19 rfl rfl rfl
theorem wJ9_init_22 : y_w M_J9_init mc ms Q (22, lv, st, ω, c, s) = y_w M_J9_init mc ms Q (38, lv, st, ω, c, s) := w_goto dJ9_init_22 (tgt := 38) (by decide) rfl
theorem wJ9_init_25 : y_w M_J9_init mc ms Q (25, lv, st, ω, c, s) = y_ldA lv 0 (fun v => y_w M_J9_init mc ms Q (26, lv, v :: st, ω, c, s)) := w_aload_n dJ9_init_25 rfl rfl
theorem wJ9_init_26 : y_w M_J9_init mc ms Q (26, lv, st, ω, c, s) = y_ldI lv 1 (fun v => y_w M_J9_init mc ms Q (27, lv, v :: st, ω, c, s)) := w_iload_n dJ9_init_26 rfl rfl
theorem wJ9_init_30 : y_w M_J9_init mc ms Q (30, lv, v :: .ref a :: r, ω, c, s) = y_pf P_J9_init true 15 (ω.2 a) v (fun ci fs => y_w M_J9_init mc ms Q (33, lv, r, y_hup ω a (.inr (ci, fs)), c, s)) := w_putfield dJ9_init_30 rfl rfl rfl
theorem wJ9_init_33 : y_w M_J9_init mc ms Q (33, lv, st, ω, c, s) = y_ldA lv 0 (fun v => y_w M_J9_init mc ms Q (34, lv, v :: st, ω, c, s)) := w_aload_n dJ9_init_33 rfl rfl
theorem wJ9_init_34 : y_w M_J9_init mc ms Q (34, lv, st, ω, c, s) = y_w M_J9_init mc ms Q (35, lv, .int 1 :: st, ω, c, s) := w_iconst dJ9_init_34 (v := 1) (by decide) rfl
theorem wJ9_init_35 : y_w M_J9_init mc ms Q (35, lv, v :: .ref a :: r, ω, c, s) = y_pf P_J9_init true 22 (ω.2 a) v (fun ci fs => y_w M_J9_init mc ms Q (38, lv, r, y_hup ω a (.inr (ci, fs)), c, s)) := w_putfield dJ9_init_35 rfl rfl rfl
theorem wJ9_init_38 : y_w M_J9_init mc ms Q (38, lv, [], ω, c, s) = Q (.returned none) ω c s := w_return dJ9_init_38 rfl
def P_J10_init : y_Pool := ([], [], [], [(1, 2, 0, 2, (2, 41), (y_ref F_J9_init))], [], [], [])
def M_J10_init : y_Md := (cJ10_init, "java/lang/StringBuilder", (1, none), (2, 41), true, P_J10_init, [])
def F_J10_init : y_Tr := y_F M_J10_init
theorem nJ10_init : y_nL M_J10_init = 1 := rfl
theorem wJ10_init_0 : y_w M_J10_init mc ms Q (0, lv, st, ω, c, s) = y_ldA lv 0 (fun v => y_w M_J10_init mc ms Q (1, lv, v :: st, ω, c, s)) := w_aload_n dJ10_init_0 rfl rfl
theorem wJ10_init_1 : y_w M_J10_init mc ms Q (1, lv, st, ω, c, s) = y_w M_J10_init mc ms Q (3, lv, .int (nI 16) :: st, ω, c, s) := w_bipush dJ10_init_1 (v := (nI 16)) (by decide) rfl
theorem wJ10_init_3 : y_w M_J10_init mc ms Q (3, lv, v1 :: v0 :: r, ω, c, s) = (y_cat r ≤ 8 ∧ (y_ref F_J9_init) mc ms [v0, v1] ω c s (y_aft M_J10_init 3 3 lv r (y_w M_J10_init mc ms Q) Q)) := w_call0 (av := [v0, v1]) ⟨Or.inl ⟨rfl, rfl⟩, rfl⟩ dJ10_init_3 rfl (y_ref_mono (y_F_mono _)) (y_dle rfl) (y_dle rfl) rfl rfl
theorem wJ10_init_6 : y_w M_J10_init mc ms Q (6, lv, [], ω, c, s) = Q (.returned none) ω c s := w_return dJ10_init_6 rfl
def P_J13_max : y_Pool := ([], [], [], [], [], [], [])
def M_J13_max : y_Md := (cJ13_max, "java/lang/Math", (2, (some FieldType.int)), (0, 0), false, P_J13_max, [])
def F_J13_max : y_Tr := y_F M_J13_max
theorem nJ13_max : y_nL M_J13_max = 2 := rfl
theorem wJ13_max_0 : y_w M_J13_max mc ms Q (0, lv, st, ω, c, s) = y_ldI lv 0 (fun v => y_w M_J13_max mc ms Q (1, lv, v :: st, ω, c, s)) := w_iload_n dJ13_max_0 rfl rfl
theorem wJ13_max_1 : y_w M_J13_max mc ms Q (1, lv, st, ω, c, s) = y_ldI lv 1 (fun v => y_w M_J13_max mc ms Q (2, lv, v :: st, ω, c, s)) := w_iload_n dJ13_max_1 rfl rfl
theorem wJ13_max_2 : y_w M_J13_max mc ms Q (2, lv, .int y :: .int x :: r, ω, c, s) = ((x < y → y_w M_J13_max mc ms Q (9, lv, r, ω, c, s)) ∧ (¬ (x < y) → y_w M_J13_max mc ms Q (5, lv, r, ω, c, s))) := w_icmp dJ13_max_2 (tgt := 9) rfl rfl rfl
theorem wJ13_max_5 : y_w M_J13_max mc ms Q (5, lv, st, ω, c, s) = y_ldI lv 0 (fun v => y_w M_J13_max mc ms Q (6, lv, v :: st, ω, c, s)) := w_iload_n dJ13_max_5 rfl rfl
theorem wJ13_max_6 : y_w M_J13_max mc ms Q (6, lv, st, ω, c, s) = y_w M_J13_max mc ms Q (10, lv, st, ω, c, s) := w_goto dJ13_max_6 (tgt := 10) (by decide) rfl
theorem wJ13_max_9 : y_w M_J13_max mc ms Q (9, lv, st, ω, c, s) = y_ldI lv 1 (fun v => y_w M_J13_max mc ms Q (10, lv, v :: st, ω, c, s)) := w_iload_n dJ13_max_9 rfl rfl
theorem wJ13_max_10 : y_w M_J13_max mc ms Q (10, lv, [.int x], ω, c, s) = Q (.returned (some (.int x))) ω c s := w_ireturnI dJ13_max_10 rfl
def P_J12_newLength : y_Pool := ([], [], [(200, .int (nI 2147483639))], [(194, 0, 0, 2, (1, 21), F_J13_max)], [], [], [])
def M_J12_newLength : y_Md := (cJ12_newLength, "jdk/internal/util/ArraysSupport", (4, (some FieldType.int)), (1, 21), false, P_J12_newLength, [])
def F_J12_newLength : y_Tr := y_F M_J12_newLength
theorem nJ12_newLength : y_nL M_J12_newLength = 4 := rfl
theorem wJ12_newLength_0 : y_w M_J12_newLength mc ms Q (0, lv, st, ω, c, s) = y_ldI lv 0 (fun v => y_w M_J12_newLength mc ms Q (1, lv, v :: st, ω, c, s)) := w_iload_n dJ12_newLength_0 rfl rfl
theorem wJ12_newLength_1 : y_w M_J12_newLength mc ms Q (1, lv, st, ω, c, s) = y_ldI lv 1 (fun v => y_w M_J12_newLength mc ms Q (2, lv, v :: st, ω, c, s)) := w_iload_n dJ12_newLength_1 rfl rfl
theorem wJ12_newLength_2 : y_w M_J12_newLength mc ms Q (2, lv, st, ω, c, s) = y_ldI lv 2 (fun v => y_w M_J12_newLength mc ms Q (3, lv, v :: st, ω, c, s)) := w_iload_n dJ12_newLength_2 rfl rfl
theorem wJ12_newLength_3 : y_w M_J12_newLength mc ms Q (3, lv, v1 :: v0 :: r, ω, c, s) = (y_cat r ≤ 8 ∧ F_J13_max mc ms [v0, v1] ω c s (y_aft M_J12_newLength 3 3 lv r (y_w M_J12_newLength mc ms Q) Q)) := w_call0 (av := [v0, v1]) ⟨Or.inr ⟨rfl, rfl⟩, rfl⟩ dJ12_newLength_3 rfl (y_F_mono _) (y_dle rfl) (y_dle rfl) rfl rfl
theorem wJ12_newLength_6 : y_w M_J12_newLength mc ms Q (6, lv, .int y :: .int x :: r, ω, c, s) = y_w M_J12_newLength mc ms Q (7, lv, .int (x + y) :: r, ω, c, s) := w_iadd dJ12_newLength_6 rfl
theorem wJ12_newLength_7 : y_w M_J12_newLength mc ms Q (7, lv, .int x :: r, ω, c, s) = y_w M_J12_newLength mc ms Q (8, (3, .int x) :: y_kill 3 lv, r, ω, c, s) := w_istore_n dJ12_newLength_7 rfl (y_dle rfl) rfl
theorem wJ12_newLength_8 : y_w M_J12_newLength mc ms Q (8, lv, st, ω, c, s) = y_w M_J12_newLength mc ms Q (9, lv, .int 0 :: st, ω, c, s) := w_iconst dJ12_newLength_8 (v := 0) (by decide) rfl
theorem wJ12_newLength_9 : y_w M_J12_newLength mc ms Q (9, lv, st, ω, c, s) = y_ldI lv 3 (fun v => y_w M_J12_newLength mc ms Q (10, lv, v :: st, ω, c, s)) := w_iload_n dJ12_newLength_9 rfl rfl
theorem wJ12_newLength_10 : y_w M_J12_newLength mc ms Q (10, lv, .int y :: .int x :: r, ω, c, s) = ((y ≤ x → y_w M_J12_newLength mc ms Q (21, lv, r, ω, c, s)) ∧ (¬ (y ≤ x) → y_w M_J12_newLength mc ms Q (13, lv, r, ω, c, s))) := w_icmp dJ12_newLength_10 (tgt := 21) rfl rfl rfl
theorem wJ12_newLength_13 : y_w M_J12_newLength mc ms Q (13, lv, st, ω, c, s) = y_ldI lv 3 (fun v => y_w M_J12_newLength mc ms Q (14, lv, v :: st, ω, c, s)) := w_iload_n dJ12_newLength_13 rfl rfl
theorem wJ12_newLength_14 : y_w M_J12_newLength mc ms Q (14, lv, st, ω, c, s) = y_w M_J12_newLength mc ms Q (16, lv, .int (nI 2147483639) :: st, ω, c, s) := w_ldc dJ12_newLength_14 rfl rfl rfl
theorem wJ12_newLength_16 : y_w M_J12_newLength mc ms Q (16, lv, .int y :: .int x :: r, ω, c, s) = ((y < x → y_w M_J12_newLength mc ms Q (21, lv, r, ω, c, s)) ∧ (¬ (y < x) → y_w M_J12_newLength mc ms Q (19, lv, r, ω, c, s))) := w_icmp dJ12_newLength_16 (tgt := 21) rfl rfl rfl
theorem wJ12_newLength_19 : y_w M_J12_newLength mc ms Q (19, lv, st, ω, c, s) = y_ldI lv 3 (fun v => y_w M_J12_newLength mc ms Q (20, lv, v :: st, ω, c, s)) := w_iload_n dJ12_newLength_19 rfl rfl
theorem wJ12_newLength_20 : y_w M_J12_newLength mc ms Q (20, lv, [.int x], ω, c, s) = Q (.returned (some (.int x))) ω c s := w_ireturnI dJ12_newLength_20 rfl
theorem wJ12_newLength_21 : y_w M_J12_newLength mc ms Q (21, lv, st, ω, c, s) = y_ldI lv 0 (fun v => y_w M_J12_newLength mc ms Q (22, lv, v :: st, ω, c, s)) := w_iload_n dJ12_newLength_21 rfl rfl
theorem wJ12_newLength_22 : y_w M_J12_newLength mc ms Q (22, lv, st, ω, c, s) = y_ldI lv 1 (fun v => y_w M_J12_newLength mc ms Q (23, lv, v :: st, ω, c, s)) := w_iload_n dJ12_newLength_22 rfl rfl
theorem wJ12_newLength_26 : y_w M_J12_newLength mc ms Q (26, lv, [.int x], ω, c, s) = Q (.returned (some (.int x))) ω c s := w_ireturnI dJ12_newLength_26 rfl
def P_J9_newCapacity : y_Pool := ([(15, 16, 0, (.array .byte), false), (22, 16, 1, .byte, false)], [], [(39, .int (nI 2147483647))], [(114, 0, 0, 3, (2, 44), F_J12_newLength)], [], [], [])
def M_J9_newCapacity : y_Md := (cJ9_newCapacity, "java/lang/AbstractStringBuilder", (6, (some FieldType.int)), (2, 44), false, P_J9_newCapacity, [])
def F_J9_newCapacity : y_Tr := y_F M_J9_newCapacity
theorem nJ9_newCapacity : y_nL M_J9_newCapacity = 6 := rfl
theorem fJ9_newCapacity_15_16 : y_ffP P_J9_newCapacity 15 16 = some (0, (.array .byte), false) := rfl
theorem fJ9_newCapacity_22_16 : y_ffP P_J9_newCapacity 22 16 = some (1, .byte, false) := rfl
theorem wJ9_newCapacity_0 : y_w M_J9_newCapacity mc ms Q (0, lv, st, ω, c, s) = y_ldA lv 0 (fun v => y_w M_J9_newCapacity mc ms Q (1, lv, v :: st, ω, c, s)) := w_aload_n dJ9_newCapacity_0 rfl rfl
theorem wJ9_newCapacity_1 : y_w M_J9_newCapacity mc ms Q (1, lv, .ref a :: r, ω, c, s) = y_gf P_J9_newCapacity 15 (ω.2 a) (fun v => y_w M_J9_newCapacity mc ms Q (4, lv, v :: r, ω, c, s)) := w_getfield dJ9_newCapacity_1 rfl rfl
theorem wJ9_newCapacity_4 : y_w M_J9_newCapacity mc ms Q (4, lv, .ref a :: r, ω, c, s) = y_al (ω.2 a) (fun n => y_w M_J9_newCapacity mc ms Q (5, lv, .int n :: r, ω, c, s)) := w_arraylength dJ9_newCapacity_4 rfl
theorem wJ9_newCapacity_5 : y_w M_J9_newCapacity mc ms Q (5, lv, .int x :: r, ω, c, s) = y_w M_J9_newCapacity mc ms Q (6, (2, .int x) :: y_kill 2 lv, r, ω, c, s) := w_istore_n dJ9_newCapacity_5 rfl (y_dle rfl) rfl
theorem wJ9_newCapacity_6 : y_w M_J9_newCapacity mc ms Q (6, lv, st, ω, c, s) = y_ldI lv 1 (fun v => y_w M_J9_newCapacity mc ms Q (7, lv, v :: st, ω, c, s)) := w_iload_n dJ9_newCapacity_6 rfl rfl
theorem wJ9_newCapacity_7 : y_w M_J9_newCapacity mc ms Q (7, lv, st, ω, c, s) = y_ldA lv 0 (fun v => y_w M_J9_newCapacity mc ms Q (8, lv, v :: st, ω, c, s)) := w_aload_n dJ9_newCapacity_7 rfl rfl
theorem wJ9_newCapacity_8 : y_w M_J9_newCapacity mc ms Q (8, lv, .ref a :: r, ω, c, s) = y_gf P_J9_newCapacity 22 (ω.2 a) (fun v => y_w M_J9_newCapacity mc ms Q (11, lv, v :: r, ω, c, s)) := w_getfield dJ9_newCapacity_8 rfl rfl
theorem wJ9_newCapacity_11 : y_w M_J9_newCapacity mc ms Q (11, lv, .int y :: .int x :: r, ω, c, s) = y_w M_J9_newCapacity mc ms Q (12, lv, .int (x <<< (y &&& 31)) :: r, ω, c, s) := w_ishl dJ9_newCapacity_11 rfl
theorem wJ9_newCapacity_12 : y_w M_J9_newCapacity mc ms Q (12, lv, .int x :: r, ω, c, s) = y_w M_J9_newCapacity mc ms Q (13, (3, .int x) :: y_kill 3 lv, r, ω, c, s) := w_istore_n dJ9_newCapacity_12 rfl (y_dle rfl) rfl
theorem wJ9_newCapacity_13 : y_w M_J9_newCapacity mc ms Q (13, lv, st, ω, c, s) = y_ldI lv 3 (fun v => y_w M_J9_newCapacity mc ms Q (14, lv, v :: st, ω, c, s)) := w_iload_n dJ9_newCapacity_13 rfl rfl
theorem wJ9_newCapacity_14 : y_w M_J9_newCapacity mc ms Q (14, lv, st, ω, c, s) = y_ldI lv 2 (fun v => y_w M_J9_newCapacity mc ms Q (15, lv, v :: st, ω, c, s)) := w_iload_n dJ9_newCapacity_14 rfl rfl
theorem wJ9_newCapacity_15 : y_w M_J9_newCapacity mc ms Q (15, lv, .int y :: .int x :: r, ω, c, s) = y_w M_J9_newCapacity mc ms Q (16, lv, .int (x - y) :: r, ω, c, s) := w_isub dJ9_newCapacity_15 rfl
theorem wJ9_newCapacity_16 : y_w M_J9_newCapacity mc ms Q (16, lv, .int x :: r, ω, c, s) = y_w M_J9_newCapacity mc ms Q (18, (4, .int x) :: y_kill 4 lv, r, ω, c, s) := w_istore dJ9_newCapacity_16 (y_dle rfl) rfl
theorem wJ9_newCapacity_18 : y_w M_J9_newCapacity mc ms Q (18, lv, st, ω, c, s) = y_ldI lv 2 (fun v => y_w M_J9_newCapacity mc ms Q (19, lv, v :: st, ω, c, s)) := w_iload_n dJ9_newCapacity_18 rfl rfl
theorem wJ9_newCapacity_19 : y_w M_J9_newCapacity mc ms Q (19, lv, st, ω, c, s) = y_ldI lv 4 (fun v => y_w M_J9_newCapacity mc ms Q (21, lv, v :: st, ω, c, s)) := w_iload dJ9_newCapacity_19 rfl
theorem wJ9_newCapacity_21 : y_w M_J9_newCapacity mc ms Q (21, lv, st, ω, c, s) = y_ldI lv 2 (fun v => y_w M_J9_newCapacity mc ms Q (22, lv, v :: st, ω, c, s)) := w_iload_n dJ9_newCapacity_21 rfl rfl
theorem wJ9_newCapacity_22 : y_w M_J9_newCapacity mc ms Q (22, lv, st, ω, c, s) = y_w M_J9_newCapacity mc ms Q (23, lv, .int (nI 2) :: st, ω, c, s) := w_iconst dJ9_newCapacity_22 (v := (nI 2)) (by decide) rfl
theorem wJ9_newCapacity_23 : y_w M_J9_newCapacity mc ms Q (23, lv, st, ω, c, s) = y_ldA lv 0 (fun v => y_w M_J9_newCapacity mc ms Q (24, lv, v :: st, ω, c, s)) := w_aload_n dJ9_newCapacity_23 rfl rfl
theorem wJ9_newCapacity_24 : y_w M_J9_newCapacity mc ms Q (24, lv, .ref a :: r, ω, c, s) = y_gf P_J9_newCapacity 22 (ω.2 a) (fun v => y_w M_J9_newCapacity mc ms Q (27, lv, v :: r, ω, c, s)) := w_getfield dJ9_newCapacity_24 rfl rfl
theorem wJ9_newCapacity_27 : y_w M_J9_newCapacity mc ms Q (27, lv, .int y :: .int x :: r, ω, c, s) = y_w M_J9_newCapacity mc ms Q (28, lv, .int (x <<< (y &&& 31)) :: r, ω, c, s) := w_ishl dJ9_newCapacity_27 rfl
theorem wJ9_newCapacity_28 : y_w M_J9_newCapacity mc ms Q (28, lv, .int y :: .int x :: r, ω, c, s) = y_w M_J9_newCapacity mc ms Q (29, lv, .int (x + y) :: r, ω, c, s) := w_iadd dJ9_newCapacity_28 rfl
theorem wJ9_newCapacity_29 : y_w M_J9_newCapacity mc ms Q (29, lv, v2 :: v1 :: v0 :: r, ω, c, s) = (y_cat r ≤ 8 ∧ F_J12_newLength mc ms [v0, v1, v2] ω c s (y_aft M_J9_newCapacity 29 3 lv r (y_w M_J9_newCapacity mc ms Q) Q)) := w_call0 (av := [v0, v1, v2]) ⟨Or.inr ⟨rfl, rfl⟩, rfl⟩ dJ9_newCapacity_29 rfl (y_F_mono _) (y_dle rfl) (y_dle rfl) rfl rfl
theorem wJ9_newCapacity_32 : y_w M_J9_newCapacity mc ms Q (32, lv, .int x :: r, ω, c, s) = y_w M_J9_newCapacity mc ms Q (34, (5, .int x) :: y_kill 5 lv, r, ω, c, s) := w_istore dJ9_newCapacity_32 (y_dle rfl) rfl
theorem wJ9_newCapacity_34 : y_w M_J9_newCapacity mc ms Q (34, lv, st, ω, c, s) = y_ldI lv 5 (fun v => y_w M_J9_newCapacity mc ms Q (36, lv, v :: st, ω, c, s)) := w_iload dJ9_newCapacity_34 rfl
theorem wJ9_newCapacity_36 : y_w M_J9_newCapacity mc ms Q (36, lv, st, ω, c, s) = y_w M_J9_newCapacity mc ms Q (38, lv, .int (nI 2147483647) :: st, ω, c, s) := w_ldc dJ9_newCapacity_36 rfl rfl rfl
theorem wJ9_newCapacity_38 : y_w M_J9_newCapacity mc ms Q (38, lv, .int y :: .int x :: r, ω, c, s) = ((¬ x = y → y_w M_J9_newCapacity mc ms Q (51, lv, r, ω, c, s)) ∧ (¬ (¬ x = y) → y_w M_J9_newCapacity mc ms Q (41, lv, r, ω, c, s))) := w_icmp dJ9_newCapacity_38 (tgt := 51) rfl rfl rfl
theorem wJ9_newCapacity_44 : y_w M_J9_newCapacity mc ms Q (44, lv, v :: r, ω, c, s) = (v.category = 1 ∧ y_w M_J9_newCapacity mc ms Q (45, lv, v :: v :: r, ω, c, s)) := w_dup dJ9_newCapacity_44 rfl
theorem wJ9_newCapacity_50 : y_w M_J9_newCapacity mc ms Q (50, lv, .ref a :: r, ω, c, s) = y_thr M_J9_newCapacity 50 lv ω a c s (y_w M_J9_newCapacity mc ms Q) Q [] := w_athrow dJ9_newCapacity_50
theorem wJ9_newCapacity_51 : y_w M_J9_newCapacity mc ms Q (51, lv, st, ω, c, s) = y_ldI lv 5 (fun v => y_w M_J9_newCapacity mc ms Q (53, lv, v :: st, ω, c, s)) := w_iload dJ9_newCapacity_51 rfl
theorem wJ9_newCapacity_53 : y_w M_J9_newCapacity mc ms Q (53, lv, st, ω, c, s) = y_ldA lv 0 (fun v => y_w M_J9_newCapacity mc ms Q (54, lv, v :: st, ω, c, s)) := w_aload_n dJ9_newCapacity_53 rfl rfl
theorem wJ9_newCapacity_54 : y_w M_J9_newCapacity mc ms Q (54, lv, .ref a :: r, ω, c, s) = y_gf P_J9_newCapacity 22 (ω.2 a) (fun v => y_w M_J9_newCapacity mc ms Q (57, lv, v :: r, ω, c, s)) := w_getfield dJ9_newCapacity_54 rfl rfl
theorem wJ9_newCapacity_57 : y_w M_J9_newCapacity mc ms Q (57, lv, .int y :: .int x :: r, ω, c, s) = y_w M_J9_newCapacity mc ms Q (58, lv, .int (x >>> (y &&& 31)) :: r, ω, c, s) := w_ishr dJ9_newCapacity_57 rfl
theorem wJ9_newCapacity_58 : y_w M_J9_newCapacity mc ms Q (58, lv, [.int x], ω, c, s) = Q (.returned (some (.int x))) ω c s := w_ireturnI dJ9_newCapacity_58 rfl
def P_J13_min : y_Pool := ([], [], [], [], [], [], [])
def M_J13_min : y_Md := (cJ13_min, "java/lang/Math", (2, (some FieldType.int)), (0, 0), false, P_J13_min, [])
def F_J13_min : y_Tr := y_F M_J13_min
theorem nJ13_min : y_nL M_J13_min = 2 := rfl
theorem wJ13_min_0 : y_w M_J13_min mc ms Q (0, lv, st, ω, c, s) = y_ldI lv 0 (fun v => y_w M_J13_min mc ms Q (1, lv, v :: st, ω, c, s)) := w_iload_n dJ13_min_0 rfl rfl
theorem wJ13_min_1 : y_w M_J13_min mc ms Q (1, lv, st, ω, c, s) = y_ldI lv 1 (fun v => y_w M_J13_min mc ms Q (2, lv, v :: st, ω, c, s)) := w_iload_n dJ13_min_1 rfl rfl
theorem wJ13_min_2 : y_w M_J13_min mc ms Q (2, lv, .int y :: .int x :: r, ω, c, s) = ((y < x → y_w M_J13_min mc ms Q (9, lv, r, ω, c, s)) ∧ (¬ (y < x) → y_w M_J13_min mc ms Q (5, lv, r, ω, c, s))) := w_icmp dJ13_min_2 (tgt := 9) rfl rfl rfl
theorem wJ13_min_5 : y_w M_J13_min mc ms Q (5, lv, st, ω, c, s) = y_ldI lv 0 (fun v => y_w M_J13_min mc ms Q (6, lv, v :: st, ω, c, s)) := w_iload_n dJ13_min_5 rfl rfl
theorem wJ13_min_6 : y_w M_J13_min mc ms Q (6, lv, st, ω, c, s) = y_w M_J13_min mc ms Q (10, lv, st, ω, c, s) := w_goto dJ13_min_6 (tgt := 10) (by decide) rfl
theorem wJ13_min_9 : y_w M_J13_min mc ms Q (9, lv, st, ω, c, s) = y_ldI lv 1 (fun v => y_w M_J13_min mc ms Q (10, lv, v :: st, ω, c, s)) := w_iload_n dJ13_min_9 rfl rfl
theorem wJ13_min_10 : y_w M_J13_min mc ms Q (10, lv, [.int x], ω, c, s) = Q (.returned (some (.int x))) ω c s := w_ireturnI dJ13_min_10 rfl
def P_J14_copyOf : y_Pool := ([], [], [], [(310, 4, 0, 1, (1, 22), y_clone), (304, 0, 0, 2, (1, 21), F_J13_min), (150, 0, 0, 5, (1, 60), y_acopy)], [(311, 101, 1)], [], [])
def M_J14_copyOf : y_Md := (cJ14_copyOf, "java/util/Arrays", (3, (some (FieldType.array FieldType.byte))), (1, 60), false, P_J14_copyOf, [])
def F_J14_copyOf : y_Tr := y_F M_J14_copyOf
theorem nJ14_copyOf : y_nL M_J14_copyOf = 3 := rfl
theorem tJ14_copyOf_311_101 : y_ft M_J14_copyOf 311 101 = some 1 := rfl
theorem wJ14_copyOf_0 : y_w M_J14_copyOf mc ms Q (0, lv, st, ω, c, s) = y_ldI lv 1 (fun v => y_w M_J14_copyOf mc ms Q (1, lv, v :: st, ω, c, s)) := w_iload_n dJ14_copyOf_0 rfl rfl
theorem wJ14_copyOf_1 : y_w M_J14_copyOf mc ms Q (1, lv, st, ω, c, s) = y_ldA lv 0 (fun v => y_w M_J14_copyOf mc ms Q (2, lv, v :: st, ω, c, s)) := w_aload_n dJ14_copyOf_1 rfl rfl
theorem wJ14_copyOf_2 : y_w M_J14_copyOf mc ms Q (2, lv, .ref a :: r, ω, c, s) = y_al (ω.2 a) (fun n => y_w M_J14_copyOf mc ms Q (3, lv, .int n :: r, ω, c, s)) := w_arraylength dJ14_copyOf_2 rfl
theorem wJ14_copyOf_3 : y_w M_J14_copyOf mc ms Q (3, lv, .int y :: .int x :: r, ω, c, s) = ((¬ x = y → y_w M_J14_copyOf mc ms Q (14, lv, r, ω, c, s)) ∧ (¬ (¬ x = y) → y_w M_J14_copyOf mc ms Q (6, lv, r, ω, c, s))) := w_icmp dJ14_copyOf_3 (tgt := 14) rfl rfl rfl
theorem wJ14_copyOf_6 : y_w M_J14_copyOf mc ms Q (6, lv, st, ω, c, s) = y_ldA lv 0 (fun v => y_w M_J14_copyOf mc ms Q (7, lv, v :: st, ω, c, s)) := w_aload_n dJ14_copyOf_6 rfl rfl
theorem wJ14_copyOf_7 : y_w M_J14_copyOf mc ms Q (7, lv, v0 :: r, ω, c, s) = (y_cat r ≤ 8 ∧ y_clone mc ms [v0] ω c s (y_aft M_J14_copyOf 7 3 lv r (y_w M_J14_copyOf mc ms Q) Q)) := w_call4 (av := [v0]) dJ14_copyOf_7 rfl y_clone_mono (y_dle rfl) (y_dle rfl) rfl rfl
theorem wJ14_copyOf_10 : y_w M_J14_copyOf mc ms Q (10, lv, .ref a :: r, ω, c, s) = y_tsc M_J14_copyOf 311 (ω.2 a) (y_w M_J14_copyOf mc ms Q (13, lv, .ref a :: r, ω, c, s)) (y_vmt M_J14_copyOf mc ms 18 10 lv ω c s (y_w M_J14_copyOf mc ms Q) Q) := w_checkcast dJ14_copyOf_10 rfl
theorem wJ14_copyOf_13 : y_w M_J14_copyOf mc ms Q (13, lv, [.ref a], ω, c, s) = Q (.returned (some (.ref a))) ω c s := w_areturn dJ14_copyOf_13 rfl (Or.inr ⟨_, rfl⟩)
theorem wJ14_copyOf_14 : y_w M_J14_copyOf mc ms Q (14, lv, st, ω, c, s) = y_ldI lv 1 (fun v => y_w M_J14_copyOf mc ms Q (15, lv, v :: st, ω, c, s)) := w_iload_n dJ14_copyOf_14 rfl rfl
theorem wJ14_copyOf_15 : y_w M_J14_copyOf mc ms Q (15, lv, .int x :: r, ω, c, s) = ((¬ x < 0 ∧ x.toNatClampNeg * 1 ≤ 536870912 ∧ y_room mc ms c s x.toNatClampNeg) ∧ y_w M_J14_copyOf mc ms Q (17, lv, .ref ω.1 :: r, y_hnew ω (.inl (1, y_at2 1 x.toNatClampNeg)), c + 1, s + x.toNatClampNeg)) := w_newarray dJ14_copyOf_15 rfl rfl rfl
theorem wJ14_copyOf_17 : y_w M_J14_copyOf mc ms Q (17, lv, v :: r, ω, c, s) = (y_isA v = true ∧ y_w M_J14_copyOf mc ms Q (18, (2, v) :: y_kill 2 lv, r, ω, c, s)) := w_astore_n dJ14_copyOf_17 rfl (y_dle rfl) rfl
theorem wJ14_copyOf_18 : y_w M_J14_copyOf mc ms Q (18, lv, st, ω, c, s) = y_ldA lv 0 (fun v => y_w M_J14_copyOf mc ms Q (19, lv, v :: st, ω, c, s)) := w_aload_n dJ14_copyOf_18 rfl rfl
theorem wJ14_copyOf_19 : y_w M_J14_copyOf mc ms Q (19, lv, st, ω, c, s) = y_w M_J14_copyOf mc ms Q (20, lv, .int 0 :: st, ω, c, s) := w_iconst dJ14_copyOf_19 (v := 0) (by decide) rfl
theorem wJ14_copyOf_20 : y_w M_J14_copyOf mc ms Q (20, lv, st, ω, c, s) = y_ldA lv 2 (fun v => y_w M_J14_copyOf mc ms Q (21, lv, v :: st, ω, c, s)) := w_aload_n dJ14_copyOf_20 rfl rfl
theorem wJ14_copyOf_21 : y_w M_J14_copyOf mc ms Q (21, lv, st, ω, c, s) = y_w M_J14_copyOf mc ms Q (22, lv, .int 0 :: st, ω, c, s) := w_iconst dJ14_copyOf_21 (v := 0) (by decide) rfl
theorem wJ14_copyOf_22 : y_w M_J14_copyOf mc ms Q (22, lv, st, ω, c, s) = y_ldA lv 0 (fun v => y_w M_J14_copyOf mc ms Q (23, lv, v :: st, ω, c, s)) := w_aload_n dJ14_copyOf_22 rfl rfl
theorem wJ14_copyOf_23 : y_w M_J14_copyOf mc ms Q (23, lv, .ref a :: r, ω, c, s) = y_al (ω.2 a) (fun n => y_w M_J14_copyOf mc ms Q (24, lv, .int n :: r, ω, c, s)) := w_arraylength dJ14_copyOf_23 rfl
theorem wJ14_copyOf_24 : y_w M_J14_copyOf mc ms Q (24, lv, st, ω, c, s) = y_ldI lv 1 (fun v => y_w M_J14_copyOf mc ms Q (25, lv, v :: st, ω, c, s)) := w_iload_n dJ14_copyOf_24 rfl rfl
theorem wJ14_copyOf_25 : y_w M_J14_copyOf mc ms Q (25, lv, v1 :: v0 :: r, ω, c, s) = (y_cat r ≤ 8 ∧ F_J13_min mc ms [v0, v1] ω c s (y_aft M_J14_copyOf 25 3 lv r (y_w M_J14_copyOf mc ms Q) Q)) := w_call0 (av := [v0, v1]) ⟨Or.inr ⟨rfl, rfl⟩, rfl⟩ dJ14_copyOf_25 rfl (y_F_mono _) (y_dle rfl) (y_dle rfl) rfl rfl
theorem wJ14_copyOf_28 : y_w M_J14_copyOf mc ms Q (28, lv, v4 :: v3 :: v2 :: v1 :: v0 :: r, ω, c, s) = (y_cat r ≤ 8 ∧ y_acopy mc ms [v0, v1, v2, v3, v4] ω c s (y_aft M_J14_copyOf 28 3 lv r (y_w M_J14_copyOf mc ms Q) Q)) := w_call0 (av := [v0, v1, v2, v3, v4]) ⟨Or.inr ⟨rfl, rfl⟩, rfl⟩ dJ14_copyOf_28 rfl y_acopy_mono (y_dle rfl) (y_dle rfl) rfl rfl
theorem wJ14_copyOf_31 : y_w M_J14_copyOf mc ms Q (31, lv, st, ω, c, s) = y_ldA lv 2 (fun v => y_w M_J14_copyOf mc ms Q (32, lv, v :: st, ω, c, s)) := w_aload_n dJ14_copyOf_31 rfl rfl
theorem wJ14_copyOf_32 : y_w M_J14_copyOf mc ms Q (32, lv, [.ref a], ω, c, s) = Q (.returned (some (.ref a))) ω c s := w_areturn dJ14_copyOf_32 rfl (Or.inr ⟨_, rfl⟩)
def P_J9_ensureCapacityInternal : y_Pool := ([(15, 16, 0, (.array .byte), false), (22, 16, 1, .byte, false)], [], [], [(104, 1, 16, 2, (3, 69), F_J9_newCapacity), (108, 0, 0, 2, (2, 82), F_J14_copyOf)], [], [], [])
def M_J9_ensureCapacityInternal : y_Md := (cJ9_ensureCapacityInternal, "java/lang/AbstractStringBuilder", (3, none), (3, 82), false, P_J9_ensureCapacityInternal, [])
def F_J9_ensureCapacityInternal : y_Tr := y_F M_J9_ensureCapacityInternal
theorem nJ9_ensureCapacityInternal : y_nL M_J9_ensureCapacityInternal = 3 := rfl
theorem fJ9_ensureCapacityInternal_15_16 : y_ffP P_J9_ensureCapacityInternal 15 16 = some (0, (.array .byte), false) := rfl
theorem fJ9_ensureCapacityInternal_22_16 : y_ffP P_J9_ensureCapacityInternal 22 16 = some (1, .byte, false) := rfl
theorem wJ9_ensureCapacityInternal_0 : y_w M_J9_ensureCapacityInternal mc ms Q (0, lv, st, ω, c, s) = y_ldA lv 0 (fun v => y_w M_J9_ensureCapacityInternal mc ms Q (1, lv, v :: st, ω, c, s)) := w_aload_n dJ9_ensureCapacityInternal_0 rfl rfl
theorem wJ9_ensureCapacityInternal_1 : y_w M_J9_ensureCapacityInternal mc ms Q (1, lv, .ref a :: r, ω, c, s) = y_gf P_J9_ensureCapacityInternal 15 (ω.2 a) (fun v => y_w M_J9_ensureCapacityInternal mc ms Q (4, lv, v :: r, ω, c, s)) := w_getfield dJ9_ensureCapacityInternal_1 rfl rfl
theorem wJ9_ensureCapacityInternal_4 : y_w M_J9_ensureCapacityInternal mc ms Q (4, lv, .ref a :: r, ω, c, s) = y_al (ω.2 a) (fun n => y_w M_J9_ensureCapacityInternal mc ms Q (5, lv, .int n :: r, ω, c, s)) := w_arraylength dJ9_ensureCapacityInternal_4 rfl
theorem wJ9_ensureCapacityInternal_5 : y_w M_J9_ensureCapacityInternal mc ms Q (5, lv, st, ω, c, s) = y_ldA lv 0 (fun v => y_w M_J9_ensureCapacityInternal mc ms Q (6, lv, v :: st, ω, c, s)) := w_aload_n dJ9_ensureCapacityInternal_5 rfl rfl
theorem wJ9_ensureCapacityInternal_6 : y_w M_J9_ensureCapacityInternal mc ms Q (6, lv, .ref a :: r, ω, c, s) = y_gf P_J9_ensureCapacityInternal 22 (ω.2 a) (fun v => y_w M_J9_ensureCapacityInternal mc ms Q (9, lv, v :: r, ω, c, s)) := w_getfield dJ9_ensureCapacityInternal_6 rfl rfl
theorem wJ9_ensureCapacityInternal_9 : y_w M_J9_ensureCapacityInternal mc ms Q (9, lv, .int y :: .int x :: r, ω, c, s) = y_w M_J9_ensureCapacityInternal mc ms Q (10, lv, .int (x >>> (y &&& 31)) :: r, ω, c, s) := w_ishr dJ9_ensureCapacityInternal_9 rfl
theorem wJ9_ensureCapacityInternal_10 : y_w M_J9_ensureCapacityInternal mc ms Q (10, lv, .int x :: r, ω, c, s) = y_w M_J9_ensureCapacityInternal mc ms Q (11, (2, .int x) :: y_kill 2 lv, r, ω, c, s) := w_istore_n dJ9_ensureCapacityInternal_10 rfl (y_dle rfl) rfl
theorem wJ9_ensureCapacityInternal_11 : y_w M_J9_ensureCapacityInternal mc ms Q (11, lv, st, ω, c, s) = y_ldI lv 1 (fun v => y_w M_J9_ensureCapacityInternal mc ms Q (12, lv, v :: st, ω, c, s)) := w_iload_n dJ9_ensureCapacityInternal_11 rfl rfl
theorem wJ9_ensureCapacityInternal_12 : y_w M_J9_ensureCapacityInternal mc ms Q (12, lv, st, ω, c, s) = y_ldI lv 2 (fun v => y_w M_J9_ensureCapacityInternal mc ms Q (13, lv, v :: st, ω, c, s)) := w_iload_n dJ9_ensureCapacityInternal_12 rfl rfl
theorem wJ9_ensureCapacityInternal_13 : y_w M_J9_ensureCapacityInternal mc ms Q (13, lv, .int y :: .int x :: r, ω, c, s) = y_w M_J9_ensureCapacityInternal mc ms Q (14, lv, .int (x - y) :: r, ω, c, s) := w_isub dJ9_ensureCapacityInternal_13 rfl
theorem wJ9_ensureCapacityInternal_14 : y_w M_J9_ensureCapacityInternal mc ms Q (14, lv, .int x :: r, ω, c, s) = ((x ≤ 0 → y_w M_J9_ensureCapacityInternal mc ms Q (38, lv, r, ω, c, s)) ∧ (¬ (x ≤ 0) → y_w M_J9_ensureCapacityInternal mc ms Q (17, lv, r, ω, c, s))) := w_if dJ9_ensureCapacityInternal_14 (tgt := 38) rfl rfl rfl
theorem wJ9_ensureCapacityInternal_17 : y_w M_J9_ensureCapacityInternal mc ms Q (17, lv, st, ω, c, s) = y_ldA lv 0 (fun v => y_w M_J9_ensureCapacityInternal mc ms Q (18, lv, v :: st, ω, c, s)) := w_aload_n dJ9_ensureCapacityInternal_17 rfl rfl
theorem wJ9_ensureCapacityInternal_18 : y_w M_J9_ensureCapacityInternal mc ms Q (18, lv, st, ω, c, s) = y_ldA lv 0 (fun v => y_w M_J9_ensureCapacityInternal mc ms Q (19, lv, v :: st, ω, c, s)) := w_aload_n dJ9_ensureCapacityInternal_18 rfl rfl
theorem wJ9_ensureCapacityInternal_19 : y_w M_J9_ensureCapacityInternal mc ms Q (19, lv, .ref a :: r, ω, c, s) = y_gf P_J9_ensureCapacityInternal 15 (ω.2 a) (fun v => y_w M_J9_ensureCapacityInternal mc ms Q (22, lv, v :: r, ω, c, s)) := w_getfield dJ9_ensureCapacityInternal_19 rfl rfl
theorem wJ9_ensureCapacityInternal_22 : y_w M_J9_ensureCapacityInternal mc ms Q (22, lv, st, ω, c, s) = y_ldA lv 0 (fun v => y_w M_J9_ensureCapacityInternal mc ms Q (23, lv, v :: st, ω, c, s)) := w_aload_n dJ9_ensureCapacityInternal_22 rfl rfl
theorem wJ9_ensureCapacityInternal_23 : y_w M_J9_ensureCapacityInternal mc ms Q (23, lv, st, ω, c, s) = y_ldI lv 1 (fun v => y_w M_J9_ensureCapacityInternal mc ms Q (24, lv, v :: st, ω, c, s)) := w_iload_n dJ9_ensureCapacityInternal_23 rfl rfl
theorem wJ9_ensureCapacityInternal_24 (hc : y_cls ω a = some 16) : y_w M_J9_ensureCapacityInternal mc ms Q (24, lv, v1 :: .ref a :: r, ω, c, s) = (y_cat r ≤ 8 ∧ F_J9_newCapacity mc ms [.ref a, v1] ω c s (y_aft M_J9_ensureCapacityInternal 24 3 lv r (y_w M_J9_ensureCapacityInternal mc ms Q) Q)) := w_call1 (av := [v1]) (Or.inl ⟨⟨rfl, rfl⟩, rfl⟩) dJ9_ensureCapacityInternal_24 rfl hc rfl (y_F_mono _) (y_dle rfl) (y_dle rfl) rfl rfl
theorem wJ9_ensureCapacityInternal_27 : y_w M_J9_ensureCapacityInternal mc ms Q (27, lv, st, ω, c, s) = y_ldA lv 0 (fun v => y_w M_J9_ensureCapacityInternal mc ms Q (28, lv, v :: st, ω, c, s)) := w_aload_n dJ9_ensureCapacityInternal_27 rfl rfl
theorem wJ9_ensureCapacityInternal_28 : y_w M_J9_ensureCapacityInternal mc ms Q (28, lv, .ref a :: r, ω, c, s) = y_gf P_J9_ensureCapacityInternal 22 (ω.2 a) (fun v => y_w M_J9_ensureCapacityInternal mc ms Q (31, lv, v :: r, ω, c, s)) := w_getfield dJ9_ensureCapacityInternal_28 rfl rfl
theorem wJ9_ensureCapacityInternal_31 : y_w M_J9_ensureCapacityInternal mc ms Q (31, lv, .int y :: .int x :: r, ω, c, s) = y_w M_J9_ensureCapacityInternal mc ms Q (32, lv, .int (x <<< (y &&& 31)) :: r, ω, c, s) := w_ishl dJ9_ensureCapacityInternal_31 rfl
theorem wJ9_ensureCapacityInternal_32 : y_w M_J9_ensureCapacityInternal mc ms Q (32, lv, v1 :: v0 :: r, ω, c, s) = (y_cat r ≤ 8 ∧ F_J14_copyOf mc ms [v0, v1] ω c s (y_aft M_J9_ensureCapacityInternal 32 3 lv r (y_w M_J9_ensureCapacityInternal mc ms Q) Q)) := w_call0 (av := [v0, v1]) ⟨Or.inr ⟨rfl, rfl⟩, rfl⟩ dJ9_ensureCapacityInternal_32 rfl (y_F_mono _) (y_dle rfl) (y_dle rfl) rfl rfl
theorem wJ9_ensureCapacityInternal_35 : y_w M_J9_ensureCapacityInternal mc ms Q (35, lv, v :: .ref a :: r, ω, c, s) = y_pf P_J9_ensureCapacityInternal false 15 (ω.2 a) v (fun ci fs => y_w M_J9_ensureCapacityInternal mc ms Q (38, lv, r, y_hup ω a (.inr (ci, fs)), c, s)) := w_putfield dJ9_ensureCapacityInternal_35 rfl rfl rfl
theorem wJ9_ensureCapacityInternal_38 : y_w M_J9_ensureCapacityInternal mc ms Q (38, lv, [], ω, c, s) = Q (.returned none) ω c s := w_return dJ9_ensureCapacityInternal_38 rfl
def P_J9_isLatin1 : y_Pool := ([(22, 16, 1, .byte, false)], [], [], [], [], [], [(18, .int 1)])
def M_J9_isLatin1 : y_Md := (cJ9_isLatin1, "java/lang/AbstractStringBuilder", (1, (some FieldType.boolean)), (0, 0), false, P_J9_isLatin1, [])
def F_J9_isLatin1 : y_Tr := y_F M_J9_isLatin1
theorem nJ9_isLatin1 : y_nL M_J9_isLatin1 = 1 := rfl
theorem fJ9_isLatin1_22_16 : y_ffP P_J9_isLatin1 22 16 = some (1, .byte, false) := rfl
theorem wJ9_isLatin1_0 : y_w M_J9_isLatin1 mc ms Q (0, lv, st, ω, c, s) = y_w M_J9_isLatin1 mc ms Q (3, lv, .int 1 :: st, ω, c, s) := w_getstatic dJ9_isLatin1_0 rfl rfl
theorem wJ9_isLatin1_3 : y_w M_J9_isLatin1 mc ms Q (3, lv, .int x :: r, ω, c, s) = ((x = 0 → y_w M_J9_isLatin1 mc ms Q (17, lv, r, ω, c, s)) ∧ (¬ (x = 0) → y_w M_J9_isLatin1 mc ms Q (6, lv, r, ω, c, s))) := w_if dJ9_isLatin1_3 (tgt := 17) rfl rfl rfl
theorem wJ9_isLatin1_6 : y_w M_J9_isLatin1 mc ms Q (6, lv, st, ω, c, s) = y_ldA lv 0 (fun v => y_w M_J9_isLatin1 mc ms Q (7, lv, v :: st, ω, c, s)) := w_aload_n dJ9_isLatin1_6 rfl rfl
theorem wJ9_isLatin1_7 : y_w M_J9_isLatin1 mc ms Q (7, lv, .ref a :: r, ω, c, s) = y_gf P_J9_isLatin1 22 (ω.2 a) (fun v => y_w M_J9_isLatin1 mc ms Q (10, lv, v :: r, ω, c, s)) := w_getfield dJ9_isLatin1_7 rfl rfl
theorem wJ9_isLatin1_10 : y_w M_J9_isLatin1 mc ms Q (10, lv, .int x :: r, ω, c, s) = ((¬ x = 0 → y_w M_J9_isLatin1 mc ms Q (17, lv, r, ω, c, s)) ∧ (¬ (¬ x = 0) → y_w M_J9_isLatin1 mc ms Q (13, lv, r, ω, c, s))) := w_if dJ9_isLatin1_10 (tgt := 17) rfl rfl rfl
theorem wJ9_isLatin1_13 : y_w M_J9_isLatin1 mc ms Q (13, lv, st, ω, c, s) = y_w M_J9_isLatin1 mc ms Q (14, lv, .int 1 :: st, ω, c, s) := w_iconst dJ9_isLatin1_13 (v := 1) (by decide) rfl
theorem wJ9_isLatin1_14 : y_w M_J9_isLatin1 mc ms Q (14, lv, st, ω, c, s) = y_w M_J9_isLatin1 mc ms Q (18, lv, st, ω, c, s) := w_goto dJ9_isLatin1_14 (tgt := 18) (by decide) rfl
theorem wJ9_isLatin1_17 : y_w M_J9_isLatin1 mc ms Q (17, lv, st, ω, c, s) = y_w M_J9_isLatin1 mc ms Q (18, lv, .int 0 :: st, ω, c, s) := w_iconst dJ9_isLatin1_17 (v := 0) (by decide) rfl
theorem wJ9_isLatin1_18 : y_w M_J9_isLatin1 mc ms Q (18, lv, [.int x], ω, c, s) = (narrow FieldType.boolean (.int x) = .int x ∧ Q (.returned (some (.int x))) ω c s) := w_ireturn dJ9_isLatin1_18 rfl
def P_J15_canEncode : y_Pool := ([], [], [], [], [], [], [])
def M_J15_canEncode : y_Md := (cJ15_canEncode, "java/lang/StringLatin1", (1, (some FieldType.boolean)), (0, 0), false, P_J15_canEncode, [])
def F_J15_canEncode : y_Tr := y_F M_J15_canEncode
theorem nJ15_canEncode : y_nL M_J15_canEncode = 1 := rfl
theorem wJ15_canEncode_0 : y_w M_J15_canEncode mc ms Q (0, lv, st, ω, c, s) = y_ldI lv 0 (fun v => y_w M_J15_canEncode mc ms Q (1, lv, v :: st, ω, c, s)) := w_iload_n dJ15_canEncode_0 rfl rfl
theorem wJ15_canEncode_1 : y_w M_J15_canEncode mc ms Q (1, lv, st, ω, c, s) = y_w M_J15_canEncode mc ms Q (4, lv, .int (nI 255) :: st, ω, c, s) := w_sipush dJ15_canEncode_1 (v := (nI 255)) (by decide) rfl
theorem wJ15_canEncode_4 : y_w M_J15_canEncode mc ms Q (4, lv, .int y :: .int x :: r, ω, c, s) = ((y < x → y_w M_J15_canEncode mc ms Q (11, lv, r, ω, c, s)) ∧ (¬ (y < x) → y_w M_J15_canEncode mc ms Q (7, lv, r, ω, c, s))) := w_icmp dJ15_canEncode_4 (tgt := 11) rfl rfl rfl
theorem wJ15_canEncode_7 : y_w M_J15_canEncode mc ms Q (7, lv, st, ω, c, s) = y_w M_J15_canEncode mc ms Q (8, lv, .int 1 :: st, ω, c, s) := w_iconst dJ15_canEncode_7 (v := 1) (by decide) rfl
theorem wJ15_canEncode_8 : y_w M_J15_canEncode mc ms Q (8, lv, st, ω, c, s) = y_w M_J15_canEncode mc ms Q (12, lv, st, ω, c, s) := w_goto dJ15_canEncode_8 (tgt := 12) (by decide) rfl
theorem wJ15_canEncode_11 : y_w M_J15_canEncode mc ms Q (11, lv, st, ω, c, s) = y_w M_J15_canEncode mc ms Q (12, lv, .int 0 :: st, ω, c, s) := w_iconst dJ15_canEncode_11 (v := 0) (by decide) rfl
theorem wJ15_canEncode_12 : y_w M_J15_canEncode mc ms Q (12, lv, [.int x], ω, c, s) = (narrow FieldType.boolean (.int x) = .int x ∧ Q (.returned (some (.int x))) ω c s) := w_ireturn dJ15_canEncode_12 rfl
def P_J9_append : y_Pool := ([(79, 16, 3, .int, false), (15, 16, 0, (.array .byte), false)], [], [], [(100, 1, 16, 2, (4, 104), F_J9_ensureCapacityInternal), (83, 1, 16, 1, (1, 20), F_J9_isLatin1), (191, 0, 0, 1, (1, 20), F_J15_canEncode)], [], [], [])
def M_J9_append : y_Md := (cJ9_append, "java/lang/AbstractStringBuilder", (2, (some (FieldType.object "java/lang/AbstractStringBuilder"))), (4, 104), false, P_J9_append, [])
def F_J9_append : y_Tr := y_F M_J9_append
theorem nJ9_append : y_nL M_J9_append = 2 := rfl
theorem fJ9_append_79_16 : y_ffP P_J9_append 79 16 = some (3, .int, false) := rfl
theorem fJ9_append_15_16 : y_ffP P_J9_append 15 16 = some (0, (.array .byte), false) := rfl
theorem wJ9_append_0 : y_w M_J9_append mc ms Q (0, lv, st, ω, c, s) = y_ldA lv 0 (fun v => y_w M_J9_append mc ms Q (1, lv, v :: st, ω, c, s)) := w_aload_n dJ9_append_0 rfl rfl
theorem wJ9_append_1 : y_w M_J9_append mc ms Q (1, lv, st, ω, c, s) = y_ldA lv 0 (fun v => y_w M_J9_append mc ms Q (2, lv, v :: st, ω, c, s)) := w_aload_n dJ9_append_1 rfl rfl
theorem wJ9_append_2 : y_w M_J9_append mc ms Q (2, lv, .ref a :: r, ω, c, s) = y_gf P_J9_append 79 (ω.2 a) (fun v => y_w M_J9_append mc ms Q (5, lv, v :: r, ω, c, s)) := w_getfield dJ9_append_2 rfl rfl
theorem wJ9_append_5 : y_w M_J9_append mc ms Q (5, lv, st, ω, c, s) = y_w M_J9_append mc ms Q (6, lv, .int 1 :: st, ω, c, s) := w_iconst dJ9_append_5 (v := 1) (by decide) rfl
theorem wJ9_append_6 : y_w M_J9_append mc ms Q (6, lv, .int y :: .int x :: r, ω, c, s) = y_w M_J9_append mc ms Q (7, lv, .int (x + y) :: r, ω, c, s) := w_iadd dJ9_append_6 rfl
theorem wJ9_append_7 (hc : y_cls ω a = some 16) : y_w M_J9_append mc ms Q (7, lv, v1 :: .ref a :: r, ω, c, s) = (y_cat r ≤ 8 ∧ F_J9_ensureCapacityInternal mc ms [.ref a, v1] ω c s (y_aft M_J9_append 7 3 lv r (y_w M_J9_append mc ms Q) Q)) := w_call1 (av := [v1]) (Or.inl ⟨⟨rfl, rfl⟩, rfl⟩) dJ9_append_7 rfl hc rfl (y_F_mono _) (y_dle rfl) (y_dle rfl) rfl rfl
theorem wJ9_append_10 : y_w M_J9_append mc ms Q (10, lv, st, ω, c, s) = y_ldA lv 0 (fun v => y_w M_J9_append mc ms Q (11, lv, v :: st, ω, c, s)) := w_aload_n dJ9_append_10 rfl rfl
theorem wJ9_append_11 (hc : y_cls ω a = some 16) : y_w M_J9_append mc ms Q (11, lv, .ref a :: r, ω, c, s) = (y_cat r ≤ 8 ∧ F_J9_isLatin1 mc ms [.ref a] ω c s (y_aft M_J9_append 11 3 lv r (y_w M_J9_append mc ms Q) Q)) := w_call1 (av := []) (Or.inl ⟨⟨rfl, rfl⟩, rfl⟩) dJ9_append_11 rfl hc rfl (y_F_mono _) (y_dle rfl) (y_dle rfl) rfl rfl
theorem wJ9_append_14 : y_w M_J9_append mc ms Q (14, lv, .int x :: r, ω, c, s) = ((x = 0 → y_w M_J9_append mc ms Q (45, lv, r, ω, c, s)) ∧ (¬ (x = 0) → y_w M_J9_append mc ms Q (17, lv, r, ω, c, s))) := w_if dJ9_append_14 (tgt := 45) rfl rfl rfl
theorem wJ9_append_17 : y_w M_J9_append mc ms Q (17, lv, st, ω, c, s) = y_ldI lv 1 (fun v => y_w M_J9_append mc ms Q (18, lv, v :: st, ω, c, s)) := w_iload_n dJ9_append_17 rfl rfl
theorem wJ9_append_18 : y_w M_J9_append mc ms Q (18, lv, v0 :: r, ω, c, s) = (y_cat r ≤ 8 ∧ F_J15_canEncode mc ms [v0] ω c s (y_aft M_J9_append 18 3 lv r (y_w M_J9_append mc ms Q) Q)) := w_call0 (av := [v0]) ⟨Or.inr ⟨rfl, rfl⟩, rfl⟩ dJ9_append_18 rfl (y_F_mono _) (y_dle rfl) (y_dle rfl) rfl rfl
theorem wJ9_append_21 : y_w M_J9_append mc ms Q (21, lv, .int x :: r, ω, c, s) = ((x = 0 → y_w M_J9_append mc ms Q (45, lv, r, ω, c, s)) ∧ (¬ (x = 0) → y_w M_J9_append mc ms Q (24, lv, r, ω, c, s))) := w_if dJ9_append_21 (tgt := 45) rfl rfl rfl
theorem wJ9_append_24 : y_w M_J9_append mc ms Q (24, lv, st, ω, c, s) = y_ldA lv 0 (fun v => y_w M_J9_append mc ms Q (25, lv, v :: st, ω, c, s)) := w_aload_n dJ9_append_24 rfl rfl
theorem wJ9_append_25 : y_w M_J9_append mc ms Q (25, lv, .ref a :: r, ω, c, s) = y_gf P_J9_append 15 (ω.2 a) (fun v => y_w M_J9_append mc ms Q (28, lv, v :: r, ω, c, s)) := w_getfield dJ9_append_25 rfl rfl
theorem wJ9_append_28 : y_w M_J9_append mc ms Q (28, lv, st, ω, c, s) = y_ldA lv 0 (fun v => y_w M_J9_append mc ms Q (29, lv, v :: st, ω, c, s)) := w_aload_n dJ9_append_28 rfl rfl
theorem wJ9_append_29 : y_w M_J9_append mc ms Q (29, lv, v :: r, ω, c, s) = (v.category = 1 ∧ y_w M_J9_append mc ms Q (30, lv, v :: v :: r, ω, c, s)) := w_dup dJ9_append_29 rfl
theorem wJ9_append_30 : y_w M_J9_append mc ms Q (30, lv, .ref a :: r, ω, c, s) = y_gf P_J9_append 79 (ω.2 a) (fun v => y_w M_J9_append mc ms Q (33, lv, v :: r, ω, c, s)) := w_getfield dJ9_append_30 rfl rfl
theorem wJ9_append_33 : y_w M_J9_append mc ms Q (33, lv, v :: v1 :: r, ω, c, s) = ((v.category = 1 ∧ v1.category = 1) ∧ y_w M_J9_append mc ms Q (34, lv, v :: v1 :: v :: r, ω, c, s)) := w_dup_x1 dJ9_append_33 rfl
theorem wJ9_append_34 : y_w M_J9_append mc ms Q (34, lv, st, ω, c, s) = y_w M_J9_append mc ms Q (35, lv, .int 1 :: st, ω, c, s) := w_iconst dJ9_append_34 (v := 1) (by decide) rfl
theorem wJ9_append_35 : y_w M_J9_append mc ms Q (35, lv, .int y :: .int x :: r, ω, c, s) = y_w M_J9_append mc ms Q (36, lv, .int (x + y) :: r, ω, c, s) := w_iadd dJ9_append_35 rfl
theorem wJ9_append_36 : y_w M_J9_append mc ms Q (36, lv, v :: .ref a :: r, ω, c, s) = y_pf P_J9_append false 79 (ω.2 a) v (fun ci fs => y_w M_J9_append mc ms Q (39, lv, r, y_hup ω a (.inr (ci, fs)), c, s)) := w_putfield dJ9_append_36 rfl rfl rfl
theorem wJ9_append_39 : y_w M_J9_append mc ms Q (39, lv, st, ω, c, s) = y_ldI lv 1 (fun v => y_w M_J9_append mc ms Q (40, lv, v :: st, ω, c, s)) := w_iload_n dJ9_append_39 rfl rfl
theorem wJ9_append_40 : y_w M_J9_append mc ms Q (40, lv, .int x :: r, ω, c, s) = y_w M_J9_append mc ms Q (41, lv, .int x.toInt8.toInt32 :: r, ω, c, s) := w_i2b dJ9_append_40 rfl
theorem wJ9_append_41 : y_w M_J9_append mc ms Q (41, lv, .int x :: .int j :: .ref a :: r, ω, c, s) = y_wB (ω.2 a) j x (fun e => y_w M_J9_append mc ms Q (42, lv, r, y_hup ω a e, c, s)) := w_bastore dJ9_append_41 rfl
theorem wJ9_append_42 : y_w M_J9_append mc ms Q (42, lv, st, ω, c, s) = y_w M_J9_append mc ms Q (75, lv, st, ω, c, s) := w_goto dJ9_append_42 (tgt := 75) (by decide) rfl
theorem wJ9_append_45 : y_w M_J9_append mc ms Q (45, lv, st, ω, c, s) = y_ldA lv 0 (fun v => y_w M_J9_append mc ms Q (46, lv, v :: st, ω, c, s)) := w_aload_n dJ9_append_45 rfl rfl
theorem wJ9_append_46 (hc : y_cls ω a = some 16) : y_w M_J9_append mc ms Q (46, lv, .ref a :: r, ω, c, s) = (y_cat r ≤ 8 ∧ F_J9_isLatin1 mc ms [.ref a] ω c s (y_aft M_J9_append 46 3 lv r (y_w M_J9_append mc ms Q) Q)) := w_call1 (av := []) (Or.inl ⟨⟨rfl, rfl⟩, rfl⟩) dJ9_append_46 rfl hc rfl (y_F_mono _) (y_dle rfl) (y_dle rfl) rfl rfl
theorem wJ9_append_49 : y_w M_J9_append mc ms Q (49, lv, .int x :: r, ω, c, s) = ((x = 0 → y_w M_J9_append mc ms Q (56, lv, r, ω, c, s)) ∧ (¬ (x = 0) → y_w M_J9_append mc ms Q (52, lv, r, ω, c, s))) := w_if dJ9_append_49 (tgt := 56) rfl rfl rfl
theorem wJ9_append_52 : y_w M_J9_append mc ms Q (52, lv, st, ω, c, s) = y_ldA lv 0 (fun v => y_w M_J9_append mc ms Q (53, lv, v :: st, ω, c, s)) := w_aload_n dJ9_append_52 rfl rfl
theorem wJ9_append_56 : y_w M_J9_append mc ms Q (56, lv, st, ω, c, s) = y_ldA lv 0 (fun v => y_w M_J9_append mc ms Q (57, lv, v :: st, ω, c, s)) := w_aload_n dJ9_append_56 rfl rfl
theorem wJ9_append_57 : y_w M_J9_append mc ms Q (57, lv, .ref a :: r, ω, c, s) = y_gf P_J9_append 15 (ω.2 a) (fun v => y_w M_J9_append mc ms Q (60, lv, v :: r, ω, c, s)) := w_getfield dJ9_append_57 rfl rfl
theorem wJ9_append_60 : y_w M_J9_append mc ms Q (60, lv, st, ω, c, s) = y_ldA lv 0 (fun v => y_w M_J9_append mc ms Q (61, lv, v :: st, ω, c, s)) := w_aload_n dJ9_append_60 rfl rfl
theorem wJ9_append_61 : y_w M_J9_append mc ms Q (61, lv, v :: r, ω, c, s) = (v.category = 1 ∧ y_w M_J9_append mc ms Q (62, lv, v :: v :: r, ω, c, s)) := w_dup dJ9_append_61 rfl
theorem wJ9_append_62 : y_w M_J9_append mc ms Q (62, lv, .ref a :: r, ω, c, s) = y_gf P_J9_append 79 (ω.2 a) (fun v => y_w M_J9_append mc ms Q (65, lv, v :: r, ω, c, s)) := w_getfield dJ9_append_62 rfl rfl
theorem wJ9_append_65 : y_w M_J9_append mc ms Q (65, lv, v :: v1 :: r, ω, c, s) = ((v.category = 1 ∧ v1.category = 1) ∧ y_w M_J9_append mc ms Q (66, lv, v :: v1 :: v :: r, ω, c, s)) := w_dup_x1 dJ9_append_65 rfl
theorem wJ9_append_66 : y_w M_J9_append mc ms Q (66, lv, st, ω, c, s) = y_w M_J9_append mc ms Q (67, lv, .int 1 :: st, ω, c, s) := w_iconst dJ9_append_66 (v := 1) (by decide) rfl
theorem wJ9_append_67 : y_w M_J9_append mc ms Q (67, lv, .int y :: .int x :: r, ω, c, s) = y_w M_J9_append mc ms Q (68, lv, .int (x + y) :: r, ω, c, s) := w_iadd dJ9_append_67 rfl
theorem wJ9_append_68 : y_w M_J9_append mc ms Q (68, lv, v :: .ref a :: r, ω, c, s) = y_pf P_J9_append false 79 (ω.2 a) v (fun ci fs => y_w M_J9_append mc ms Q (71, lv, r, y_hup ω a (.inr (ci, fs)), c, s)) := w_putfield dJ9_append_68 rfl rfl rfl
theorem wJ9_append_71 : y_w M_J9_append mc ms Q (71, lv, st, ω, c, s) = y_ldI lv 1 (fun v => y_w M_J9_append mc ms Q (72, lv, v :: st, ω, c, s)) := w_iload_n dJ9_append_71 rfl rfl
theorem wJ9_append_75 : y_w M_J9_append mc ms Q (75, lv, st, ω, c, s) = y_ldA lv 0 (fun v => y_w M_J9_append mc ms Q (76, lv, v :: st, ω, c, s)) := w_aload_n dJ9_append_75 rfl rfl
theorem wJ9_append_76 : y_w M_J9_append mc ms Q (76, lv, [.ref a], ω, c, s) = Q (.returned (some (.ref a))) ω c s := w_areturn dJ9_append_76 rfl (Or.inl ⟨_, rfl⟩)
def P_J10_append : y_Pool := ([], [], [], [(50, 2, 0, 2, (5, 125), (y_self F_J9_append))], [], [], [])
def M_J10_append : y_Md := (cJ10_append, "java/lang/StringBuilder", (2, (some (FieldType.object "java/lang/StringBuilder"))), (5, 125), false, P_J10_append, [])
def F_J10_append : y_Tr := y_F M_J10_append
theorem nJ10_append : y_nL M_J10_append = 2 := rfl
theorem wJ10_append_0 : y_w M_J10_append mc ms Q (0, lv, st, ω, c, s) = y_ldA lv 0 (fun v => y_w M_J10_append mc ms Q (1, lv, v :: st, ω, c, s)) := w_aload_n dJ10_append_0 rfl rfl
theorem wJ10_append_1 : y_w M_J10_append mc ms Q (1, lv, st, ω, c, s) = y_ldI lv 1 (fun v => y_w M_J10_append mc ms Q (2, lv, v :: st, ω, c, s)) := w_iload_n dJ10_append_1 rfl rfl
theorem wJ10_append_2 : y_w M_J10_append mc ms Q (2, lv, v1 :: v0 :: r, ω, c, s) = (y_cat r ≤ 8 ∧ (y_self F_J9_append) mc ms [v0, v1] ω c s (y_aft M_J10_append 2 3 lv r (y_w M_J10_append mc ms Q) Q)) := w_call0 (av := [v0, v1]) ⟨Or.inl ⟨rfl, rfl⟩, rfl⟩ dJ10_append_2 rfl (y_self_mono (y_F_mono _)) (y_dle rfl) (y_dle rfl) rfl rfl
theorem wJ10_append_5 : y_w M_J10_append mc ms Q (5, lv, v :: r, ω, c, s) = (v.category = 1 ∧ y_w M_J10_append mc ms Q (6, lv, r, ω, c, s)) := w_pop dJ10_append_5 rfl
theorem wJ10_append_6 : y_w M_J10_append mc ms Q (6, lv, st, ω, c, s) = y_ldA lv 0 (fun v => y_w M_J10_append mc ms Q (7, lv, v :: st, ω, c, s)) := w_aload_n dJ10_append_6 rfl rfl
theorem wJ10_append_7 : y_w M_J10_append mc ms Q (7, lv, [.ref a], ω, c, s) = Q (.returned (some (.ref a))) ω c s := w_areturn dJ10_append_7 rfl (Or.inl ⟨_, rfl⟩)
def P_J9_getValue : y_Pool := ([(15, 16, 0, (.array .byte), false)], [], [], [], [], [], [])
def M_J9_getValue : y_Md := (cJ9_getValue, "java/lang/AbstractStringBuilder", (1, (some (FieldType.array FieldType.byte))), (0, 0), false, P_J9_getValue, [])
def F_J9_getValue : y_Tr := y_F M_J9_getValue
theorem nJ9_getValue : y_nL M_J9_getValue = 1 := rfl
theorem fJ9_getValue_15_16 : y_ffP P_J9_getValue 15 16 = some (0, (.array .byte), false) := rfl
theorem wJ9_getValue_0 : y_w M_J9_getValue mc ms Q (0, lv, st, ω, c, s) = y_ldA lv 0 (fun v => y_w M_J9_getValue mc ms Q (1, lv, v :: st, ω, c, s)) := w_aload_n dJ9_getValue_0 rfl rfl
theorem wJ9_getValue_1 : y_w M_J9_getValue mc ms Q (1, lv, .ref a :: r, ω, c, s) = y_gf P_J9_getValue 15 (ω.2 a) (fun v => y_w M_J9_getValue mc ms Q (4, lv, v :: r, ω, c, s)) := w_getfield dJ9_getValue_1 rfl rfl
theorem wJ9_getValue_4 : y_w M_J9_getValue mc ms Q (4, lv, [.ref a], ω, c, s) = Q (.returned (some (.ref a))) ω c s := w_areturn dJ9_getValue_4 rfl (Or.inr ⟨_, rfl⟩)
def P_J9_length : y_Pool := ([(79, 16, 3, .int, false)], [], [], [], [], [], [])
def M_J9_length : y_Md := (cJ9_length, "java/lang/AbstractStringBuilder", (1, (some FieldType.int)), (0, 0), false, P_J9_length, [])
def F_J9_length : y_Tr := y_F M_J9_length
theorem nJ9_length : y_nL M_J9_length = 1 := rfl
theorem fJ9_length_79_16 : y_ffP P_J9_length 79 16 = some (3, .int, false) := rfl
theorem wJ9_length_0 : y_w M_J9_length mc ms Q (0, lv, st, ω, c, s) = y_ldA lv 0 (fun v => y_w M_J9_length mc ms Q (1, lv, v :: st, ω, c, s)) := w_aload_n dJ9_length_0 rfl rfl
theorem wJ9_length_1 : y_w M_J9_length mc ms Q (1, lv, .ref a :: r, ω, c, s) = y_gf P_J9_length 79 (ω.2 a) (fun v => y_w M_J9_length mc ms Q (4, lv, v :: r, ω, c, s)) := w_getfield dJ9_length_1 rfl rfl
theorem wJ9_length_4 : y_w M_J9_length mc ms Q (4, lv, [.int x], ω, c, s) = Q (.returned (some (.int x))) ω c s := w_ireturnI dJ9_length_4 rfl
def P_J10_length : y_Pool := ([], [], [], [(343, 2, 0, 1, (1, 20), (y_self F_J9_length))], [], [], [])
def M_J10_length : y_Md := (cJ10_length, "java/lang/StringBuilder", (1, (some FieldType.int)), (1, 20), false, P_J10_length, [])
def F_J10_length : y_Tr := y_F M_J10_length
theorem nJ10_length : y_nL M_J10_length = 1 := rfl
theorem wJ10_length_0 : y_w M_J10_length mc ms Q (0, lv, st, ω, c, s) = y_ldA lv 0 (fun v => y_w M_J10_length mc ms Q (1, lv, v :: st, ω, c, s)) := w_aload_n dJ10_length_0 rfl rfl
theorem wJ10_length_1 : y_w M_J10_length mc ms Q (1, lv, v0 :: r, ω, c, s) = (y_cat r ≤ 8 ∧ (y_self F_J9_length) mc ms [v0] ω c s (y_aft M_J10_length 1 3 lv r (y_w M_J10_length mc ms Q) Q)) := w_call0 (av := [v0]) ⟨Or.inl ⟨rfl, rfl⟩, rfl⟩ dJ10_length_1 rfl (y_self_mono (y_F_mono _)) (y_dle rfl) (y_dle rfl) rfl rfl
theorem wJ10_length_4 : y_w M_J10_length mc ms Q (4, lv, [.int x], ω, c, s) = Q (.returned (some (.int x))) ω c s := w_ireturnI dJ10_length_4 rfl
def P_J14_checkLength : y_Pool := ([], [], [], [], [], [], [])
def M_J14_checkLength : y_Md := (cJ14_checkLength, "java/util/Arrays", (2, none), (0, 0), false, P_J14_checkLength, [])
def F_J14_checkLength : y_Tr := y_F M_J14_checkLength
theorem nJ14_checkLength : y_nL M_J14_checkLength = 2 := rfl
theorem wJ14_checkLength_0 : y_w M_J14_checkLength mc ms Q (0, lv, st, ω, c, s) = y_ldI lv 1 (fun v => y_w M_J14_checkLength mc ms Q (1, lv, v :: st, ω, c, s)) := w_iload_n dJ14_checkLength_0 rfl rfl
theorem wJ14_checkLength_1 : y_w M_J14_checkLength mc ms Q (1, lv, st, ω, c, s) = y_ldI lv 0 (fun v => y_w M_J14_checkLength mc ms Q (2, lv, v :: st, ω, c, s)) := w_iload_n dJ14_checkLength_1 rfl rfl
theorem wJ14_checkLength_2 : y_w M_J14_checkLength mc ms Q (2, lv, .int y :: .int x :: r, ω, c, s) = ((y ≤ x → y_w M_J14_checkLength mc ms Q (37, lv, r, ω, c, s)) ∧ (¬ (y ≤ x) → y_w M_J14_checkLength mc ms Q (5, lv, r, ω, c, s))) := w_icmp dJ14_checkLength_2 (tgt := 37) rfl rfl rfl
theorem wJ14_checkLength_8 : y_w M_J14_checkLength mc ms Q (8, lv, v :: r, ω, c, s) = (v.category = 1 ∧ y_w M_J14_checkLength mc ms Q (9, lv, v :: v :: r, ω, c, s)) := w_dup dJ14_checkLength_8 rfl
theorem wJ14_checkLength_12 : y_w M_J14_checkLength mc ms Q (12, lv, v :: r, ω, c, s) = (v.category = 1 ∧ y_w M_J14_checkLength mc ms Q (13, lv, v :: v :: r, ω, c, s)) := w_dup dJ14_checkLength_12 rfl
theorem wJ14_checkLength_16 : y_w M_J14_checkLength mc ms Q (16, lv, st, ω, c, s) = y_ldI lv 0 (fun v => y_w M_J14_checkLength mc ms Q (17, lv, v :: st, ω, c, s)) := w_iload_n dJ14_checkLength_16 rfl rfl
theorem wJ14_checkLength_26 : y_w M_J14_checkLength mc ms Q (26, lv, st, ω, c, s) = y_ldI lv 1 (fun v => y_w M_J14_checkLength mc ms Q (27, lv, v :: st, ω, c, s)) := w_iload_n dJ14_checkLength_26 rfl rfl
theorem wJ14_checkLength_36 : y_w M_J14_checkLength mc ms Q (36, lv, .ref a :: r, ω, c, s) = y_thr M_J14_checkLength 36 lv ω a c s (y_w M_J14_checkLength mc ms Q) Q [] := w_athrow dJ14_checkLength_36
theorem wJ14_checkLength_37 : y_w M_J14_checkLength mc ms Q (37, lv, [], ω, c, s) = Q (.returned none) ω c s := w_return dJ14_checkLength_37 rfl
def P_J14_copyOfRangeByte : y_Pool := ([], [], [], [(343, 0, 0, 2, (1, 21), F_J14_checkLength), (304, 0, 0, 2, (1, 21), F_J13_min), (150, 0, 0, 5, (1, 60), y_acopy)], [], [], [])
def M_J14_copyOfRangeByte : y_Md := (cJ14_copyOfRangeByte, "java/util/Arrays", (5, (some (FieldType.array FieldType.byte))), (1, 60), false, P_J14_copyOfRangeByte, [])
def F_J14_copyOfRangeByte : y_Tr := y_F M_J14_copyOfRangeByte
theorem nJ14_copyOfRangeByte : y_nL M_J14_copyOfRangeByte = 5 := rfl
theorem wJ14_copyOfRangeByte_0 : y_w M_J14_copyOfRangeByte mc ms Q (0, lv, st, ω, c, s) = y_ldI lv 1 (fun v => y_w M_J14_copyOfRangeByte mc ms Q (1, lv, v :: st, ω, c, s)) := w_iload_n dJ14_copyOfRangeByte_0 rfl rfl
theorem wJ14_copyOfRangeByte_1 : y_w M_J14_copyOfRangeByte mc ms Q (1, lv, st, ω, c, s) = y_ldI lv 2 (fun v => y_w M_J14_copyOfRangeByte mc ms Q (2, lv, v :: st, ω, c, s)) := w_iload_n dJ14_copyOfRangeByte_1 rfl rfl
theorem wJ14_copyOfRangeByte_2 : y_w M_J14_copyOfRangeByte mc ms Q (2, lv, v1 :: v0 :: r, ω, c, s) = (y_cat r ≤ 8 ∧ F_J14_checkLength mc ms [v0, v1] ω c s (y_aft M_J14_copyOfRangeByte 2 3 lv r (y_w M_J14_copyOfRangeByte mc ms Q) Q)) := w_call0 (av := [v0, v1]) ⟨Or.inr ⟨rfl, rfl⟩, rfl⟩ dJ14_copyOfRangeByte_2 rfl (y_F_mono _) (y_dle rfl) (y_dle rfl) rfl rfl
theorem wJ14_copyOfRangeByte_5 : y_w M_J14_copyOfRangeByte mc ms Q (5, lv, st, ω, c, s) = y_ldI lv 2 (fun v => y_w M_J14_copyOfRangeByte mc ms Q (6, lv, v :: st, ω, c, s)) := w_iload_n dJ14_copyOfRangeByte_5 rfl rfl
theorem wJ14_copyOfRangeByte_6 : y_w M_J14_copyOfRangeByte mc ms Q (6, lv, st, ω, c, s) = y_ldI lv 1 (fun v => y_w M_J14_copyOfRangeByte mc ms Q (7, lv, v :: st, ω, c, s)) := w_iload_n dJ14_copyOfRangeByte_6 rfl rfl
theorem wJ14_copyOfRangeByte_7 : y_w M_J14_copyOfRangeByte mc ms Q (7, lv, .int y :: .int x :: r, ω, c, s) = y_w M_J14_copyOfRangeByte mc ms Q (8, lv, .int (x - y) :: r, ω, c, s) := w_isub dJ14_copyOfRangeByte_7 rfl
theorem wJ14_copyOfRangeByte_8 : y_w M_J14_copyOfRangeByte mc ms Q (8, lv, .int x :: r, ω, c, s) = y_w M_J14_copyOfRangeByte mc ms Q (9, (3, .int x) :: y_kill 3 lv, r, ω, c, s) := w_istore_n dJ14_copyOfRangeByte_8 rfl (y_dle rfl) rfl
theorem wJ14_copyOfRangeByte_9 : y_w M_J14_copyOfRangeByte mc ms Q (9, lv, st, ω, c, s) = y_ldI lv 3 (fun v => y_w M_J14_copyOfRangeByte mc ms Q (10, lv, v :: st, ω, c, s)) := w_iload_n dJ14_copyOfRangeByte_9 rfl rfl
theorem wJ14_copyOfRangeByte_10 : y_w M_J14_copyOfRangeByte mc ms Q (10, lv, .int x :: r, ω, c, s) = ((¬ x < 0 ∧ x.toNatClampNeg * 1 ≤ 536870912 ∧ y_room mc ms c s x.toNatClampNeg) ∧ y_w M_J14_copyOfRangeByte mc ms Q (12, lv, .ref ω.1 :: r, y_hnew ω (.inl (1, y_at2 1 x.toNatClampNeg)), c + 1, s + x.toNatClampNeg)) := w_newarray dJ14_copyOfRangeByte_10 rfl rfl rfl
theorem wJ14_copyOfRangeByte_12 : y_w M_J14_copyOfRangeByte mc ms Q (12, lv, v :: r, ω, c, s) = (y_isA v = true ∧ y_w M_J14_copyOfRangeByte mc ms Q (14, (4, v) :: y_kill 4 lv, r, ω, c, s)) := w_astore dJ14_copyOfRangeByte_12 (y_dle rfl) rfl
theorem wJ14_copyOfRangeByte_14 : y_w M_J14_copyOfRangeByte mc ms Q (14, lv, st, ω, c, s) = y_ldA lv 0 (fun v => y_w M_J14_copyOfRangeByte mc ms Q (15, lv, v :: st, ω, c, s)) := w_aload_n dJ14_copyOfRangeByte_14 rfl rfl
theorem wJ14_copyOfRangeByte_15 : y_w M_J14_copyOfRangeByte mc ms Q (15, lv, st, ω, c, s) = y_ldI lv 1 (fun v => y_w M_J14_copyOfRangeByte mc ms Q (16, lv, v :: st, ω, c, s)) := w_iload_n dJ14_copyOfRangeByte_15 rfl rfl
theorem wJ14_copyOfRangeByte_16 : y_w M_J14_copyOfRangeByte mc ms Q (16, lv, st, ω, c, s) = y_ldA lv 4 (fun v => y_w M_J14_copyOfRangeByte mc ms Q (18, lv, v :: st, ω, c, s)) := w_aload dJ14_copyOfRangeByte_16 rfl
theorem wJ14_copyOfRangeByte_18 : y_w M_J14_copyOfRangeByte mc ms Q (18, lv, st, ω, c, s) = y_w M_J14_copyOfRangeByte mc ms Q (19, lv, .int 0 :: st, ω, c, s) := w_iconst dJ14_copyOfRangeByte_18 (v := 0) (by decide) rfl
theorem wJ14_copyOfRangeByte_19 : y_w M_J14_copyOfRangeByte mc ms Q (19, lv, st, ω, c, s) = y_ldA lv 0 (fun v => y_w M_J14_copyOfRangeByte mc ms Q (20, lv, v :: st, ω, c, s)) := w_aload_n dJ14_copyOfRangeByte_19 rfl rfl
theorem wJ14_copyOfRangeByte_20 : y_w M_J14_copyOfRangeByte mc ms Q (20, lv, .ref a :: r, ω, c, s) = y_al (ω.2 a) (fun n => y_w M_J14_copyOfRangeByte mc ms Q (21, lv, .int n :: r, ω, c, s)) := w_arraylength dJ14_copyOfRangeByte_20 rfl
theorem wJ14_copyOfRangeByte_21 : y_w M_J14_copyOfRangeByte mc ms Q (21, lv, st, ω, c, s) = y_ldI lv 1 (fun v => y_w M_J14_copyOfRangeByte mc ms Q (22, lv, v :: st, ω, c, s)) := w_iload_n dJ14_copyOfRangeByte_21 rfl rfl
theorem wJ14_copyOfRangeByte_22 : y_w M_J14_copyOfRangeByte mc ms Q (22, lv, .int y :: .int x :: r, ω, c, s) = y_w M_J14_copyOfRangeByte mc ms Q (23, lv, .int (x - y) :: r, ω, c, s) := w_isub dJ14_copyOfRangeByte_22 rfl
theorem wJ14_copyOfRangeByte_23 : y_w M_J14_copyOfRangeByte mc ms Q (23, lv, st, ω, c, s) = y_ldI lv 3 (fun v => y_w M_J14_copyOfRangeByte mc ms Q (24, lv, v :: st, ω, c, s)) := w_iload_n dJ14_copyOfRangeByte_23 rfl rfl
theorem wJ14_copyOfRangeByte_24 : y_w M_J14_copyOfRangeByte mc ms Q (24, lv, v1 :: v0 :: r, ω, c, s) = (y_cat r ≤ 8 ∧ F_J13_min mc ms [v0, v1] ω c s (y_aft M_J14_copyOfRangeByte 24 3 lv r (y_w M_J14_copyOfRangeByte mc ms Q) Q)) := w_call0 (av := [v0, v1]) ⟨Or.inr ⟨rfl, rfl⟩, rfl⟩ dJ14_copyOfRangeByte_24 rfl (y_F_mono _) (y_dle rfl) (y_dle rfl) rfl rfl
theorem wJ14_copyOfRangeByte_27 : y_w M_J14_copyOfRangeByte mc ms Q (27, lv, v4 :: v3 :: v2 :: v1 :: v0 :: r, ω, c, s) = (y_cat r ≤ 8 ∧ y_acopy mc ms [v0, v1, v2, v3, v4] ω c s (y_aft M_J14_copyOfRangeByte 27 3 lv r (y_w M_J14_copyOfRangeByte mc ms Q) Q)) := w_call0 (av := [v0, v1, v2, v3, v4]) ⟨Or.inr ⟨rfl, rfl⟩, rfl⟩ dJ14_copyOfRangeByte_27 rfl y_acopy_mono (y_dle rfl) (y_dle rfl) rfl rfl
theorem wJ14_copyOfRangeByte_30 : y_w M_J14_copyOfRangeByte mc ms Q (30, lv, st, ω, c, s) = y_ldA lv 4 (fun v => y_w M_J14_copyOfRangeByte mc ms Q (32, lv, v :: st, ω, c, s)) := w_aload dJ14_copyOfRangeByte_30 rfl
theorem wJ14_copyOfRangeByte_32 : y_w M_J14_copyOfRangeByte mc ms Q (32, lv, [.ref a], ω, c, s) = Q (.returned (some (.ref a))) ω c s := w_areturn dJ14_copyOfRangeByte_32 rfl (Or.inr ⟨_, rfl⟩)
def P_J14_copyOfRange : y_Pool := ([], [], [], [(339, 0, 0, 3, (2, 84), F_J14_copyOfRangeByte), (310, 4, 0, 1, (1, 22), y_clone)], [(311, 101, 1)], [], [])
def M_J14_copyOfRange : y_Md := (cJ14_copyOfRange, "java/util/Arrays", (3, (some (FieldType.array FieldType.byte))), (2, 84), false, P_J14_copyOfRange, [])
def F_J14_copyOfRange : y_Tr := y_F M_J14_copyOfRange
theorem nJ14_copyOfRange : y_nL M_J14_copyOfRange = 3 := rfl
theorem tJ14_copyOfRange_311_101 : y_ft M_J14_copyOfRange 311 101 = some 1 := rfl
theorem wJ14_copyOfRange_0 : y_w M_J14_copyOfRange mc ms Q (0, lv, st, ω, c, s) = y_ldI lv 1 (fun v => y_w M_J14_copyOfRange mc ms Q (1, lv, v :: st, ω, c, s)) := w_iload_n dJ14_copyOfRange_0 rfl rfl
theorem wJ14_copyOfRange_1 : y_w M_J14_copyOfRange mc ms Q (1, lv, .int x :: r, ω, c, s) = ((¬ x = 0 → y_w M_J14_copyOfRange mc ms Q (10, lv, r, ω, c, s)) ∧ (¬ (¬ x = 0) → y_w M_J14_copyOfRange mc ms Q (4, lv, r, ω, c, s))) := w_if dJ14_copyOfRange_1 (tgt := 10) rfl rfl rfl
theorem wJ14_copyOfRange_4 : y_w M_J14_copyOfRange mc ms Q (4, lv, st, ω, c, s) = y_ldI lv 2 (fun v => y_w M_J14_copyOfRange mc ms Q (5, lv, v :: st, ω, c, s)) := w_iload_n dJ14_copyOfRange_4 rfl rfl
theorem wJ14_copyOfRange_5 : y_w M_J14_copyOfRange mc ms Q (5, lv, st, ω, c, s) = y_ldA lv 0 (fun v => y_w M_J14_copyOfRange mc ms Q (6, lv, v :: st, ω, c, s)) := w_aload_n dJ14_copyOfRange_5 rfl rfl
theorem wJ14_copyOfRange_6 : y_w M_J14_copyOfRange mc ms Q (6, lv, .ref a :: r, ω, c, s) = y_al (ω.2 a) (fun n => y_w M_J14_copyOfRange mc ms Q (7, lv, .int n :: r, ω, c, s)) := w_arraylength dJ14_copyOfRange_6 rfl
theorem wJ14_copyOfRange_7 : y_w M_J14_copyOfRange mc ms Q (7, lv, .int y :: .int x :: r, ω, c, s) = ((x = y → y_w M_J14_copyOfRange mc ms Q (17, lv, r, ω, c, s)) ∧ (¬ (x = y) → y_w M_J14_copyOfRange mc ms Q (10, lv, r, ω, c, s))) := w_icmp dJ14_copyOfRange_7 (tgt := 17) rfl rfl rfl
theorem wJ14_copyOfRange_10 : y_w M_J14_copyOfRange mc ms Q (10, lv, st, ω, c, s) = y_ldA lv 0 (fun v => y_w M_J14_copyOfRange mc ms Q (11, lv, v :: st, ω, c, s)) := w_aload_n dJ14_copyOfRange_10 rfl rfl
theorem wJ14_copyOfRange_11 : y_w M_J14_copyOfRange mc ms Q (11, lv, st, ω, c, s) = y_ldI lv 1 (fun v => y_w M_J14_copyOfRange mc ms Q (12, lv, v :: st, ω, c, s)) := w_iload_n dJ14_copyOfRange_11 rfl rfl
theorem wJ14_copyOfRange_12 : y_w M_J14_copyOfRange mc ms Q (12, lv, st, ω, c, s) = y_ldI lv 2 (fun v => y_w M_J14_copyOfRange mc ms Q (13, lv, v :: st, ω, c, s)) := w_iload_n dJ14_copyOfRange_12 rfl rfl
theorem wJ14_copyOfRange_13 : y_w M_J14_copyOfRange mc ms Q (13, lv, v2 :: v1 :: v0 :: r, ω, c, s) = (y_cat r ≤ 8 ∧ F_J14_copyOfRangeByte mc ms [v0, v1, v2] ω c s (y_aft M_J14_copyOfRange 13 3 lv r (y_w M_J14_copyOfRange mc ms Q) Q)) := w_call0 (av := [v0, v1, v2]) ⟨Or.inr ⟨rfl, rfl⟩, rfl⟩ dJ14_copyOfRange_13 rfl (y_F_mono _) (y_dle rfl) (y_dle rfl) rfl rfl
theorem wJ14_copyOfRange_16 : y_w M_J14_copyOfRange mc ms Q (16, lv, [.ref a], ω, c, s) = Q (.returned (some (.ref a))) ω c s := w_areturn dJ14_copyOfRange_16 rfl (Or.inr ⟨_, rfl⟩)
theorem wJ14_copyOfRange_17 : y_w M_J14_copyOfRange mc ms Q (17, lv, st, ω, c, s) = y_ldA lv 0 (fun v => y_w M_J14_copyOfRange mc ms Q (18, lv, v :: st, ω, c, s)) := w_aload_n dJ14_copyOfRange_17 rfl rfl
theorem wJ14_copyOfRange_18 : y_w M_J14_copyOfRange mc ms Q (18, lv, v0 :: r, ω, c, s) = (y_cat r ≤ 8 ∧ y_clone mc ms [v0] ω c s (y_aft M_J14_copyOfRange 18 3 lv r (y_w M_J14_copyOfRange mc ms Q) Q)) := w_call4 (av := [v0]) dJ14_copyOfRange_18 rfl y_clone_mono (y_dle rfl) (y_dle rfl) rfl rfl
theorem wJ14_copyOfRange_21 : y_w M_J14_copyOfRange mc ms Q (21, lv, .ref a :: r, ω, c, s) = y_tsc M_J14_copyOfRange 311 (ω.2 a) (y_w M_J14_copyOfRange mc ms Q (24, lv, .ref a :: r, ω, c, s)) (y_vmt M_J14_copyOfRange mc ms 18 21 lv ω c s (y_w M_J14_copyOfRange mc ms Q) Q) := w_checkcast dJ14_copyOfRange_21 rfl
theorem wJ14_copyOfRange_24 : y_w M_J14_copyOfRange mc ms Q (24, lv, [.ref a], ω, c, s) = Q (.returned (some (.ref a))) ω c s := w_areturn dJ14_copyOfRange_24 rfl (Or.inr ⟨_, rfl⟩)
def P_J8_init_2 : y_Pool := ([(15, 15, 1, .byte, true), (9, 15, 0, (.array .byte), true), (1048, 16, 2, .boolean, false)], [], [], [(1, 2, 0, 1, (1, 20), y_oinit), (552, 1, 16, 1, (1, 20), F_J9_getValue), (549, 1, 16, 1, (2, 40), F_J10_length), (1047, 1, 16, 1, (1, 20), F_J9_isLatin1), (54, 0, 0, 3, (3, 106), F_J14_copyOfRange)], [], [], [(38, .int 1)])
def M_J8_init_2 : y_Md := (cJ8_init_2, "java/lang/String", (5, none), (3, 106), true, P_J8_init_2, [])
def F_J8_init_2 : y_Tr := y_F M_J8_init_2
theorem nJ8_init_2 : y_nL M_J8_init_2 = 5 := rfl
theorem fJ8_init_2_15_15 : y_ffP P_J8_init_2 15 15 = some (1, .byte, true) := rfl
theorem fJ8_init_2_9_15 : y_ffP P_J8_init_2 9 15 = some (0, (.array .byte), true) := rfl
theorem fJ8_init_2_1048_16 : y_ffP P_J8_init_2 1048 16 = some (2, .boolean, false) := rfl
theorem wJ8_init_2_0 : y_w M_J8_init_2 mc ms Q (0, lv, st, ω, c, s) = y_ldA lv 0 (fun v => y_w M_J8_init_2 mc ms Q (1, lv, v :: st, ω, c, s)) := w_aload_n dJ8_init_2_0 rfl rfl
theorem wJ8_init_2_1 : y_w M_J8_init_2 mc ms Q (1, lv, v0 :: r, ω, c, s) = (y_cat r ≤ 8 ∧ y_oinit mc ms [v0] ω c s (y_aft M_J8_init_2 1 3 lv r (y_w M_J8_init_2 mc ms Q) Q)) := w_call0 (av := [v0]) ⟨Or.inl ⟨rfl, rfl⟩, rfl⟩ dJ8_init_2_1 rfl y_oinit_mono (y_dle rfl) (y_dle rfl) rfl rfl
theorem wJ8_init_2_4 : y_w M_J8_init_2 mc ms Q (4, lv, st, ω, c, s) = y_ldA lv 1 (fun v => y_w M_J8_init_2 mc ms Q (5, lv, v :: st, ω, c, s)) := w_aload_n dJ8_init_2_4 rfl rfl
theorem wJ8_init_2_5 (hc : y_cls ω a = some 16) : y_w M_J8_init_2 mc ms Q (5, lv, .ref a :: r, ω, c, s) = (y_cat r ≤ 8 ∧ F_J9_getValue mc ms [.ref a] ω c s (y_aft M_J8_init_2 5 3 lv r (y_w M_J8_init_2 mc ms Q) Q)) := w_call1 (av := []) (Or.inl ⟨⟨rfl, rfl⟩, rfl⟩) dJ8_init_2_5 rfl hc rfl (y_F_mono _) (y_dle rfl) (y_dle rfl) rfl rfl
theorem wJ8_init_2_8 : y_w M_J8_init_2 mc ms Q (8, lv, v :: r, ω, c, s) = (y_isA v = true ∧ y_w M_J8_init_2 mc ms Q (9, (3, v) :: y_kill 3 lv, r, ω, c, s)) := w_astore_n dJ8_init_2_8 rfl (y_dle rfl) rfl
theorem wJ8_init_2_9 : y_w M_J8_init_2 mc ms Q (9, lv, st, ω, c, s) = y_ldA lv 1 (fun v => y_w M_J8_init_2 mc ms Q (10, lv, v :: st, ω, c, s)) := w_aload_n dJ8_init_2_9 rfl rfl
theorem wJ8_init_2_10 (hc : y_cls ω a = some 16) : y_w M_J8_init_2 mc ms Q (10, lv, .ref a :: r, ω, c, s) = (y_cat r ≤ 8 ∧ F_J10_length mc ms [.ref a] ω c s (y_aft M_J8_init_2 10 3 lv r (y_w M_J8_init_2 mc ms Q) Q)) := w_call1 (av := []) (Or.inl ⟨⟨rfl, rfl⟩, rfl⟩) dJ8_init_2_10 rfl hc rfl (y_F_mono _) (y_dle rfl) (y_dle rfl) rfl rfl
theorem wJ8_init_2_13 : y_w M_J8_init_2 mc ms Q (13, lv, .int x :: r, ω, c, s) = y_w M_J8_init_2 mc ms Q (15, (4, .int x) :: y_kill 4 lv, r, ω, c, s) := w_istore dJ8_init_2_13 (y_dle rfl) rfl
theorem wJ8_init_2_15 : y_w M_J8_init_2 mc ms Q (15, lv, st, ω, c, s) = y_ldA lv 1 (fun v => y_w M_J8_init_2 mc ms Q (16, lv, v :: st, ω, c, s)) := w_aload_n dJ8_init_2_15 rfl rfl
theorem wJ8_init_2_16 (hc : y_cls ω a = some 16) : y_w M_J8_init_2 mc ms Q (16, lv, .ref a :: r, ω, c, s) = (y_cat r ≤ 8 ∧ F_J9_isLatin1 mc ms [.ref a] ω c s (y_aft M_J8_init_2 16 3 lv r (y_w M_J8_init_2 mc ms Q) Q)) := w_call1 (av := []) (Or.inl ⟨⟨rfl, rfl⟩, rfl⟩) dJ8_init_2_16 rfl hc rfl (y_F_mono _) (y_dle rfl) (y_dle rfl) rfl rfl
theorem wJ8_init_2_19 : y_w M_J8_init_2 mc ms Q (19, lv, .int x :: r, ω, c, s) = ((x = 0 → y_w M_J8_init_2 mc ms Q (41, lv, r, ω, c, s)) ∧ (¬ (x = 0) → y_w M_J8_init_2 mc ms Q (22, lv, r, ω, c, s))) := w_if dJ8_init_2_19 (tgt := 41) rfl rfl rfl
theorem wJ8_init_2_22 : y_w M_J8_init_2 mc ms Q (22, lv, st, ω, c, s) = y_ldA lv 0 (fun v => y_w M_J8_init_2 mc ms Q (23, lv, v :: st, ω, c, s)) := w_aload_n dJ8_init_2_22 rfl rfl
theorem wJ8_init_2_23 : y_w M_J8_init_2 mc ms Q (23, lv, st, ω, c, s) = y_w M_J8_init_2 mc ms Q (24, lv, .int 0 :: st, ω, c, s) := w_iconst dJ8_init_2_23 (v := 0) (by decide) rfl
theorem wJ8_init_2_24 : y_w M_J8_init_2 mc ms Q (24, lv, v :: .ref a :: r, ω, c, s) = y_pf P_J8_init_2 true 15 (ω.2 a) v (fun ci fs => y_w M_J8_init_2 mc ms Q (27, lv, r, y_hup ω a (.inr (ci, fs)), c, s)) := w_putfield dJ8_init_2_24 rfl rfl rfl
theorem wJ8_init_2_27 : y_w M_J8_init_2 mc ms Q (27, lv, st, ω, c, s) = y_ldA lv 0 (fun v => y_w M_J8_init_2 mc ms Q (28, lv, v :: st, ω, c, s)) := w_aload_n dJ8_init_2_27 rfl rfl
theorem wJ8_init_2_28 : y_w M_J8_init_2 mc ms Q (28, lv, st, ω, c, s) = y_ldA lv 3 (fun v => y_w M_J8_init_2 mc ms Q (29, lv, v :: st, ω, c, s)) := w_aload_n dJ8_init_2_28 rfl rfl
theorem wJ8_init_2_29 : y_w M_J8_init_2 mc ms Q (29, lv, st, ω, c, s) = y_w M_J8_init_2 mc ms Q (30, lv, .int 0 :: st, ω, c, s) := w_iconst dJ8_init_2_29 (v := 0) (by decide) rfl
theorem wJ8_init_2_30 : y_w M_J8_init_2 mc ms Q (30, lv, st, ω, c, s) = y_ldI lv 4 (fun v => y_w M_J8_init_2 mc ms Q (32, lv, v :: st, ω, c, s)) := w_iload dJ8_init_2_30 rfl
theorem wJ8_init_2_32 : y_w M_J8_init_2 mc ms Q (32, lv, v2 :: v1 :: v0 :: r, ω, c, s) = (y_cat r ≤ 8 ∧ F_J14_copyOfRange mc ms [v0, v1, v2] ω c s (y_aft M_J8_init_2 32 3 lv r (y_w M_J8_init_2 mc ms Q) Q)) := w_call0 (av := [v0, v1, v2]) ⟨Or.inr ⟨rfl, rfl⟩, rfl⟩ dJ8_init_2_32 rfl (y_F_mono _) (y_dle rfl) (y_dle rfl) rfl rfl
theorem wJ8_init_2_35 : y_w M_J8_init_2 mc ms Q (35, lv, v :: .ref a :: r, ω, c, s) = y_pf P_J8_init_2 true 9 (ω.2 a) v (fun ci fs => y_w M_J8_init_2 mc ms Q (38, lv, r, y_hup ω a (.inr (ci, fs)), c, s)) := w_putfield dJ8_init_2_35 rfl rfl rfl
theorem wJ8_init_2_38 : y_w M_J8_init_2 mc ms Q (38, lv, st, ω, c, s) = y_w M_J8_init_2 mc ms Q (97, lv, st, ω, c, s) := w_goto dJ8_init_2_38 (tgt := 97) (by decide) rfl
theorem wJ8_init_2_41 : y_w M_J8_init_2 mc ms Q (41, lv, st, ω, c, s) = y_w M_J8_init_2 mc ms Q (44, lv, .int 1 :: st, ω, c, s) := w_getstatic dJ8_init_2_41 rfl rfl
theorem wJ8_init_2_44 : y_w M_J8_init_2 mc ms Q (44, lv, .int x :: r, ω, c, s) = ((x = 0 → y_w M_J8_init_2 mc ms Q (79, lv, r, ω, c, s)) ∧ (¬ (x = 0) → y_w M_J8_init_2 mc ms Q (47, lv, r, ω, c, s))) := w_if dJ8_init_2_44 (tgt := 79) rfl rfl rfl
theorem wJ8_init_2_47 : y_w M_J8_init_2 mc ms Q (47, lv, st, ω, c, s) = y_ldA lv 1 (fun v => y_w M_J8_init_2 mc ms Q (48, lv, v :: st, ω, c, s)) := w_aload_n dJ8_init_2_47 rfl rfl
theorem wJ8_init_2_48 : y_w M_J8_init_2 mc ms Q (48, lv, .ref a :: r, ω, c, s) = y_gf P_J8_init_2 1048 (ω.2 a) (fun v => y_w M_J8_init_2 mc ms Q (51, lv, v :: r, ω, c, s)) := w_getfield dJ8_init_2_48 rfl rfl
theorem wJ8_init_2_51 : y_w M_J8_init_2 mc ms Q (51, lv, .int x :: r, ω, c, s) = ((x = 0 → y_w M_J8_init_2 mc ms Q (79, lv, r, ω, c, s)) ∧ (¬ (x = 0) → y_w M_J8_init_2 mc ms Q (54, lv, r, ω, c, s))) := w_if dJ8_init_2_51 (tgt := 79) rfl rfl rfl
theorem wJ8_init_2_54 : y_w M_J8_init_2 mc ms Q (54, lv, st, ω, c, s) = y_ldA lv 0 (fun v => y_w M_J8_init_2 mc ms Q (55, lv, v :: st, ω, c, s)) := w_aload_n dJ8_init_2_54 rfl rfl
theorem wJ8_init_2_55 : y_w M_J8_init_2 mc ms Q (55, lv, st, ω, c, s) = y_ldA lv 3 (fun v => y_w M_J8_init_2 mc ms Q (56, lv, v :: st, ω, c, s)) := w_aload_n dJ8_init_2_55 rfl rfl
theorem wJ8_init_2_56 : y_w M_J8_init_2 mc ms Q (56, lv, st, ω, c, s) = y_w M_J8_init_2 mc ms Q (57, lv, .int 0 :: st, ω, c, s) := w_iconst dJ8_init_2_56 (v := 0) (by decide) rfl
theorem wJ8_init_2_57 : y_w M_J8_init_2 mc ms Q (57, lv, st, ω, c, s) = y_ldI lv 4 (fun v => y_w M_J8_init_2 mc ms Q (59, lv, v :: st, ω, c, s)) := w_iload dJ8_init_2_57 rfl
theorem wJ8_init_2_62 : y_w M_J8_init_2 mc ms Q (62, lv, v :: .ref a :: r, ω, c, s) = y_pf P_J8_init_2 true 9 (ω.2 a) v (fun ci fs => y_w M_J8_init_2 mc ms Q (65, lv, r, y_hup ω a (.inr (ci, fs)), c, s)) := w_putfield dJ8_init_2_62 rfl rfl rfl
theorem wJ8_init_2_65 : y_w M_J8_init_2 mc ms Q (65, lv, st, ω, c, s) = y_ldA lv 0 (fun v => y_w M_J8_init_2 mc ms Q (66, lv, v :: st, ω, c, s)) := w_aload_n dJ8_init_2_65 rfl rfl
theorem wJ8_init_2_66 : y_w M_J8_init_2 mc ms Q (66, lv, st, ω, c, s) = y_ldA lv 0 (fun v => y_w M_J8_init_2 mc ms Q (67, lv, v :: st, ω, c, s)) := w_aload_n dJ8_init_2_66 rfl rfl
theorem wJ8_init_2_67 : y_w M_J8_init_2 mc ms Q (67, lv, .ref a :: r, ω, c, s) = y_gf P_J8_init_2 9 (ω.2 a) (fun v => y_w M_J8_init_2 mc ms Q (70, lv, v :: r, ω, c, s)) := w_getfield dJ8_init_2_67 rfl rfl
theorem wJ8_init_2_70 : y_w M_J8_init_2 mc ms Q (70, lv, st, ω, c, s) = y_ldI lv 4 (fun v => y_w M_J8_init_2 mc ms Q (72, lv, v :: st, ω, c, s)) := w_iload dJ8_init_2_70 rfl
theorem wJ8_init_2_75 : y_w M_J8_init_2 mc ms Q (75, lv, v :: .ref a :: r, ω, c, s) = y_pf P_J8_init_2 true 15 (ω.2 a) v (fun ci fs => y_w M_J8_init_2 mc ms Q (78, lv, r, y_hup ω a (.inr (ci, fs)), c, s)) := w_putfield dJ8_init_2_75 rfl rfl rfl
theorem wJ8_init_2_78 : y_w M_J8_init_2 mc ms Q (78, lv, [], ω, c, s) = Q (.returned none) ω c s := w_return dJ8_init_2_78 rfl
theorem wJ8_init_2_79 : y_w M_J8_init_2 mc ms Q (79, lv, st, ω, c, s) = y_ldA lv 0 (fun v => y_w M_J8_init_2 mc ms Q (80, lv, v :: st, ω, c, s)) := w_aload_n dJ8_init_2_79 rfl rfl
theorem wJ8_init_2_80 : y_w M_J8_init_2 mc ms Q (80, lv, st, ω, c, s) = y_w M_J8_init_2 mc ms Q (81, lv, .int 1 :: st, ω, c, s) := w_iconst dJ8_init_2_80 (v := 1) (by decide) rfl
theorem wJ8_init_2_81 : y_w M_J8_init_2 mc ms Q (81, lv, v :: .ref a :: r, ω, c, s) = y_pf P_J8_init_2 true 15 (ω.2 a) v (fun ci fs => y_w M_J8_init_2 mc ms Q (84, lv, r, y_hup ω a (.inr (ci, fs)), c, s)) := w_putfield dJ8_init_2_81 rfl rfl rfl
theorem wJ8_init_2_84 : y_w M_J8_init_2 mc ms Q (84, lv, st, ω, c, s) = y_ldA lv 0 (fun v => y_w M_J8_init_2 mc ms Q (85, lv, v :: st, ω, c, s)) := w_aload_n dJ8_init_2_84 rfl rfl
theorem wJ8_init_2_85 : y_w M_J8_init_2 mc ms Q (85, lv, st, ω, c, s) = y_ldA lv 3 (fun v => y_w M_J8_init_2 mc ms Q (86, lv, v :: st, ω, c, s)) := w_aload_n dJ8_init_2_85 rfl rfl
theorem wJ8_init_2_86 : y_w M_J8_init_2 mc ms Q (86, lv, st, ω, c, s) = y_w M_J8_init_2 mc ms Q (87, lv, .int 0 :: st, ω, c, s) := w_iconst dJ8_init_2_86 (v := 0) (by decide) rfl
theorem wJ8_init_2_87 : y_w M_J8_init_2 mc ms Q (87, lv, st, ω, c, s) = y_ldI lv 4 (fun v => y_w M_J8_init_2 mc ms Q (89, lv, v :: st, ω, c, s)) := w_iload dJ8_init_2_87 rfl
theorem wJ8_init_2_89 : y_w M_J8_init_2 mc ms Q (89, lv, st, ω, c, s) = y_w M_J8_init_2 mc ms Q (90, lv, .int 1 :: st, ω, c, s) := w_iconst dJ8_init_2_89 (v := 1) (by decide) rfl
theorem wJ8_init_2_90 : y_w M_J8_init_2 mc ms Q (90, lv, .int y :: .int x :: r, ω, c, s) = y_w M_J8_init_2 mc ms Q (91, lv, .int (x <<< (y &&& 31)) :: r, ω, c, s) := w_ishl dJ8_init_2_90 rfl
theorem wJ8_init_2_91 : y_w M_J8_init_2 mc ms Q (91, lv, v2 :: v1 :: v0 :: r, ω, c, s) = (y_cat r ≤ 8 ∧ F_J14_copyOfRange mc ms [v0, v1, v2] ω c s (y_aft M_J8_init_2 91 3 lv r (y_w M_J8_init_2 mc ms Q) Q)) := w_call0 (av := [v0, v1, v2]) ⟨Or.inr ⟨rfl, rfl⟩, rfl⟩ dJ8_init_2_91 rfl (y_F_mono _) (y_dle rfl) (y_dle rfl) rfl rfl
theorem wJ8_init_2_94 : y_w M_J8_init_2 mc ms Q (94, lv, v :: .ref a :: r, ω, c, s) = y_pf P_J8_init_2 true 9 (ω.2 a) v (fun ci fs => y_w M_J8_init_2 mc ms Q (97, lv, r, y_hup ω a (.inr (ci, fs)), c, s)) := w_putfield dJ8_init_2_94 rfl rfl rfl
theorem wJ8_init_2_97 : y_w M_J8_init_2 mc ms Q (97, lv, [], ω, c, s) = Q (.returned none) ω c s := w_return dJ8_init_2_97 rfl
def P_J8_init : y_Pool := ([], [], [], [(489, 2, 0, 3, (4, 130), (y_ref F_J8_init_2))], [], [], [])
def M_J8_init : y_Md := (cJ8_init, "java/lang/String", (2, none), (4, 130), true, P_J8_init, [])
def F_J8_init : y_Tr := y_F M_J8_init
theorem nJ8_init : y_nL M_J8_init = 2 := rfl
theorem wJ8_init_0 : y_w M_J8_init mc ms Q (0, lv, st, ω, c, s) = y_ldA lv 0 (fun v => y_w M_J8_init mc ms Q (1, lv, v :: st, ω, c, s)) := w_aload_n dJ8_init_0 rfl rfl
theorem wJ8_init_1 : y_w M_J8_init mc ms Q (1, lv, st, ω, c, s) = y_ldA lv 1 (fun v => y_w M_J8_init mc ms Q (2, lv, v :: st, ω, c, s)) := w_aload_n dJ8_init_1 rfl rfl
theorem wJ8_init_2 : y_w M_J8_init mc ms Q (2, lv, st, ω, c, s) = y_w M_J8_init mc ms Q (3, lv, .null :: st, ω, c, s) := w_aconst_null dJ8_init_2 rfl
theorem wJ8_init_3 : y_w M_J8_init mc ms Q (3, lv, v2 :: v1 :: v0 :: r, ω, c, s) = (y_cat r ≤ 8 ∧ (y_ref F_J8_init_2) mc ms [v0, v1, v2] ω c s (y_aft M_J8_init 3 3 lv r (y_w M_J8_init mc ms Q) Q)) := w_call0 (av := [v0, v1, v2]) ⟨Or.inl ⟨rfl, rfl⟩, rfl⟩ dJ8_init_3 rfl (y_ref_mono (y_F_mono _)) (y_dle rfl) (y_dle rfl) rfl rfl
theorem wJ8_init_6 : y_w M_J8_init mc ms Q (6, lv, [], ω, c, s) = Q (.returned none) ω c s := w_return dJ8_init_6 rfl
def P_J10_toString : y_Pool := ([], [(18, 15, [.null, .int 0, .int 0, .int 0])], [], [(137, 2, 0, 2, (5, 151), (y_ref F_J8_init))], [], [], [])
def M_J10_toString : y_Md := (cJ10_toString, "java/lang/StringBuilder", (1, (some (FieldType.object "java/lang/String"))), (5, 151), false, P_J10_toString, [])
def F_J10_toString : y_Tr := y_F M_J10_toString
theorem nJ10_toString : y_nL M_J10_toString = 1 := rfl
theorem wJ10_toString_0 : y_w M_J10_toString mc ms Q (0, lv, st, ω, c, s) = (y_room mc ms c s 4 ∧ y_w M_J10_toString mc ms Q (3, lv, .ref ω.1 :: st, y_hnew ω (.inr (15, [.null, .int 0, .int 0, .int 0])), c + 1, s + 4)) := w_new dJ10_toString_0 rfl rfl rfl
theorem wJ10_toString_3 : y_w M_J10_toString mc ms Q (3, lv, v :: r, ω, c, s) = (v.category = 1 ∧ y_w M_J10_toString mc ms Q (4, lv, v :: v :: r, ω, c, s)) := w_dup dJ10_toString_3 rfl
theorem wJ10_toString_4 : y_w M_J10_toString mc ms Q (4, lv, st, ω, c, s) = y_ldA lv 0 (fun v => y_w M_J10_toString mc ms Q (5, lv, v :: st, ω, c, s)) := w_aload_n dJ10_toString_4 rfl rfl
theorem wJ10_toString_5 : y_w M_J10_toString mc ms Q (5, lv, v1 :: v0 :: r, ω, c, s) = (y_cat r ≤ 8 ∧ (y_ref F_J8_init) mc ms [v0, v1] ω c s (y_aft M_J10_toString 5 3 lv r (y_w M_J10_toString mc ms Q) Q)) := w_call0 (av := [v0, v1]) ⟨Or.inl ⟨rfl, rfl⟩, rfl⟩ dJ10_toString_5 rfl (y_ref_mono (y_F_mono _)) (y_dle rfl) (y_dle rfl) rfl rfl
theorem wJ10_toString_8 : y_w M_J10_toString mc ms Q (8, lv, [.ref a], ω, c, s) = Q (.returned (some (.ref a))) ω c s := w_areturn dJ10_toString_8 rfl (Or.inl ⟨_, rfl⟩)
def P_J15_equals : y_Pool := ([], [], [], [], [], [], [])
def M_J15_equals : y_Md := (cJ15_equals, "java/lang/StringLatin1", (3, (some FieldType.boolean)), (0, 0), false, P_J15_equals, [])
def F_J15_equals : y_Tr := y_F M_J15_equals
theorem nJ15_equals : y_nL M_J15_equals = 3 := rfl
theorem wJ15_equals_0 : y_w M_J15_equals mc ms Q (0, lv, st, ω, c, s) = y_ldA lv 0 (fun v => y_w M_J15_equals mc ms Q (1, lv, v :: st, ω, c, s)) := w_aload_n dJ15_equals_0 rfl rfl
theorem wJ15_equals_1 : y_w M_J15_equals mc ms Q (1, lv, .ref a :: r, ω, c, s) = y_al (ω.2 a) (fun n => y_w M_J15_equals mc ms Q (2, lv, .int n :: r, ω, c, s)) := w_arraylength dJ15_equals_1 rfl
theorem wJ15_equals_2 : y_w M_J15_equals mc ms Q (2, lv, st, ω, c, s) = y_ldA lv 1 (fun v => y_w M_J15_equals mc ms Q (3, lv, v :: st, ω, c, s)) := w_aload_n dJ15_equals_2 rfl rfl
theorem wJ15_equals_3 : y_w M_J15_equals mc ms Q (3, lv, .ref a :: r, ω, c, s) = y_al (ω.2 a) (fun n => y_w M_J15_equals mc ms Q (4, lv, .int n :: r, ω, c, s)) := w_arraylength dJ15_equals_3 rfl
theorem wJ15_equals_4 : y_w M_J15_equals mc ms Q (4, lv, .int y :: .int x :: r, ω, c, s) = ((¬ x = y → y_w M_J15_equals mc ms Q (34, lv, r, ω, c, s)) ∧ (¬ (¬ x = y) → y_w M_J15_equals mc ms Q (7, lv, r, ω, c, s))) := w_icmp dJ15_equals_4 (tgt := 34) rfl rfl rfl
theorem wJ15_equals_7 : y_w M_J15_equals mc ms Q (7, lv, st, ω, c, s) = y_w M_J15_equals mc ms Q (8, lv, .int 0 :: st, ω, c, s) := w_iconst dJ15_equals_7 (v := 0) (by decide) rfl
theorem wJ15_equals_8 : y_w M_J15_equals mc ms Q (8, lv, .int x :: r, ω, c, s) = y_w M_J15_equals mc ms Q (9, (2, .int x) :: y_kill 2 lv, r, ω, c, s) := w_istore_n dJ15_equals_8 rfl (y_dle rfl) rfl
theorem wJ15_equals_9 : y_w M_J15_equals mc ms Q (9, lv, st, ω, c, s) = y_ldI lv 2 (fun v => y_w M_J15_equals mc ms Q (10, lv, v :: st, ω, c, s)) := w_iload_n dJ15_equals_9 rfl rfl
theorem wJ15_equals_10 : y_w M_J15_equals mc ms Q (10, lv, st, ω, c, s) = y_ldA lv 0 (fun v => y_w M_J15_equals mc ms Q (11, lv, v :: st, ω, c, s)) := w_aload_n dJ15_equals_10 rfl rfl
theorem wJ15_equals_11 : y_w M_J15_equals mc ms Q (11, lv, .ref a :: r, ω, c, s) = y_al (ω.2 a) (fun n => y_w M_J15_equals mc ms Q (12, lv, .int n :: r, ω, c, s)) := w_arraylength dJ15_equals_11 rfl
theorem wJ15_equals_12 : y_w M_J15_equals mc ms Q (12, lv, .int y :: .int x :: r, ω, c, s) = ((y ≤ x → y_w M_J15_equals mc ms Q (32, lv, r, ω, c, s)) ∧ (¬ (y ≤ x) → y_w M_J15_equals mc ms Q (15, lv, r, ω, c, s))) := w_icmp dJ15_equals_12 (tgt := 32) rfl rfl rfl
theorem wJ15_equals_15 : y_w M_J15_equals mc ms Q (15, lv, st, ω, c, s) = y_ldA lv 0 (fun v => y_w M_J15_equals mc ms Q (16, lv, v :: st, ω, c, s)) := w_aload_n dJ15_equals_15 rfl rfl
theorem wJ15_equals_16 : y_w M_J15_equals mc ms Q (16, lv, st, ω, c, s) = y_ldI lv 2 (fun v => y_w M_J15_equals mc ms Q (17, lv, v :: st, ω, c, s)) := w_iload_n dJ15_equals_16 rfl rfl
theorem wJ15_equals_17 : y_w M_J15_equals mc ms Q (17, lv, .int j :: .ref a :: r, ω, c, s) = y_rB (ω.2 a) j (fun x => y_w M_J15_equals mc ms Q (18, lv, .int x :: r, ω, c, s)) := w_baload dJ15_equals_17 rfl
theorem wJ15_equals_18 : y_w M_J15_equals mc ms Q (18, lv, st, ω, c, s) = y_ldA lv 1 (fun v => y_w M_J15_equals mc ms Q (19, lv, v :: st, ω, c, s)) := w_aload_n dJ15_equals_18 rfl rfl
theorem wJ15_equals_19 : y_w M_J15_equals mc ms Q (19, lv, st, ω, c, s) = y_ldI lv 2 (fun v => y_w M_J15_equals mc ms Q (20, lv, v :: st, ω, c, s)) := w_iload_n dJ15_equals_19 rfl rfl
theorem wJ15_equals_20 : y_w M_J15_equals mc ms Q (20, lv, .int j :: .ref a :: r, ω, c, s) = y_rB (ω.2 a) j (fun x => y_w M_J15_equals mc ms Q (21, lv, .int x :: r, ω, c, s)) := w_baload dJ15_equals_20 rfl
theorem wJ15_equals_21 : y_w M_J15_equals mc ms Q (21, lv, .int y :: .int x :: r, ω, c, s) = ((x = y → y_w M_J15_equals mc ms Q (26, lv, r, ω, c, s)) ∧ (¬ (x = y) → y_w M_J15_equals mc ms Q (24, lv, r, ω, c, s))) := w_icmp dJ15_equals_21 (tgt := 26) rfl rfl rfl
theorem wJ15_equals_24 : y_w M_J15_equals mc ms Q (24, lv, st, ω, c, s) = y_w M_J15_equals mc ms Q (25, lv, .int 0 :: st, ω, c, s) := w_iconst dJ15_equals_24 (v := 0) (by decide) rfl
theorem wJ15_equals_25 : y_w M_J15_equals mc ms Q (25, lv, [.int x], ω, c, s) = (narrow FieldType.boolean (.int x) = .int x ∧ Q (.returned (some (.int x))) ω c s) := w_ireturn dJ15_equals_25 rfl
theorem wJ15_equals_26 : y_w M_J15_equals mc ms Q (26, lv, st, ω, c, s) = y_inc lv 2 (fun x => y_w M_J15_equals mc ms Q (29, (2, .int (x + 1)) :: y_kill 2 lv, st, ω, c, s)) := w_iinc dJ15_equals_26 (d := 1) (by decide) (y_dle rfl) rfl
theorem wJ15_equals_29 : y_w M_J15_equals mc ms Q (29, lv, st, ω, c, s) = ∃ lv2, y_lsub lv2 lv ∧ y_w M_J15_equals mc ms Q (9, lv2, st, ω, c, s) := w_back dJ15_equals_29 (tgt := 9) (by decide) rfl
theorem wJ15_equals_32 : y_w M_J15_equals mc ms Q (32, lv, st, ω, c, s) = y_w M_J15_equals mc ms Q (33, lv, .int 1 :: st, ω, c, s) := w_iconst dJ15_equals_32 (v := 1) (by decide) rfl
theorem wJ15_equals_33 : y_w M_J15_equals mc ms Q (33, lv, [.int x], ω, c, s) = (narrow FieldType.boolean (.int x) = .int x ∧ Q (.returned (some (.int x))) ω c s) := w_ireturn dJ15_equals_33 rfl
theorem wJ15_equals_34 : y_w M_J15_equals mc ms Q (34, lv, st, ω, c, s) = y_w M_J15_equals mc ms Q (35, lv, .int 0 :: st, ω, c, s) := w_iconst dJ15_equals_34 (v := 0) (by decide) rfl
theorem wJ15_equals_35 : y_w M_J15_equals mc ms Q (35, lv, [.int x], ω, c, s) = (narrow FieldType.boolean (.int x) = .int x ∧ Q (.returned (some (.int x))) ω c s) := w_ireturn dJ15_equals_35 rfl
def P_J8_equals : y_Pool := ([(15, 15, 1, .byte, true), (9, 15, 0, (.array .byte), true)], [], [], [(541, 0, 0, 2, (1, 22), F_J15_equals)], [(10, 15, 1)], [], [(38, .int 1)])
def M_J8_equals : y_Md := (cJ8_equals, "java/lang/String", (3, (some FieldType.boolean)), (1, 22), false, P_J8_equals, [])
def F_J8_equals : y_Tr := y_F M_J8_equals
theorem nJ8_equals : y_nL M_J8_equals = 3 := rfl
theorem tJ8_equals_10_15 : y_ft M_J8_equals 10 15 = some 1 := rfl
theorem fJ8_equals_15_15 : y_ffP P_J8_equals 15 15 = some (1, .byte, true) := rfl
theorem fJ8_equals_9_15 : y_ffP P_J8_equals 9 15 = some (0, (.array .byte), true) := rfl
theorem wJ8_equals_0 : y_w M_J8_equals mc ms Q (0, lv, st, ω, c, s) = y_ldA lv 0 (fun v => y_w M_J8_equals mc ms Q (1, lv, v :: st, ω, c, s)) := w_aload_n dJ8_equals_0 rfl rfl
theorem wJ8_equals_1 : y_w M_J8_equals mc ms Q (1, lv, st, ω, c, s) = y_ldA lv 1 (fun v => y_w M_J8_equals mc ms Q (2, lv, v :: st, ω, c, s)) := w_aload_n dJ8_equals_1 rfl rfl
theorem wJ8_equals_2 : y_w M_J8_equals mc ms Q (2, lv, v :: v1 :: r, ω, c, s) = (y_isA v = true ∧ y_isA v1 = true ∧ (¬ v1 = v → y_w M_J8_equals mc ms Q (7, lv, r, ω, c, s)) ∧ (v1 = v → y_w M_J8_equals mc ms Q (5, lv, r, ω, c, s))) := w_acmp_ne dJ8_equals_2 rfl rfl
theorem wJ8_equals_5 : y_w M_J8_equals mc ms Q (5, lv, st, ω, c, s) = y_w M_J8_equals mc ms Q (6, lv, .int 1 :: st, ω, c, s) := w_iconst dJ8_equals_5 (v := 1) (by decide) rfl
theorem wJ8_equals_6 : y_w M_J8_equals mc ms Q (6, lv, [.int x], ω, c, s) = (narrow FieldType.boolean (.int x) = .int x ∧ Q (.returned (some (.int x))) ω c s) := w_ireturn dJ8_equals_6 rfl
theorem wJ8_equals_7 : y_w M_J8_equals mc ms Q (7, lv, st, ω, c, s) = y_ldA lv 1 (fun v => y_w M_J8_equals mc ms Q (8, lv, v :: st, ω, c, s)) := w_aload_n dJ8_equals_7 rfl rfl
theorem wJ8_equals_8 : y_w M_J8_equals mc ms Q (8, lv, .ref a :: r, ω, c, s) = y_tst M_J8_equals 10 (y_cls ω a) (y_w M_J8_equals mc ms Q (11, lv, .int 1 :: r, ω, c, s)) := w_instanceof dJ8_equals_8 rfl
theorem wJ8_equals_11 : y_w M_J8_equals mc ms Q (11, lv, .int x :: r, ω, c, s) = ((x = 0 → y_w M_J8_equals mc ms Q (54, lv, r, ω, c, s)) ∧ (¬ (x = 0) → y_w M_J8_equals mc ms Q (14, lv, r, ω, c, s))) := w_if dJ8_equals_11 (tgt := 54) rfl rfl rfl
theorem wJ8_equals_14 : y_w M_J8_equals mc ms Q (14, lv, st, ω, c, s) = y_ldA lv 1 (fun v => y_w M_J8_equals mc ms Q (15, lv, v :: st, ω, c, s)) := w_aload_n dJ8_equals_14 rfl rfl
theorem wJ8_equals_15 : y_w M_J8_equals mc ms Q (15, lv, .ref a :: r, ω, c, s) = y_tsc M_J8_equals 10 (ω.2 a) (y_w M_J8_equals mc ms Q (18, lv, .ref a :: r, ω, c, s)) (y_vmt M_J8_equals mc ms 18 15 lv ω c s (y_w M_J8_equals mc ms Q) Q) := w_checkcast dJ8_equals_15 rfl
theorem wJ8_equals_18 : y_w M_J8_equals mc ms Q (18, lv, v :: r, ω, c, s) = (y_isA v = true ∧ y_w M_J8_equals mc ms Q (19, (2, v) :: y_kill 2 lv, r, ω, c, s)) := w_astore_n dJ8_equals_18 rfl (y_dle rfl) rfl
theorem wJ8_equals_19 : y_w M_J8_equals mc ms Q (19, lv, st, ω, c, s) = y_w M_J8_equals mc ms Q (22, lv, .int 1 :: st, ω, c, s) := w_getstatic dJ8_equals_19 rfl rfl
theorem wJ8_equals_22 : y_w M_J8_equals mc ms Q (22, lv, .int x :: r, ω, c, s) = ((x = 0 → y_w M_J8_equals mc ms Q (36, lv, r, ω, c, s)) ∧ (¬ (x = 0) → y_w M_J8_equals mc ms Q (25, lv, r, ω, c, s))) := w_if dJ8_equals_22 (tgt := 36) rfl rfl rfl
theorem wJ8_equals_25 : y_w M_J8_equals mc ms Q (25, lv, st, ω, c, s) = y_ldA lv 0 (fun v => y_w M_J8_equals mc ms Q (26, lv, v :: st, ω, c, s)) := w_aload_n dJ8_equals_25 rfl rfl
theorem wJ8_equals_26 : y_w M_J8_equals mc ms Q (26, lv, .ref a :: r, ω, c, s) = y_gf P_J8_equals 15 (ω.2 a) (fun v => y_w M_J8_equals mc ms Q (29, lv, v :: r, ω, c, s)) := w_getfield dJ8_equals_26 rfl rfl
theorem wJ8_equals_29 : y_w M_J8_equals mc ms Q (29, lv, st, ω, c, s) = y_ldA lv 2 (fun v => y_w M_J8_equals mc ms Q (30, lv, v :: st, ω, c, s)) := w_aload_n dJ8_equals_29 rfl rfl
theorem wJ8_equals_30 : y_w M_J8_equals mc ms Q (30, lv, .ref a :: r, ω, c, s) = y_gf P_J8_equals 15 (ω.2 a) (fun v => y_w M_J8_equals mc ms Q (33, lv, v :: r, ω, c, s)) := w_getfield dJ8_equals_30 rfl rfl
theorem wJ8_equals_33 : y_w M_J8_equals mc ms Q (33, lv, .int y :: .int x :: r, ω, c, s) = ((¬ x = y → y_w M_J8_equals mc ms Q (54, lv, r, ω, c, s)) ∧ (¬ (¬ x = y) → y_w M_J8_equals mc ms Q (36, lv, r, ω, c, s))) := w_icmp dJ8_equals_33 (tgt := 54) rfl rfl rfl
theorem wJ8_equals_36 : y_w M_J8_equals mc ms Q (36, lv, st, ω, c, s) = y_ldA lv 0 (fun v => y_w M_J8_equals mc ms Q (37, lv, v :: st, ω, c, s)) := w_aload_n dJ8_equals_36 rfl rfl
theorem wJ8_equals_37 : y_w M_J8_equals mc ms Q (37, lv, .ref a :: r, ω, c, s) = y_gf P_J8_equals 9 (ω.2 a) (fun v => y_w M_J8_equals mc ms Q (40, lv, v :: r, ω, c, s)) := w_getfield dJ8_equals_37 rfl rfl
theorem wJ8_equals_40 : y_w M_J8_equals mc ms Q (40, lv, st, ω, c, s) = y_ldA lv 2 (fun v => y_w M_J8_equals mc ms Q (41, lv, v :: st, ω, c, s)) := w_aload_n dJ8_equals_40 rfl rfl
theorem wJ8_equals_41 : y_w M_J8_equals mc ms Q (41, lv, .ref a :: r, ω, c, s) = y_gf P_J8_equals 9 (ω.2 a) (fun v => y_w M_J8_equals mc ms Q (44, lv, v :: r, ω, c, s)) := w_getfield dJ8_equals_41 rfl rfl
theorem wJ8_equals_44 : y_w M_J8_equals mc ms Q (44, lv, v1 :: v0 :: r, ω, c, s) = (y_cat r ≤ 8 ∧ F_J15_equals mc ms [v0, v1] ω c s (y_aft M_J8_equals 44 3 lv r (y_w M_J8_equals mc ms Q) Q)) := w_call0 (av := [v0, v1]) ⟨Or.inr ⟨rfl, rfl⟩, rfl⟩ dJ8_equals_44 rfl (y_F_mono _) (y_dle rfl) (y_dle rfl) rfl rfl
theorem wJ8_equals_47 : y_w M_J8_equals mc ms Q (47, lv, .int x :: r, ω, c, s) = ((x = 0 → y_w M_J8_equals mc ms Q (54, lv, r, ω, c, s)) ∧ (¬ (x = 0) → y_w M_J8_equals mc ms Q (50, lv, r, ω, c, s))) := w_if dJ8_equals_47 (tgt := 54) rfl rfl rfl
theorem wJ8_equals_50 : y_w M_J8_equals mc ms Q (50, lv, st, ω, c, s) = y_w M_J8_equals mc ms Q (51, lv, .int 1 :: st, ω, c, s) := w_iconst dJ8_equals_50 (v := 1) (by decide) rfl
theorem wJ8_equals_51 : y_w M_J8_equals mc ms Q (51, lv, st, ω, c, s) = y_w M_J8_equals mc ms Q (55, lv, st, ω, c, s) := w_goto dJ8_equals_51 (tgt := 55) (by decide) rfl
theorem wJ8_equals_54 : y_w M_J8_equals mc ms Q (54, lv, st, ω, c, s) = y_w M_J8_equals mc ms Q (55, lv, .int 0 :: st, ω, c, s) := w_iconst dJ8_equals_54 (v := 0) (by decide) rfl
theorem wJ8_equals_55 : y_w M_J8_equals mc ms Q (55, lv, [.int x], ω, c, s) = (narrow FieldType.boolean (.int x) = .int x ∧ Q (.returned (some (.int x))) ω c s) := w_ireturn dJ8_equals_55 rfl
def P_J2_size : y_Pool := ([(48, 14, 2, .int, false)], [], [], [], [], [], [])
def M_J2_size : y_Md := (cJ2_size, "java/util/ArrayList", (1, (some FieldType.int)), (0, 0), false, P_J2_size, [])
def F_J2_size : y_Tr := y_F M_J2_size
theorem nJ2_size : y_nL M_J2_size = 1 := rfl
theorem fJ2_size_48_14 : y_ffP P_J2_size 48 14 = some (2, .int, false) := rfl
theorem wJ2_size_0 : y_w M_J2_size mc ms Q (0, lv, st, ω, c, s) = y_ldA lv 0 (fun v => y_w M_J2_size mc ms Q (1, lv, v :: st, ω, c, s)) := w_aload_n dJ2_size_0 rfl rfl
theorem wJ2_size_1 : y_w M_J2_size mc ms Q (1, lv, .ref a :: r, ω, c, s) = y_gf P_J2_size 48 (ω.2 a) (fun v => y_w M_J2_size mc ms Q (4, lv, v :: r, ω, c, s)) := w_getfield dJ2_size_1 rfl rfl
theorem wJ2_size_4 : y_w M_J2_size mc ms Q (4, lv, [.int x], ω, c, s) = Q (.returned (some (.int x))) ω c s := w_ireturnI dJ2_size_4 rfl
def P_J2_grow_2 (ad : y_Ad) : y_Pool := ([(9, 14, 1, (.array (.object "java/lang/Object")), false)], [], [], [(73, 0, 0, 3, (2, 44), F_J12_newLength), (79, 0, 0, 2, (1, 21), F_J13_max)], [], [(7, 4)], [(39, .ref (ad.1 0))])
def M_J2_grow_2 (ad : y_Ad) : y_Md := (cJ2_grow_2, "java/util/ArrayList", (4, (some (FieldType.array (FieldType.object "java/lang/Object")))), (2, 44), false, (P_J2_grow_2 ad), [])
def F_J2_grow_2 (ad : y_Ad) : y_Tr := y_F (M_J2_grow_2 ad)
theorem nJ2_grow_2 : y_nL (M_J2_grow_2 ad) = 4 := rfl
theorem fJ2_grow_2_9_14 : y_ffP (P_J2_grow_2 ad) 9 14 = some (1, (.array (.object "java/lang/Object")), false) := rfl
theorem wJ2_grow_2_0 : y_w (M_J2_grow_2 ad) mc ms Q (0, lv, st, ω, c, s) = y_ldA lv 0 (fun v => y_w (M_J2_grow_2 ad) mc ms Q (1, lv, v :: st, ω, c, s)) := w_aload_n dJ2_grow_2_0 rfl rfl
theorem wJ2_grow_2_1 : y_w (M_J2_grow_2 ad) mc ms Q (1, lv, .ref a :: r, ω, c, s) = y_gf (P_J2_grow_2 ad) 9 (ω.2 a) (fun v => y_w (M_J2_grow_2 ad) mc ms Q (4, lv, v :: r, ω, c, s)) := w_getfield dJ2_grow_2_1 rfl rfl
theorem wJ2_grow_2_4 : y_w (M_J2_grow_2 ad) mc ms Q (4, lv, .ref a :: r, ω, c, s) = y_al (ω.2 a) (fun n => y_w (M_J2_grow_2 ad) mc ms Q (5, lv, .int n :: r, ω, c, s)) := w_arraylength dJ2_grow_2_4 rfl
theorem wJ2_grow_2_5 : y_w (M_J2_grow_2 ad) mc ms Q (5, lv, .int x :: r, ω, c, s) = y_w (M_J2_grow_2 ad) mc ms Q (6, (2, .int x) :: y_kill 2 lv, r, ω, c, s) := w_istore_n dJ2_grow_2_5 rfl (y_dle rfl) rfl
theorem wJ2_grow_2_6 : y_w (M_J2_grow_2 ad) mc ms Q (6, lv, st, ω, c, s) = y_ldI lv 2 (fun v => y_w (M_J2_grow_2 ad) mc ms Q (7, lv, v :: st, ω, c, s)) := w_iload_n dJ2_grow_2_6 rfl rfl
theorem wJ2_grow_2_7 : y_w (M_J2_grow_2 ad) mc ms Q (7, lv, .int x :: r, ω, c, s) = ((0 < x → y_w (M_J2_grow_2 ad) mc ms Q (20, lv, r, ω, c, s)) ∧ (¬ (0 < x) → y_w (M_J2_grow_2 ad) mc ms Q (10, lv, r, ω, c, s))) := w_if dJ2_grow_2_7 (tgt := 20) rfl rfl rfl
theorem wJ2_grow_2_10 : y_w (M_J2_grow_2 ad) mc ms Q (10, lv, st, ω, c, s) = y_ldA lv 0 (fun v => y_w (M_J2_grow_2 ad) mc ms Q (11, lv, v :: st, ω, c, s)) := w_aload_n dJ2_grow_2_10 rfl rfl
theorem wJ2_grow_2_11 : y_w (M_J2_grow_2 ad) mc ms Q (11, lv, .ref a :: r, ω, c, s) = y_gf (P_J2_grow_2 ad) 9 (ω.2 a) (fun v => y_w (M_J2_grow_2 ad) mc ms Q (14, lv, v :: r, ω, c, s)) := w_getfield dJ2_grow_2_11 rfl rfl
theorem wJ2_grow_2_14 : y_w (M_J2_grow_2 ad) mc ms Q (14, lv, st, ω, c, s) = y_w (M_J2_grow_2 ad) mc ms Q (17, lv, .ref (ad.1 0) :: st, ω, c, s) := w_getstatic dJ2_grow_2_14 rfl rfl
theorem wJ2_grow_2_17 : y_w (M_J2_grow_2 ad) mc ms Q (17, lv, v :: v1 :: r, ω, c, s) = (y_isA v = true ∧ y_isA v1 = true ∧ (v1 = v → y_w (M_J2_grow_2 ad) mc ms Q (45, lv, r, ω, c, s)) ∧ (¬ v1 = v → y_w (M_J2_grow_2 ad) mc ms Q (20, lv, r, ω, c, s))) := w_acmp_eq dJ2_grow_2_17 rfl rfl
theorem wJ2_grow_2_20 : y_w (M_J2_grow_2 ad) mc ms Q (20, lv, st, ω, c, s) = y_ldI lv 2 (fun v => y_w (M_J2_grow_2 ad) mc ms Q (21, lv, v :: st, ω, c, s)) := w_iload_n dJ2_grow_2_20 rfl rfl
theorem wJ2_grow_2_21 : y_w (M_J2_grow_2 ad) mc ms Q (21, lv, st, ω, c, s) = y_ldI lv 1 (fun v => y_w (M_J2_grow_2 ad) mc ms Q (22, lv, v :: st, ω, c, s)) := w_iload_n dJ2_grow_2_21 rfl rfl
theorem wJ2_grow_2_22 : y_w (M_J2_grow_2 ad) mc ms Q (22, lv, st, ω, c, s) = y_ldI lv 2 (fun v => y_w (M_J2_grow_2 ad) mc ms Q (23, lv, v :: st, ω, c, s)) := w_iload_n dJ2_grow_2_22 rfl rfl
theorem wJ2_grow_2_23 : y_w (M_J2_grow_2 ad) mc ms Q (23, lv, .int y :: .int x :: r, ω, c, s) = y_w (M_J2_grow_2 ad) mc ms Q (24, lv, .int (x - y) :: r, ω, c, s) := w_isub dJ2_grow_2_23 rfl
theorem wJ2_grow_2_24 : y_w (M_J2_grow_2 ad) mc ms Q (24, lv, st, ω, c, s) = y_ldI lv 2 (fun v => y_w (M_J2_grow_2 ad) mc ms Q (25, lv, v :: st, ω, c, s)) := w_iload_n dJ2_grow_2_24 rfl rfl
theorem wJ2_grow_2_25 : y_w (M_J2_grow_2 ad) mc ms Q (25, lv, st, ω, c, s) = y_w (M_J2_grow_2 ad) mc ms Q (26, lv, .int 1 :: st, ω, c, s) := w_iconst dJ2_grow_2_25 (v := 1) (by decide) rfl
theorem wJ2_grow_2_26 : y_w (M_J2_grow_2 ad) mc ms Q (26, lv, .int y :: .int x :: r, ω, c, s) = y_w (M_J2_grow_2 ad) mc ms Q (27, lv, .int (x >>> (y &&& 31)) :: r, ω, c, s) := w_ishr dJ2_grow_2_26 rfl
theorem wJ2_grow_2_27 : y_w (M_J2_grow_2 ad) mc ms Q (27, lv, v2 :: v1 :: v0 :: r, ω, c, s) = (y_cat r ≤ 8 ∧ F_J12_newLength mc ms [v0, v1, v2] ω c s (y_aft (M_J2_grow_2 ad) 27 3 lv r (y_w (M_J2_grow_2 ad) mc ms Q) Q)) := w_call0 (av := [v0, v1, v2]) ⟨Or.inr ⟨rfl, rfl⟩, rfl⟩ dJ2_grow_2_27 rfl (y_F_mono _) (y_dle rfl) (y_dle rfl) rfl rfl
theorem wJ2_grow_2_30 : y_w (M_J2_grow_2 ad) mc ms Q (30, lv, .int x :: r, ω, c, s) = y_w (M_J2_grow_2 ad) mc ms Q (31, (3, .int x) :: y_kill 3 lv, r, ω, c, s) := w_istore_n dJ2_grow_2_30 rfl (y_dle rfl) rfl
theorem wJ2_grow_2_31 : y_w (M_J2_grow_2 ad) mc ms Q (31, lv, st, ω, c, s) = y_ldA lv 0 (fun v => y_w (M_J2_grow_2 ad) mc ms Q (32, lv, v :: st, ω, c, s)) := w_aload_n dJ2_grow_2_31 rfl rfl
theorem wJ2_grow_2_32 : y_w (M_J2_grow_2 ad) mc ms Q (32, lv, st, ω, c, s) = y_ldA lv 0 (fun v => y_w (M_J2_grow_2 ad) mc ms Q (33, lv, v :: st, ω, c, s)) := w_aload_n dJ2_grow_2_32 rfl rfl
theorem wJ2_grow_2_33 : y_w (M_J2_grow_2 ad) mc ms Q (33, lv, .ref a :: r, ω, c, s) = y_gf (P_J2_grow_2 ad) 9 (ω.2 a) (fun v => y_w (M_J2_grow_2 ad) mc ms Q (36, lv, v :: r, ω, c, s)) := w_getfield dJ2_grow_2_33 rfl rfl
theorem wJ2_grow_2_36 : y_w (M_J2_grow_2 ad) mc ms Q (36, lv, st, ω, c, s) = y_ldI lv 3 (fun v => y_w (M_J2_grow_2 ad) mc ms Q (37, lv, v :: st, ω, c, s)) := w_iload_n dJ2_grow_2_36 rfl rfl
theorem wJ2_grow_2_40 : y_w (M_J2_grow_2 ad) mc ms Q (40, lv, v :: v1 :: r, ω, c, s) = ((v.category = 1 ∧ v1.category = 1) ∧ y_w (M_J2_grow_2 ad) mc ms Q (41, lv, v :: v1 :: v :: r, ω, c, s)) := w_dup_x1 dJ2_grow_2_40 rfl
theorem wJ2_grow_2_41 : y_w (M_J2_grow_2 ad) mc ms Q (41, lv, v :: .ref a :: r, ω, c, s) = y_pf (P_J2_grow_2 ad) false 9 (ω.2 a) v (fun ci fs => y_w (M_J2_grow_2 ad) mc ms Q (44, lv, r, y_hup ω a (.inr (ci, fs)), c, s)) := w_putfield dJ2_grow_2_41 rfl rfl rfl
theorem wJ2_grow_2_44 : y_w (M_J2_grow_2 ad) mc ms Q (44, lv, [.ref a], ω, c, s) = Q (.returned (some (.ref a))) ω c s := w_areturn dJ2_grow_2_44 rfl (Or.inr ⟨_, rfl⟩)
theorem wJ2_grow_2_45 : y_w (M_J2_grow_2 ad) mc ms Q (45, lv, st, ω, c, s) = y_ldA lv 0 (fun v => y_w (M_J2_grow_2 ad) mc ms Q (46, lv, v :: st, ω, c, s)) := w_aload_n dJ2_grow_2_45 rfl rfl
theorem wJ2_grow_2_46 : y_w (M_J2_grow_2 ad) mc ms Q (46, lv, st, ω, c, s) = y_w (M_J2_grow_2 ad) mc ms Q (48, lv, .int (nI 10) :: st, ω, c, s) := w_bipush dJ2_grow_2_46 (v := (nI 10)) (by decide) rfl
theorem wJ2_grow_2_48 : y_w (M_J2_grow_2 ad) mc ms Q (48, lv, st, ω, c, s) = y_ldI lv 1 (fun v => y_w (M_J2_grow_2 ad) mc ms Q (49, lv, v :: st, ω, c, s)) := w_iload_n dJ2_grow_2_48 rfl rfl
theorem wJ2_grow_2_49 : y_w (M_J2_grow_2 ad) mc ms Q (49, lv, v1 :: v0 :: r, ω, c, s) = (y_cat r ≤ 8 ∧ F_J13_max mc ms [v0, v1] ω c s (y_aft (M_J2_grow_2 ad) 49 3 lv r (y_w (M_J2_grow_2 ad) mc ms Q) Q)) := w_call0 (av := [v0, v1]) ⟨Or.inr ⟨rfl, rfl⟩, rfl⟩ dJ2_grow_2_49 rfl (y_F_mono _) (y_dle rfl) (y_dle rfl) rfl rfl
theorem wJ2_grow_2_52 : y_w (M_J2_grow_2 ad) mc ms Q (52, lv, .int x :: r, ω, c, s) = ((¬ x < 0 ∧ x.toNatClampNeg * 4 ≤ 536870912 ∧ y_room mc ms c s x.toNatClampNeg) ∧ y_w (M_J2_grow_2 ad) mc ms Q (55, lv, .ref ω.1 :: r, y_hnew ω (.inl (4, x.toNatClampNeg, .inr (.inr (.inr (.inr (fun _ => none)))))), c + 1, s + x.toNatClampNeg)) := w_anewarray dJ2_grow_2_52 rfl rfl
theorem wJ2_grow_2_55 : y_w (M_J2_grow_2 ad) mc ms Q (55, lv, v :: v1 :: r, ω, c, s) = ((v.category = 1 ∧ v1.category = 1) ∧ y_w (M_J2_grow_2 ad) mc ms Q (56, lv, v :: v1 :: v :: r, ω, c, s)) := w_dup_x1 dJ2_grow_2_55 rfl
theorem wJ2_grow_2_56 : y_w (M_J2_grow_2 ad) mc ms Q (56, lv, v :: .ref a :: r, ω, c, s) = y_pf (P_J2_grow_2 ad) false 9 (ω.2 a) v (fun ci fs => y_w (M_J2_grow_2 ad) mc ms Q (59, lv, r, y_hup ω a (.inr (ci, fs)), c, s)) := w_putfield dJ2_grow_2_56 rfl rfl rfl
theorem wJ2_grow_2_59 : y_w (M_J2_grow_2 ad) mc ms Q (59, lv, [.ref a], ω, c, s) = Q (.returned (some (.ref a))) ω c s := w_areturn dJ2_grow_2_59 rfl (Or.inr ⟨_, rfl⟩)
def P_J2_grow (ad : y_Ad) : y_Pool := ([(48, 14, 2, .int, false)], [], [], [(69, 1, 14, 2, (3, 67), (F_J2_grow_2 ad))], [], [], [])
def M_J2_grow (ad : y_Ad) : y_Md := (cJ2_grow, "java/util/ArrayList", (1, (some (FieldType.array (FieldType.object "java/lang/Object")))), (3, 67), false, (P_J2_grow ad), [])
def F_J2_grow (ad : y_Ad) : y_Tr := y_F (M_J2_grow ad)
theorem nJ2_grow : y_nL (M_J2_grow ad) = 1 := rfl
theorem fJ2_grow_48_14 : y_ffP (P_J2_grow ad) 48 14 = some (2, .int, false) := rfl
theorem wJ2_grow_0 : y_w (M_J2_grow ad) mc ms Q (0, lv, st, ω, c, s) = y_ldA lv 0 (fun v => y_w (M_J2_grow ad) mc ms Q (1, lv, v :: st, ω, c, s)) := w_aload_n dJ2_grow_0 rfl rfl
theorem wJ2_grow_1 : y_w (M_J2_grow ad) mc ms Q (1, lv, st, ω, c, s) = y_ldA lv 0 (fun v => y_w (M_J2_grow ad) mc ms Q (2, lv, v :: st, ω, c, s)) := w_aload_n dJ2_grow_1 rfl rfl
theorem wJ2_grow_2 : y_w (M_J2_grow ad) mc ms Q (2, lv, .ref a :: r, ω, c, s) = y_gf (P_J2_grow ad) 48 (ω.2 a) (fun v => y_w (M_J2_grow ad) mc ms Q (5, lv, v :: r, ω, c, s)) := w_getfield dJ2_grow_2 rfl rfl
theorem wJ2_grow_5 : y_w (M_J2_grow ad) mc ms Q (5, lv, st, ω, c, s) = y_w (M_J2_grow ad) mc ms Q (6, lv, .int 1 :: st, ω, c, s) := w_iconst dJ2_grow_5 (v := 1) (by decide) rfl
theorem wJ2_grow_6 : y_w (M_J2_grow ad) mc ms Q (6, lv, .int y :: .int x :: r, ω, c, s) = y_w (M_J2_grow ad) mc ms Q (7, lv, .int (x + y) :: r, ω, c, s) := w_iadd dJ2_grow_6 rfl
theorem wJ2_grow_7 (hc : y_cls ω a = some 14) : y_w (M_J2_grow ad) mc ms Q (7, lv, v1 :: .ref a :: r, ω, c, s) = (y_cat r ≤ 8 ∧ (F_J2_grow_2 ad) mc ms [.ref a, v1] ω c s (y_aft (M_J2_grow ad) 7 3 lv r (y_w (M_J2_grow ad) mc ms Q) Q)) := w_call1 (av := [v1]) (Or.inl ⟨⟨rfl, rfl⟩, rfl⟩) dJ2_grow_7 rfl hc rfl (y_F_mono _) (y_dle rfl) (y_dle rfl) rfl rfl
theorem wJ2_grow_10 : y_w (M_J2_grow ad) mc ms Q (10, lv, [.ref a], ω, c, s) = Q (.returned (some (.ref a))) ω c s := w_areturn dJ2_grow_10 rfl (Or.inr ⟨_, rfl⟩)
def P_J2_add_2 (ad : y_Ad) : y_Pool := ([(48, 14, 2, .int, false)], [], [], [(129, 1, 14, 1, (4, 87), (F_J2_grow ad))], [], [], [])
def M_J2_add_2 (ad : y_Ad) : y_Md := (cJ2_add_2, "java/util/ArrayList", (4, none), (4, 87), false, (P_J2_add_2 ad), [])
def F_J2_add_2 (ad : y_Ad) : y_Tr := y_F (M_J2_add_2 ad)
theorem nJ2_add_2 : y_nL (M_J2_add_2 ad) = 4 := rfl
theorem fJ2_add_2_48_14 : y_ffP (P_J2_add_2 ad) 48 14 = some (2, .int, false) := rfl
theorem wJ2_add_2_0 : y_w (M_J2_add_2 ad) mc ms Q (0, lv, st, ω, c, s) = y_ldI lv 3 (fun v => y_w (M_J2_add_2 ad) mc ms Q (1, lv, v :: st, ω, c, s)) := w_iload_n dJ2_add_2_0 rfl rfl
theorem wJ2_add_2_1 : y_w (M_J2_add_2 ad) mc ms Q (1, lv, st, ω, c, s) = y_ldA lv 2 (fun v => y_w (M_J2_add_2 ad) mc ms Q (2, lv, v :: st, ω, c, s)) := w_aload_n dJ2_add_2_1 rfl rfl
theorem wJ2_add_2_2 : y_w (M_J2_add_2 ad) mc ms Q (2, lv, .ref a :: r, ω, c, s) = y_al (ω.2 a) (fun n => y_w (M_J2_add_2 ad) mc ms Q (3, lv, .int n :: r, ω, c, s)) := w_arraylength dJ2_add_2_2 rfl
theorem wJ2_add_2_3 : y_w (M_J2_add_2 ad) mc ms Q (3, lv, .int y :: .int x :: r, ω, c, s) = ((¬ x = y → y_w (M_J2_add_2 ad) mc ms Q (11, lv, r, ω, c, s)) ∧ (¬ (¬ x = y) → y_w (M_J2_add_2 ad) mc ms Q (6, lv, r, ω, c, s))) := w_icmp dJ2_add_2_3 (tgt := 11) rfl rfl rfl
theorem wJ2_add_2_6 : y_w (M_J2_add_2 ad) mc ms Q (6, lv, st, ω, c, s) = y_ldA lv 0 (fun v => y_w (M_J2_add_2 ad) mc ms Q (7, lv, v :: st, ω, c, s)) := w_aload_n dJ2_add_2_6 rfl rfl
theorem wJ2_add_2_7 (hc : y_cls ω a = some 14) : y_w (M_J2_add_2 ad) mc ms Q (7, lv, .ref a :: r, ω, c, s) = (y_cat r ≤ 8 ∧ (F_J2_grow ad) mc ms [.ref a] ω c s (y_aft (M_J2_add_2 ad) 7 3 lv r (y_w (M_J2_add_2 ad) mc ms Q) Q)) := w_call1 (av := []) (Or.inl ⟨⟨rfl, rfl⟩, rfl⟩) dJ2_add_2_7 rfl hc rfl (y_F_mono _) (y_dle rfl) (y_dle rfl) rfl rfl
theorem wJ2_add_2_10 : y_w (M_J2_add_2 ad) mc ms Q (10, lv, v :: r, ω, c, s) = (y_isA v = true ∧ y_w (M_J2_add_2 ad) mc ms Q (11, (2, v) :: y_kill 2 lv, r, ω, c, s)) := w_astore_n dJ2_add_2_10 rfl (y_dle rfl) rfl
theorem wJ2_add_2_11 : y_w (M_J2_add_2 ad) mc ms Q (11, lv, st, ω, c, s) = y_ldA lv 2 (fun v => y_w (M_J2_add_2 ad) mc ms Q (12, lv, v :: st, ω, c, s)) := w_aload_n dJ2_add_2_11 rfl rfl
theorem wJ2_add_2_12 : y_w (M_J2_add_2 ad) mc ms Q (12, lv, st, ω, c, s) = y_ldI lv 3 (fun v => y_w (M_J2_add_2 ad) mc ms Q (13, lv, v :: st, ω, c, s)) := w_iload_n dJ2_add_2_12 rfl rfl
theorem wJ2_add_2_13 : y_w (M_J2_add_2 ad) mc ms Q (13, lv, st, ω, c, s) = y_ldA lv 1 (fun v => y_w (M_J2_add_2 ad) mc ms Q (14, lv, v :: st, ω, c, s)) := w_aload_n dJ2_add_2_13 rfl rfl
theorem wJ2_add_2_14 : y_w (M_J2_add_2 ad) mc ms Q (14, lv, v :: .int j :: .ref a :: r, ω, c, s) = y_wA (ω.2 a) j v ω (fun e => y_w (M_J2_add_2 ad) mc ms Q (15, lv, r, y_hup ω a e, c, s)) := w_aastore dJ2_add_2_14 rfl
theorem wJ2_add_2_15 : y_w (M_J2_add_2 ad) mc ms Q (15, lv, st, ω, c, s) = y_ldA lv 0 (fun v => y_w (M_J2_add_2 ad) mc ms Q (16, lv, v :: st, ω, c, s)) := w_aload_n dJ2_add_2_15 rfl rfl
theorem wJ2_add_2_16 : y_w (M_J2_add_2 ad) mc ms Q (16, lv, st, ω, c, s) = y_ldI lv 3 (fun v => y_w (M_J2_add_2 ad) mc ms Q (17, lv, v :: st, ω, c, s)) := w_iload_n dJ2_add_2_16 rfl rfl
theorem wJ2_add_2_17 : y_w (M_J2_add_2 ad) mc ms Q (17, lv, st, ω, c, s) = y_w (M_J2_add_2 ad) mc ms Q (18, lv, .int 1 :: st, ω, c, s) := w_iconst dJ2_add_2_17 (v := 1) (by decide) rfl
theorem wJ2_add_2_18 : y_w (M_J2_add_2 ad) mc ms Q (18, lv, .int y :: .int x :: r, ω, c, s) = y_w (M_J2_add_2 ad) mc ms Q (19, lv, .int (x + y) :: r, ω, c, s) := w_iadd dJ2_add_2_18 rfl
theorem wJ2_add_2_19 : y_w (M_J2_add_2 ad) mc ms Q (19, lv, v :: .ref a :: r, ω, c, s) = y_pf (P_J2_add_2 ad) false 48 (ω.2 a) v (fun ci fs => y_w (M_J2_add_2 ad) mc ms Q (22, lv, r, y_hup ω a (.inr (ci, fs)), c, s)) := w_putfield dJ2_add_2_19 rfl rfl rfl
theorem wJ2_add_2_22 : y_w (M_J2_add_2 ad) mc ms Q (22, lv, [], ω, c, s) = Q (.returned none) ω c s := w_return dJ2_add_2_22 rfl
def P_J2_add (ad : y_Ad) : y_Pool := ([(63, 14, 0, .int, false), (9, 14, 1, (.array (.object "java/lang/Object")), false), (48, 14, 2, .int, false)], [], [], [(131, 1, 14, 4, (5, 110), (F_J2_add_2 ad))], [], [], [])
def M_J2_add (ad : y_Ad) : y_Md := (cJ2_add, "java/util/ArrayList", (2, (some FieldType.boolean)), (5, 110), false, (P_J2_add ad), [])
def F_J2_add (ad : y_Ad) : y_Tr := y_F (M_J2_add ad)
theorem nJ2_add : y_nL (M_J2_add ad) = 2 := rfl
theorem fJ2_add_63_14 : y_ffP (P_J2_add ad) 63 14 = some (0, .int, false) := rfl
theorem fJ2_add_9_14 : y_ffP (P_J2_add ad) 9 14 = some (1, (.array (.object "java/lang/Object")), false) := rfl
theorem fJ2_add_48_14 : y_ffP (P_J2_add ad) 48 14 = some (2, .int, false) := rfl
theorem wJ2_add_0 : y_w (M_J2_add ad) mc ms Q (0, lv, st, ω, c, s) = y_ldA lv 0 (fun v => y_w (M_J2_add ad) mc ms Q (1, lv, v :: st, ω, c, s)) := w_aload_n dJ2_add_0 rfl rfl
theorem wJ2_add_1 : y_w (M_J2_add ad) mc ms Q (1, lv, v :: r, ω, c, s) = (v.category = 1 ∧ y_w (M_J2_add ad) mc ms Q (2, lv, v :: v :: r, ω, c, s)) := w_dup dJ2_add_1 rfl
theorem wJ2_add_2 : y_w (M_J2_add ad) mc ms Q (2, lv, .ref a :: r, ω, c, s) = y_gf (P_J2_add ad) 63 (ω.2 a) (fun v => y_w (M_J2_add ad) mc ms Q (5, lv, v :: r, ω, c, s)) := w_getfield dJ2_add_2 rfl rfl
theorem wJ2_add_5 : y_w (M_J2_add ad) mc ms Q (5, lv, st, ω, c, s) = y_w (M_J2_add ad) mc ms Q (6, lv, .int 1 :: st, ω, c, s) := w_iconst dJ2_add_5 (v := 1) (by decide) rfl
theorem wJ2_add_6 : y_w (M_J2_add ad) mc ms Q (6, lv, .int y :: .int x :: r, ω, c, s) = y_w (M_J2_add ad) mc ms Q (7, lv, .int (x + y) :: r, ω, c, s) := w_iadd dJ2_add_6 rfl
theorem wJ2_add_7 : y_w (M_J2_add ad) mc ms Q (7, lv, v :: .ref a :: r, ω, c, s) = y_pf (P_J2_add ad) false 63 (ω.2 a) v (fun ci fs => y_w (M_J2_add ad) mc ms Q (10, lv, r, y_hup ω a (.inr (ci, fs)), c, s)) := w_putfield dJ2_add_7 rfl rfl rfl
theorem wJ2_add_10 : y_w (M_J2_add ad) mc ms Q (10, lv, st, ω, c, s) = y_ldA lv 0 (fun v => y_w (M_J2_add ad) mc ms Q (11, lv, v :: st, ω, c, s)) := w_aload_n dJ2_add_10 rfl rfl
theorem wJ2_add_11 : y_w (M_J2_add ad) mc ms Q (11, lv, st, ω, c, s) = y_ldA lv 1 (fun v => y_w (M_J2_add ad) mc ms Q (12, lv, v :: st, ω, c, s)) := w_aload_n dJ2_add_11 rfl rfl
theorem wJ2_add_12 : y_w (M_J2_add ad) mc ms Q (12, lv, st, ω, c, s) = y_ldA lv 0 (fun v => y_w (M_J2_add ad) mc ms Q (13, lv, v :: st, ω, c, s)) := w_aload_n dJ2_add_12 rfl rfl
theorem wJ2_add_13 : y_w (M_J2_add ad) mc ms Q (13, lv, .ref a :: r, ω, c, s) = y_gf (P_J2_add ad) 9 (ω.2 a) (fun v => y_w (M_J2_add ad) mc ms Q (16, lv, v :: r, ω, c, s)) := w_getfield dJ2_add_13 rfl rfl
theorem wJ2_add_16 : y_w (M_J2_add ad) mc ms Q (16, lv, st, ω, c, s) = y_ldA lv 0 (fun v => y_w (M_J2_add ad) mc ms Q (17, lv, v :: st, ω, c, s)) := w_aload_n dJ2_add_16 rfl rfl
theorem wJ2_add_17 : y_w (M_J2_add ad) mc ms Q (17, lv, .ref a :: r, ω, c, s) = y_gf (P_J2_add ad) 48 (ω.2 a) (fun v => y_w (M_J2_add ad) mc ms Q (20, lv, v :: r, ω, c, s)) := w_getfield dJ2_add_17 rfl rfl
theorem wJ2_add_20 (hc : y_cls ω a = some 14) : y_w (M_J2_add ad) mc ms Q (20, lv, v3 :: v2 :: v1 :: .ref a :: r, ω, c, s) = (y_cat r ≤ 8 ∧ (F_J2_add_2 ad) mc ms [.ref a, v1, v2, v3] ω c s (y_aft (M_J2_add ad) 20 3 lv r (y_w (M_J2_add ad) mc ms Q) Q)) := w_call1 (av := [v1, v2, v3]) (Or.inl ⟨⟨rfl, rfl⟩, rfl⟩) dJ2_add_20 rfl hc rfl (y_F_mono _) (y_dle rfl) (y_dle rfl) rfl rfl
theorem wJ2_add_23 : y_w (M_J2_add ad) mc ms Q (23, lv, st, ω, c, s) = y_w (M_J2_add ad) mc ms Q (24, lv, .int 1 :: st, ω, c, s) := w_iconst dJ2_add_23 (v := 1) (by decide) rfl
theorem wJ2_add_24 : y_w (M_J2_add ad) mc ms Q (24, lv, [.int x], ω, c, s) = (narrow FieldType.boolean (.int x) = .int x ∧ Q (.returned (some (.int x))) ω c s) := w_ireturn dJ2_add_24 rfl
def P_J16_checkIndex : y_Pool := ([], [], [], [], [], [], [])
def M_J16_checkIndex : y_Md := (cJ16_checkIndex, "jdk/internal/util/Preconditions", (3, (some FieldType.int)), (0, 0), false, P_J16_checkIndex, [])
def F_J16_checkIndex : y_Tr := y_F M_J16_checkIndex
theorem nJ16_checkIndex : y_nL M_J16_checkIndex = 3 := rfl
theorem wJ16_checkIndex_0 : y_w M_J16_checkIndex mc ms Q (0, lv, st, ω, c, s) = y_ldI lv 0 (fun v => y_w M_J16_checkIndex mc ms Q (1, lv, v :: st, ω, c, s)) := w_iload_n dJ16_checkIndex_0 rfl rfl
theorem wJ16_checkIndex_1 : y_w M_J16_checkIndex mc ms Q (1, lv, .int x :: r, ω, c, s) = ((x < 0 → y_w M_J16_checkIndex mc ms Q (9, lv, r, ω, c, s)) ∧ (¬ (x < 0) → y_w M_J16_checkIndex mc ms Q (4, lv, r, ω, c, s))) := w_if dJ16_checkIndex_1 (tgt := 9) rfl rfl rfl
theorem wJ16_checkIndex_4 : y_w M_J16_checkIndex mc ms Q (4, lv, st, ω, c, s) = y_ldI lv 0 (fun v => y_w M_J16_checkIndex mc ms Q (5, lv, v :: st, ω, c, s)) := w_iload_n dJ16_checkIndex_4 rfl rfl
theorem wJ16_checkIndex_5 : y_w M_J16_checkIndex mc ms Q (5, lv, st, ω, c, s) = y_ldI lv 1 (fun v => y_w M_J16_checkIndex mc ms Q (6, lv, v :: st, ω, c, s)) := w_iload_n dJ16_checkIndex_5 rfl rfl
theorem wJ16_checkIndex_6 : y_w M_J16_checkIndex mc ms Q (6, lv, .int y :: .int x :: r, ω, c, s) = ((x < y → y_w M_J16_checkIndex mc ms Q (16, lv, r, ω, c, s)) ∧ (¬ (x < y) → y_w M_J16_checkIndex mc ms Q (9, lv, r, ω, c, s))) := w_icmp dJ16_checkIndex_6 (tgt := 16) rfl rfl rfl
theorem wJ16_checkIndex_9 : y_w M_J16_checkIndex mc ms Q (9, lv, st, ω, c, s) = y_ldA lv 2 (fun v => y_w M_J16_checkIndex mc ms Q (10, lv, v :: st, ω, c, s)) := w_aload_n dJ16_checkIndex_9 rfl rfl
theorem wJ16_checkIndex_10 : y_w M_J16_checkIndex mc ms Q (10, lv, st, ω, c, s) = y_ldI lv 0 (fun v => y_w M_J16_checkIndex mc ms Q (11, lv, v :: st, ω, c, s)) := w_iload_n dJ16_checkIndex_10 rfl rfl
theorem wJ16_checkIndex_11 : y_w M_J16_checkIndex mc ms Q (11, lv, st, ω, c, s) = y_ldI lv 1 (fun v => y_w M_J16_checkIndex mc ms Q (12, lv, v :: st, ω, c, s)) := w_iload_n dJ16_checkIndex_11 rfl rfl
theorem wJ16_checkIndex_15 : y_w M_J16_checkIndex mc ms Q (15, lv, .ref a :: r, ω, c, s) = y_thr M_J16_checkIndex 15 lv ω a c s (y_w M_J16_checkIndex mc ms Q) Q [] := w_athrow dJ16_checkIndex_15
theorem wJ16_checkIndex_16 : y_w M_J16_checkIndex mc ms Q (16, lv, st, ω, c, s) = y_ldI lv 0 (fun v => y_w M_J16_checkIndex mc ms Q (17, lv, v :: st, ω, c, s)) := w_iload_n dJ16_checkIndex_16 rfl rfl
theorem wJ16_checkIndex_17 : y_w M_J16_checkIndex mc ms Q (17, lv, [.int x], ω, c, s) = Q (.returned (some (.int x))) ω c s := w_ireturnI dJ16_checkIndex_17 rfl
def P_J17_checkIndex : y_Pool := ([], [], [], [(105, 0, 0, 3, (1, 22), F_J16_checkIndex)], [], [], [])
def M_J17_checkIndex : y_Md := (cJ17_checkIndex, "java/util/Objects", (2, (some FieldType.int)), (1, 22), false, P_J17_checkIndex, [])
def F_J17_checkIndex : y_Tr := y_F M_J17_checkIndex
theorem nJ17_checkIndex : y_nL M_J17_checkIndex = 2 := rfl
theorem wJ17_checkIndex_0 : y_w M_J17_checkIndex mc ms Q (0, lv, st, ω, c, s) = y_ldI lv 0 (fun v => y_w M_J17_checkIndex mc ms Q (1, lv, v :: st, ω, c, s)) := w_iload_n dJ17_checkIndex_0 rfl rfl
theorem wJ17_checkIndex_1 : y_w M_J17_checkIndex mc ms Q (1, lv, st, ω, c, s) = y_ldI lv 1 (fun v => y_w M_J17_checkIndex mc ms Q (2, lv, v :: st, ω, c, s)) := w_iload_n dJ17_checkIndex_1 rfl rfl
theorem wJ17_checkIndex_2 : y_w M_J17_checkIndex mc ms Q (2, lv, st, ω, c, s) = y_w M_J17_checkIndex mc ms Q (3, lv, .null :: st, ω, c, s) := w_aconst_null dJ17_checkIndex_2 rfl
theorem wJ17_checkIndex_3 : y_w M_J17_checkIndex mc ms Q (3, lv, v2 :: v1 :: v0 :: r, ω, c, s) = (y_cat r ≤ 8 ∧ F_J16_checkIndex mc ms [v0, v1, v2] ω c s (y_aft M_J17_checkIndex 3 3 lv r (y_w M_J17_checkIndex mc ms Q) Q)) := w_call0 (av := [v0, v1, v2]) ⟨Or.inr ⟨rfl, rfl⟩, rfl⟩ dJ17_checkIndex_3 rfl (y_F_mono _) (y_dle rfl) (y_dle rfl) rfl rfl
theorem wJ17_checkIndex_6 : y_w M_J17_checkIndex mc ms Q (6, lv, [.int x], ω, c, s) = Q (.returned (some (.int x))) ω c s := w_ireturnI dJ17_checkIndex_6 rfl
def P_J2_elementData : y_Pool := ([(9, 14, 1, (.array (.object "java/lang/Object")), false)], [], [], [], [], [], [])
def M_J2_elementData : y_Md := (cJ2_elementData, "java/util/ArrayList", (2, (some (FieldType.object "java/lang/Object"))), (0, 0), false, P_J2_elementData, [])
def F_J2_elementData : y_Tr := y_F M_J2_elementData
theorem nJ2_elementData : y_nL M_J2_elementData = 2 := rfl
theorem fJ2_elementData_9_14 : y_ffP P_J2_elementData 9 14 = some (1, (.array (.object "java/lang/Object")), false) := rfl
theorem wJ2_elementData_0 : y_w M_J2_elementData mc ms Q (0, lv, st, ω, c, s) = y_ldA lv 0 (fun v => y_w M_J2_elementData mc ms Q (1, lv, v :: st, ω, c, s)) := w_aload_n dJ2_elementData_0 rfl rfl
theorem wJ2_elementData_1 : y_w M_J2_elementData mc ms Q (1, lv, .ref a :: r, ω, c, s) = y_gf P_J2_elementData 9 (ω.2 a) (fun v => y_w M_J2_elementData mc ms Q (4, lv, v :: r, ω, c, s)) := w_getfield dJ2_elementData_1 rfl rfl
theorem wJ2_elementData_4 : y_w M_J2_elementData mc ms Q (4, lv, st, ω, c, s) = y_ldI lv 1 (fun v => y_w M_J2_elementData mc ms Q (5, lv, v :: st, ω, c, s)) := w_iload_n dJ2_elementData_4 rfl rfl
theorem wJ2_elementData_5 : y_w M_J2_elementData mc ms Q (5, lv, .int j :: .ref a :: r, ω, c, s) = y_rA (ω.2 a) j (fun x => y_w M_J2_elementData mc ms Q (6, lv, x :: r, ω, c, s)) := w_aaload dJ2_elementData_5 rfl
theorem wJ2_elementData_6 : y_w M_J2_elementData mc ms Q (6, lv, [.ref a], ω, c, s) = Q (.returned (some (.ref a))) ω c s := w_areturn dJ2_elementData_6 rfl (Or.inl ⟨_, rfl⟩)
def P_J2_get : y_Pool := ([(48, 14, 2, .int, false)], [], [], [(118, 0, 0, 2, (2, 43), F_J17_checkIndex), (123, 1, 14, 2, (1, 21), F_J2_elementData)], [], [], [])
def M_J2_get : y_Md := (cJ2_get, "java/util/ArrayList", (2, (some (FieldType.object "java/lang/Object"))), (2, 43), false, P_J2_get, [])
def F_J2_get : y_Tr := y_F M_J2_get
theorem nJ2_get : y_nL M_J2_get = 2 := rfl
theorem fJ2_get_48_14 : y_ffP P_J2_get 48 14 = some (2, .int, false) := rfl
theorem wJ2_get_0 : y_w M_J2_get mc ms Q (0, lv, st, ω, c, s) = y_ldI lv 1 (fun v => y_w M_J2_get mc ms Q (1, lv, v :: st, ω, c, s)) := w_iload_n dJ2_get_0 rfl rfl
theorem wJ2_get_1 : y_w M_J2_get mc ms Q (1, lv, st, ω, c, s) = y_ldA lv 0 (fun v => y_w M_J2_get mc ms Q (2, lv, v :: st, ω, c, s)) := w_aload_n dJ2_get_1 rfl rfl
theorem wJ2_get_2 : y_w M_J2_get mc ms Q (2, lv, .ref a :: r, ω, c, s) = y_gf P_J2_get 48 (ω.2 a) (fun v => y_w M_J2_get mc ms Q (5, lv, v :: r, ω, c, s)) := w_getfield dJ2_get_2 rfl rfl
theorem wJ2_get_5 : y_w M_J2_get mc ms Q (5, lv, v1 :: v0 :: r, ω, c, s) = (y_cat r ≤ 8 ∧ F_J17_checkIndex mc ms [v0, v1] ω c s (y_aft M_J2_get 5 3 lv r (y_w M_J2_get mc ms Q) Q)) := w_call0 (av := [v0, v1]) ⟨Or.inr ⟨rfl, rfl⟩, rfl⟩ dJ2_get_5 rfl (y_F_mono _) (y_dle rfl) (y_dle rfl) rfl rfl
theorem wJ2_get_8 : y_w M_J2_get mc ms Q (8, lv, v :: r, ω, c, s) = (v.category = 1 ∧ y_w M_J2_get mc ms Q (9, lv, r, ω, c, s)) := w_pop dJ2_get_8 rfl
theorem wJ2_get_9 : y_w M_J2_get mc ms Q (9, lv, st, ω, c, s) = y_ldA lv 0 (fun v => y_w M_J2_get mc ms Q (10, lv, v :: st, ω, c, s)) := w_aload_n dJ2_get_9 rfl rfl
theorem wJ2_get_10 : y_w M_J2_get mc ms Q (10, lv, st, ω, c, s) = y_ldI lv 1 (fun v => y_w M_J2_get mc ms Q (11, lv, v :: st, ω, c, s)) := w_iload_n dJ2_get_10 rfl rfl
theorem wJ2_get_11 (hc : y_cls ω a = some 14) : y_w M_J2_get mc ms Q (11, lv, v1 :: .ref a :: r, ω, c, s) = (y_cat r ≤ 8 ∧ F_J2_elementData mc ms [.ref a, v1] ω c s (y_aft M_J2_get 11 3 lv r (y_w M_J2_get mc ms Q) Q)) := w_call1 (av := [v1]) (Or.inl ⟨⟨rfl, rfl⟩, rfl⟩) dJ2_get_11 rfl hc rfl (y_F_mono _) (y_dle rfl) (y_dle rfl) rfl rfl
theorem wJ2_get_14 : y_w M_J2_get mc ms Q (14, lv, [.ref a], ω, c, s) = Q (.returned (some (.ref a))) ω c s := w_areturn dJ2_get_14 rfl (Or.inl ⟨_, rfl⟩)
def P_J13_min_2 : y_Pool := ([], [], [], [], [], [], [])
def M_J13_min_2 : y_Md := (cJ13_min_2, "java/lang/Math", (4, (some FieldType.long)), (0, 0), false, P_J13_min_2, [])
def F_J13_min_2 : y_Tr := y_F M_J13_min_2
theorem nJ13_min_2 : y_nL M_J13_min_2 = 4 := rfl
theorem wJ13_min_2_0 : y_w M_J13_min_2 mc ms Q (0, lv, st, ω, c, s) = y_ldL lv 0 (fun v => y_w M_J13_min_2 mc ms Q (1, lv, v :: st, ω, c, s)) := w_lload_n dJ13_min_2_0 rfl rfl
theorem wJ13_min_2_1 : y_w M_J13_min_2 mc ms Q (1, lv, st, ω, c, s) = y_ldL lv 2 (fun v => y_w M_J13_min_2 mc ms Q (2, lv, v :: st, ω, c, s)) := w_lload_n dJ13_min_2_1 rfl rfl
theorem wJ13_min_2_2 : y_w M_J13_min_2 mc ms Q (2, lv, .long w :: .long z :: r, ω, c, s) = y_w M_J13_min_2 mc ms Q (3, lv, .int (lg_cmp z w) :: r, ω, c, s) := w_lcmp dJ13_min_2_2 rfl
theorem wJ13_min_2_3 : y_w M_J13_min_2 mc ms Q (3, lv, .int x :: r, ω, c, s) = ((0 < x → y_w M_J13_min_2 mc ms Q (10, lv, r, ω, c, s)) ∧ (¬ (0 < x) → y_w M_J13_min_2 mc ms Q (6, lv, r, ω, c, s))) := w_if dJ13_min_2_3 (tgt := 10) rfl rfl rfl
theorem wJ13_min_2_6 : y_w M_J13_min_2 mc ms Q (6, lv, st, ω, c, s) = y_ldL lv 0 (fun v => y_w M_J13_min_2 mc ms Q (7, lv, v :: st, ω, c, s)) := w_lload_n dJ13_min_2_6 rfl rfl
theorem wJ13_min_2_7 : y_w M_J13_min_2 mc ms Q (7, lv, st, ω, c, s) = y_w M_J13_min_2 mc ms Q (11, lv, st, ω, c, s) := w_goto dJ13_min_2_7 (tgt := 11) (by decide) rfl
theorem wJ13_min_2_10 : y_w M_J13_min_2 mc ms Q (10, lv, st, ω, c, s) = y_ldL lv 2 (fun v => y_w M_J13_min_2 mc ms Q (11, lv, v :: st, ω, c, s)) := w_lload_n dJ13_min_2_10 rfl rfl
theorem wJ13_min_2_11 : y_w M_J13_min_2 mc ms Q (11, lv, [.long z], ω, c, s) = Q (.returned (some (.long z))) ω c s := w_lreturn dJ13_min_2_11 rfl
def P_J18_bitCount : y_Pool := ([], [], [(314, .long (lN 6148914691236517205)), (316, .long (lN 3689348814741910323)), (318, .long (lN 1085102592571150095))], [], [], [], [])
def M_J18_bitCount : y_Md := (cJ18_bitCount, "java/lang/Long", (2, (some FieldType.int)), (0, 0), false, P_J18_bitCount, [])
def F_J18_bitCount : y_Tr := y_F M_J18_bitCount
theorem nJ18_bitCount : y_nL M_J18_bitCount = 2 := rfl
theorem wJ18_bitCount_0 : y_w M_J18_bitCount mc ms Q (0, lv, st, ω, c, s) = y_ldL lv 0 (fun v => y_w M_J18_bitCount mc ms Q (1, lv, v :: st, ω, c, s)) := w_lload_n dJ18_bitCount_0 rfl rfl
theorem wJ18_bitCount_1 : y_w M_J18_bitCount mc ms Q (1, lv, st, ω, c, s) = y_ldL lv 0 (fun v => y_w M_J18_bitCount mc ms Q (2, lv, v :: st, ω, c, s)) := w_lload_n dJ18_bitCount_1 rfl rfl
theorem wJ18_bitCount_2 : y_w M_J18_bitCount mc ms Q (2, lv, st, ω, c, s) = y_w M_J18_bitCount mc ms Q (3, lv, .int 1 :: st, ω, c, s) := w_iconst dJ18_bitCount_2 (v := 1) (by decide) rfl
theorem wJ18_bitCount_3 : y_w M_J18_bitCount mc ms Q (3, lv, .int y :: .long z :: r, ω, c, s) = y_w M_J18_bitCount mc ms Q (4, lv, .long (z.toUInt64 >>> (y.toInt64.toUInt64 &&& Int64.toUInt64 63)).toInt64 :: r, ω, c, s) := w_lushr dJ18_bitCount_3 rfl
theorem wJ18_bitCount_4 : y_w M_J18_bitCount mc ms Q (4, lv, st, ω, c, s) = y_w M_J18_bitCount mc ms Q (7, lv, .long (lN 6148914691236517205) :: st, ω, c, s) := w_ldc2_w dJ18_bitCount_4 rfl rfl rfl
theorem wJ18_bitCount_7 : y_w M_J18_bitCount mc ms Q (7, lv, .long w :: .long z :: r, ω, c, s) = y_w M_J18_bitCount mc ms Q (8, lv, .long (z &&& w) :: r, ω, c, s) := w_land dJ18_bitCount_7 rfl
theorem wJ18_bitCount_8 : y_w M_J18_bitCount mc ms Q (8, lv, .long w :: .long z :: r, ω, c, s) = y_w M_J18_bitCount mc ms Q (9, lv, .long (z - w) :: r, ω, c, s) := w_lsub dJ18_bitCount_8 rfl
theorem wJ18_bitCount_9 : y_w M_J18_bitCount mc ms Q (9, lv, .long z :: r, ω, c, s) = y_w M_J18_bitCount mc ms Q (10, (0, .long z) :: y_kill2 0 lv, r, ω, c, s) := w_lstore_n dJ18_bitCount_9 rfl (y_dle rfl) rfl
theorem wJ18_bitCount_10 : y_w M_J18_bitCount mc ms Q (10, lv, st, ω, c, s) = y_ldL lv 0 (fun v => y_w M_J18_bitCount mc ms Q (11, lv, v :: st, ω, c, s)) := w_lload_n dJ18_bitCount_10 rfl rfl
theorem wJ18_bitCount_11 : y_w M_J18_bitCount mc ms Q (11, lv, st, ω, c, s) = y_w M_J18_bitCount mc ms Q (14, lv, .long (lN 3689348814741910323) :: st, ω, c, s) := w_ldc2_w dJ18_bitCount_11 rfl rfl rfl
theorem wJ18_bitCount_14 : y_w M_J18_bitCount mc ms Q (14, lv, .long w :: .long z :: r, ω, c, s) = y_w M_J18_bitCount mc ms Q (15, lv, .long (z &&& w) :: r, ω, c, s) := w_land dJ18_bitCount_14 rfl
theorem wJ18_bitCount_15 : y_w M_J18_bitCount mc ms Q (15, lv, st, ω, c, s) = y_ldL lv 0 (fun v => y_w M_J18_bitCount mc ms Q (16, lv, v :: st, ω, c, s)) := w_lload_n dJ18_bitCount_15 rfl rfl
theorem wJ18_bitCount_16 : y_w M_J18_bitCount mc ms Q (16, lv, st, ω, c, s) = y_w M_J18_bitCount mc ms Q (17, lv, .int (nI 2) :: st, ω, c, s) := w_iconst dJ18_bitCount_16 (v := (nI 2)) (by decide) rfl
theorem wJ18_bitCount_17 : y_w M_J18_bitCount mc ms Q (17, lv, .int y :: .long z :: r, ω, c, s) = y_w M_J18_bitCount mc ms Q (18, lv, .long (z.toUInt64 >>> (y.toInt64.toUInt64 &&& Int64.toUInt64 63)).toInt64 :: r, ω, c, s) := w_lushr dJ18_bitCount_17 rfl
theorem wJ18_bitCount_18 : y_w M_J18_bitCount mc ms Q (18, lv, st, ω, c, s) = y_w M_J18_bitCount mc ms Q (21, lv, .long (lN 3689348814741910323) :: st, ω, c, s) := w_ldc2_w dJ18_bitCount_18 rfl rfl rfl
theorem wJ18_bitCount_21 : y_w M_J18_bitCount mc ms Q (21, lv, .long w :: .long z :: r, ω, c, s) = y_w M_J18_bitCount mc ms Q (22, lv, .long (z &&& w) :: r, ω, c, s) := w_land dJ18_bitCount_21 rfl
theorem wJ18_bitCount_22 : y_w M_J18_bitCount mc ms Q (22, lv, .long w :: .long z :: r, ω, c, s) = y_w M_J18_bitCount mc ms Q (23, lv, .long (z + w) :: r, ω, c, s) := w_ladd dJ18_bitCount_22 rfl
theorem wJ18_bitCount_23 : y_w M_J18_bitCount mc ms Q (23, lv, .long z :: r, ω, c, s) = y_w M_J18_bitCount mc ms Q (24, (0, .long z) :: y_kill2 0 lv, r, ω, c, s) := w_lstore_n dJ18_bitCount_23 rfl (y_dle rfl) rfl
theorem wJ18_bitCount_24 : y_w M_J18_bitCount mc ms Q (24, lv, st, ω, c, s) = y_ldL lv 0 (fun v => y_w M_J18_bitCount mc ms Q (25, lv, v :: st, ω, c, s)) := w_lload_n dJ18_bitCount_24 rfl rfl
theorem wJ18_bitCount_25 : y_w M_J18_bitCount mc ms Q (25, lv, st, ω, c, s) = y_ldL lv 0 (fun v => y_w M_J18_bitCount mc ms Q (26, lv, v :: st, ω, c, s)) := w_lload_n dJ18_bitCount_25 rfl rfl
theorem wJ18_bitCount_26 : y_w M_J18_bitCount mc ms Q (26, lv, st, ω, c, s) = y_w M_J18_bitCount mc ms Q (27, lv, .int (nI 4) :: st, ω, c, s) := w_iconst dJ18_bitCount_26 (v := (nI 4)) (by decide) rfl
theorem wJ18_bitCount_27 : y_w M_J18_bitCount mc ms Q (27, lv, .int y :: .long z :: r, ω, c, s) = y_w M_J18_bitCount mc ms Q (28, lv, .long (z.toUInt64 >>> (y.toInt64.toUInt64 &&& Int64.toUInt64 63)).toInt64 :: r, ω, c, s) := w_lushr dJ18_bitCount_27 rfl
theorem wJ18_bitCount_28 : y_w M_J18_bitCount mc ms Q (28, lv, .long w :: .long z :: r, ω, c, s) = y_w M_J18_bitCount mc ms Q (29, lv, .long (z + w) :: r, ω, c, s) := w_ladd dJ18_bitCount_28 rfl
theorem wJ18_bitCount_29 : y_w M_J18_bitCount mc ms Q (29, lv, st, ω, c, s) = y_w M_J18_bitCount mc ms Q (32, lv, .long (lN 1085102592571150095) :: st, ω, c, s) := w_ldc2_w dJ18_bitCount_29 rfl rfl rfl
theorem wJ18_bitCount_32 : y_w M_J18_bitCount mc ms Q (32, lv, .long w :: .long z :: r, ω, c, s) = y_w M_J18_bitCount mc ms Q (33, lv, .long (z &&& w) :: r, ω, c, s) := w_land dJ18_bitCount_32 rfl
theorem wJ18_bitCount_33 : y_w M_J18_bitCount mc ms Q (33, lv, .long z :: r, ω, c, s) = y_w M_J18_bitCount mc ms Q (34, (0, .long z) :: y_kill2 0 lv, r, ω, c, s) := w_lstore_n dJ18_bitCount_33 rfl (y_dle rfl) rfl
theorem wJ18_bitCount_34 : y_w M_J18_bitCount mc ms Q (34, lv, st, ω, c, s) = y_ldL lv 0 (fun v => y_w M_J18_bitCount mc ms Q (35, lv, v :: st, ω, c, s)) := w_lload_n dJ18_bitCount_34 rfl rfl
theorem wJ18_bitCount_35 : y_w M_J18_bitCount mc ms Q (35, lv, st, ω, c, s) = y_ldL lv 0 (fun v => y_w M_J18_bitCount mc ms Q (36, lv, v :: st, ω, c, s)) := w_lload_n dJ18_bitCount_35 rfl rfl
theorem wJ18_bitCount_36 : y_w M_J18_bitCount mc ms Q (36, lv, st, ω, c, s) = y_w M_J18_bitCount mc ms Q (38, lv, .int (nI 8) :: st, ω, c, s) := w_bipush dJ18_bitCount_36 (v := (nI 8)) (by decide) rfl
theorem wJ18_bitCount_38 : y_w M_J18_bitCount mc ms Q (38, lv, .int y :: .long z :: r, ω, c, s) = y_w M_J18_bitCount mc ms Q (39, lv, .long (z.toUInt64 >>> (y.toInt64.toUInt64 &&& Int64.toUInt64 63)).toInt64 :: r, ω, c, s) := w_lushr dJ18_bitCount_38 rfl
theorem wJ18_bitCount_39 : y_w M_J18_bitCount mc ms Q (39, lv, .long w :: .long z :: r, ω, c, s) = y_w M_J18_bitCount mc ms Q (40, lv, .long (z + w) :: r, ω, c, s) := w_ladd dJ18_bitCount_39 rfl
theorem wJ18_bitCount_40 : y_w M_J18_bitCount mc ms Q (40, lv, .long z :: r, ω, c, s) = y_w M_J18_bitCount mc ms Q (41, (0, .long z) :: y_kill2 0 lv, r, ω, c, s) := w_lstore_n dJ18_bitCount_40 rfl (y_dle rfl) rfl
theorem wJ18_bitCount_41 : y_w M_J18_bitCount mc ms Q (41, lv, st, ω, c, s) = y_ldL lv 0 (fun v => y_w M_J18_bitCount mc ms Q (42, lv, v :: st, ω, c, s)) := w_lload_n dJ18_bitCount_41 rfl rfl
theorem wJ18_bitCount_42 : y_w M_J18_bitCount mc ms Q (42, lv, st, ω, c, s) = y_ldL lv 0 (fun v => y_w M_J18_bitCount mc ms Q (43, lv, v :: st, ω, c, s)) := w_lload_n dJ18_bitCount_42 rfl rfl
theorem wJ18_bitCount_43 : y_w M_J18_bitCount mc ms Q (43, lv, st, ω, c, s) = y_w M_J18_bitCount mc ms Q (45, lv, .int (nI 16) :: st, ω, c, s) := w_bipush dJ18_bitCount_43 (v := (nI 16)) (by decide) rfl
theorem wJ18_bitCount_45 : y_w M_J18_bitCount mc ms Q (45, lv, .int y :: .long z :: r, ω, c, s) = y_w M_J18_bitCount mc ms Q (46, lv, .long (z.toUInt64 >>> (y.toInt64.toUInt64 &&& Int64.toUInt64 63)).toInt64 :: r, ω, c, s) := w_lushr dJ18_bitCount_45 rfl
theorem wJ18_bitCount_46 : y_w M_J18_bitCount mc ms Q (46, lv, .long w :: .long z :: r, ω, c, s) = y_w M_J18_bitCount mc ms Q (47, lv, .long (z + w) :: r, ω, c, s) := w_ladd dJ18_bitCount_46 rfl
theorem wJ18_bitCount_47 : y_w M_J18_bitCount mc ms Q (47, lv, .long z :: r, ω, c, s) = y_w M_J18_bitCount mc ms Q (48, (0, .long z) :: y_kill2 0 lv, r, ω, c, s) := w_lstore_n dJ18_bitCount_47 rfl (y_dle rfl) rfl
theorem wJ18_bitCount_48 : y_w M_J18_bitCount mc ms Q (48, lv, st, ω, c, s) = y_ldL lv 0 (fun v => y_w M_J18_bitCount mc ms Q (49, lv, v :: st, ω, c, s)) := w_lload_n dJ18_bitCount_48 rfl rfl
theorem wJ18_bitCount_49 : y_w M_J18_bitCount mc ms Q (49, lv, st, ω, c, s) = y_ldL lv 0 (fun v => y_w M_J18_bitCount mc ms Q (50, lv, v :: st, ω, c, s)) := w_lload_n dJ18_bitCount_49 rfl rfl
theorem wJ18_bitCount_50 : y_w M_J18_bitCount mc ms Q (50, lv, st, ω, c, s) = y_w M_J18_bitCount mc ms Q (52, lv, .int (nI 32) :: st, ω, c, s) := w_bipush dJ18_bitCount_50 (v := (nI 32)) (by decide) rfl
theorem wJ18_bitCount_52 : y_w M_J18_bitCount mc ms Q (52, lv, .int y :: .long z :: r, ω, c, s) = y_w M_J18_bitCount mc ms Q (53, lv, .long (z.toUInt64 >>> (y.toInt64.toUInt64 &&& Int64.toUInt64 63)).toInt64 :: r, ω, c, s) := w_lushr dJ18_bitCount_52 rfl
theorem wJ18_bitCount_53 : y_w M_J18_bitCount mc ms Q (53, lv, .long w :: .long z :: r, ω, c, s) = y_w M_J18_bitCount mc ms Q (54, lv, .long (z + w) :: r, ω, c, s) := w_ladd dJ18_bitCount_53 rfl
theorem wJ18_bitCount_54 : y_w M_J18_bitCount mc ms Q (54, lv, .long z :: r, ω, c, s) = y_w M_J18_bitCount mc ms Q (55, (0, .long z) :: y_kill2 0 lv, r, ω, c, s) := w_lstore_n dJ18_bitCount_54 rfl (y_dle rfl) rfl
theorem wJ18_bitCount_55 : y_w M_J18_bitCount mc ms Q (55, lv, st, ω, c, s) = y_ldL lv 0 (fun v => y_w M_J18_bitCount mc ms Q (56, lv, v :: st, ω, c, s)) := w_lload_n dJ18_bitCount_55 rfl rfl
theorem wJ18_bitCount_56 : y_w M_J18_bitCount mc ms Q (56, lv, .long z :: r, ω, c, s) = y_w M_J18_bitCount mc ms Q (57, lv, .int z.toInt32 :: r, ω, c, s) := w_l2i dJ18_bitCount_56 rfl
theorem wJ18_bitCount_57 : y_w M_J18_bitCount mc ms Q (57, lv, st, ω, c, s) = y_w M_J18_bitCount mc ms Q (59, lv, .int (nI 127) :: st, ω, c, s) := w_bipush dJ18_bitCount_57 (v := (nI 127)) (by decide) rfl
theorem wJ18_bitCount_59 : y_w M_J18_bitCount mc ms Q (59, lv, .int y :: .int x :: r, ω, c, s) = y_w M_J18_bitCount mc ms Q (60, lv, .int (x &&& y) :: r, ω, c, s) := w_iand dJ18_bitCount_59 rfl
theorem wJ18_bitCount_60 : y_w M_J18_bitCount mc ms Q (60, lv, [.int x], ω, c, s) = Q (.returned (some (.int x))) ω c s := w_ireturnI dJ18_bitCount_60 rfl
def P_J19_numberOfTrailingZeros : y_Pool := ([], [], [(264, .int (nI 65536))], [], [], [], [])
def M_J19_numberOfTrailingZeros : y_Md := (cJ19_numberOfTrailingZeros, "java/lang/Integer", (2, (some FieldType.int)), (0, 0), false, P_J19_numberOfTrailingZeros, [])
def F_J19_numberOfTrailingZeros : y_Tr := y_F M_J19_numberOfTrailingZeros
theorem nJ19_numberOfTrailingZeros : y_nL M_J19_numberOfTrailingZeros = 2 := rfl
theorem wJ19_numberOfTrailingZeros_0 : y_w M_J19_numberOfTrailingZeros mc ms Q (0, lv, st, ω, c, s) = y_ldI lv 0 (fun v => y_w M_J19_numberOfTrailingZeros mc ms Q (1, lv, v :: st, ω, c, s)) := w_iload_n dJ19_numberOfTrailingZeros_0 rfl rfl
theorem wJ19_numberOfTrailingZeros_1 : y_w M_J19_numberOfTrailingZeros mc ms Q (1, lv, st, ω, c, s) = y_w M_J19_numberOfTrailingZeros mc ms Q (2, lv, .int (-1) :: st, ω, c, s) := w_iconst dJ19_numberOfTrailingZeros_1 (v := (-1)) (by decide) rfl
theorem wJ19_numberOfTrailingZeros_2 : y_w M_J19_numberOfTrailingZeros mc ms Q (2, lv, .int y :: .int x :: r, ω, c, s) = y_w M_J19_numberOfTrailingZeros mc ms Q (3, lv, .int (x ^^^ y) :: r, ω, c, s) := w_ixor dJ19_numberOfTrailingZeros_2 rfl
theorem wJ19_numberOfTrailingZeros_3 : y_w M_J19_numberOfTrailingZeros mc ms Q (3, lv, st, ω, c, s) = y_ldI lv 0 (fun v => y_w M_J19_numberOfTrailingZeros mc ms Q (4, lv, v :: st, ω, c, s)) := w_iload_n dJ19_numberOfTrailingZeros_3 rfl rfl
theorem wJ19_numberOfTrailingZeros_4 : y_w M_J19_numberOfTrailingZeros mc ms Q (4, lv, st, ω, c, s) = y_w M_J19_numberOfTrailingZeros mc ms Q (5, lv, .int 1 :: st, ω, c, s) := w_iconst dJ19_numberOfTrailingZeros_4 (v := 1) (by decide) rfl
theorem wJ19_numberOfTrailingZeros_5 : y_w M_J19_numberOfTrailingZeros mc ms Q (5, lv, .int y :: .int x :: r, ω, c, s) = y_w M_J19_numberOfTrailingZeros mc ms Q (6, lv, .int (x - y) :: r, ω, c, s) := w_isub dJ19_numberOfTrailingZeros_5 rfl
theorem wJ19_numberOfTrailingZeros_6 : y_w M_J19_numberOfTrailingZeros mc ms Q (6, lv, .int y :: .int x :: r, ω, c, s) = y_w M_J19_numberOfTrailingZeros mc ms Q (7, lv, .int (x &&& y) :: r, ω, c, s) := w_iand dJ19_numberOfTrailingZeros_6 rfl
theorem wJ19_numberOfTrailingZeros_7 : y_w M_J19_numberOfTrailingZeros mc ms Q (7, lv, .int x :: r, ω, c, s) = y_w M_J19_numberOfTrailingZeros mc ms Q (8, (0, .int x) :: y_kill 0 lv, r, ω, c, s) := w_istore_n dJ19_numberOfTrailingZeros_7 rfl (y_dle rfl) rfl
theorem wJ19_numberOfTrailingZeros_8 : y_w M_J19_numberOfTrailingZeros mc ms Q (8, lv, st, ω, c, s) = y_ldI lv 0 (fun v => y_w M_J19_numberOfTrailingZeros mc ms Q (9, lv, v :: st, ω, c, s)) := w_iload_n dJ19_numberOfTrailingZeros_8 rfl rfl
theorem wJ19_numberOfTrailingZeros_9 : y_w M_J19_numberOfTrailingZeros mc ms Q (9, lv, .int x :: r, ω, c, s) = ((0 < x → y_w M_J19_numberOfTrailingZeros mc ms Q (17, lv, r, ω, c, s)) ∧ (¬ (0 < x) → y_w M_J19_numberOfTrailingZeros mc ms Q (12, lv, r, ω, c, s))) := w_if dJ19_numberOfTrailingZeros_9 (tgt := 17) rfl rfl rfl
theorem wJ19_numberOfTrailingZeros_12 : y_w M_J19_numberOfTrailingZeros mc ms Q (12, lv, st, ω, c, s) = y_ldI lv 0 (fun v => y_w M_J19_numberOfTrailingZeros mc ms Q (13, lv, v :: st, ω, c, s)) := w_iload_n dJ19_numberOfTrailingZeros_12 rfl rfl
theorem wJ19_numberOfTrailingZeros_13 : y_w M_J19_numberOfTrailingZeros mc ms Q (13, lv, st, ω, c, s) = y_w M_J19_numberOfTrailingZeros mc ms Q (15, lv, .int (nI 32) :: st, ω, c, s) := w_bipush dJ19_numberOfTrailingZeros_13 (v := (nI 32)) (by decide) rfl
theorem wJ19_numberOfTrailingZeros_15 : y_w M_J19_numberOfTrailingZeros mc ms Q (15, lv, .int y :: .int x :: r, ω, c, s) = y_w M_J19_numberOfTrailingZeros mc ms Q (16, lv, .int (x &&& y) :: r, ω, c, s) := w_iand dJ19_numberOfTrailingZeros_15 rfl
theorem wJ19_numberOfTrailingZeros_16 : y_w M_J19_numberOfTrailingZeros mc ms Q (16, lv, [.int x], ω, c, s) = Q (.returned (some (.int x))) ω c s := w_ireturnI dJ19_numberOfTrailingZeros_16 rfl
theorem wJ19_numberOfTrailingZeros_17 : y_w M_J19_numberOfTrailingZeros mc ms Q (17, lv, st, ω, c, s) = y_w M_J19_numberOfTrailingZeros mc ms Q (18, lv, .int 1 :: st, ω, c, s) := w_iconst dJ19_numberOfTrailingZeros_17 (v := 1) (by decide) rfl
theorem wJ19_numberOfTrailingZeros_18 : y_w M_J19_numberOfTrailingZeros mc ms Q (18, lv, .int x :: r, ω, c, s) = y_w M_J19_numberOfTrailingZeros mc ms Q (19, (1, .int x) :: y_kill 1 lv, r, ω, c, s) := w_istore_n dJ19_numberOfTrailingZeros_18 rfl (y_dle rfl) rfl
theorem wJ19_numberOfTrailingZeros_19 : y_w M_J19_numberOfTrailingZeros mc ms Q (19, lv, st, ω, c, s) = y_ldI lv 0 (fun v => y_w M_J19_numberOfTrailingZeros mc ms Q (20, lv, v :: st, ω, c, s)) := w_iload_n dJ19_numberOfTrailingZeros_19 rfl rfl
theorem wJ19_numberOfTrailingZeros_20 : y_w M_J19_numberOfTrailingZeros mc ms Q (20, lv, st, ω, c, s) = y_w M_J19_numberOfTrailingZeros mc ms Q (23, lv, .int (nI 65536) :: st, ω, c, s) := w_ldc_w dJ19_numberOfTrailingZeros_20 rfl rfl rfl
theorem wJ19_numberOfTrailingZeros_23 : y_w M_J19_numberOfTrailingZeros mc ms Q (23, lv, .int y :: .int x :: r, ω, c, s) = ((x ≤ y → y_w M_J19_numberOfTrailingZeros mc ms Q (34, lv, r, ω, c, s)) ∧ (¬ (x ≤ y) → y_w M_J19_numberOfTrailingZeros mc ms Q (26, lv, r, ω, c, s))) := w_icmp dJ19_numberOfTrailingZeros_23 (tgt := 34) rfl rfl rfl
theorem wJ19_numberOfTrailingZeros_26 : y_w M_J19_numberOfTrailingZeros mc ms Q (26, lv, st, ω, c, s) = y_inc lv 1 (fun x => y_w M_J19_numberOfTrailingZeros mc ms Q (29, (1, .int (x + (nI 16))) :: y_kill 1 lv, st, ω, c, s)) := w_iinc dJ19_numberOfTrailingZeros_26 (d := (nI 16)) (by decide) (y_dle rfl) rfl
theorem wJ19_numberOfTrailingZeros_29 : y_w M_J19_numberOfTrailingZeros mc ms Q (29, lv, st, ω, c, s) = y_ldI lv 0 (fun v => y_w M_J19_numberOfTrailingZeros mc ms Q (30, lv, v :: st, ω, c, s)) := w_iload_n dJ19_numberOfTrailingZeros_29 rfl rfl
theorem wJ19_numberOfTrailingZeros_30 : y_w M_J19_numberOfTrailingZeros mc ms Q (30, lv, st, ω, c, s) = y_w M_J19_numberOfTrailingZeros mc ms Q (32, lv, .int (nI 16) :: st, ω, c, s) := w_bipush dJ19_numberOfTrailingZeros_30 (v := (nI 16)) (by decide) rfl
theorem wJ19_numberOfTrailingZeros_32 : y_w M_J19_numberOfTrailingZeros mc ms Q (32, lv, .int y :: .int x :: r, ω, c, s) = y_w M_J19_numberOfTrailingZeros mc ms Q (33, lv, .int (x.toUInt32 >>> (y.toUInt32 &&& Int32.toUInt32 31)).toInt32 :: r, ω, c, s) := w_iushr dJ19_numberOfTrailingZeros_32 rfl
theorem wJ19_numberOfTrailingZeros_33 : y_w M_J19_numberOfTrailingZeros mc ms Q (33, lv, .int x :: r, ω, c, s) = y_w M_J19_numberOfTrailingZeros mc ms Q (34, (0, .int x) :: y_kill 0 lv, r, ω, c, s) := w_istore_n dJ19_numberOfTrailingZeros_33 rfl (y_dle rfl) rfl
theorem wJ19_numberOfTrailingZeros_34 : y_w M_J19_numberOfTrailingZeros mc ms Q (34, lv, st, ω, c, s) = y_ldI lv 0 (fun v => y_w M_J19_numberOfTrailingZeros mc ms Q (35, lv, v :: st, ω, c, s)) := w_iload_n dJ19_numberOfTrailingZeros_34 rfl rfl
theorem wJ19_numberOfTrailingZeros_35 : y_w M_J19_numberOfTrailingZeros mc ms Q (35, lv, st, ω, c, s) = y_w M_J19_numberOfTrailingZeros mc ms Q (38, lv, .int (nI 256) :: st, ω, c, s) := w_sipush dJ19_numberOfTrailingZeros_35 (v := (nI 256)) (by decide) rfl
theorem wJ19_numberOfTrailingZeros_38 : y_w M_J19_numberOfTrailingZeros mc ms Q (38, lv, .int y :: .int x :: r, ω, c, s) = ((x ≤ y → y_w M_J19_numberOfTrailingZeros mc ms Q (49, lv, r, ω, c, s)) ∧ (¬ (x ≤ y) → y_w M_J19_numberOfTrailingZeros mc ms Q (41, lv, r, ω, c, s))) := w_icmp dJ19_numberOfTrailingZeros_38 (tgt := 49) rfl rfl rfl
theorem wJ19_numberOfTrailingZeros_41 : y_w M_J19_numberOfTrailingZeros mc ms Q (41, lv, st, ω, c, s) = y_inc lv 1 (fun x => y_w M_J19_numberOfTrailingZeros mc ms Q (44, (1, .int (x + (nI 8))) :: y_kill 1 lv, st, ω, c, s)) := w_iinc dJ19_numberOfTrailingZeros_41 (d := (nI 8)) (by decide) (y_dle rfl) rfl
theorem wJ19_numberOfTrailingZeros_44 : y_w M_J19_numberOfTrailingZeros mc ms Q (44, lv, st, ω, c, s) = y_ldI lv 0 (fun v => y_w M_J19_numberOfTrailingZeros mc ms Q (45, lv, v :: st, ω, c, s)) := w_iload_n dJ19_numberOfTrailingZeros_44 rfl rfl
theorem wJ19_numberOfTrailingZeros_45 : y_w M_J19_numberOfTrailingZeros mc ms Q (45, lv, st, ω, c, s) = y_w M_J19_numberOfTrailingZeros mc ms Q (47, lv, .int (nI 8) :: st, ω, c, s) := w_bipush dJ19_numberOfTrailingZeros_45 (v := (nI 8)) (by decide) rfl
theorem wJ19_numberOfTrailingZeros_47 : y_w M_J19_numberOfTrailingZeros mc ms Q (47, lv, .int y :: .int x :: r, ω, c, s) = y_w M_J19_numberOfTrailingZeros mc ms Q (48, lv, .int (x.toUInt32 >>> (y.toUInt32 &&& Int32.toUInt32 31)).toInt32 :: r, ω, c, s) := w_iushr dJ19_numberOfTrailingZeros_47 rfl
theorem wJ19_numberOfTrailingZeros_48 : y_w M_J19_numberOfTrailingZeros mc ms Q (48, lv, .int x :: r, ω, c, s) = y_w M_J19_numberOfTrailingZeros mc ms Q (49, (0, .int x) :: y_kill 0 lv, r, ω, c, s) := w_istore_n dJ19_numberOfTrailingZeros_48 rfl (y_dle rfl) rfl
theorem wJ19_numberOfTrailingZeros_49 : y_w M_J19_numberOfTrailingZeros mc ms Q (49, lv, st, ω, c, s) = y_ldI lv 0 (fun v => y_w M_J19_numberOfTrailingZeros mc ms Q (50, lv, v :: st, ω, c, s)) := w_iload_n dJ19_numberOfTrailingZeros_49 rfl rfl
theorem wJ19_numberOfTrailingZeros_50 : y_w M_J19_numberOfTrailingZeros mc ms Q (50, lv, st, ω, c, s) = y_w M_J19_numberOfTrailingZeros mc ms Q (52, lv, .int (nI 16) :: st, ω, c, s) := w_bipush dJ19_numberOfTrailingZeros_50 (v := (nI 16)) (by decide) rfl
theorem wJ19_numberOfTrailingZeros_52 : y_w M_J19_numberOfTrailingZeros mc ms Q (52, lv, .int y :: .int x :: r, ω, c, s) = ((x ≤ y → y_w M_J19_numberOfTrailingZeros mc ms Q (62, lv, r, ω, c, s)) ∧ (¬ (x ≤ y) → y_w M_J19_numberOfTrailingZeros mc ms Q (55, lv, r, ω, c, s))) := w_icmp dJ19_numberOfTrailingZeros_52 (tgt := 62) rfl rfl rfl
theorem wJ19_numberOfTrailingZeros_55 : y_w M_J19_numberOfTrailingZeros mc ms Q (55, lv, st, ω, c, s) = y_inc lv 1 (fun x => y_w M_J19_numberOfTrailingZeros mc ms Q (58, (1, .int (x + (nI 4))) :: y_kill 1 lv, st, ω, c, s)) := w_iinc dJ19_numberOfTrailingZeros_55 (d := (nI 4)) (by decide) (y_dle rfl) rfl
theorem wJ19_numberOfTrailingZeros_58 : y_w M_J19_numberOfTrailingZeros mc ms Q (58, lv, st, ω, c, s) = y_ldI lv 0 (fun v => y_w M_J19_numberOfTrailingZeros mc ms Q (59, lv, v :: st, ω, c, s)) := w_iload_n dJ19_numberOfTrailingZeros_58 rfl rfl
theorem wJ19_numberOfTrailingZeros_59 : y_w M_J19_numberOfTrailingZeros mc ms Q (59, lv, st, ω, c, s) = y_w M_J19_numberOfTrailingZeros mc ms Q (60, lv, .int (nI 4) :: st, ω, c, s) := w_iconst dJ19_numberOfTrailingZeros_59 (v := (nI 4)) (by decide) rfl
theorem wJ19_numberOfTrailingZeros_60 : y_w M_J19_numberOfTrailingZeros mc ms Q (60, lv, .int y :: .int x :: r, ω, c, s) = y_w M_J19_numberOfTrailingZeros mc ms Q (61, lv, .int (x.toUInt32 >>> (y.toUInt32 &&& Int32.toUInt32 31)).toInt32 :: r, ω, c, s) := w_iushr dJ19_numberOfTrailingZeros_60 rfl
theorem wJ19_numberOfTrailingZeros_61 : y_w M_J19_numberOfTrailingZeros mc ms Q (61, lv, .int x :: r, ω, c, s) = y_w M_J19_numberOfTrailingZeros mc ms Q (62, (0, .int x) :: y_kill 0 lv, r, ω, c, s) := w_istore_n dJ19_numberOfTrailingZeros_61 rfl (y_dle rfl) rfl
theorem wJ19_numberOfTrailingZeros_62 : y_w M_J19_numberOfTrailingZeros mc ms Q (62, lv, st, ω, c, s) = y_ldI lv 0 (fun v => y_w M_J19_numberOfTrailingZeros mc ms Q (63, lv, v :: st, ω, c, s)) := w_iload_n dJ19_numberOfTrailingZeros_62 rfl rfl
theorem wJ19_numberOfTrailingZeros_63 : y_w M_J19_numberOfTrailingZeros mc ms Q (63, lv, st, ω, c, s) = y_w M_J19_numberOfTrailingZeros mc ms Q (64, lv, .int (nI 4) :: st, ω, c, s) := w_iconst dJ19_numberOfTrailingZeros_63 (v := (nI 4)) (by decide) rfl
theorem wJ19_numberOfTrailingZeros_64 : y_w M_J19_numberOfTrailingZeros mc ms Q (64, lv, .int y :: .int x :: r, ω, c, s) = ((x ≤ y → y_w M_J19_numberOfTrailingZeros mc ms Q (74, lv, r, ω, c, s)) ∧ (¬ (x ≤ y) → y_w M_J19_numberOfTrailingZeros mc ms Q (67, lv, r, ω, c, s))) := w_icmp dJ19_numberOfTrailingZeros_64 (tgt := 74) rfl rfl rfl
theorem wJ19_numberOfTrailingZeros_67 : y_w M_J19_numberOfTrailingZeros mc ms Q (67, lv, st, ω, c, s) = y_inc lv 1 (fun x => y_w M_J19_numberOfTrailingZeros mc ms Q (70, (1, .int (x + (nI 2))) :: y_kill 1 lv, st, ω, c, s)) := w_iinc dJ19_numberOfTrailingZeros_67 (d := (nI 2)) (by decide) (y_dle rfl) rfl
theorem wJ19_numberOfTrailingZeros_70 : y_w M_J19_numberOfTrailingZeros mc ms Q (70, lv, st, ω, c, s) = y_ldI lv 0 (fun v => y_w M_J19_numberOfTrailingZeros mc ms Q (71, lv, v :: st, ω, c, s)) := w_iload_n dJ19_numberOfTrailingZeros_70 rfl rfl
theorem wJ19_numberOfTrailingZeros_71 : y_w M_J19_numberOfTrailingZeros mc ms Q (71, lv, st, ω, c, s) = y_w M_J19_numberOfTrailingZeros mc ms Q (72, lv, .int (nI 2) :: st, ω, c, s) := w_iconst dJ19_numberOfTrailingZeros_71 (v := (nI 2)) (by decide) rfl
theorem wJ19_numberOfTrailingZeros_72 : y_w M_J19_numberOfTrailingZeros mc ms Q (72, lv, .int y :: .int x :: r, ω, c, s) = y_w M_J19_numberOfTrailingZeros mc ms Q (73, lv, .int (x.toUInt32 >>> (y.toUInt32 &&& Int32.toUInt32 31)).toInt32 :: r, ω, c, s) := w_iushr dJ19_numberOfTrailingZeros_72 rfl
theorem wJ19_numberOfTrailingZeros_73 : y_w M_J19_numberOfTrailingZeros mc ms Q (73, lv, .int x :: r, ω, c, s) = y_w M_J19_numberOfTrailingZeros mc ms Q (74, (0, .int x) :: y_kill 0 lv, r, ω, c, s) := w_istore_n dJ19_numberOfTrailingZeros_73 rfl (y_dle rfl) rfl
theorem wJ19_numberOfTrailingZeros_74 : y_w M_J19_numberOfTrailingZeros mc ms Q (74, lv, st, ω, c, s) = y_ldI lv 1 (fun v => y_w M_J19_numberOfTrailingZeros mc ms Q (75, lv, v :: st, ω, c, s)) := w_iload_n dJ19_numberOfTrailingZeros_74 rfl rfl
theorem wJ19_numberOfTrailingZeros_75 : y_w M_J19_numberOfTrailingZeros mc ms Q (75, lv, st, ω, c, s) = y_ldI lv 0 (fun v => y_w M_J19_numberOfTrailingZeros mc ms Q (76, lv, v :: st, ω, c, s)) := w_iload_n dJ19_numberOfTrailingZeros_75 rfl rfl
theorem wJ19_numberOfTrailingZeros_76 : y_w M_J19_numberOfTrailingZeros mc ms Q (76, lv, st, ω, c, s) = y_w M_J19_numberOfTrailingZeros mc ms Q (77, lv, .int 1 :: st, ω, c, s) := w_iconst dJ19_numberOfTrailingZeros_76 (v := 1) (by decide) rfl
theorem wJ19_numberOfTrailingZeros_77 : y_w M_J19_numberOfTrailingZeros mc ms Q (77, lv, .int y :: .int x :: r, ω, c, s) = y_w M_J19_numberOfTrailingZeros mc ms Q (78, lv, .int (x.toUInt32 >>> (y.toUInt32 &&& Int32.toUInt32 31)).toInt32 :: r, ω, c, s) := w_iushr dJ19_numberOfTrailingZeros_77 rfl
theorem wJ19_numberOfTrailingZeros_78 : y_w M_J19_numberOfTrailingZeros mc ms Q (78, lv, .int y :: .int x :: r, ω, c, s) = y_w M_J19_numberOfTrailingZeros mc ms Q (79, lv, .int (x + y) :: r, ω, c, s) := w_iadd dJ19_numberOfTrailingZeros_78 rfl
theorem wJ19_numberOfTrailingZeros_79 : y_w M_J19_numberOfTrailingZeros mc ms Q (79, lv, [.int x], ω, c, s) = Q (.returned (some (.int x))) ω c s := w_ireturnI dJ19_numberOfTrailingZeros_79 rfl
def P_J18_numberOfTrailingZeros : y_Pool := ([], [], [], [(311, 0, 0, 1, (1, 21), F_J19_numberOfTrailingZeros)], [], [], [])
def M_J18_numberOfTrailingZeros : y_Md := (cJ18_numberOfTrailingZeros, "java/lang/Long", (3, (some FieldType.int)), (1, 21), false, P_J18_numberOfTrailingZeros, [])
def F_J18_numberOfTrailingZeros : y_Tr := y_F M_J18_numberOfTrailingZeros
theorem nJ18_numberOfTrailingZeros : y_nL M_J18_numberOfTrailingZeros = 3 := rfl
theorem wJ18_numberOfTrailingZeros_0 : y_w M_J18_numberOfTrailingZeros mc ms Q (0, lv, st, ω, c, s) = y_ldL lv 0 (fun v => y_w M_J18_numberOfTrailingZeros mc ms Q (1, lv, v :: st, ω, c, s)) := w_lload_n dJ18_numberOfTrailingZeros_0 rfl rfl
theorem wJ18_numberOfTrailingZeros_1 : y_w M_J18_numberOfTrailingZeros mc ms Q (1, lv, .long z :: r, ω, c, s) = y_w M_J18_numberOfTrailingZeros mc ms Q (2, lv, .int z.toInt32 :: r, ω, c, s) := w_l2i dJ18_numberOfTrailingZeros_1 rfl
theorem wJ18_numberOfTrailingZeros_2 : y_w M_J18_numberOfTrailingZeros mc ms Q (2, lv, .int x :: r, ω, c, s) = y_w M_J18_numberOfTrailingZeros mc ms Q (3, (2, .int x) :: y_kill 2 lv, r, ω, c, s) := w_istore_n dJ18_numberOfTrailingZeros_2 rfl (y_dle rfl) rfl
theorem wJ18_numberOfTrailingZeros_3 : y_w M_J18_numberOfTrailingZeros mc ms Q (3, lv, st, ω, c, s) = y_ldI lv 2 (fun v => y_w M_J18_numberOfTrailingZeros mc ms Q (4, lv, v :: st, ω, c, s)) := w_iload_n dJ18_numberOfTrailingZeros_3 rfl rfl
theorem wJ18_numberOfTrailingZeros_4 : y_w M_J18_numberOfTrailingZeros mc ms Q (4, lv, .int x :: r, ω, c, s) = ((¬ x = 0 → y_w M_J18_numberOfTrailingZeros mc ms Q (21, lv, r, ω, c, s)) ∧ (¬ (¬ x = 0) → y_w M_J18_numberOfTrailingZeros mc ms Q (7, lv, r, ω, c, s))) := w_if dJ18_numberOfTrailingZeros_4 (tgt := 21) rfl rfl rfl
theorem wJ18_numberOfTrailingZeros_7 : y_w M_J18_numberOfTrailingZeros mc ms Q (7, lv, st, ω, c, s) = y_w M_J18_numberOfTrailingZeros mc ms Q (9, lv, .int (nI 32) :: st, ω, c, s) := w_bipush dJ18_numberOfTrailingZeros_7 (v := (nI 32)) (by decide) rfl
theorem wJ18_numberOfTrailingZeros_9 : y_w M_J18_numberOfTrailingZeros mc ms Q (9, lv, st, ω, c, s) = y_ldL lv 0 (fun v => y_w M_J18_numberOfTrailingZeros mc ms Q (10, lv, v :: st, ω, c, s)) := w_lload_n dJ18_numberOfTrailingZeros_9 rfl rfl
theorem wJ18_numberOfTrailingZeros_10 : y_w M_J18_numberOfTrailingZeros mc ms Q (10, lv, st, ω, c, s) = y_w M_J18_numberOfTrailingZeros mc ms Q (12, lv, .int (nI 32) :: st, ω, c, s) := w_bipush dJ18_numberOfTrailingZeros_10 (v := (nI 32)) (by decide) rfl
theorem wJ18_numberOfTrailingZeros_12 : y_w M_J18_numberOfTrailingZeros mc ms Q (12, lv, .int y :: .long z :: r, ω, c, s) = y_w M_J18_numberOfTrailingZeros mc ms Q (13, lv, .long (z.toUInt64 >>> (y.toInt64.toUInt64 &&& Int64.toUInt64 63)).toInt64 :: r, ω, c, s) := w_lushr dJ18_numberOfTrailingZeros_12 rfl
theorem wJ18_numberOfTrailingZeros_13 : y_w M_J18_numberOfTrailingZeros mc ms Q (13, lv, .long z :: r, ω, c, s) = y_w M_J18_numberOfTrailingZeros mc ms Q (14, lv, .int z.toInt32 :: r, ω, c, s) := w_l2i dJ18_numberOfTrailingZeros_13 rfl
theorem wJ18_numberOfTrailingZeros_14 : y_w M_J18_numberOfTrailingZeros mc ms Q (14, lv, v0 :: r, ω, c, s) = (y_cat r ≤ 8 ∧ F_J19_numberOfTrailingZeros mc ms [v0] ω c s (y_aft M_J18_numberOfTrailingZeros 14 3 lv r (y_w M_J18_numberOfTrailingZeros mc ms Q) Q)) := w_call0 (av := [v0]) ⟨Or.inr ⟨rfl, rfl⟩, rfl⟩ dJ18_numberOfTrailingZeros_14 rfl (y_F_mono _) (y_dle rfl) (y_dle rfl) rfl rfl
theorem wJ18_numberOfTrailingZeros_17 : y_w M_J18_numberOfTrailingZeros mc ms Q (17, lv, .int y :: .int x :: r, ω, c, s) = y_w M_J18_numberOfTrailingZeros mc ms Q (18, lv, .int (x + y) :: r, ω, c, s) := w_iadd dJ18_numberOfTrailingZeros_17 rfl
theorem wJ18_numberOfTrailingZeros_18 : y_w M_J18_numberOfTrailingZeros mc ms Q (18, lv, st, ω, c, s) = y_w M_J18_numberOfTrailingZeros mc ms Q (25, lv, st, ω, c, s) := w_goto dJ18_numberOfTrailingZeros_18 (tgt := 25) (by decide) rfl
theorem wJ18_numberOfTrailingZeros_21 : y_w M_J18_numberOfTrailingZeros mc ms Q (21, lv, st, ω, c, s) = y_ldI lv 2 (fun v => y_w M_J18_numberOfTrailingZeros mc ms Q (22, lv, v :: st, ω, c, s)) := w_iload_n dJ18_numberOfTrailingZeros_21 rfl rfl
theorem wJ18_numberOfTrailingZeros_22 : y_w M_J18_numberOfTrailingZeros mc ms Q (22, lv, v0 :: r, ω, c, s) = (y_cat r ≤ 8 ∧ F_J19_numberOfTrailingZeros mc ms [v0] ω c s (y_aft M_J18_numberOfTrailingZeros 22 3 lv r (y_w M_J18_numberOfTrailingZeros mc ms Q) Q)) := w_call0 (av := [v0]) ⟨Or.inr ⟨rfl, rfl⟩, rfl⟩ dJ18_numberOfTrailingZeros_22 rfl (y_F_mono _) (y_dle rfl) (y_dle rfl) rfl rfl
theorem wJ18_numberOfTrailingZeros_25 : y_w M_J18_numberOfTrailingZeros mc ms Q (25, lv, [.int x], ω, c, s) = Q (.returned (some (.int x))) ω c s := w_ireturnI dJ18_numberOfTrailingZeros_25 rfl
def P_J19_numberOfLeadingZeros : y_Pool := ([], [], [(264, .int (nI 65536))], [], [], [], [])
def M_J19_numberOfLeadingZeros : y_Md := (cJ19_numberOfLeadingZeros, "java/lang/Integer", (2, (some FieldType.int)), (0, 0), false, P_J19_numberOfLeadingZeros, [])
def F_J19_numberOfLeadingZeros : y_Tr := y_F M_J19_numberOfLeadingZeros
theorem nJ19_numberOfLeadingZeros : y_nL M_J19_numberOfLeadingZeros = 2 := rfl
theorem wJ19_numberOfLeadingZeros_0 : y_w M_J19_numberOfLeadingZeros mc ms Q (0, lv, st, ω, c, s) = y_ldI lv 0 (fun v => y_w M_J19_numberOfLeadingZeros mc ms Q (1, lv, v :: st, ω, c, s)) := w_iload_n dJ19_numberOfLeadingZeros_0 rfl rfl
theorem wJ19_numberOfLeadingZeros_1 : y_w M_J19_numberOfLeadingZeros mc ms Q (1, lv, .int x :: r, ω, c, s) = ((0 < x → y_w M_J19_numberOfLeadingZeros mc ms Q (15, lv, r, ω, c, s)) ∧ (¬ (0 < x) → y_w M_J19_numberOfLeadingZeros mc ms Q (4, lv, r, ω, c, s))) := w_if dJ19_numberOfLeadingZeros_1 (tgt := 15) rfl rfl rfl
theorem wJ19_numberOfLeadingZeros_4 : y_w M_J19_numberOfLeadingZeros mc ms Q (4, lv, st, ω, c, s) = y_ldI lv 0 (fun v => y_w M_J19_numberOfLeadingZeros mc ms Q (5, lv, v :: st, ω, c, s)) := w_iload_n dJ19_numberOfLeadingZeros_4 rfl rfl
theorem wJ19_numberOfLeadingZeros_5 : y_w M_J19_numberOfLeadingZeros mc ms Q (5, lv, .int x :: r, ω, c, s) = ((¬ x = 0 → y_w M_J19_numberOfLeadingZeros mc ms Q (13, lv, r, ω, c, s)) ∧ (¬ (¬ x = 0) → y_w M_J19_numberOfLeadingZeros mc ms Q (8, lv, r, ω, c, s))) := w_if dJ19_numberOfLeadingZeros_5 (tgt := 13) rfl rfl rfl
theorem wJ19_numberOfLeadingZeros_8 : y_w M_J19_numberOfLeadingZeros mc ms Q (8, lv, st, ω, c, s) = y_w M_J19_numberOfLeadingZeros mc ms Q (10, lv, .int (nI 32) :: st, ω, c, s) := w_bipush dJ19_numberOfLeadingZeros_8 (v := (nI 32)) (by decide) rfl
theorem wJ19_numberOfLeadingZeros_10 : y_w M_J19_numberOfLeadingZeros mc ms Q (10, lv, st, ω, c, s) = y_w M_J19_numberOfLeadingZeros mc ms Q (14, lv, st, ω, c, s) := w_goto dJ19_numberOfLeadingZeros_10 (tgt := 14) (by decide) rfl
theorem wJ19_numberOfLeadingZeros_13 : y_w M_J19_numberOfLeadingZeros mc ms Q (13, lv, st, ω, c, s) = y_w M_J19_numberOfLeadingZeros mc ms Q (14, lv, .int 0 :: st, ω, c, s) := w_iconst dJ19_numberOfLeadingZeros_13 (v := 0) (by decide) rfl
theorem wJ19_numberOfLeadingZeros_14 : y_w M_J19_numberOfLeadingZeros mc ms Q (14, lv, [.int x], ω, c, s) = Q (.returned (some (.int x))) ω c s := w_ireturnI dJ19_numberOfLeadingZeros_14 rfl
theorem wJ19_numberOfLeadingZeros_15 : y_w M_J19_numberOfLeadingZeros mc ms Q (15, lv, st, ω, c, s) = y_w M_J19_numberOfLeadingZeros mc ms Q (17, lv, .int (nI 31) :: st, ω, c, s) := w_bipush dJ19_numberOfLeadingZeros_15 (v := (nI 31)) (by decide) rfl
theorem wJ19_numberOfLeadingZeros_17 : y_w M_J19_numberOfLeadingZeros mc ms Q (17, lv, .int x :: r, ω, c, s) = y_w M_J19_numberOfLeadingZeros mc ms Q (18, (1, .int x) :: y_kill 1 lv, r, ω, c, s) := w_istore_n dJ19_numberOfLeadingZeros_17 rfl (y_dle rfl) rfl
theorem wJ19_numberOfLeadingZeros_18 : y_w M_J19_numberOfLeadingZeros mc ms Q (18, lv, st, ω, c, s) = y_ldI lv 0 (fun v => y_w M_J19_numberOfLeadingZeros mc ms Q (19, lv, v :: st, ω, c, s)) := w_iload_n dJ19_numberOfLeadingZeros_18 rfl rfl
theorem wJ19_numberOfLeadingZeros_19 : y_w M_J19_numberOfLeadingZeros mc ms Q (19, lv, st, ω, c, s) = y_w M_J19_numberOfLeadingZeros mc ms Q (22, lv, .int (nI 65536) :: st, ω, c, s) := w_ldc_w dJ19_numberOfLeadingZeros_19 rfl rfl rfl
theorem wJ19_numberOfLeadingZeros_22 : y_w M_J19_numberOfLeadingZeros mc ms Q (22, lv, .int y :: .int x :: r, ω, c, s) = ((x < y → y_w M_J19_numberOfLeadingZeros mc ms Q (33, lv, r, ω, c, s)) ∧ (¬ (x < y) → y_w M_J19_numberOfLeadingZeros mc ms Q (25, lv, r, ω, c, s))) := w_icmp dJ19_numberOfLeadingZeros_22 (tgt := 33) rfl rfl rfl
theorem wJ19_numberOfLeadingZeros_25 : y_w M_J19_numberOfLeadingZeros mc ms Q (25, lv, st, ω, c, s) = y_inc lv 1 (fun x => y_w M_J19_numberOfLeadingZeros mc ms Q (28, (1, .int (x + (-16))) :: y_kill 1 lv, st, ω, c, s)) := w_iinc dJ19_numberOfLeadingZeros_25 (d := (-16)) (by decide) (y_dle rfl) rfl
theorem wJ19_numberOfLeadingZeros_28 : y_w M_J19_numberOfLeadingZeros mc ms Q (28, lv, st, ω, c, s) = y_ldI lv 0 (fun v => y_w M_J19_numberOfLeadingZeros mc ms Q (29, lv, v :: st, ω, c, s)) := w_iload_n dJ19_numberOfLeadingZeros_28 rfl rfl
theorem wJ19_numberOfLeadingZeros_29 : y_w M_J19_numberOfLeadingZeros mc ms Q (29, lv, st, ω, c, s) = y_w M_J19_numberOfLeadingZeros mc ms Q (31, lv, .int (nI 16) :: st, ω, c, s) := w_bipush dJ19_numberOfLeadingZeros_29 (v := (nI 16)) (by decide) rfl
theorem wJ19_numberOfLeadingZeros_31 : y_w M_J19_numberOfLeadingZeros mc ms Q (31, lv, .int y :: .int x :: r, ω, c, s) = y_w M_J19_numberOfLeadingZeros mc ms Q (32, lv, .int (x.toUInt32 >>> (y.toUInt32 &&& Int32.toUInt32 31)).toInt32 :: r, ω, c, s) := w_iushr dJ19_numberOfLeadingZeros_31 rfl
theorem wJ19_numberOfLeadingZeros_32 : y_w M_J19_numberOfLeadingZeros mc ms Q (32, lv, .int x :: r, ω, c, s) = y_w M_J19_numberOfLeadingZeros mc ms Q (33, (0, .int x) :: y_kill 0 lv, r, ω, c, s) := w_istore_n dJ19_numberOfLeadingZeros_32 rfl (y_dle rfl) rfl
theorem wJ19_numberOfLeadingZeros_33 : y_w M_J19_numberOfLeadingZeros mc ms Q (33, lv, st, ω, c, s) = y_ldI lv 0 (fun v => y_w M_J19_numberOfLeadingZeros mc ms Q (34, lv, v :: st, ω, c, s)) := w_iload_n dJ19_numberOfLeadingZeros_33 rfl rfl
theorem wJ19_numberOfLeadingZeros_34 : y_w M_J19_numberOfLeadingZeros mc ms Q (34, lv, st, ω, c, s) = y_w M_J19_numberOfLeadingZeros mc ms Q (37, lv, .int (nI 256) :: st, ω, c, s) := w_sipush dJ19_numberOfLeadingZeros_34 (v := (nI 256)) (by decide) rfl
theorem wJ19_numberOfLeadingZeros_37 : y_w M_J19_numberOfLeadingZeros mc ms Q (37, lv, .int y :: .int x :: r, ω, c, s) = ((x < y → y_w M_J19_numberOfLeadingZeros mc ms Q (48, lv, r, ω, c, s)) ∧ (¬ (x < y) → y_w M_J19_numberOfLeadingZeros mc ms Q (40, lv, r, ω, c, s))) := w_icmp dJ19_numberOfLeadingZeros_37 (tgt := 48) rfl rfl rfl
theorem wJ19_numberOfLeadingZeros_40 : y_w M_J19_numberOfLeadingZeros mc ms Q (40, lv, st, ω, c, s) = y_inc lv 1 (fun x => y_w M_J19_numberOfLeadingZeros mc ms Q (43, (1, .int (x + (-8))) :: y_kill 1 lv, st, ω, c, s)) := w_iinc dJ19_numberOfLeadingZeros_40 (d := (-8)) (by decide) (y_dle rfl) rfl
theorem wJ19_numberOfLeadingZeros_43 : y_w M_J19_numberOfLeadingZeros mc ms Q (43, lv, st, ω, c, s) = y_ldI lv 0 (fun v => y_w M_J19_numberOfLeadingZeros mc ms Q (44, lv, v :: st, ω, c, s)) := w_iload_n dJ19_numberOfLeadingZeros_43 rfl rfl
theorem wJ19_numberOfLeadingZeros_44 : y_w M_J19_numberOfLeadingZeros mc ms Q (44, lv, st, ω, c, s) = y_w M_J19_numberOfLeadingZeros mc ms Q (46, lv, .int (nI 8) :: st, ω, c, s) := w_bipush dJ19_numberOfLeadingZeros_44 (v := (nI 8)) (by decide) rfl
theorem wJ19_numberOfLeadingZeros_46 : y_w M_J19_numberOfLeadingZeros mc ms Q (46, lv, .int y :: .int x :: r, ω, c, s) = y_w M_J19_numberOfLeadingZeros mc ms Q (47, lv, .int (x.toUInt32 >>> (y.toUInt32 &&& Int32.toUInt32 31)).toInt32 :: r, ω, c, s) := w_iushr dJ19_numberOfLeadingZeros_46 rfl
theorem wJ19_numberOfLeadingZeros_47 : y_w M_J19_numberOfLeadingZeros mc ms Q (47, lv, .int x :: r, ω, c, s) = y_w M_J19_numberOfLeadingZeros mc ms Q (48, (0, .int x) :: y_kill 0 lv, r, ω, c, s) := w_istore_n dJ19_numberOfLeadingZeros_47 rfl (y_dle rfl) rfl
theorem wJ19_numberOfLeadingZeros_48 : y_w M_J19_numberOfLeadingZeros mc ms Q (48, lv, st, ω, c, s) = y_ldI lv 0 (fun v => y_w M_J19_numberOfLeadingZeros mc ms Q (49, lv, v :: st, ω, c, s)) := w_iload_n dJ19_numberOfLeadingZeros_48 rfl rfl
theorem wJ19_numberOfLeadingZeros_49 : y_w M_J19_numberOfLeadingZeros mc ms Q (49, lv, st, ω, c, s) = y_w M_J19_numberOfLeadingZeros mc ms Q (51, lv, .int (nI 16) :: st, ω, c, s) := w_bipush dJ19_numberOfLeadingZeros_49 (v := (nI 16)) (by decide) rfl
theorem wJ19_numberOfLeadingZeros_51 : y_w M_J19_numberOfLeadingZeros mc ms Q (51, lv, .int y :: .int x :: r, ω, c, s) = ((x < y → y_w M_J19_numberOfLeadingZeros mc ms Q (61, lv, r, ω, c, s)) ∧ (¬ (x < y) → y_w M_J19_numberOfLeadingZeros mc ms Q (54, lv, r, ω, c, s))) := w_icmp dJ19_numberOfLeadingZeros_51 (tgt := 61) rfl rfl rfl
theorem wJ19_numberOfLeadingZeros_54 : y_w M_J19_numberOfLeadingZeros mc ms Q (54, lv, st, ω, c, s) = y_inc lv 1 (fun x => y_w M_J19_numberOfLeadingZeros mc ms Q (57, (1, .int (x + (-4))) :: y_kill 1 lv, st, ω, c, s)) := w_iinc dJ19_numberOfLeadingZeros_54 (d := (-4)) (by decide) (y_dle rfl) rfl
theorem wJ19_numberOfLeadingZeros_57 : y_w M_J19_numberOfLeadingZeros mc ms Q (57, lv, st, ω, c, s) = y_ldI lv 0 (fun v => y_w M_J19_numberOfLeadingZeros mc ms Q (58, lv, v :: st, ω, c, s)) := w_iload_n dJ19_numberOfLeadingZeros_57 rfl rfl
theorem wJ19_numberOfLeadingZeros_58 : y_w M_J19_numberOfLeadingZeros mc ms Q (58, lv, st, ω, c, s) = y_w M_J19_numberOfLeadingZeros mc ms Q (59, lv, .int (nI 4) :: st, ω, c, s) := w_iconst dJ19_numberOfLeadingZeros_58 (v := (nI 4)) (by decide) rfl
theorem wJ19_numberOfLeadingZeros_59 : y_w M_J19_numberOfLeadingZeros mc ms Q (59, lv, .int y :: .int x :: r, ω, c, s) = y_w M_J19_numberOfLeadingZeros mc ms Q (60, lv, .int (x.toUInt32 >>> (y.toUInt32 &&& Int32.toUInt32 31)).toInt32 :: r, ω, c, s) := w_iushr dJ19_numberOfLeadingZeros_59 rfl
theorem wJ19_numberOfLeadingZeros_60 : y_w M_J19_numberOfLeadingZeros mc ms Q (60, lv, .int x :: r, ω, c, s) = y_w M_J19_numberOfLeadingZeros mc ms Q (61, (0, .int x) :: y_kill 0 lv, r, ω, c, s) := w_istore_n dJ19_numberOfLeadingZeros_60 rfl (y_dle rfl) rfl
theorem wJ19_numberOfLeadingZeros_61 : y_w M_J19_numberOfLeadingZeros mc ms Q (61, lv, st, ω, c, s) = y_ldI lv 0 (fun v => y_w M_J19_numberOfLeadingZeros mc ms Q (62, lv, v :: st, ω, c, s)) := w_iload_n dJ19_numberOfLeadingZeros_61 rfl rfl
theorem wJ19_numberOfLeadingZeros_62 : y_w M_J19_numberOfLeadingZeros mc ms Q (62, lv, st, ω, c, s) = y_w M_J19_numberOfLeadingZeros mc ms Q (63, lv, .int (nI 4) :: st, ω, c, s) := w_iconst dJ19_numberOfLeadingZeros_62 (v := (nI 4)) (by decide) rfl
theorem wJ19_numberOfLeadingZeros_63 : y_w M_J19_numberOfLeadingZeros mc ms Q (63, lv, .int y :: .int x :: r, ω, c, s) = ((x < y → y_w M_J19_numberOfLeadingZeros mc ms Q (73, lv, r, ω, c, s)) ∧ (¬ (x < y) → y_w M_J19_numberOfLeadingZeros mc ms Q (66, lv, r, ω, c, s))) := w_icmp dJ19_numberOfLeadingZeros_63 (tgt := 73) rfl rfl rfl
theorem wJ19_numberOfLeadingZeros_66 : y_w M_J19_numberOfLeadingZeros mc ms Q (66, lv, st, ω, c, s) = y_inc lv 1 (fun x => y_w M_J19_numberOfLeadingZeros mc ms Q (69, (1, .int (x + (-2))) :: y_kill 1 lv, st, ω, c, s)) := w_iinc dJ19_numberOfLeadingZeros_66 (d := (-2)) (by decide) (y_dle rfl) rfl
theorem wJ19_numberOfLeadingZeros_69 : y_w M_J19_numberOfLeadingZeros mc ms Q (69, lv, st, ω, c, s) = y_ldI lv 0 (fun v => y_w M_J19_numberOfLeadingZeros mc ms Q (70, lv, v :: st, ω, c, s)) := w_iload_n dJ19_numberOfLeadingZeros_69 rfl rfl
theorem wJ19_numberOfLeadingZeros_70 : y_w M_J19_numberOfLeadingZeros mc ms Q (70, lv, st, ω, c, s) = y_w M_J19_numberOfLeadingZeros mc ms Q (71, lv, .int (nI 2) :: st, ω, c, s) := w_iconst dJ19_numberOfLeadingZeros_70 (v := (nI 2)) (by decide) rfl
theorem wJ19_numberOfLeadingZeros_71 : y_w M_J19_numberOfLeadingZeros mc ms Q (71, lv, .int y :: .int x :: r, ω, c, s) = y_w M_J19_numberOfLeadingZeros mc ms Q (72, lv, .int (x.toUInt32 >>> (y.toUInt32 &&& Int32.toUInt32 31)).toInt32 :: r, ω, c, s) := w_iushr dJ19_numberOfLeadingZeros_71 rfl
theorem wJ19_numberOfLeadingZeros_72 : y_w M_J19_numberOfLeadingZeros mc ms Q (72, lv, .int x :: r, ω, c, s) = y_w M_J19_numberOfLeadingZeros mc ms Q (73, (0, .int x) :: y_kill 0 lv, r, ω, c, s) := w_istore_n dJ19_numberOfLeadingZeros_72 rfl (y_dle rfl) rfl
theorem wJ19_numberOfLeadingZeros_73 : y_w M_J19_numberOfLeadingZeros mc ms Q (73, lv, st, ω, c, s) = y_ldI lv 1 (fun v => y_w M_J19_numberOfLeadingZeros mc ms Q (74, lv, v :: st, ω, c, s)) := w_iload_n dJ19_numberOfLeadingZeros_73 rfl rfl
theorem wJ19_numberOfLeadingZeros_74 : y_w M_J19_numberOfLeadingZeros mc ms Q (74, lv, st, ω, c, s) = y_ldI lv 0 (fun v => y_w M_J19_numberOfLeadingZeros mc ms Q (75, lv, v :: st, ω, c, s)) := w_iload_n dJ19_numberOfLeadingZeros_74 rfl rfl
theorem wJ19_numberOfLeadingZeros_75 : y_w M_J19_numberOfLeadingZeros mc ms Q (75, lv, st, ω, c, s) = y_w M_J19_numberOfLeadingZeros mc ms Q (76, lv, .int 1 :: st, ω, c, s) := w_iconst dJ19_numberOfLeadingZeros_75 (v := 1) (by decide) rfl
theorem wJ19_numberOfLeadingZeros_76 : y_w M_J19_numberOfLeadingZeros mc ms Q (76, lv, .int y :: .int x :: r, ω, c, s) = y_w M_J19_numberOfLeadingZeros mc ms Q (77, lv, .int (x.toUInt32 >>> (y.toUInt32 &&& Int32.toUInt32 31)).toInt32 :: r, ω, c, s) := w_iushr dJ19_numberOfLeadingZeros_76 rfl
theorem wJ19_numberOfLeadingZeros_77 : y_w M_J19_numberOfLeadingZeros mc ms Q (77, lv, .int y :: .int x :: r, ω, c, s) = y_w M_J19_numberOfLeadingZeros mc ms Q (78, lv, .int (x - y) :: r, ω, c, s) := w_isub dJ19_numberOfLeadingZeros_77 rfl
theorem wJ19_numberOfLeadingZeros_78 : y_w M_J19_numberOfLeadingZeros mc ms Q (78, lv, [.int x], ω, c, s) = Q (.returned (some (.int x))) ω c s := w_ireturnI dJ19_numberOfLeadingZeros_78 rfl
def P_J18_numberOfLeadingZeros : y_Pool := ([], [], [], [(308, 0, 0, 1, (1, 21), F_J19_numberOfLeadingZeros)], [], [], [])
def M_J18_numberOfLeadingZeros : y_Md := (cJ18_numberOfLeadingZeros, "java/lang/Long", (3, (some FieldType.int)), (1, 21), false, P_J18_numberOfLeadingZeros, [])
def F_J18_numberOfLeadingZeros : y_Tr := y_F M_J18_numberOfLeadingZeros
theorem nJ18_numberOfLeadingZeros : y_nL M_J18_numberOfLeadingZeros = 3 := rfl
theorem wJ18_numberOfLeadingZeros_0 : y_w M_J18_numberOfLeadingZeros mc ms Q (0, lv, st, ω, c, s) = y_ldL lv 0 (fun v => y_w M_J18_numberOfLeadingZeros mc ms Q (1, lv, v :: st, ω, c, s)) := w_lload_n dJ18_numberOfLeadingZeros_0 rfl rfl
theorem wJ18_numberOfLeadingZeros_1 : y_w M_J18_numberOfLeadingZeros mc ms Q (1, lv, st, ω, c, s) = y_w M_J18_numberOfLeadingZeros mc ms Q (3, lv, .int (nI 32) :: st, ω, c, s) := w_bipush dJ18_numberOfLeadingZeros_1 (v := (nI 32)) (by decide) rfl
theorem wJ18_numberOfLeadingZeros_3 : y_w M_J18_numberOfLeadingZeros mc ms Q (3, lv, .int y :: .long z :: r, ω, c, s) = y_w M_J18_numberOfLeadingZeros mc ms Q (4, lv, .long (z.toUInt64 >>> (y.toInt64.toUInt64 &&& Int64.toUInt64 63)).toInt64 :: r, ω, c, s) := w_lushr dJ18_numberOfLeadingZeros_3 rfl
theorem wJ18_numberOfLeadingZeros_4 : y_w M_J18_numberOfLeadingZeros mc ms Q (4, lv, .long z :: r, ω, c, s) = y_w M_J18_numberOfLeadingZeros mc ms Q (5, lv, .int z.toInt32 :: r, ω, c, s) := w_l2i dJ18_numberOfLeadingZeros_4 rfl
theorem wJ18_numberOfLeadingZeros_5 : y_w M_J18_numberOfLeadingZeros mc ms Q (5, lv, .int x :: r, ω, c, s) = y_w M_J18_numberOfLeadingZeros mc ms Q (6, (2, .int x) :: y_kill 2 lv, r, ω, c, s) := w_istore_n dJ18_numberOfLeadingZeros_5 rfl (y_dle rfl) rfl
theorem wJ18_numberOfLeadingZeros_6 : y_w M_J18_numberOfLeadingZeros mc ms Q (6, lv, st, ω, c, s) = y_ldI lv 2 (fun v => y_w M_J18_numberOfLeadingZeros mc ms Q (7, lv, v :: st, ω, c, s)) := w_iload_n dJ18_numberOfLeadingZeros_6 rfl rfl
theorem wJ18_numberOfLeadingZeros_7 : y_w M_J18_numberOfLeadingZeros mc ms Q (7, lv, .int x :: r, ω, c, s) = ((¬ x = 0 → y_w M_J18_numberOfLeadingZeros mc ms Q (21, lv, r, ω, c, s)) ∧ (¬ (¬ x = 0) → y_w M_J18_numberOfLeadingZeros mc ms Q (10, lv, r, ω, c, s))) := w_if dJ18_numberOfLeadingZeros_7 (tgt := 21) rfl rfl rfl
theorem wJ18_numberOfLeadingZeros_10 : y_w M_J18_numberOfLeadingZeros mc ms Q (10, lv, st, ω, c, s) = y_w M_J18_numberOfLeadingZeros mc ms Q (12, lv, .int (nI 32) :: st, ω, c, s) := w_bipush dJ18_numberOfLeadingZeros_10 (v := (nI 32)) (by decide) rfl
theorem wJ18_numberOfLeadingZeros_12 : y_w M_J18_numberOfLeadingZeros mc ms Q (12, lv, st, ω, c, s) = y_ldL lv 0 (fun v => y_w M_J18_numberOfLeadingZeros mc ms Q (13, lv, v :: st, ω, c, s)) := w_lload_n dJ18_numberOfLeadingZeros_12 rfl rfl
theorem wJ18_numberOfLeadingZeros_13 : y_w M_J18_numberOfLeadingZeros mc ms Q (13, lv, .long z :: r, ω, c, s) = y_w M_J18_numberOfLeadingZeros mc ms Q (14, lv, .int z.toInt32 :: r, ω, c, s) := w_l2i dJ18_numberOfLeadingZeros_13 rfl
theorem wJ18_numberOfLeadingZeros_14 : y_w M_J18_numberOfLeadingZeros mc ms Q (14, lv, v0 :: r, ω, c, s) = (y_cat r ≤ 8 ∧ F_J19_numberOfLeadingZeros mc ms [v0] ω c s (y_aft M_J18_numberOfLeadingZeros 14 3 lv r (y_w M_J18_numberOfLeadingZeros mc ms Q) Q)) := w_call0 (av := [v0]) ⟨Or.inr ⟨rfl, rfl⟩, rfl⟩ dJ18_numberOfLeadingZeros_14 rfl (y_F_mono _) (y_dle rfl) (y_dle rfl) rfl rfl
theorem wJ18_numberOfLeadingZeros_17 : y_w M_J18_numberOfLeadingZeros mc ms Q (17, lv, .int y :: .int x :: r, ω, c, s) = y_w M_J18_numberOfLeadingZeros mc ms Q (18, lv, .int (x + y) :: r, ω, c, s) := w_iadd dJ18_numberOfLeadingZeros_17 rfl
theorem wJ18_numberOfLeadingZeros_18 : y_w M_J18_numberOfLeadingZeros mc ms Q (18, lv, st, ω, c, s) = y_w M_J18_numberOfLeadingZeros mc ms Q (25, lv, st, ω, c, s) := w_goto dJ18_numberOfLeadingZeros_18 (tgt := 25) (by decide) rfl
theorem wJ18_numberOfLeadingZeros_21 : y_w M_J18_numberOfLeadingZeros mc ms Q (21, lv, st, ω, c, s) = y_ldI lv 2 (fun v => y_w M_J18_numberOfLeadingZeros mc ms Q (22, lv, v :: st, ω, c, s)) := w_iload_n dJ18_numberOfLeadingZeros_21 rfl rfl
theorem wJ18_numberOfLeadingZeros_22 : y_w M_J18_numberOfLeadingZeros mc ms Q (22, lv, v0 :: r, ω, c, s) = (y_cat r ≤ 8 ∧ F_J19_numberOfLeadingZeros mc ms [v0] ω c s (y_aft M_J18_numberOfLeadingZeros 22 3 lv r (y_w M_J18_numberOfLeadingZeros mc ms Q) Q)) := w_call0 (av := [v0]) ⟨Or.inr ⟨rfl, rfl⟩, rfl⟩ dJ18_numberOfLeadingZeros_22 rfl (y_F_mono _) (y_dle rfl) (y_dle rfl) rfl rfl
theorem wJ18_numberOfLeadingZeros_25 : y_w M_J18_numberOfLeadingZeros mc ms Q (25, lv, [.int x], ω, c, s) = Q (.returned (some (.int x))) ω c s := w_ireturnI dJ18_numberOfLeadingZeros_25 rfl
end
