/-! the component's part of the world -/
def w_Hx (g : w_G) (ξ : x_S) (Ω : y_Hp) (a : Nat) (H : Nat → Nat → Nat) : Prop := ∀ k, k < a → ∃ b, x_r ξ 15 k = some b ∧ w_L g Ω b (H k)
def w_Cx (g : w_G) (ξ : x_S) (Ω : y_Hp) (N : Nat → Nat) : Prop := l_N (x_l ξ) N ∧ n_ok N ∧ n_sm N ∧ w_P g Ω (x_l ξ).2.1 N
def w_hd (x : Nat) (g : w_G) (ξ : x_S) (σ : m_S) (Ω : y_Hp) : Prop := x + 34 ≤ Ω.1 ∧ (∀ k, k < 34 → k ≠ 8 → k ≠ 17 → k ≠ 18 → g (x + k) = some x) ∧ g (x + 8) = none ∧ Ω.2 (x + 8) = some (true, l_cell (x + 3) (x_l ξ) 5) ∧ ∀ k, k < 13 → Ω.2 (x + 21 + k) = some (true, m_cell (x + 21) σ k)
def w_X (ad : y_Ad) (x : Nat) (g : w_G) (ξ : x_S) (σ : m_S) (N : Nat → Nat) (a : Nat) (H : Nat → Nat → Nat) (Ω : y_Hp) : Prop := w_hd x g ξ σ Ω ∧ (x_i ξ 6 = nI a ∧ a ≤ 24) ∧ w_Cx g ξ Ω N ∧ w_D x g ξ Ω ∧ w_Hx g ξ Ω a H ∧ w_Im g ξ Ω σ ∧ w_R x g ξ Ω σ ∧ w_T x g ξ Ω σ ∧ w_K ad g Ω
theorem w_I_X {ad : y_Ad} {x : Nat} {g : w_G} {ξ : x_S} {σ : m_S} {N : Nat → Nat} {a : Nat} {H : Nat → Nat → Nat} {Ω : y_Hp} (h : w_I ad x g ξ σ N a H Ω) : w_X ad x g ξ σ N a H Ω := by
  obtain ⟨hA, hSc, hC, hD, hH, hIm, hR, hT, hTp, hK⟩ := h
  exact ⟨⟨hA.1, hA.2.2.2.1, hA.2.2.2.2, hA.2.1 8 (by unfold x_own; omega), hA.2.2.1⟩, ⟨hSc.2.1, hSc.2.2.2.1⟩, ⟨hC.1, hC.2.2.1, hC.2.2.2.1, hC.2.2.2.2⟩, hD, fun k hk => (hH k hk).1, hIm, hR, hT, hK⟩
theorem w_hd_out {x : Nat} {g : w_G} {ξ ξ2 : x_S} {σ σ2 : m_S} {Ω : y_Hp} (h : w_hd x g ξ σ Ω) (hl : (x_l ξ2).2.2.1 = (x_l ξ).2.2.1) : w_fr (fun t => t = some x) g g Ω (w_out x ξ2 σ2 Ω) := by
  refine ⟨Nat.le_refl _, fun a _ => ⟨rfl, fun hne => ?_⟩⟩
  show (m_H (x + 21) σ2 (x_H x ξ2 Ω)).2 a = _
  by_cases hm : x + 21 ≤ a ∧ a < x + 34
  · have := h.2.1 (a - x) (by omega) (by omega) (by omega) (by omega)
    rw [show x + (a - x) = a by omega] at this
    exact (hne this).elim
  · rw [m_off (by omega)]
    by_cases ho : x_own x a
    · by_cases h8 : a = x + 8
      · subst h8
        rw [x_in ho, h.2.2.2.1]
        show some (true, l_cell (x + 3) (x_l ξ2) 5) = some (true, l_cell (x + 3) (x_l ξ) 5)
        unfold l_cell
        simp only [Nat.reduceEqDiff, if_false, if_true, hl]
      · have ho2 := ho
        unfold x_own at ho2
        have := h.2.1 (a - x) (by omega) (by omega) (by omega) (by omega)
        rw [show x + (a - x) = a by omega] at this
        exact (hne this).elim
    · rw [x_off ho]
/-- where the blocks lie: none of them is the object's -/
theorem w_X_ne {ad : y_Ad} {x : Nat} {g : w_G} {ξ : x_S} {σ : m_S} {N : Nat → Nat} {a : Nat} {H : Nat → Nat → Nat} {Ω : y_Hp} (h : w_X ad x g ξ σ N a H Ω) : (∀ i b, i < 26 → w_sl ξ i = some b → x + 34 ≤ b ∧ b + 12 ≤ Ω.1) ∧ (∀ r q, r < 8 → x_r ξ 1 r = some q → x + 34 ≤ q ∧ q + 1 < Ω.1 ∧ y_cls Ω q = some 5) ∧ (x + 17 ≤ x_tr ξ ∧ x_tr ξ + 1 < Ω.1 ∧ y_cls Ω (x_tr ξ) = some 2) := by
  obtain ⟨hh, hc, hC, hD, hH, hIm, hR, hT, hK⟩ := h
  refine ⟨fun i b hi hb => ?_, fun r q hr hq => ?_, ?_⟩
  · obtain ⟨h1, l, h2⟩ := hD.1 i b hi hb
    have := (h2.2 11 (by decide)).1
    exact ⟨h1, by omega⟩
  · rcases hR.1 r hr with ⟨z1, -⟩ | ⟨q2, ln, n, f, z1, ⟨z2, z3, -⟩, z4, -⟩
    · rw [z1] at hq; cases hq
    · rw [z1] at hq; cases hq; exact ⟨z2, z3, y_cls_of z4⟩
  · obtain ⟨n, f, ⟨z1, z2, -⟩, z5, -⟩ := hT
    exact ⟨z1, z2, y_cls_of z5⟩
/-- behind the reference's work: the whole world again -/
theorem w_X_fin {ad : y_Ad} {x : Nat} {g : w_G} {ξ : x_S} {σ σ2 : m_S} {N : Nat → Nat} {a : Nat} {H : Nat → Nat → Nat} {Ω : y_Hp} (hX : w_X ad x g ξ σ N a H Ω) (h4 : ∀ j, j < 68 → m_a σ2 4 j = nI (N j)) (h6 : ∀ k, k < a → ∀ j, j < 68 → m_a σ2 6 (68 * k + j) = nI (H k j)) (h1 : m_a σ2 1 = m_a σ 1) (h2 : m_a σ2 2 = m_a σ 2) (h3 : m_a σ2 3 = m_a σ 3) (h10 : m_a σ2 10 = m_a σ 10) (h11 : m_a σ2 11 = m_a σ 11) (h12 : m_a σ2 12 = m_a σ 12) (h24 : m_i σ2 24 = m_i σ 24) (s1 : x_i ξ 3 = m_i σ2 11) (s2 : m_i σ2 8 = nI a) (s3 : x_i ξ 9 = m_i σ2 1) (hTp : w_Tp ξ σ2) : w_I ad x g ξ σ2 N a H (w_out x ξ σ2 Ω) := by
  have hne := w_X_ne hX
  obtain ⟨hh, hc, hC, hD, hH, hIm, hR, hT, hK⟩ := hX
  have hf := w_hd_out (ξ2 := ξ) (σ2 := σ2) hh rfl
  have hs : ∀ i b, i < 26 → w_sl ξ i = some b → ¬ some b = some x := fun i b hi hb q => by
    have := (hne.1 i b hi hb).1
    cases q; omega
  have hp : ∀ k, k < a → w_sl ξ k = x_r ξ 15 k := fun k hk => by unfold w_sl; rw [if_pos (by omega)]
  refine ⟨w_out_A hh.1 hh.2.1 hh.2.2.1, ⟨s1, hc.1, s2, hc.2, s3⟩, ⟨hC.1, h4, hC.2.1, hC.2.2.1, w_P_fr hC.2.2.2 hf (by simp)⟩, w_D_fr hD hf (fun _ _ => rfl) hs, fun k hk => ⟨?_, h6 k hk⟩, w_Im_fr hIm hf rfl h10 h11 (by simp) (fun k b hk hb => hs (24 + k) b (by omega) (by unfold w_sl; rw [if_neg (by omega), show 24 + k - 24 = k by omega]; exact hb)), w_R_fr hR hf rfl h1 h2 h3 (fun r q hr hq z => ?_), w_T_fr hT hf rfl h24 h12 (fun z => ?_), hTp, w_K_fr hK hf (by simp)⟩
  · obtain ⟨b, b1, b2⟩ := hH k hk
    exact ⟨b, b1, w_L_fr b2 hf (hs k b (by omega) (by rw [hp k hk]; exact b1)) (by simp)⟩
  · have := hne.2.1 r q hr hq
    cases z; omega
  · have := hne.2.2.1
    have : x_tr ξ = x := by simpa using z
    omega
/-- a block b is written (one that is no row and no trail): what stays -/
theorem w_X_fr {ad : y_Ad} {x b : Nat} {g g2 : w_G} {ξ : x_S} {σ : m_S} {N : Nat → Nat} {a : Nat} {H : Nat → Nat → Nat} {Ω Ω2 : y_Hp} (hX : w_X ad x g ξ σ N a H Ω) (hf : w_fr (fun t => t = some b) g g2 Ω Ω2) (hb : x + 34 ≤ b) (hr : ∀ r, r < 8 → x_r ξ 1 r ≠ some b) (ht : x_tr ξ ≠ b) (him : ∀ k, k < 2 → x_r ξ 16 k ≠ some b) : w_hd x g2 ξ σ Ω2 ∧ w_Cx g2 ξ Ω2 N ∧ w_Im g2 ξ Ω2 σ ∧ w_R x g2 ξ Ω2 σ ∧ w_T x g2 ξ Ω2 σ ∧ w_K ad g2 Ω2 := by
  obtain ⟨hh, hc, hC, hD, hH, hIm, hR, hT, hK⟩ := hX
  have h34 := hh.1
  refine ⟨⟨Nat.le_trans hh.1 hf.1, fun k k1 k2 k3 k4 => (hf.2 _ (by omega)).1.trans (hh.2.1 k k1 k2 k3 k4), (hf.2 _ (by omega)).1.trans hh.2.2.1, ((hf.2 _ (by omega)).2 (by rw [hh.2.2.1]; simp)).trans hh.2.2.2.1, fun k hk => ((hf.2 _ (by omega)).2 (by rw [Nat.add_assoc, hh.2.1 (21 + k) (by omega) (by omega) (by omega) (by omega)]; intro q; cases q; omega)).trans (hh.2.2.2.2 k hk)⟩, ⟨hC.1, hC.2.1, hC.2.2.1, w_P_fr hC.2.2.2 hf (by simp)⟩, w_Im_fr hIm hf rfl rfl rfl (by simp) (fun k b2 hk hb2 z => him k hk (by rw [hb2]; exact z)), w_R_fr hR hf rfl rfl rfl rfl (fun r q hr2 hq z => hr r hr2 (by rw [hq]; exact z)), w_T_fr hT hf rfl rfl rfl (fun z => ht (by simpa using z)), w_K_fr hK hf (by simp)⟩
theorem x_lcomm {x b : Nat} {ξ : x_S} {l : l_S} {ω : y_Hp} (h : x + 21 ≤ b) : l_H b l (x_H x ξ ω) = x_H x ξ (l_H b l ω) := by
  refine Prod.ext rfl (funext fun a => ?_)
  show (if b ≤ a ∧ a < b + 12 then some (true, l_cell b l (a - b)) else if x_own x a then some (true, x_cell x ξ (a - x)) else ω.2 a) = (if x_own x a then some (true, x_cell x ξ (a - x)) else if b ≤ a ∧ a < b + 12 then some (true, l_cell b l (a - b)) else ω.2 a)
  by_cases q : x_own x a
  · have q2 := q
    unfold x_own at q2
    rw [if_neg (by omega), if_pos q, if_pos q]
  · rw [if_neg q, if_neg q]
theorem l_H_fr {g : w_G} {b : Nat} {l l2 : l_S} {Ω : y_Hp} (h : w_B g Ω b l) : w_fr (fun t => t = some b) g g Ω (l_H b l2 Ω) := by
  refine ⟨Nat.le_refl _, fun a _ => ⟨rfl, fun n => l_off ?_⟩⟩
  rcases Nat.lt_or_ge a b with z | z
  · exact .inl z
  · rcases Nat.lt_or_ge a (b + 12) with z2 | z2
    · have := (h.2 (a - b) (by omega)).2
      rw [show b + (a - b) = a by omega] at this
      exact (n this).elim
    · exact .inr z2
theorem l_H_w {g : w_G} {b : Nat} {l l2 : l_S} {Ω : y_Hp} (h : w_B g Ω b l) : w_B g (l_H b l2 Ω) b l2 := ⟨l_BH, h.2⟩
theorem lp_X0_keep_90 {ad : y_Ad} {x b mc ms c s : Nat} {Q : y_Po} {lv : y_Lv} {g : w_G} {ξ : x_S} {σ : m_S} {N : Nat → Nat} {a : Nat} {H : Nat → Nat → Nat} {Ω : y_Hp} (hX : w_X ad x g ξ σ N a H Ω) (hlv : ∀ K, y_ldA lv 0 K = K (.ref x)) (ha : a ≤ 23) (hb : x_r ξ 15 a = some b) (hQ : ∀ Ω2 : y_Hp, w_X ad x g (x_si ξ 6 (nI (a + 1))) σ N (a + 1) (fun k => if k < a then H k else N) Ω2 → Q (.returned none) (x_H x (x_si ξ 6 (nI (a + 1))) Ω2) c s) : y_w (M_X0_keep ad) mc ms Q (90, lv, [], x_H x ξ Ω, c, s) := by
  have hne := w_X_ne hX
  obtain ⟨hh, hc, hC, hD, hH, hIm, hR, hT, hK⟩ := id hX
  have hsb : w_sl ξ a = some b := by unfold w_sl; rw [if_pos (by omega)]; exact hb
  have h6 := hc.1
  obtain ⟨hb1, lb, hwB⟩ := hD.1 a b (by omega) hsb
  have hBx : l_B b lb (x_H x ξ Ω) := fun k hk => by rw [x_off (by unfold x_own; omega)]; exact hwB.1 k hk
  have hcb : y_cls (x_H x ξ Ω) b = some 1 := l_cls hBx
  have hcb2 : y_cls Ω b = some 1 := l_cls hwB.1
  simp (disch := first | omega | (simp only [m_cls0, x_cls0, x_clsL, l_hcls]) | assumption) only [nX0_keep, wX0_keep_0, wX0_keep_1, wX0_keep_4, wX0_keep_6, wX0_keep_9, wX0_keep_10, wX0_keep_13, wX0_keep_14, wX0_keep_15, wX0_keep_16, wX0_keep_17, wX0_keep_19, wX0_keep_21, wX0_keep_24, wX0_keep_25, wX0_keep_28, wX0_keep_29, wX0_keep_30, wX0_keep_31, wX0_keep_32, wX0_keep_35, wX0_keep_36, wX0_keep_37, wX0_keep_38, wX0_keep_41, wX0_keep_44, wX0_keep_45, wX0_keep_48, wX0_keep_50, wX0_keep_51, wX0_keep_52, wX0_keep_53, wX0_keep_54, wX0_keep_57, wX0_keep_58, wX0_keep_59, wX0_keep_62, wX0_keep_63, wX0_keep_66, wX0_keep_67, wX0_keep_70, wX0_keep_71, wX0_keep_74, wX0_keep_75, wX0_keep_78, wX0_keep_79, wX0_keep_82, wX0_keep_85, wX0_keep_86, wX0_keep_89, wX0_keep_90, wX0_keep_91, wX0_keep_94, wX0_keep_95, wX0_keep_98, wX0_keep_99, wX0_keep_100, wX0_keep_103, wX0_keep_106, wX0_keep_107, wX0_keep_108, wX0_keep_109, wX0_keep_112, wX0_keep_113, wX0_keep_114, wX0_keep_117, fX0_keep_158_0, fX0_keep_43_0, fX0_keep_39_0, y_oinit_s, y_ref_s, y_args0, y_argsI, y_argsR, y_argsN, y_argsL, y_ldI_hit, y_ldI_miss, y_ldL_hit, y_ldL_miss, y_ldA_hit, y_ldA_hitN, y_ldA_miss, y_kill_nil, y_kill_hit, y_kill_keep, y_kill_i, y_kill_r, y_kill_z, y_kill_l, y_kill2_nil, y_kill2_hit, y_kill2_hit1, y_kill2_keep, y_kill2_i, y_kill2_r, y_kill2_l, y_inc_hit, y_inc_miss, y_isA_r, y_isA_n, y_gf_ob, y_gf2_s, y_gf3_s, y_pf_ob, y_pf2_i, y_pf2_r, y_pf2_n, y_pf2_a, y_rI_s, y_rB_s1, y_rB_s3, y_rL_s, y_rA_s, y_wI_s, y_wB_s1, y_wB_s3, y_wL_s, y_wA_s, y_al_s, y_cat_i, y_cat_r, y_cat_n, y_nul_n, y_nul_r, y_catE, y_catI, y_catL, y_catR, y_aft_s, y_aft_n, y_b_0, y_b_nar, y_nar1, y_nar0, y_10, y_catZ, y_clN, y_vin0, y_vin1, y_cl0, y_cl1, x_at0, x_at1, x_at2, x_at15, x_at16, x_at19, x_at20, x_fs_len, x_p2, x_p3, x_p6, x_p9, x_p8, x_puti, x_putt, x_put1, x_put2, x_put15, x_put16, x_put19, x_put20, l_wi, l_wp, l_fs_len, l_p0, l_p1, l_p2, l_p7, y_rf_s, y_rf_n, y_tsc_o, y_tsc_a, y_tsd_1, y_tsd_0, y_tst_s, y_fo1, y_fl1, y_fo2, x_lwi, y_thr_0, x_sl_sl, x_si_si, x_sg_sg, x_st_st, l_a_sa, l_1_sa, l_p_sa, l_o_sa, l_a_si, l_1_si, l_p_si, l_o_si, x_i_si, x_i_sr, x_i_st, x_i_sl, x_i_str, x_i_sg, x_r_si, x_r_sr, x_r_st, x_r_sl, x_r_str, x_r_sg, x_t_si, x_t_sr, x_t_st, x_t_sl, x_t_str, x_t_sg, x_l_si, x_l_sr, x_l_st, x_l_sl, x_l_str, x_l_sg, x_tr_si, x_tr_sr, x_tr_st, x_tr_sl, x_tr_str, x_tr_sg, x_g_si, x_g_sr, x_g_st, x_g_sl, x_g_str, x_g_sg, x_lat0, x_lat1, x_lat2, x_lat3, x_lat4, x_lat5, x_lat6, x_lat7, x_lat8, x_lat9, x_lat10, x_lat11, x_gf0, x_gf1, x_gf2, x_gf3, x_gf4, x_gf5, x_gf6, x_gf7, x_gf8, x_gf9, x_gf10, x_gf11, l_h0, l_h1, l_h2, l_h3, l_h4, l_h5, l_h6, l_h7, l_h8, l_h9, l_h10, l_h11, l_g0, l_g1, l_g2, l_g3, l_g4, l_g5, l_g6, l_g7, l_g8, l_g9, l_g10, l_g11, l_g12, l_g13, l_w1, l_w2, l_w3, l_w4, l_w6, l_w7, l_w8, l_w9, l_w10, l_w11, x_lw1, x_lw2, x_lw3, x_lw4, x_lw6, x_lw7, x_lw8, x_lw9, x_lw10, x_lw11, y_nIm, nI_add, nI_1, y_vinT, y_clN, y_leT, y_leF, y_ltT, y_ltF, y_eqF, y_leN, y_ltN, y_eqN, y_ge0, y_nlt0, y_sub1, m_sa_si, m_si_si, m_sa_sa, m_sl_si, m_sl_sa, m_sl_sl, Nat.add_zero, Nat.zero_add, Nat.le_refl, not_false_eq_true, not_true_eq_false, true_and, and_true, false_and, and_false, if_true, if_false, true_implies, false_implies, implies_true, Bool.false_eq_true, forall_const, imp_self, Nat.one_ne_zero, Nat.zero_ne_one, Nat.succ_ne_self, reduceCtorEq, Nat.reduceAdd, Nat.reduceMul, Nat.reduceSub, Nat.reduceLT, Nat.reduceEqDiff, Nat.reduceLeDiff, reduceIte, Nat.reduceBEq, hlv, h6, hb]
  rw [← l_HB hBx]
  refine F_X1_become_r (N := N) x_atL (by omega) hC.1 (fun l3 g1 g2 g3 => ?_)
  rw [x_lcomm (by omega)]
  simp (disch := first | omega | (simp only [m_cls0, x_cls0, x_clsL, l_hcls]) | assumption) only [nX0_keep, wX0_keep_0, wX0_keep_1, wX0_keep_4, wX0_keep_6, wX0_keep_9, wX0_keep_10, wX0_keep_13, wX0_keep_14, wX0_keep_15, wX0_keep_16, wX0_keep_17, wX0_keep_19, wX0_keep_21, wX0_keep_24, wX0_keep_25, wX0_keep_28, wX0_keep_29, wX0_keep_30, wX0_keep_31, wX0_keep_32, wX0_keep_35, wX0_keep_36, wX0_keep_37, wX0_keep_38, wX0_keep_41, wX0_keep_44, wX0_keep_45, wX0_keep_48, wX0_keep_50, wX0_keep_51, wX0_keep_52, wX0_keep_53, wX0_keep_54, wX0_keep_57, wX0_keep_58, wX0_keep_59, wX0_keep_62, wX0_keep_63, wX0_keep_66, wX0_keep_67, wX0_keep_70, wX0_keep_71, wX0_keep_74, wX0_keep_75, wX0_keep_78, wX0_keep_79, wX0_keep_82, wX0_keep_85, wX0_keep_86, wX0_keep_89, wX0_keep_90, wX0_keep_91, wX0_keep_94, wX0_keep_95, wX0_keep_98, wX0_keep_99, wX0_keep_100, wX0_keep_103, wX0_keep_106, wX0_keep_107, wX0_keep_108, wX0_keep_109, wX0_keep_112, wX0_keep_113, wX0_keep_114, wX0_keep_117, fX0_keep_158_0, fX0_keep_43_0, fX0_keep_39_0, y_oinit_s, y_ref_s, y_args0, y_argsI, y_argsR, y_argsN, y_argsL, y_ldI_hit, y_ldI_miss, y_ldL_hit, y_ldL_miss, y_ldA_hit, y_ldA_hitN, y_ldA_miss, y_kill_nil, y_kill_hit, y_kill_keep, y_kill_i, y_kill_r, y_kill_z, y_kill_l, y_kill2_nil, y_kill2_hit, y_kill2_hit1, y_kill2_keep, y_kill2_i, y_kill2_r, y_kill2_l, y_inc_hit, y_inc_miss, y_isA_r, y_isA_n, y_gf_ob, y_gf2_s, y_gf3_s, y_pf_ob, y_pf2_i, y_pf2_r, y_pf2_n, y_pf2_a, y_rI_s, y_rB_s1, y_rB_s3, y_rL_s, y_rA_s, y_wI_s, y_wB_s1, y_wB_s3, y_wL_s, y_wA_s, y_al_s, y_cat_i, y_cat_r, y_cat_n, y_nul_n, y_nul_r, y_catE, y_catI, y_catL, y_catR, y_aft_s, y_aft_n, y_b_0, y_b_nar, y_nar1, y_nar0, y_10, y_catZ, y_clN, y_vin0, y_vin1, y_cl0, y_cl1, x_at0, x_at1, x_at2, x_at15, x_at16, x_at19, x_at20, x_fs_len, x_p2, x_p3, x_p6, x_p9, x_p8, x_puti, x_putt, x_put1, x_put2, x_put15, x_put16, x_put19, x_put20, l_wi, l_wp, l_fs_len, l_p0, l_p1, l_p2, l_p7, y_rf_s, y_rf_n, y_tsc_o, y_tsc_a, y_tsd_1, y_tsd_0, y_tst_s, y_fo1, y_fl1, y_fo2, x_lwi, y_thr_0, x_sl_sl, x_si_si, x_sg_sg, x_st_st, l_a_sa, l_1_sa, l_p_sa, l_o_sa, l_a_si, l_1_si, l_p_si, l_o_si, x_i_si, x_i_sr, x_i_st, x_i_sl, x_i_str, x_i_sg, x_r_si, x_r_sr, x_r_st, x_r_sl, x_r_str, x_r_sg, x_t_si, x_t_sr, x_t_st, x_t_sl, x_t_str, x_t_sg, x_l_si, x_l_sr, x_l_st, x_l_sl, x_l_str, x_l_sg, x_tr_si, x_tr_sr, x_tr_st, x_tr_sl, x_tr_str, x_tr_sg, x_g_si, x_g_sr, x_g_st, x_g_sl, x_g_str, x_g_sg, x_lat0, x_lat1, x_lat2, x_lat3, x_lat4, x_lat5, x_lat6, x_lat7, x_lat8, x_lat9, x_lat10, x_lat11, x_gf0, x_gf1, x_gf2, x_gf3, x_gf4, x_gf5, x_gf6, x_gf7, x_gf8, x_gf9, x_gf10, x_gf11, l_h0, l_h1, l_h2, l_h3, l_h4, l_h5, l_h6, l_h7, l_h8, l_h9, l_h10, l_h11, l_g0, l_g1, l_g2, l_g3, l_g4, l_g5, l_g6, l_g7, l_g8, l_g9, l_g10, l_g11, l_g12, l_g13, l_w1, l_w2, l_w3, l_w4, l_w6, l_w7, l_w8, l_w9, l_w10, l_w11, x_lw1, x_lw2, x_lw3, x_lw4, x_lw6, x_lw7, x_lw8, x_lw9, x_lw10, x_lw11, y_nIm, nI_add, nI_1, y_vinT, y_clN, y_leT, y_leF, y_ltT, y_ltF, y_eqF, y_leN, y_ltN, y_eqN, y_ge0, y_nlt0, y_sub1, m_sa_si, m_si_si, m_sa_sa, m_sl_si, m_sl_sa, m_sl_sl, Nat.add_zero, Nat.zero_add, Nat.le_refl, not_false_eq_true, not_true_eq_false, true_and, and_true, false_and, and_false, if_true, if_false, true_implies, false_implies, implies_true, Bool.false_eq_true, forall_const, imp_self, Nat.one_ne_zero, Nat.zero_ne_one, Nat.succ_ne_self, reduceCtorEq, Nat.reduceAdd, Nat.reduceMul, Nat.reduceSub, Nat.reduceLT, Nat.reduceEqDiff, Nat.reduceLeDiff, reduceIte, Nat.reduceBEq, hlv, h6, hb]
  refine hQ _ ?_
  have hf : w_fr (fun t => t = some b) g g Ω (l_H b l3 Ω) := l_H_fr hwB
  obtain ⟨r1, r2, r3, r4, r5, r6⟩ := w_X_fr hX hf hb1 (fun r hr z => by have := (hne.2.1 r b hr z).2.2; rw [hcb2] at this; cases this) (fun z => by have := hne.2.2.2.2; rw [z, hcb2] at this; cases this) (fun k hk z => by
    have := hD.2 a (24 + k) b (by omega) (by omega) hsb (by unfold w_sl; rw [if_neg (by omega), show 24 + k - 24 = k by omega]; exact z)
    omega)
  refine ⟨r1, ⟨by simp only [x_i_si, if_true], by omega⟩, r2, ⟨fun i b2 hi hb2 => ?_, hD.2⟩, fun k hk => ?_, r3, r4, r5, r6⟩
  · obtain ⟨p1, l4, p2⟩ := hD.1 i b2 hi hb2
    refine ⟨p1, ?_⟩
    by_cases z : b2 = b
    · subst z; exact ⟨l3, l_H_w p2⟩
    · exact ⟨l4, w_B_fr p2 hf (by simpa using z)⟩
  · by_cases z : k < a
    · simp only [if_pos z]
      obtain ⟨b2, p1, p2⟩ := hH k z
      refine ⟨b2, p1, w_L_fr p2 hf (fun q => ?_) (by simp)⟩
      have : b2 = b := by simpa using q
      subst this
      have := hD.2 k a b2 (by omega) (by omega) (by unfold w_sl; rw [if_pos (by omega)]; exact p1) hsb
      omega
    · have : k = a := by omega
      subst this
      simp only [if_neg z]
      refine ⟨b, hb, l3, l_H_w hwB, g1, ?_, hC.2.1, hC.2.2.1⟩
      rw [g2]
      exact w_P_fr hC.2.2.2 hf (by simp)
theorem y_wA2_r {t n : Nat} {f : Nat → Option Nat} {j : Int32} {b ci : Nat} {ω : y_Hp} {K : y_E → Prop} (h : y_cls ω b = some ci) : y_wA2 t n f j (.ref b) ω K = (y_takes t ci = true ∧ K (.inl (t, n, .inr (.inr (.inr (.inr (va_up f j.toNatClampNeg (some b)))))))) := by
  unfold y_wA2
  simp only [h]
theorem y_wA2_n {t n : Nat} {f : Nat → Option Nat} {j : Int32} {ω : y_Hp} {K : y_E → Prop} : y_wA2 t n f j .null ω K = K (.inl (t, n, .inr (.inr (.inr (.inr (va_up f j.toNatClampNeg none)))))) := rfl
theorem x_ncomm {x : Nat} {ξ : x_S} {L : List y_E} {ω : y_Hp} (h : x + 21 ≤ ω.1) : n_H L (x_H x ξ ω) = x_H x ξ (n_H L ω) := by
  refine Prod.ext rfl (funext fun a => ?_)
  show (if ω.1 ≤ a ∧ a < ω.1 + L.length then (L[a - ω.1]?).map (fun e => (true, e)) else if x_own x a then some (true, x_cell x ξ (a - x)) else ω.2 a) = (if x_own x a then some (true, x_cell x ξ (a - x)) else if ω.1 ≤ a ∧ a < ω.1 + L.length then (L[a - ω.1]?).map (fun e => (true, e)) else ω.2 a)
  by_cases q : x_own x a
  · have q2 := q
    unfold x_own at q2
    rw [if_neg (by omega), if_pos q, if_pos q]
  · rw [if_neg q, if_neg q]
/-- tags of new cells: one block -/
def g_new (g : w_G) (t n : Nat) : w_G := fun a => if a < t then g a else if a < t + n then some t else none
theorem n_H_fr {g : w_G} {L : List y_E} {Ω : y_Hp} {n : Nat} {T : Option Nat → Prop} : w_fr T g (g_new g Ω.1 n) Ω (n_H L Ω) := ⟨Nat.le_add_right _ _, fun a ha => ⟨if_pos ha, fun _ => n_H_off ha⟩⟩
theorem l_new_B {ad : y_Ad} {g : w_G} {Ω : y_Hp} : w_B (g_new g Ω.1 12) (n_H (l_new ad Ω.1) Ω) Ω.1 (l_zero ad Ω.1) := by
  refine ⟨fun k hk => ?_, fun k hk => ⟨?_, ?_⟩⟩
  · rw [n_H_get]
    have : k = 0 ∨ k = 1 ∨ k = 2 ∨ k = 3 ∨ k = 4 ∨ k = 5 ∨ k = 6 ∨ k = 7 ∨ k = 8 ∨ k = 9 ∨ k = 10 ∨ k = 11 := by omega
    rcases this with rfl | rfl | rfl | rfl | rfl | rfl | rfl | rfl | rfl | rfl | rfl | rfl <;> rfl
  · show Ω.1 + k < Ω.1 + 12
    omega
  · unfold g_new
    rw [if_neg (by omega), if_pos (by omega)]
/-- a new league in a free place of the past -/
theorem w_X_new {ad : y_Ad} {x : Nat} {g : w_G} {ξ : x_S} {σ : m_S} {N : Nat → Nat} {a i0 : Nat} {H : Nat → Nat → Nat} {Ω : y_Hp} {ξ2 : x_S} (hX : w_X ad x g ξ σ N a H Ω) (hi0 : i0 < 26) (hn : w_sl ξ i0 = none) (h1 : ∀ i, i < 26 → w_sl ξ2 i = if i = i0 then some Ω.1 else w_sl ξ i) (h2 : x_r ξ2 1 = x_r ξ 1) (h3 : x_l ξ2 = x_l ξ) (h4 : x_tr ξ2 = x_tr ξ) (h5 : x_i ξ2 6 = x_i ξ 6) (h7 : ∀ k, k < a → x_r ξ2 15 k = x_r ξ 15 k) : w_X ad x (g_new g Ω.1 12) ξ2 σ N a H (n_H (l_new ad Ω.1) Ω) ∨ i0 ≥ 24 := by
  by_cases h24 : i0 ≥ 24
  · exact .inr h24
  refine .inl ?_
  have hne := w_X_ne hX
  have hf : w_fr (fun t => t = some Ω.1) g (g_new g Ω.1 12) Ω (n_H (l_new ad Ω.1) Ω) := n_H_fr
  have hf2 : w_fr (fun _ => False) g (g_new g Ω.1 12) Ω (n_H (l_new ad Ω.1) Ω) := n_H_fr
  obtain ⟨r1, r2, r3, r4, r5, r6⟩ := w_X_fr hX hf hX.1.1 (fun r hr z => by have := (hne.2.1 r _ hr z).2.1; omega) (by have := hne.2.2.2.1; omega) (fun k hk z => by have := (hne.1 (24 + k) _ (by omega) (by unfold w_sl; rw [if_neg (by omega), show 24 + k - 24 = k by omega]; exact z)).2; omega)
  obtain ⟨hh, hc, hC, hD, hH, hIm, hR, hT, hK⟩ := hX
  have h16 : ∀ k, k < 2 → x_r ξ2 16 k = x_r ξ 16 k := fun k hk => by
    have := h1 (24 + k) (by omega)
    unfold w_sl at this
    rw [if_neg (by omega), if_neg (by omega), if_neg (by omega), show 24 + k - 24 = k by omega] at this
    exact this
  refine ⟨⟨r1.1, r1.2.1, r1.2.2.1, by rw [h3]; exact r1.2.2.2.1, r1.2.2.2.2⟩, ⟨h5.trans hc.1, hc.2⟩, by unfold w_Cx; rw [h3]; exact r2, ⟨fun i b hi hb => ?_, fun i j b hi hj hb hb2 => ?_⟩, fun k hk => ?_, fun k hk => by rw [h16 k hk]; exact r3 k hk, ?_, ?_, r6⟩
  · rw [h1 i hi] at hb
    by_cases z : i = i0
    · rw [if_pos z] at hb; cases hb
      exact ⟨hh.1, _, l_new_B⟩
    · rw [if_neg z] at hb
      obtain ⟨p1, l, p2⟩ := hD.1 i b hi hb
      exact ⟨p1, l, w_B_fr p2 hf2 (by simp)⟩
  · rw [h1 i hi] at hb
    rw [h1 j hj] at hb2
    by_cases z : i = i0 <;> by_cases z2 : j = i0
    · rw [z, z2]
    · rw [if_pos z] at hb; rw [if_neg z2] at hb2; cases hb
      have := (hne.1 j _ hj hb2).2; omega
    · rw [if_neg z] at hb; rw [if_pos z2] at hb2; cases hb2
      have := (hne.1 i _ hi hb).2; omega
    · rw [if_neg z] at hb; rw [if_neg z2] at hb2
      exact hD.2 i j b hi hj hb hb2
  · obtain ⟨b, b1, b2⟩ := hH k hk
    exact ⟨b, (h7 k hk).trans b1, w_L_fr b2 hf2 (by simp) (by simp)⟩
  · unfold w_R; rw [h2]; exact r4
  · unfold w_T; rw [h4]; exact r5
theorem lp_X0_keep_62 {ad : y_Ad} {x mc ms c s : Nat} {Q : y_Po} {lv : y_Lv} {g : w_G} {ξ : x_S} {σ : m_S} {N : Nat → Nat} {a : Nat} {H : Nat → Nat → Nat} {Ω : y_Hp} (hX : w_X ad x g ξ σ N a H Ω) (hlv : ∀ K, y_ldA lv 0 K = K (.ref x)) (ha : a ≤ 23) (hmc : c + 12 ≤ mc) (hms : s + 73 ≤ ms) (hQ : ∀ (g2 : w_G) (ξ2 : x_S) (Ω2 : y_Hp) (c2 s2 : Nat), w_X ad x g2 ξ2 σ N (a + 1) (fun k => if k < a then H k else N) Ω2 → x_l ξ2 = x_l ξ → (∀ k, k ≠ 6 → x_i ξ2 k = x_i ξ k) → x_t ξ2 = x_t ξ → c2 ≤ c + 12 → s2 ≤ s + 73 → Q (.returned none) (x_H x ξ2 Ω2) c2 s2) : y_w (M_X0_keep ad) mc ms Q (62, lv, [], x_H x ξ Ω, c, s) := by
  have hne := w_X_ne hX
  have h6 := hX.2.1.1
  have h34 := hX.1.1
  cases hb : x_r ξ 15 a with
  | some b =>
    simp (disch := first | omega | (simp only [m_cls0, x_cls0, x_clsL, l_hcls]) | assumption) only [nX0_keep, wX0_keep_0, wX0_keep_1, wX0_keep_4, wX0_keep_6, wX0_keep_9, wX0_keep_10, wX0_keep_13, wX0_keep_14, wX0_keep_15, wX0_keep_16, wX0_keep_17, wX0_keep_19, wX0_keep_21, wX0_keep_24, wX0_keep_25, wX0_keep_28, wX0_keep_29, wX0_keep_30, wX0_keep_31, wX0_keep_32, wX0_keep_35, wX0_keep_36, wX0_keep_37, wX0_keep_38, wX0_keep_41, wX0_keep_44, wX0_keep_45, wX0_keep_48, wX0_keep_50, wX0_keep_51, wX0_keep_52, wX0_keep_53, wX0_keep_54, wX0_keep_57, wX0_keep_58, wX0_keep_59, wX0_keep_62, wX0_keep_63, wX0_keep_66, wX0_keep_67, wX0_keep_70, wX0_keep_71, wX0_keep_74, wX0_keep_75, wX0_keep_78, wX0_keep_79, wX0_keep_82, wX0_keep_85, wX0_keep_86, wX0_keep_89, wX0_keep_91, wX0_keep_94, wX0_keep_95, wX0_keep_98, wX0_keep_99, wX0_keep_100, wX0_keep_103, wX0_keep_106, wX0_keep_107, wX0_keep_108, wX0_keep_109, wX0_keep_112, wX0_keep_113, wX0_keep_114, wX0_keep_117, fX0_keep_158_0, fX0_keep_43_0, fX0_keep_39_0, y_oinit_s, y_ref_s, y_args0, y_argsI, y_argsR, y_argsN, y_argsL, y_ldI_hit, y_ldI_miss, y_ldL_hit, y_ldL_miss, y_ldA_hit, y_ldA_hitN, y_ldA_miss, y_kill_nil, y_kill_hit, y_kill_keep, y_kill_i, y_kill_r, y_kill_z, y_kill_l, y_kill2_nil, y_kill2_hit, y_kill2_hit1, y_kill2_keep, y_kill2_i, y_kill2_r, y_kill2_l, y_inc_hit, y_inc_miss, y_isA_r, y_isA_n, y_gf_ob, y_gf2_s, y_gf3_s, y_pf_ob, y_pf2_i, y_pf2_r, y_pf2_n, y_pf2_a, y_rI_s, y_rB_s1, y_rB_s3, y_rL_s, y_rA_s, y_wI_s, y_wB_s1, y_wB_s3, y_wL_s, y_wA_s, y_al_s, y_cat_i, y_cat_r, y_cat_n, y_nul_n, y_nul_r, y_catE, y_catI, y_catL, y_catR, y_aft_s, y_aft_n, y_b_0, y_b_nar, y_nar1, y_nar0, y_10, y_catZ, y_clN, y_vin0, y_vin1, y_cl0, y_cl1, x_at0, x_at1, x_at2, x_at15, x_at16, x_at19, x_at20, x_fs_len, x_p2, x_p3, x_p6, x_p9, x_p8, x_puti, x_putt, x_put1, x_put2, x_put15, x_put16, x_put19, x_put20, l_wi, l_wp, l_fs_len, l_p0, l_p1, l_p2, l_p7, y_rf_s, y_rf_n, y_tsc_o, y_tsc_a, y_tsd_1, y_tsd_0, y_tst_s, y_fo1, y_fl1, y_fo2, x_lwi, y_thr_0, x_sl_sl, x_si_si, x_sg_sg, x_st_st, l_a_sa, l_1_sa, l_p_sa, l_o_sa, l_a_si, l_1_si, l_p_si, l_o_si, x_i_si, x_i_sr, x_i_st, x_i_sl, x_i_str, x_i_sg, x_r_si, x_r_sr, x_r_st, x_r_sl, x_r_str, x_r_sg, x_t_si, x_t_sr, x_t_st, x_t_sl, x_t_str, x_t_sg, x_l_si, x_l_sr, x_l_st, x_l_sl, x_l_str, x_l_sg, x_tr_si, x_tr_sr, x_tr_st, x_tr_sl, x_tr_str, x_tr_sg, x_g_si, x_g_sr, x_g_st, x_g_sl, x_g_str, x_g_sg, x_lat0, x_lat1, x_lat2, x_lat3, x_lat4, x_lat5, x_lat6, x_lat7, x_lat8, x_lat9, x_lat10, x_lat11, x_gf0, x_gf1, x_gf2, x_gf3, x_gf4, x_gf5, x_gf6, x_gf7, x_gf8, x_gf9, x_gf10, x_gf11, l_h0, l_h1, l_h2, l_h3, l_h4, l_h5, l_h6, l_h7, l_h8, l_h9, l_h10, l_h11, l_g0, l_g1, l_g2, l_g3, l_g4, l_g5, l_g6, l_g7, l_g8, l_g9, l_g10, l_g11, l_g12, l_g13, l_w1, l_w2, l_w3, l_w4, l_w6, l_w7, l_w8, l_w9, l_w10, l_w11, x_lw1, x_lw2, x_lw3, x_lw4, x_lw6, x_lw7, x_lw8, x_lw9, x_lw10, x_lw11, y_nIm, nI_add, nI_1, y_vinT, y_clN, y_leT, y_leF, y_ltT, y_ltF, y_eqF, y_leN, y_ltN, y_eqN, y_ge0, y_nlt0, y_sub1, m_sa_si, m_si_si, m_sa_sa, m_sl_si, m_sl_sa, m_sl_sl, Nat.add_zero, Nat.zero_add, Nat.le_refl, not_false_eq_true, not_true_eq_false, true_and, and_true, false_and, and_false, if_true, if_false, true_implies, false_implies, implies_true, Bool.false_eq_true, forall_const, imp_self, Nat.one_ne_zero, Nat.zero_ne_one, Nat.succ_ne_self, reduceCtorEq, Nat.reduceAdd, Nat.reduceMul, Nat.reduceSub, Nat.reduceLT, Nat.reduceEqDiff, Nat.reduceLeDiff, reduceIte, Nat.reduceBEq, hlv, h6, hb]
    exact lp_X0_keep_90 hX hlv ha hb (fun Ω2 w => hQ g _ Ω2 c s w rfl (fun k hk => by rw [x_i_si, if_neg hk]) rfl (by omega) (by omega))
  | none =>
    simp (disch := first | omega | (simp only [m_cls0, x_cls0, x_clsL, l_hcls]) | assumption) only [nX0_keep, wX0_keep_0, wX0_keep_1, wX0_keep_4, wX0_keep_6, wX0_keep_9, wX0_keep_10, wX0_keep_13, wX0_keep_14, wX0_keep_15, wX0_keep_16, wX0_keep_17, wX0_keep_19, wX0_keep_21, wX0_keep_24, wX0_keep_25, wX0_keep_28, wX0_keep_29, wX0_keep_30, wX0_keep_31, wX0_keep_32, wX0_keep_35, wX0_keep_36, wX0_keep_37, wX0_keep_38, wX0_keep_41, wX0_keep_44, wX0_keep_45, wX0_keep_48, wX0_keep_50, wX0_keep_51, wX0_keep_52, wX0_keep_53, wX0_keep_54, wX0_keep_57, wX0_keep_58, wX0_keep_59, wX0_keep_62, wX0_keep_63, wX0_keep_66, wX0_keep_67, wX0_keep_70, wX0_keep_71, wX0_keep_74, wX0_keep_75, wX0_keep_78, wX0_keep_79, wX0_keep_82, wX0_keep_85, wX0_keep_86, wX0_keep_89, wX0_keep_91, wX0_keep_94, wX0_keep_95, wX0_keep_98, wX0_keep_99, wX0_keep_100, wX0_keep_103, wX0_keep_106, wX0_keep_107, wX0_keep_108, wX0_keep_109, wX0_keep_112, wX0_keep_113, wX0_keep_114, wX0_keep_117, fX0_keep_158_0, fX0_keep_43_0, fX0_keep_39_0, y_oinit_s, y_ref_s, y_args0, y_argsI, y_argsR, y_argsN, y_argsL, y_ldI_hit, y_ldI_miss, y_ldL_hit, y_ldL_miss, y_ldA_hit, y_ldA_hitN, y_ldA_miss, y_kill_nil, y_kill_hit, y_kill_keep, y_kill_i, y_kill_r, y_kill_z, y_kill_l, y_kill2_nil, y_kill2_hit, y_kill2_hit1, y_kill2_keep, y_kill2_i, y_kill2_r, y_kill2_l, y_inc_hit, y_inc_miss, y_isA_r, y_isA_n, y_gf_ob, y_gf2_s, y_gf3_s, y_pf_ob, y_pf2_i, y_pf2_r, y_pf2_n, y_pf2_a, y_rI_s, y_rB_s1, y_rB_s3, y_rL_s, y_rA_s, y_wI_s, y_wB_s1, y_wB_s3, y_wL_s, y_wA_s, y_al_s, y_cat_i, y_cat_r, y_cat_n, y_nul_n, y_nul_r, y_catE, y_catI, y_catL, y_catR, y_aft_s, y_aft_n, y_b_0, y_b_nar, y_nar1, y_nar0, y_10, y_catZ, y_clN, y_vin0, y_vin1, y_cl0, y_cl1, x_at0, x_at1, x_at2, x_at15, x_at16, x_at19, x_at20, x_fs_len, x_p2, x_p3, x_p6, x_p9, x_p8, x_puti, x_putt, x_put1, x_put2, x_put15, x_put16, x_put19, x_put20, l_wi, l_wp, l_fs_len, l_p0, l_p1, l_p2, l_p7, y_rf_s, y_rf_n, y_tsc_o, y_tsc_a, y_tsd_1, y_tsd_0, y_tst_s, y_fo1, y_fl1, y_fo2, x_lwi, y_thr_0, x_sl_sl, x_si_si, x_sg_sg, x_st_st, l_a_sa, l_1_sa, l_p_sa, l_o_sa, l_a_si, l_1_si, l_p_si, l_o_si, x_i_si, x_i_sr, x_i_st, x_i_sl, x_i_str, x_i_sg, x_r_si, x_r_sr, x_r_st, x_r_sl, x_r_str, x_r_sg, x_t_si, x_t_sr, x_t_st, x_t_sl, x_t_str, x_t_sg, x_l_si, x_l_sr, x_l_st, x_l_sl, x_l_str, x_l_sg, x_tr_si, x_tr_sr, x_tr_st, x_tr_sl, x_tr_str, x_tr_sg, x_g_si, x_g_sr, x_g_st, x_g_sl, x_g_str, x_g_sg, x_lat0, x_lat1, x_lat2, x_lat3, x_lat4, x_lat5, x_lat6, x_lat7, x_lat8, x_lat9, x_lat10, x_lat11, x_gf0, x_gf1, x_gf2, x_gf3, x_gf4, x_gf5, x_gf6, x_gf7, x_gf8, x_gf9, x_gf10, x_gf11, l_h0, l_h1, l_h2, l_h3, l_h4, l_h5, l_h6, l_h7, l_h8, l_h9, l_h10, l_h11, l_g0, l_g1, l_g2, l_g3, l_g4, l_g5, l_g6, l_g7, l_g8, l_g9, l_g10, l_g11, l_g12, l_g13, l_w1, l_w2, l_w3, l_w4, l_w6, l_w7, l_w8, l_w9, l_w10, l_w11, x_lw1, x_lw2, x_lw3, x_lw4, x_lw6, x_lw7, x_lw8, x_lw9, x_lw10, x_lw11, y_nIm, nI_add, nI_1, y_vinT, y_clN, y_leT, y_leF, y_ltT, y_ltF, y_eqF, y_leN, y_ltN, y_eqN, y_ge0, y_nlt0, y_sub1, m_sa_si, m_si_si, m_sa_sa, m_sl_si, m_sl_sa, m_sl_sl, Nat.add_zero, Nat.zero_add, Nat.le_refl, not_false_eq_true, not_true_eq_false, true_and, and_true, false_and, and_false, if_true, if_false, true_implies, false_implies, implies_true, Bool.false_eq_true, forall_const, imp_self, Nat.one_ne_zero, Nat.zero_ne_one, Nat.succ_ne_self, reduceCtorEq, Nat.reduceAdd, Nat.reduceMul, Nat.reduceSub, Nat.reduceLT, Nat.reduceEqDiff, Nat.reduceLeDiff, reduceIte, Nat.reduceBEq, hlv, h6, hb, n_H_one, y_room_t]
    have e1 : Ω.1 = (x_H x ξ Ω).1 := rfl
    rw [show (.ref (x_H x ξ Ω).1 : Value) = .ref (x_H x ξ Ω).1 from rfl]
    refine F_X1_init_r (by omega) (by omega) ?_
    rw [x_ncomm (by omega), x_top]
    have hcn : y_cls (x_H x ξ (n_H (l_new ad Ω.1) Ω)) Ω.1 = some 1 := by
      refine y_cls_of (fl := true) (fs := l_fs Ω.1 (l_zero ad Ω.1)) ?_
      rw [x_off (by unfold x_own; omega)]
      exact n_H_get0
    simp (disch := first | omega | (simp only [m_cls0, x_cls0, x_clsL, l_hcls]) | assumption) only [nX0_keep, wX0_keep_0, wX0_keep_1, wX0_keep_4, wX0_keep_6, wX0_keep_9, wX0_keep_10, wX0_keep_13, wX0_keep_14, wX0_keep_15, wX0_keep_16, wX0_keep_17, wX0_keep_19, wX0_keep_21, wX0_keep_24, wX0_keep_25, wX0_keep_28, wX0_keep_29, wX0_keep_30, wX0_keep_31, wX0_keep_32, wX0_keep_35, wX0_keep_36, wX0_keep_37, wX0_keep_38, wX0_keep_41, wX0_keep_44, wX0_keep_45, wX0_keep_48, wX0_keep_50, wX0_keep_51, wX0_keep_52, wX0_keep_53, wX0_keep_54, wX0_keep_57, wX0_keep_58, wX0_keep_59, wX0_keep_62, wX0_keep_63, wX0_keep_66, wX0_keep_67, wX0_keep_70, wX0_keep_71, wX0_keep_74, wX0_keep_75, wX0_keep_78, wX0_keep_79, wX0_keep_82, wX0_keep_85, wX0_keep_86, wX0_keep_89, wX0_keep_91, wX0_keep_94, wX0_keep_95, wX0_keep_98, wX0_keep_99, wX0_keep_100, wX0_keep_103, wX0_keep_106, wX0_keep_107, wX0_keep_108, wX0_keep_109, wX0_keep_112, wX0_keep_113, wX0_keep_114, wX0_keep_117, fX0_keep_158_0, fX0_keep_43_0, fX0_keep_39_0, y_oinit_s, y_ref_s, y_args0, y_argsI, y_argsR, y_argsN, y_argsL, y_ldI_hit, y_ldI_miss, y_ldL_hit, y_ldL_miss, y_ldA_hit, y_ldA_hitN, y_ldA_miss, y_kill_nil, y_kill_hit, y_kill_keep, y_kill_i, y_kill_r, y_kill_z, y_kill_l, y_kill2_nil, y_kill2_hit, y_kill2_hit1, y_kill2_keep, y_kill2_i, y_kill2_r, y_kill2_l, y_inc_hit, y_inc_miss, y_isA_r, y_isA_n, y_gf_ob, y_gf2_s, y_gf3_s, y_pf_ob, y_pf2_i, y_pf2_r, y_pf2_n, y_pf2_a, y_rI_s, y_rB_s1, y_rB_s3, y_rL_s, y_rA_s, y_wI_s, y_wB_s1, y_wB_s3, y_wL_s, y_wA_s, y_al_s, y_cat_i, y_cat_r, y_cat_n, y_nul_n, y_nul_r, y_catE, y_catI, y_catL, y_catR, y_aft_s, y_aft_n, y_b_0, y_b_nar, y_nar1, y_nar0, y_10, y_catZ, y_clN, y_vin0, y_vin1, y_cl0, y_cl1, x_at0, x_at1, x_at2, x_at15, x_at16, x_at19, x_at20, x_fs_len, x_p2, x_p3, x_p6, x_p9, x_p8, x_puti, x_putt, x_put1, x_put2, x_put15, x_put16, x_put19, x_put20, l_wi, l_wp, l_fs_len, l_p0, l_p1, l_p2, l_p7, y_rf_s, y_rf_n, y_tsc_o, y_tsc_a, y_tsd_1, y_tsd_0, y_tst_s, y_fo1, y_fl1, y_fo2, x_lwi, y_thr_0, x_sl_sl, x_si_si, x_sg_sg, x_st_st, l_a_sa, l_1_sa, l_p_sa, l_o_sa, l_a_si, l_1_si, l_p_si, l_o_si, x_i_si, x_i_sr, x_i_st, x_i_sl, x_i_str, x_i_sg, x_r_si, x_r_sr, x_r_st, x_r_sl, x_r_str, x_r_sg, x_t_si, x_t_sr, x_t_st, x_t_sl, x_t_str, x_t_sg, x_l_si, x_l_sr, x_l_st, x_l_sl, x_l_str, x_l_sg, x_tr_si, x_tr_sr, x_tr_st, x_tr_sl, x_tr_str, x_tr_sg, x_g_si, x_g_sr, x_g_st, x_g_sl, x_g_str, x_g_sg, x_lat0, x_lat1, x_lat2, x_lat3, x_lat4, x_lat5, x_lat6, x_lat7, x_lat8, x_lat9, x_lat10, x_lat11, x_gf0, x_gf1, x_gf2, x_gf3, x_gf4, x_gf5, x_gf6, x_gf7, x_gf8, x_gf9, x_gf10, x_gf11, l_h0, l_h1, l_h2, l_h3, l_h4, l_h5, l_h6, l_h7, l_h8, l_h9, l_h10, l_h11, l_g0, l_g1, l_g2, l_g3, l_g4, l_g5, l_g6, l_g7, l_g8, l_g9, l_g10, l_g11, l_g12, l_g13, l_w1, l_w2, l_w3, l_w4, l_w6, l_w7, l_w8, l_w9, l_w10, l_w11, x_lw1, x_lw2, x_lw3, x_lw4, x_lw6, x_lw7, x_lw8, x_lw9, x_lw10, x_lw11, y_nIm, nI_add, nI_1, y_vinT, y_clN, y_leT, y_leF, y_ltT, y_ltF, y_eqF, y_leN, y_ltN, y_eqN, y_ge0, y_nlt0, y_sub1, m_sa_si, m_si_si, m_sa_sa, m_sl_si, m_sl_sa, m_sl_sl, Nat.add_zero, Nat.zero_add, Nat.le_refl, not_false_eq_true, not_true_eq_false, true_and, and_true, false_and, and_false, if_true, if_false, true_implies, false_implies, implies_true, Bool.false_eq_true, forall_const, imp_self, Nat.one_ne_zero, Nat.zero_ne_one, Nat.succ_ne_self, reduceCtorEq, Nat.reduceAdd, Nat.reduceMul, Nat.reduceSub, Nat.reduceLT, Nat.reduceEqDiff, Nat.reduceLeDiff, reduceIte, Nat.reduceBEq, hlv, h6, hb, y_wA2_r hcn]
    have hX2 := (w_X_new (ξ2 := x_sr ξ 15 (va_up (x_r ξ 15) a (some Ω.1))) hX (i0 := a) (by omega) (by unfold w_sl; rw [if_pos (by omega)]; exact hb) (fun i hi => by
      unfold w_sl
      simp only [x_r_sr, Nat.reduceEqDiff, if_true, if_false]
      by_cases z : i < 24
      · simp only [if_pos z]; rfl
      · simp only [if_neg z]; rw [if_neg (by omega)]) rfl rfl rfl rfl (fun k hk => by
      simp only [x_r_sr, if_true]
      exact if_neg (by omega))).resolve_right (by omega)
    refine ⟨rfl, ?_⟩
    refine lp_X0_keep_90 hX2 hlv ha (b := Ω.1) (by simp only [x_r_sr, if_true]; exact if_pos rfl) (fun Ω2 w => hQ _ _ Ω2 (c + 1 + 11) (s + 14 + 59) w rfl (fun k hk => by rw [x_i_si, if_neg hk]; rfl) rfl (by omega) (by omega))
theorem lp_X0_keep_18 {ad : y_Ad} {x mc ms c s : Nat} {Q : y_Po} {b0 : Nat} {ξ : x_S} {Ω : y_Hp} {k : Nat} (hB : ∀ i, i < 24 → ∃ b, x_r ξ 15 i = some b ∧ x + 34 ≤ b ∧ y_cls Ω b = some 1) (h0 : x_r ξ 15 0 = some b0) (h6 : x_i ξ 6 = nI 24) (hk : 1 ≤ k ∧ k ≤ 24) (hQ : y_w (M_X0_keep ad) mc ms Q (62, [(2, .int (nI 24)), (1, .ref b0), (0, .ref x)], [], x_H x (x_si (x_sr ξ 15 (fun j => if j < 23 then x_r ξ 15 (j + 1) else if j = 23 then some b0 else x_r ξ 15 j)) 6 (nI 23)) Ω, c, s)) : y_w (M_X0_keep ad) mc ms Q (18, [(2, .int (nI k)), (1, .ref b0), (0, .ref x)], [], x_H x (x_sr ξ 15 (fun j => if j < k - 1 then x_r ξ 15 (j + 1) else x_r ξ 15 j)) Ω, c, s) := by
  induction hn : 24 - k generalizing k with
  | zero =>
    have : k = 24 := by omega
    subst this
    obtain ⟨b, e1, e2, e3⟩ := hB 0 (by decide)
    rw [h0] at e1; cases e1
    have hcb : y_cls (x_H x (x_sr ξ 15 (fun j => if j < 24 - 1 then x_r ξ 15 (j + 1) else x_r ξ 15 j)) Ω) b0 = some 1 := by
      unfold y_cls
      rw [x_off (by unfold x_own; omega)]
      exact e3
    rw [wX0_keep_18]
    simp (disch := first | omega | (simp only [m_cls0, x_cls0, x_clsL, l_hcls]) | assumption) only [nX0_keep, wX0_keep_0, wX0_keep_1, wX0_keep_4, wX0_keep_6, wX0_keep_9, wX0_keep_10, wX0_keep_13, wX0_keep_14, wX0_keep_15, wX0_keep_16, wX0_keep_17, wX0_keep_19, wX0_keep_21, wX0_keep_24, wX0_keep_25, wX0_keep_28, wX0_keep_29, wX0_keep_30, wX0_keep_31, wX0_keep_32, wX0_keep_35, wX0_keep_36, wX0_keep_37, wX0_keep_38, wX0_keep_41, wX0_keep_44, wX0_keep_45, wX0_keep_48, wX0_keep_50, wX0_keep_51, wX0_keep_52, wX0_keep_53, wX0_keep_54, wX0_keep_57, wX0_keep_58, wX0_keep_59, wX0_keep_63, wX0_keep_66, wX0_keep_67, wX0_keep_70, wX0_keep_71, wX0_keep_74, wX0_keep_75, wX0_keep_78, wX0_keep_79, wX0_keep_82, wX0_keep_85, wX0_keep_86, wX0_keep_89, wX0_keep_90, wX0_keep_91, wX0_keep_94, wX0_keep_95, wX0_keep_98, wX0_keep_99, wX0_keep_100, wX0_keep_103, wX0_keep_106, wX0_keep_107, wX0_keep_108, wX0_keep_109, wX0_keep_112, wX0_keep_113, wX0_keep_114, wX0_keep_117, fX0_keep_158_0, fX0_keep_43_0, fX0_keep_39_0, y_oinit_s, y_ref_s, y_args0, y_argsI, y_argsR, y_argsN, y_argsL, y_ldI_hit, y_ldI_miss, y_ldL_hit, y_ldL_miss, y_ldA_hit, y_ldA_hitN, y_ldA_miss, y_kill_nil, y_kill_hit, y_kill_keep, y_kill_i, y_kill_r, y_kill_z, y_kill_l, y_kill2_nil, y_kill2_hit, y_kill2_hit1, y_kill2_keep, y_kill2_i, y_kill2_r, y_kill2_l, y_inc_hit, y_inc_miss, y_isA_r, y_isA_n, y_gf_ob, y_gf2_s, y_gf3_s, y_pf_ob, y_pf2_i, y_pf2_r, y_pf2_n, y_pf2_a, y_rI_s, y_rB_s1, y_rB_s3, y_rL_s, y_rA_s, y_wI_s, y_wB_s1, y_wB_s3, y_wL_s, y_wA_s, y_al_s, y_cat_i, y_cat_r, y_cat_n, y_nul_n, y_nul_r, y_catE, y_catI, y_catL, y_catR, y_aft_s, y_aft_n, y_b_0, y_b_nar, y_nar1, y_nar0, y_10, y_catZ, y_clN, y_vin0, y_vin1, y_cl0, y_cl1, x_at0, x_at1, x_at2, x_at15, x_at16, x_at19, x_at20, x_fs_len, x_p2, x_p3, x_p6, x_p9, x_p8, x_puti, x_putt, x_put1, x_put2, x_put15, x_put16, x_put19, x_put20, l_wi, l_wp, l_fs_len, l_p0, l_p1, l_p2, l_p7, y_rf_s, y_rf_n, y_tsc_o, y_tsc_a, y_tsd_1, y_tsd_0, y_tst_s, y_fo1, y_fl1, y_fo2, x_lwi, y_thr_0, x_sl_sl, x_si_si, x_sg_sg, x_st_st, l_a_sa, l_1_sa, l_p_sa, l_o_sa, l_a_si, l_1_si, l_p_si, l_o_si, x_i_si, x_i_sr, x_i_st, x_i_sl, x_i_str, x_i_sg, x_r_si, x_r_sr, x_r_st, x_r_sl, x_r_str, x_r_sg, x_t_si, x_t_sr, x_t_st, x_t_sl, x_t_str, x_t_sg, x_l_si, x_l_sr, x_l_st, x_l_sl, x_l_str, x_l_sg, x_tr_si, x_tr_sr, x_tr_st, x_tr_sl, x_tr_str, x_tr_sg, x_g_si, x_g_sr, x_g_st, x_g_sl, x_g_str, x_g_sg, x_lat0, x_lat1, x_lat2, x_lat3, x_lat4, x_lat5, x_lat6, x_lat7, x_lat8, x_lat9, x_lat10, x_lat11, x_gf0, x_gf1, x_gf2, x_gf3, x_gf4, x_gf5, x_gf6, x_gf7, x_gf8, x_gf9, x_gf10, x_gf11, l_h0, l_h1, l_h2, l_h3, l_h4, l_h5, l_h6, l_h7, l_h8, l_h9, l_h10, l_h11, l_g0, l_g1, l_g2, l_g3, l_g4, l_g5, l_g6, l_g7, l_g8, l_g9, l_g10, l_g11, l_g12, l_g13, l_w1, l_w2, l_w3, l_w4, l_w6, l_w7, l_w8, l_w9, l_w10, l_w11, x_lw1, x_lw2, x_lw3, x_lw4, x_lw6, x_lw7, x_lw8, x_lw9, x_lw10, x_lw11, y_nIm, nI_add, nI_1, y_vinT, y_clN, y_leT, y_leF, y_ltT, y_ltF, y_eqF, y_leN, y_ltN, y_eqN, y_ge0, y_nlt0, y_sub1, m_sa_si, m_si_si, m_sa_sa, m_sl_si, m_sl_sa, m_sl_sl, Nat.add_zero, Nat.zero_add, Nat.le_refl, not_false_eq_true, not_true_eq_false, true_and, and_true, false_and, and_false, if_true, if_false, true_implies, false_implies, implies_true, Bool.false_eq_true, forall_const, imp_self, Nat.one_ne_zero, Nat.zero_ne_one, Nat.succ_ne_self, reduceCtorEq, Nat.reduceAdd, Nat.reduceMul, Nat.reduceSub, Nat.reduceLT, Nat.reduceEqDiff, Nat.reduceLeDiff, reduceIte, Nat.reduceBEq, h6, y_wA2_r hcb]
    refine ⟨rfl, ?_⟩
    have e5 : x_si (x_sr (x_sr ξ 15 (fun j => if j < 24 - 1 then x_r ξ 15 (j + 1) else x_r ξ 15 j)) 15 (va_up (fun j => if j < 24 - 1 then x_r ξ 15 (j + 1) else x_r ξ 15 j) 23 (some b0))) 6 (nI (24 - 1)) = x_si (x_sr ξ 15 (fun j => if j < 23 then x_r ξ 15 (j + 1) else if j = 23 then some b0 else x_r ξ 15 j)) 6 (nI 23) := by
      unfold x_si x_sr
      refine Prod.ext rfl (Prod.ext (funext fun j => ?_) rfl)
      show (if j = 15 then va_up _ 23 (some b0) else if j = 15 then _ else ξ.2.1 j) = (if j = 15 then _ else ξ.2.1 j)
      by_cases z : j = 15
      · rw [if_pos z, if_pos z]
        funext i
        unfold va_up
        by_cases z1 : i = 23
        · rw [if_pos z1, if_neg (by omega), if_pos z1]
        · rw [if_neg z1]
          show (if i < 24 - 1 then x_r ξ 15 (i + 1) else x_r ξ 15 i) = (if i < 23 then x_r ξ 15 (i + 1) else if i = 23 then some b0 else x_r ξ 15 i)
          rw [if_neg z1]
      · rw [if_neg z, if_neg z, if_neg z]
    first | exact e5 ▸ hQ | (rw [e5]; exact hQ) | (simp only [e5]; exact hQ)
  | succ n ih =>
    obtain ⟨b, e1, e2, e3⟩ := hB k (by omega)
    have hcb : y_cls (x_H x (x_sr ξ 15 (fun j => if j < k - 1 then x_r ξ 15 (j + 1) else x_r ξ 15 j)) Ω) b = some 1 := by
      unfold y_cls
      rw [x_off (by unfold x_own; omega)]
      exact e3
    have hlt : ¬ k < k - 1 := by omega
    rw [wX0_keep_18]
    simp (disch := first | omega | (simp only [m_cls0, x_cls0, x_clsL, l_hcls]) | assumption) only [nX0_keep, wX0_keep_0, wX0_keep_1, wX0_keep_4, wX0_keep_6, wX0_keep_9, wX0_keep_10, wX0_keep_13, wX0_keep_14, wX0_keep_15, wX0_keep_16, wX0_keep_17, wX0_keep_19, wX0_keep_21, wX0_keep_24, wX0_keep_25, wX0_keep_28, wX0_keep_29, wX0_keep_30, wX0_keep_31, wX0_keep_32, wX0_keep_35, wX0_keep_36, wX0_keep_37, wX0_keep_38, wX0_keep_41, wX0_keep_44, wX0_keep_45, wX0_keep_48, wX0_keep_50, wX0_keep_51, wX0_keep_52, wX0_keep_53, wX0_keep_54, wX0_keep_57, wX0_keep_58, wX0_keep_59, wX0_keep_63, wX0_keep_66, wX0_keep_67, wX0_keep_70, wX0_keep_71, wX0_keep_74, wX0_keep_75, wX0_keep_78, wX0_keep_79, wX0_keep_82, wX0_keep_85, wX0_keep_86, wX0_keep_89, wX0_keep_90, wX0_keep_91, wX0_keep_94, wX0_keep_95, wX0_keep_98, wX0_keep_99, wX0_keep_100, wX0_keep_103, wX0_keep_106, wX0_keep_107, wX0_keep_108, wX0_keep_109, wX0_keep_112, wX0_keep_113, wX0_keep_114, wX0_keep_117, fX0_keep_158_0, fX0_keep_43_0, fX0_keep_39_0, y_oinit_s, y_ref_s, y_args0, y_argsI, y_argsR, y_argsN, y_argsL, y_ldI_hit, y_ldI_miss, y_ldL_hit, y_ldL_miss, y_ldA_hit, y_ldA_hitN, y_ldA_miss, y_kill_nil, y_kill_hit, y_kill_keep, y_kill_i, y_kill_r, y_kill_z, y_kill_l, y_kill2_nil, y_kill2_hit, y_kill2_hit1, y_kill2_keep, y_kill2_i, y_kill2_r, y_kill2_l, y_inc_hit, y_inc_miss, y_isA_r, y_isA_n, y_gf_ob, y_gf2_s, y_gf3_s, y_pf_ob, y_pf2_i, y_pf2_r, y_pf2_n, y_pf2_a, y_rI_s, y_rB_s1, y_rB_s3, y_rL_s, y_rA_s, y_wI_s, y_wB_s1, y_wB_s3, y_wL_s, y_wA_s, y_al_s, y_cat_i, y_cat_r, y_cat_n, y_nul_n, y_nul_r, y_catE, y_catI, y_catL, y_catR, y_aft_s, y_aft_n, y_b_0, y_b_nar, y_nar1, y_nar0, y_10, y_catZ, y_clN, y_vin0, y_vin1, y_cl0, y_cl1, x_at0, x_at1, x_at2, x_at15, x_at16, x_at19, x_at20, x_fs_len, x_p2, x_p3, x_p6, x_p9, x_p8, x_puti, x_putt, x_put1, x_put2, x_put15, x_put16, x_put19, x_put20, l_wi, l_wp, l_fs_len, l_p0, l_p1, l_p2, l_p7, y_rf_s, y_rf_n, y_tsc_o, y_tsc_a, y_tsd_1, y_tsd_0, y_tst_s, y_fo1, y_fl1, y_fo2, x_lwi, y_thr_0, x_sl_sl, x_si_si, x_sg_sg, x_st_st, l_a_sa, l_1_sa, l_p_sa, l_o_sa, l_a_si, l_1_si, l_p_si, l_o_si, x_i_si, x_i_sr, x_i_st, x_i_sl, x_i_str, x_i_sg, x_r_si, x_r_sr, x_r_st, x_r_sl, x_r_str, x_r_sg, x_t_si, x_t_sr, x_t_st, x_t_sl, x_t_str, x_t_sg, x_l_si, x_l_sr, x_l_st, x_l_sl, x_l_str, x_l_sg, x_tr_si, x_tr_sr, x_tr_st, x_tr_sl, x_tr_str, x_tr_sg, x_g_si, x_g_sr, x_g_st, x_g_sl, x_g_str, x_g_sg, x_lat0, x_lat1, x_lat2, x_lat3, x_lat4, x_lat5, x_lat6, x_lat7, x_lat8, x_lat9, x_lat10, x_lat11, x_gf0, x_gf1, x_gf2, x_gf3, x_gf4, x_gf5, x_gf6, x_gf7, x_gf8, x_gf9, x_gf10, x_gf11, l_h0, l_h1, l_h2, l_h3, l_h4, l_h5, l_h6, l_h7, l_h8, l_h9, l_h10, l_h11, l_g0, l_g1, l_g2, l_g3, l_g4, l_g5, l_g6, l_g7, l_g8, l_g9, l_g10, l_g11, l_g12, l_g13, l_w1, l_w2, l_w3, l_w4, l_w6, l_w7, l_w8, l_w9, l_w10, l_w11, x_lw1, x_lw2, x_lw3, x_lw4, x_lw6, x_lw7, x_lw8, x_lw9, x_lw10, x_lw11, y_nIm, nI_add, nI_1, y_vinT, y_clN, y_leT, y_leF, y_ltT, y_ltF, y_eqF, y_leN, y_ltN, y_eqN, y_ge0, y_nlt0, y_sub1, m_sa_si, m_si_si, m_sa_sa, m_sl_si, m_sl_sa, m_sl_sl, Nat.add_zero, Nat.zero_add, Nat.le_refl, not_false_eq_true, not_true_eq_false, true_and, and_true, false_and, and_false, if_true, if_false, true_implies, false_implies, implies_true, Bool.false_eq_true, forall_const, imp_self, Nat.one_ne_zero, Nat.zero_ne_one, Nat.succ_ne_self, reduceCtorEq, Nat.reduceAdd, Nat.reduceMul, Nat.reduceSub, Nat.reduceLT, Nat.reduceEqDiff, Nat.reduceLeDiff, reduceIte, Nat.reduceBEq, h6, e1, hlt, y_wA2_r hcb]
    refine ⟨rfl, [(2, .int (nI (k + 1))), (1, .ref b0), (0, .ref x)], y_lsub_cons rfl (y_lsub_cons rfl (y_lsub_cons rfl (y_lsub_nil))), ?_⟩
    have := ih (k := k + 1) (by omega) (by omega)
    have e5 : x_sr (x_sr ξ 15 (fun j => if j < k - 1 then x_r ξ 15 (j + 1) else x_r ξ 15 j)) 15 (va_up (fun j => if j < k - 1 then x_r ξ 15 (j + 1) else x_r ξ 15 j) (k - 1) (some b)) = x_sr ξ 15 (fun j => if j < k + 1 - 1 then x_r ξ 15 (j + 1) else x_r ξ 15 j) := by
      unfold x_sr
      refine Prod.ext rfl (Prod.ext (funext fun j => ?_) rfl)
      show (if j = 15 then va_up _ (k - 1) (some b) else if j = 15 then _ else ξ.2.1 j) = (if j = 15 then _ else ξ.2.1 j)
      by_cases z : j = 15
      · rw [if_pos z, if_pos z]
        funext i
        unfold va_up
        by_cases z1 : i = k - 1
        · rw [if_pos z1, if_pos (by omega), z1, show k - 1 + 1 = k by omega, e1]
        · rw [if_neg z1]
          show (if i < k - 1 then x_r ξ 15 (i + 1) else x_r ξ 15 i) = (if i < k + 1 - 1 then x_r ξ 15 (i + 1) else x_r ξ 15 i)
          by_cases z2 : i < k - 1
          · rw [if_pos z2, if_pos (by omega)]
          · rw [if_neg z2, if_neg (by omega)]
      · rw [if_neg z, if_neg z, if_neg z]
    rw [e5]
    exact this
/-- the whole of keep -/
theorem F_X0_keep_r {ad : y_Ad} {x mc ms c s : Nat} {Q : y_Po} {g : w_G} {ξ : x_S} {σ : m_S} {N : Nat → Nat} {a : Nat} {H : Nat → Nat → Nat} {Ω : y_Hp} (hX : w_X ad x g ξ σ N a H Ω) (hmc : c + 12 ≤ mc) (hms : s + 73 ≤ ms) (hQ : ∀ (g2 : w_G) (ξ2 : x_S) (Ω2 : y_Hp) (c2 s2 : Nat), w_X ad x g2 ξ2 σ N (n_ka a) (n_kH H a N) Ω2 → x_l ξ2 = x_l ξ → (∀ k, k ≠ 6 → x_i ξ2 k = x_i ξ k) → x_t ξ2 = x_t ξ → c2 ≤ c + 12 → s2 ≤ s + 73 → Q (.returned none) (x_H x ξ2 Ω2) c2 s2) : F_X0_keep ad mc ms [.ref x] (x_H x ξ Ω) c s Q := by
  have h6 := hX.2.1.1
  have h24 := hX.2.1.2
  unfold F_X0_keep y_F
  by_cases h : a = 24
  · subst h
    obtain ⟨b0, e1, -⟩ := hX.2.2.2.2.1 0 (by decide)
    simp (disch := first | omega | (simp only [m_cls0, x_cls0, x_clsL, l_hcls]) | assumption) only [nX0_keep, wX0_keep_0, wX0_keep_1, wX0_keep_4, wX0_keep_6, wX0_keep_9, wX0_keep_10, wX0_keep_13, wX0_keep_14, wX0_keep_15, wX0_keep_16, wX0_keep_17, wX0_keep_19, wX0_keep_21, wX0_keep_24, wX0_keep_25, wX0_keep_28, wX0_keep_29, wX0_keep_30, wX0_keep_31, wX0_keep_32, wX0_keep_35, wX0_keep_36, wX0_keep_37, wX0_keep_38, wX0_keep_41, wX0_keep_44, wX0_keep_45, wX0_keep_48, wX0_keep_50, wX0_keep_51, wX0_keep_52, wX0_keep_53, wX0_keep_54, wX0_keep_57, wX0_keep_58, wX0_keep_59, wX0_keep_62, wX0_keep_63, wX0_keep_66, wX0_keep_67, wX0_keep_70, wX0_keep_71, wX0_keep_74, wX0_keep_75, wX0_keep_78, wX0_keep_79, wX0_keep_82, wX0_keep_85, wX0_keep_86, wX0_keep_89, wX0_keep_90, wX0_keep_91, wX0_keep_94, wX0_keep_95, wX0_keep_98, wX0_keep_99, wX0_keep_100, wX0_keep_103, wX0_keep_106, wX0_keep_107, wX0_keep_108, wX0_keep_109, wX0_keep_112, wX0_keep_113, wX0_keep_114, wX0_keep_117, fX0_keep_158_0, fX0_keep_43_0, fX0_keep_39_0, y_oinit_s, y_ref_s, y_args0, y_argsI, y_argsR, y_argsN, y_argsL, y_ldI_hit, y_ldI_miss, y_ldL_hit, y_ldL_miss, y_ldA_hit, y_ldA_hitN, y_ldA_miss, y_kill_nil, y_kill_hit, y_kill_keep, y_kill_i, y_kill_r, y_kill_z, y_kill_l, y_kill2_nil, y_kill2_hit, y_kill2_hit1, y_kill2_keep, y_kill2_i, y_kill2_r, y_kill2_l, y_inc_hit, y_inc_miss, y_isA_r, y_isA_n, y_gf_ob, y_gf2_s, y_gf3_s, y_pf_ob, y_pf2_i, y_pf2_r, y_pf2_n, y_pf2_a, y_rI_s, y_rB_s1, y_rB_s3, y_rL_s, y_rA_s, y_wI_s, y_wB_s1, y_wB_s3, y_wL_s, y_wA_s, y_al_s, y_cat_i, y_cat_r, y_cat_n, y_nul_n, y_nul_r, y_catE, y_catI, y_catL, y_catR, y_aft_s, y_aft_n, y_b_0, y_b_nar, y_nar1, y_nar0, y_10, y_catZ, y_clN, y_vin0, y_vin1, y_cl0, y_cl1, x_at0, x_at1, x_at2, x_at15, x_at16, x_at19, x_at20, x_fs_len, x_p2, x_p3, x_p6, x_p9, x_p8, x_puti, x_putt, x_put1, x_put2, x_put15, x_put16, x_put19, x_put20, l_wi, l_wp, l_fs_len, l_p0, l_p1, l_p2, l_p7, y_rf_s, y_rf_n, y_tsc_o, y_tsc_a, y_tsd_1, y_tsd_0, y_tst_s, y_fo1, y_fl1, y_fo2, x_lwi, y_thr_0, x_sl_sl, x_si_si, x_sg_sg, x_st_st, l_a_sa, l_1_sa, l_p_sa, l_o_sa, l_a_si, l_1_si, l_p_si, l_o_si, x_i_si, x_i_sr, x_i_st, x_i_sl, x_i_str, x_i_sg, x_r_si, x_r_sr, x_r_st, x_r_sl, x_r_str, x_r_sg, x_t_si, x_t_sr, x_t_st, x_t_sl, x_t_str, x_t_sg, x_l_si, x_l_sr, x_l_st, x_l_sl, x_l_str, x_l_sg, x_tr_si, x_tr_sr, x_tr_st, x_tr_sl, x_tr_str, x_tr_sg, x_g_si, x_g_sr, x_g_st, x_g_sl, x_g_str, x_g_sg, x_lat0, x_lat1, x_lat2, x_lat3, x_lat4, x_lat5, x_lat6, x_lat7, x_lat8, x_lat9, x_lat10, x_lat11, x_gf0, x_gf1, x_gf2, x_gf3, x_gf4, x_gf5, x_gf6, x_gf7, x_gf8, x_gf9, x_gf10, x_gf11, l_h0, l_h1, l_h2, l_h3, l_h4, l_h5, l_h6, l_h7, l_h8, l_h9, l_h10, l_h11, l_g0, l_g1, l_g2, l_g3, l_g4, l_g5, l_g6, l_g7, l_g8, l_g9, l_g10, l_g11, l_g12, l_g13, l_w1, l_w2, l_w3, l_w4, l_w6, l_w7, l_w8, l_w9, l_w10, l_w11, x_lw1, x_lw2, x_lw3, x_lw4, x_lw6, x_lw7, x_lw8, x_lw9, x_lw10, x_lw11, y_nIm, nI_add, nI_1, y_vinT, y_clN, y_leT, y_leF, y_ltT, y_ltF, y_eqF, y_leN, y_ltN, y_eqN, y_ge0, y_nlt0, y_sub1, m_sa_si, m_si_si, m_sa_sa, m_sl_si, m_sl_sa, m_sl_sl, Nat.add_zero, Nat.zero_add, Nat.le_refl, not_false_eq_true, not_true_eq_false, true_and, and_true, false_and, and_false, if_true, if_false, true_implies, false_implies, implies_true, Bool.false_eq_true, forall_const, imp_self, Nat.one_ne_zero, Nat.zero_ne_one, Nat.succ_ne_self, reduceCtorEq, Nat.reduceAdd, Nat.reduceMul, Nat.reduceSub, Nat.reduceLT, Nat.reduceEqDiff, Nat.reduceLeDiff, reduceIte, Nat.reduceBEq, h6, e1]
    have hp : ∀ i, i < 24 → w_sl ξ i = x_r ξ 15 i := fun i hi => by unfold w_sl; rw [if_pos hi]
    have := lp_X0_keep_18 (ad := ad) (x := x) (mc := mc) (ms := ms) (c := c) (s := s) (Q := Q) (b0 := b0) (ξ := ξ) (Ω := Ω) (k := 1) (fun i hi => by
      obtain ⟨b, p1, p2⟩ := hX.2.2.2.2.1 i hi
      obtain ⟨q1, l, q2⟩ := hX.2.2.2.1.1 i b (by omega) (by rw [hp i hi]; exact p1)
      exact ⟨b, p1, q1, l_cls q2.1⟩) e1 h6 (by decide) ?_
    · have e5 : x_sr ξ 15 (fun j => if j < 1 - 1 then x_r ξ 15 (j + 1) else x_r ξ 15 j) = ξ := by
        unfold x_sr
        refine Prod.ext rfl (Prod.ext (funext fun j => ?_) rfl)
        show (if j = 15 then _ else ξ.2.1 j) = ξ.2.1 j
        by_cases z : j = 15
        · rw [if_pos z, z]
          funext i
          exact if_neg (by omega)
        · rw [if_neg z]
      rw [e5] at this
      exact this
    · have hX2 : w_X ad x g (x_si (x_sr ξ 15 (fun j => if j < 23 then x_r ξ 15 (j + 1) else if j = 23 then some b0 else x_r ξ 15 j)) 6 (nI 23)) σ N 23 (fun k => H (k + 1)) Ω := by
        obtain ⟨hh, hc, hC, hD, hH, hIm, hR, hT, hK⟩ := hX
        have hπ : ∀ i, i < 26 → w_sl (x_si (x_sr ξ 15 (fun j => if j < 23 then x_r ξ 15 (j + 1) else if j = 23 then some b0 else x_r ξ 15 j)) 6 (nI 23)) i = w_sl ξ (if i < 23 then i + 1 else if i = 23 then 0 else i) := fun i hi => by
          unfold w_sl
          simp only [x_r_si, x_r_sr, Nat.reduceEqDiff, if_true, if_false]
          by_cases z : i < 23
          · rw [if_pos (by omega), if_pos z, if_pos z, if_pos (by omega)]
          · by_cases z2 : i = 23
            · subst z2; rw [if_pos (by omega), if_neg z, if_pos rfl, if_neg z, if_pos rfl, if_pos (by omega), e1]
            · rw [if_neg (by omega), if_neg z, if_neg z2, if_neg (by omega)]
        refine ⟨hh, ⟨by simp only [x_i_si, if_true], by decide⟩, hC, ⟨fun i b hi hb => ?_, fun i j b hi hj hb hb2 => ?_⟩, fun k hk => ?_, hIm, hR, hT, hK⟩
        · rw [hπ i hi] at hb
          exact hD.1 _ b (by split <;> (try split) <;> omega) hb
        · rw [hπ i hi] at hb
          rw [hπ j hj] at hb2
          have := hD.2 _ _ b (by split <;> (try split) <;> omega) (by split <;> (try split) <;> omega) hb hb2
          split at this <;> split at this <;> (try split at this) <;> (try split at this) <;> omega
        · obtain ⟨b, p1, p2⟩ := hH (k + 1) (by omega)
          refine ⟨b, ?_, p2⟩
          simp only [x_r_si, x_r_sr, if_true]
          rw [if_pos hk]; exact p1
      refine lp_X0_keep_62 hX2 (fun K => by rw [y_ldA_miss (by decide), y_ldA_miss (by decide), y_ldA_hit]) (by decide) hmc hms (fun g2 ξ2 Ω2 c2 s2 w1 w2 w3 w4 w5 w6 => hQ g2 ξ2 Ω2 c2 s2 ?_ w2 (fun k hk => (w3 k hk).trans (by rw [x_i_si, if_neg hk]; rfl)) w4 w5 w6)
      have e6 : n_kH H 24 N = (fun k => if k < 23 then H (k + 1) else N) := by unfold n_kH; simp only [if_true]
      rw [e6]
      exact w1
  · simp (disch := first | omega | (simp only [m_cls0, x_cls0, x_clsL, l_hcls]) | assumption) only [nX0_keep, wX0_keep_0, wX0_keep_1, wX0_keep_4, wX0_keep_6, wX0_keep_9, wX0_keep_10, wX0_keep_13, wX0_keep_14, wX0_keep_15, wX0_keep_16, wX0_keep_17, wX0_keep_19, wX0_keep_21, wX0_keep_24, wX0_keep_25, wX0_keep_28, wX0_keep_29, wX0_keep_30, wX0_keep_31, wX0_keep_32, wX0_keep_35, wX0_keep_36, wX0_keep_37, wX0_keep_38, wX0_keep_41, wX0_keep_44, wX0_keep_45, wX0_keep_48, wX0_keep_50, wX0_keep_51, wX0_keep_52, wX0_keep_53, wX0_keep_54, wX0_keep_57, wX0_keep_58, wX0_keep_59, wX0_keep_63, wX0_keep_66, wX0_keep_67, wX0_keep_70, wX0_keep_71, wX0_keep_74, wX0_keep_75, wX0_keep_78, wX0_keep_79, wX0_keep_82, wX0_keep_85, wX0_keep_86, wX0_keep_89, wX0_keep_90, wX0_keep_91, wX0_keep_94, wX0_keep_95, wX0_keep_98, wX0_keep_99, wX0_keep_100, wX0_keep_103, wX0_keep_106, wX0_keep_107, wX0_keep_108, wX0_keep_109, wX0_keep_112, wX0_keep_113, wX0_keep_114, wX0_keep_117, fX0_keep_158_0, fX0_keep_43_0, fX0_keep_39_0, y_oinit_s, y_ref_s, y_args0, y_argsI, y_argsR, y_argsN, y_argsL, y_ldI_hit, y_ldI_miss, y_ldL_hit, y_ldL_miss, y_ldA_hit, y_ldA_hitN, y_ldA_miss, y_kill_nil, y_kill_hit, y_kill_keep, y_kill_i, y_kill_r, y_kill_z, y_kill_l, y_kill2_nil, y_kill2_hit, y_kill2_hit1, y_kill2_keep, y_kill2_i, y_kill2_r, y_kill2_l, y_inc_hit, y_inc_miss, y_isA_r, y_isA_n, y_gf_ob, y_gf2_s, y_gf3_s, y_pf_ob, y_pf2_i, y_pf2_r, y_pf2_n, y_pf2_a, y_rI_s, y_rB_s1, y_rB_s3, y_rL_s, y_rA_s, y_wI_s, y_wB_s1, y_wB_s3, y_wL_s, y_wA_s, y_al_s, y_cat_i, y_cat_r, y_cat_n, y_nul_n, y_nul_r, y_catE, y_catI, y_catL, y_catR, y_aft_s, y_aft_n, y_b_0, y_b_nar, y_nar1, y_nar0, y_10, y_catZ, y_clN, y_vin0, y_vin1, y_cl0, y_cl1, x_at0, x_at1, x_at2, x_at15, x_at16, x_at19, x_at20, x_fs_len, x_p2, x_p3, x_p6, x_p9, x_p8, x_puti, x_putt, x_put1, x_put2, x_put15, x_put16, x_put19, x_put20, l_wi, l_wp, l_fs_len, l_p0, l_p1, l_p2, l_p7, y_rf_s, y_rf_n, y_tsc_o, y_tsc_a, y_tsd_1, y_tsd_0, y_tst_s, y_fo1, y_fl1, y_fo2, x_lwi, y_thr_0, x_sl_sl, x_si_si, x_sg_sg, x_st_st, l_a_sa, l_1_sa, l_p_sa, l_o_sa, l_a_si, l_1_si, l_p_si, l_o_si, x_i_si, x_i_sr, x_i_st, x_i_sl, x_i_str, x_i_sg, x_r_si, x_r_sr, x_r_st, x_r_sl, x_r_str, x_r_sg, x_t_si, x_t_sr, x_t_st, x_t_sl, x_t_str, x_t_sg, x_l_si, x_l_sr, x_l_st, x_l_sl, x_l_str, x_l_sg, x_tr_si, x_tr_sr, x_tr_st, x_tr_sl, x_tr_str, x_tr_sg, x_g_si, x_g_sr, x_g_st, x_g_sl, x_g_str, x_g_sg, x_lat0, x_lat1, x_lat2, x_lat3, x_lat4, x_lat5, x_lat6, x_lat7, x_lat8, x_lat9, x_lat10, x_lat11, x_gf0, x_gf1, x_gf2, x_gf3, x_gf4, x_gf5, x_gf6, x_gf7, x_gf8, x_gf9, x_gf10, x_gf11, l_h0, l_h1, l_h2, l_h3, l_h4, l_h5, l_h6, l_h7, l_h8, l_h9, l_h10, l_h11, l_g0, l_g1, l_g2, l_g3, l_g4, l_g5, l_g6, l_g7, l_g8, l_g9, l_g10, l_g11, l_g12, l_g13, l_w1, l_w2, l_w3, l_w4, l_w6, l_w7, l_w8, l_w9, l_w10, l_w11, x_lw1, x_lw2, x_lw3, x_lw4, x_lw6, x_lw7, x_lw8, x_lw9, x_lw10, x_lw11, y_nIm, nI_add, nI_1, y_vinT, y_clN, y_leT, y_leF, y_ltT, y_ltF, y_eqF, y_leN, y_ltN, y_eqN, y_ge0, y_nlt0, y_sub1, m_sa_si, m_si_si, m_sa_sa, m_sl_si, m_sl_sa, m_sl_sl, Nat.add_zero, Nat.zero_add, Nat.le_refl, not_false_eq_true, not_true_eq_false, true_and, and_true, false_and, and_false, if_true, if_false, true_implies, false_implies, implies_true, Bool.false_eq_true, forall_const, imp_self, Nat.one_ne_zero, Nat.zero_ne_one, Nat.succ_ne_self, reduceCtorEq, Nat.reduceAdd, Nat.reduceMul, Nat.reduceSub, Nat.reduceLT, Nat.reduceEqDiff, Nat.reduceLeDiff, reduceIte, Nat.reduceBEq, h6]
    refine lp_X0_keep_62 hX (fun K => y_ldA_hit) (by omega) hmc hms (fun g2 ξ2 Ω2 c2 s2 w1 w2 w3 w4 w5 w6 => hQ g2 ξ2 Ω2 c2 s2 ?_ w2 w3 w4 w5 w6)
    have e6 : n_kH H a N = (fun k => if k < a then H k else N) := by unfold n_kH; simp only [if_neg h]
    have e7 : n_ka a = a + 1 := if_neg h
    rw [e6, e7]
    exact w1
