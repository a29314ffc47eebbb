/-! EVERY STEP OF THE EXECUTOR IS A STEP OF THE MACHINE -/
theorem y_lget_mem : ∀ {lv : y_Lv} {k : Nat} {v : Value}, y_lget lv k = some v → (k, v) ∈ lv
  | [], _, _, h => by cases h
  | q :: t, k, v, h => by
    unfold y_lget at h
    split at h
    · rename_i hk
      cases h
      rw [← hk]
      exact List.mem_cons_self
    · exact List.mem_cons_of_mem _ (y_lget_mem h)
theorem y_lv_at {ls : Array Slot} {nL : Nat} {lv : y_Lv} {k : Nat} {v : Value} (h : lv_has ls nL lv) (q : y_lget lv k = some v) : ls[k]? = some (.val v) := h.2.2 _ (y_lget_mem q)
theorem y_lv_sub {ls : Array Slot} {nL : Nat} {lv lv' : y_Lv} (h : lv_has ls nL lv) (q : y_lsub lv' lv) : lv_has ls nL lv' := ⟨h.1, h.2.1, fun z hz => y_lv_at h (q z hz)⟩
theorem y_find_mem {α : Type} {l : List α} {f : α → Bool} {x : α} (h : l.find? f = some x) : x ∈ l ∧ f x = true := ⟨List.mem_of_find?_eq_some h, List.find?_some h⟩
section
variable {p : Program} {l : Launch} {e : Env} {R : Room} {s : State} {m : MethodId} {args : Array Value} {below : List Frame} {meth : Method} {c : Code} {H : Heap} {locs : List Loc} {cells slots : Nat} {Q : State → Prop}
variable {s0 : State} {b0 : Nat} {D : va_G} {dA : Nat → ClassId} {ω : y_Hp} {pc : Nat} {ls : Array Slot} {rest : List Value} {a : Nat}
theorem y_W_aload {i : Instr} {len k : Nat} {v : Value} (hx : p.tables.exec = Jvm.exec) (hi : (∃ k' : Fin 4, i = .aload_n k' ∧ (k' : Nat) = k ∧ len = 1) ∨ i = .aload k ∧ len = 2) (hd : decode c.code pc = .ok (i, len)) (hl : ls[k]? = some (.val v)) (hv : y_isA v = true) (kk : W p l e R s m args below meth c H locs cells slots Q (F0 m (pc + len) ls (v :: rest))) : W p l e R s m args below meth c H locs cells slots Q (F0 m pc ls rest) := by
  cases v with
  | ref x =>
    rcases hi with ⟨k', rfl, hk, rfl⟩ | ⟨rfl, rfl⟩
    · exact lv_aload_n hx rfl hd hk hl kk
    · exact lv_aload hx rfl hd hl kk
  | null =>
    rcases hi with ⟨k', rfl, hk, rfl⟩ | ⟨rfl, rfl⟩
    · exact lv_aload_nN hx rfl hd hk hl kk
    · exact lv_aloadN hx rfl hd hl kk
  | _ => cases hv
theorem y_W_iload {i : Instr} {len k : Nat} {v : Value} (hx : p.tables.exec = Jvm.exec) (hi : (∃ k' : Fin 4, i = .iload_n k' ∧ (k' : Nat) = k ∧ len = 1) ∨ i = .iload k ∧ len = 2) (hd : decode c.code pc = .ok (i, len)) (hl : ls[k]? = some (.val v)) (hv : y_isI v = true) (kk : W p l e R s m args below meth c H locs cells slots Q (F0 m (pc + len) ls (v :: rest))) : W p l e R s m args below meth c H locs cells slots Q (F0 m pc ls rest) := by
  cases v with
  | int x =>
    rcases hi with ⟨k', rfl, hk, rfl⟩ | ⟨rfl, rfl⟩
    · exact lv_iload_n hx rfl hd hk hl kk
    · exact lv_iload hx rfl hd hl kk
  | _ => cases hv
theorem y_W_lload {i : Instr} {len k : Nat} {v : Value} (hx : p.tables.exec = Jvm.exec) (hi : (∃ k' : Fin 4, i = .lload_n k' ∧ (k' : Nat) = k ∧ len = 1) ∨ i = .lload k ∧ len = 2) (hd : decode c.code pc = .ok (i, len)) (hl : ls[k]? = some (.val v)) (hv : y_isL v = true) (kk : W p l e R s m args below meth c H locs cells slots Q (F0 m (pc + len) ls (v :: rest))) : W p l e R s m args below meth c H locs cells slots Q (F0 m pc ls rest) := by
  cases v with
  | long x =>
    rcases hi with ⟨k', rfl, hk, rfl⟩ | ⟨rfl, rfl⟩
    · exact lv_lload_n hx rfl hd hk hl kk
    · exact lv_lload hx rfl hd hl kk
  | _ => cases hv
theorem y_W_astore {i : Instr} {len k nL : Nat} {v : Value} {lv : y_Lv} (hx : p.tables.exec = Jvm.exec) (hi : (∃ k' : Fin 4, i = .astore_n k' ∧ (k' : Nat) = k ∧ len = 1) ∨ i = .astore k ∧ len = 2) (hd : decode c.code pc = .ok (i, len)) (hl : lv_has ls nL lv) (hn : k < nL) (hv : y_isA v = true) (kk : ∀ ls', lv_has ls' nL (y_lset lv k v) → W p l e R s m args below meth c H locs cells slots Q (F0 m (pc + len) ls' rest)) : W p l e R s m args below meth c H locs cells slots Q (F0 m pc ls (v :: rest)) := by
  cases v with
  | ref x =>
    rcases hi with ⟨k', rfl, hk, rfl⟩ | ⟨rfl, rfl⟩
    · exact lv_astore_n hx rfl hd hk hl hn rfl kk
    · exact lv_astore hx rfl hd hl hn rfl kk
  | null =>
    rcases hi with ⟨k', rfl, hk, rfl⟩ | ⟨rfl, rfl⟩
    · exact lv_astore_nN hx rfl hd hk hl hn rfl kk
    · exact lv_astoreN hx rfl hd hl hn rfl kk
  | _ => cases hv
theorem y_mem_idx {α : Type} {l : List α} {x : α} (h : x ∈ l) : ∃ k : Nat, l[k]? = some x := List.mem_iff_getElem?.mp h
theorem y_rf_of (z : Value) (hz : y_isA z = true) : ∃ r : Option Nat, z = va_rf r := by
  cases z with
  | ref x => exact ⟨some x, rfl⟩
  | null => exact ⟨none, rfl⟩
  | _ => cases hz
theorem y_rf_inj (r1 r2 : Option Nat) : va_rf r1 = va_rf r2 ↔ r1 = r2 := by
  cases r1 <;> cases r2 <;> simp [va_rf]
theorem y_W_acmpE {off : Int} {tgt : Nat} {v w : Value} (hx : p.tables.exec = Jvm.exec) (hd : decode c.code pc = .ok (.if_acmp .eq off, 3)) (ht : (pc : Int) + off = (tgt : Int)) (hv : y_isA v = true) (hw : y_isA w = true) (kt : w = v → W p l e R s m args below meth c H locs cells slots Q (F0 m tgt ls rest)) (kf : ¬ w = v → W p l e R s m args below meth c H locs cells slots Q (F0 m (pc + 3) ls rest)) : W p l e R s m args below meth c H locs cells slots Q (F0 m pc ls (v :: w :: rest)) := by
  obtain ⟨rv, rfl⟩ := y_rf_of v hv
  obtain ⟨rw', rfl⟩ := y_rf_of w hw
  exact lv_acmp_eq hx rfl hd ht (fun h => kt ((y_rf_inj _ _).mpr h)) (fun h => kf (fun q => h ((y_rf_inj _ _).mp q)))
theorem y_W_acmpN {off : Int} {tgt : Nat} {v w : Value} (hx : p.tables.exec = Jvm.exec) (hd : decode c.code pc = .ok (.if_acmp .ne off, 3)) (ht : (pc : Int) + off = (tgt : Int)) (hv : y_isA v = true) (hw : y_isA w = true) (kt : ¬ w = v → W p l e R s m args below meth c H locs cells slots Q (F0 m tgt ls rest)) (kf : w = v → W p l e R s m args below meth c H locs cells slots Q (F0 m (pc + 3) ls rest)) : W p l e R s m args below meth c H locs cells slots Q (F0 m pc ls (v :: w :: rest)) := by
  obtain ⟨rv, rfl⟩ := y_rf_of v hv
  obtain ⟨rw', rfl⟩ := y_rf_of w hw
  exact lv_acmp_ne hx rfl hd ht (fun h => kt (fun q => h ((y_rf_inj _ _).mp q))) (fun h => kf ((y_rf_inj _ _).mpr h))
/-- arrays read -/
theorem y_W_rI {t n : Nat} {f : Nat → Int32} {j : Int32} (hx : p.tables.exec = Jvm.exec) (h : y_wk s D a (.inl (t, n, .inl f)) H) (ht : t = 0) (hin : vp_in j n) (hd : decode c.code pc = .ok (.iaload, 1)) (kk : W p l e R s m args below meth c H locs cells slots Q (F0 m (pc + 1) ls (.int (f j.toNatClampNeg) :: rest))) : W p l e R s m args below meth c H locs cells slots Q (F0 m pc ls (.int j :: .ref a :: rest)) := by
  subst ht
  obtain ⟨cell, q1, q2, q3, q4, q5, q6⟩ := h
  exact W.iald (v := .int (f j.toNatClampNeg)) hx rfl q1 q4 q2 (by rw [q5]; exact hin) (q6 _ (Nat.not_le.mp fun z => hin (Or.inr z))) rfl rfl hd kk
theorem y_W_rB {t n : Nat} {f : Nat → Int32} {j : Int32} (hx : p.tables.exec = Jvm.exec) (h : y_wk s D a (.inl (t, n, .inl f)) H) (ht : t = 1 ∨ t = 3) (hin : vp_in j n) (hd : decode c.code pc = .ok (.baload, 1)) (kk : W p l e R s m args below meth c H locs cells slots Q (F0 m (pc + 1) ls (.int (f j.toNatClampNeg) :: rest))) : W p l e R s m args below meth c H locs cells slots Q (F0 m pc ls (.int j :: .ref a :: rest)) := by
  obtain ⟨cell, q1, q2, q3, q4, q5, q6⟩ := h
  rcases ht with rfl | rfl
  · exact W.bald (v := .int (f j.toNatClampNeg)) hx rfl q1 q4 q2 (by rw [q5]; exact hin) (q6 _ (Nat.not_le.mp fun z => hin (Or.inr z))) rfl rfl hd kk
  · exact W.zald (v := .int (f j.toNatClampNeg)) hx rfl q1 q4 q2 (by rw [q5]; exact hin) (q6 _ (Nat.not_le.mp fun z => hin (Or.inr z))) rfl rfl hd kk
theorem y_W_rL {t n : Nat} {f : Nat → Int64} {j : Int32} (hx : p.tables.exec = Jvm.exec) (h : y_wk s D a (.inl (t, n, .inr (.inl f))) H) (ht : t = 2) (hin : vp_in j n) (hd : decode c.code pc = .ok (.laload, 1)) (kk : W p l e R s m args below meth c H locs cells slots Q (F0 m (pc + 1) ls (.long (f j.toNatClampNeg) :: rest))) : W p l e R s m args below meth c H locs cells slots Q (F0 m pc ls (.int j :: .ref a :: rest)) := by
  subst ht
  obtain ⟨cell, q1, q2, q3, q4, q5, q6⟩ := h
  exact W.lald (v := .long (f j.toNatClampNeg)) hx rfl q1 q4 q2 (by rw [q5]; exact hin) (q6 _ (Nat.not_le.mp fun z => hin (Or.inr z))) rfl rfl hd kk
theorem y_ty_ref {t : Nat} (h : 4 ≤ t ∧ t < 8) : ∃ C, y_ty t = .object C := by
  obtain ⟨h1, h2⟩ := h
  have : t = 4 ∨ t = 5 ∨ t = 6 ∨ t = 7 := by omega
  rcases this with rfl | rfl | rfl | rfl <;> exact ⟨_, rfl⟩
theorem y_W_rA {t n : Nat} {f : Nat → Option Nat} {j : Int32} (hx : p.tables.exec = Jvm.exec) (h : y_wk s D a (.inl (t, n, .inr (.inr (.inr (.inr f))))) H) (ht : 4 ≤ t ∧ t < 8) (hin : vp_in j n) (hd : decode c.code pc = .ok (.aaload, 1)) (kk : W p l e R s m args below meth c H locs cells slots Q (F0 m (pc + 1) ls (va_rf (f j.toNatClampNeg) :: rest))) : W p l e R s m args below meth c H locs cells slots Q (F0 m pc ls (.int j :: .ref a :: rest)) := by
  obtain ⟨cell, q1, q2, q3, q4, q5, q6⟩ := h
  obtain ⟨C, hC⟩ := y_ty_ref ht
  exact W.aald (v := va_rf (f j.toNatClampNeg)) hx rfl q1 q4 (by show (y_ty t).isReference = true; rw [hC]; rfl) q2 (by rw [q5]; exact hin) (q6 _ (Nat.not_le.mp fun z => hin (Or.inr z))) rfl rfl hd kk
theorem y_W_al {q : Nat × vp_A} (hx : p.tables.exec = Jvm.exec) (h : y_wk s D a (.inl q) H) (hd : decode c.code pc = .ok (.arraylength, 1)) (kk : W p l e R s m args below meth c H locs cells slots Q (F0 m (pc + 1) ls (.int (nI q.2.1) :: rest))) : W p l e R s m args below meth c H locs cells slots Q (F0 m pc ls (.ref a :: rest)) := by
  obtain ⟨cell, q1, q2, q3, q4, q5, q6⟩ := h
  exact W.alen (n := nI q.2.1) hx rfl q1 q4 (by rw [q5]; rfl) rfl rfl hd kk
/-- arrays written -/
theorem y_arr_at {t n : Nat} {q : (Nat → Int32) ⊕ (Nat → Int64) ⊕ (Nat → UInt32) ⊕ (Nat → UInt64) ⊕ (Nat → Option Nat)} (hR : y_R s0 D dA ω H locs) (h : ω.2 a = some (true, .inl (t, n, q))) : t < 8 ∧ H[a]? = some (arrV (dA t) n (y_pv q)) := by
  obtain ⟨-, h2, h3⟩ := (hR.1.2.2 _ _ _ h).1 rfl
  refine ⟨h2, ?_⟩
  have h3 : H[a]? = some (vp_cell (dA t) (n, q)) := h3
  rw [y_cell_eq] at h3
  exact h3
theorem y_arr_put {t n k : Nat} {q q' : (Nat → Int32) ⊕ (Nat → Int64) ⊕ (Nat → UInt32) ⊕ (Nat → UInt64) ⊕ (Nat → Option Nat)} {H' : Heap} {v : Value} (hR : y_R s0 D dA ω H locs) (h : ω.2 a = some (true, .inl (t, n, q))) (e : H'[a]? = some ((arrV (dA t) n (y_pv q)).setSlot k v)) (hz : H'.size = H.size) (ho : ∀ q, q ≠ a → H'[q]? = H[q]?) (hv : ∀ j, y_pv q' j = if j = k then v else y_pv q j) : y_R s0 D dA (y_hup ω a (.inl (t, n, q'))) H' (locs ++ [⟨a, k⟩]) := by
  refine y_R_up hR h (y_arr_at hR h).1 ?_ hz ho
  show H'[a]? = some (vp_cell (dA t) (n, q'))
  rw [e, y_cell_eq, arrV_store]
  congr 2
  funext j
  rw [hv j]
  rfl
theorem y_W_wI {t n : Nat} {f : Nat → Int32} {j x : Int32} (hx : p.tables.exec = Jvm.exec) (HG : y_G s0 b0 D dA) (hW : s0.WarmedH s.vm) (hR : y_R s0 D dA ω H locs) (h : ω.2 a = some (true, .inl (t, n, .inl f))) (ht : t = 0) (hin : vp_in j n) (hd : decode c.code pc = .ok (.iastore, 1)) (kk : ∀ (H' : Heap) (locs' : List Loc), y_R s0 D dA (y_hup ω a (.inl (t, n, .inl (upd f j.toNatClampNeg x)))) H' locs' → W p l e R s m args below meth c H' locs' cells slots Q (F0 m (pc + 1) ls rest)) : W p l e R s m args below meth c H locs cells slots Q (F0 m pc ls (.int x :: .int j :: .ref a :: rest)) := by
  subst ht
  obtain ⟨h8, hat⟩ := y_arr_at hR h
  refine W.iast hx rfl hat (((HG.2.1.moved hW.alike).2 0 h8).1 n _) (fun z => by cases z) (by rw [arrV_size]; exact hin) rfl rfl hd fun H' e1 z oq => ?_
  exact kk H' _ (y_arr_put hR h e1 z oq (fun k => by simp only [y_pv, upd]; split <;> rfl))
theorem y_W_wB {t n : Nat} {f : Nat → Int32} {j x : Int32} (hx : p.tables.exec = Jvm.exec) (HG : y_G s0 b0 D dA) (hW : s0.WarmedH s.vm) (hR : y_R s0 D dA ω H locs) (h : ω.2 a = some (true, .inl (t, n, .inl f))) (ht : t = 1 ∨ t = 3) (hin : vp_in j n) (hd : decode c.code pc = .ok (.bastore, 1)) (kk : ∀ (H' : Heap) (locs' : List Loc), y_R s0 D dA (y_hup ω a (.inl (t, n, .inl (upd f j.toNatClampNeg (if t = 1 then vp_nar .byte x else vp_nar .boolean x))))) H' locs' → W p l e R s m args below meth c H' locs' cells slots Q (F0 m (pc + 1) ls rest)) : W p l e R s m args below meth c H locs cells slots Q (F0 m pc ls (.int x :: .int j :: .ref a :: rest)) := by
  obtain ⟨h8, hat⟩ := y_arr_at hR h
  rcases ht with rfl | rfl
  · refine W.bast hx rfl hat (((HG.2.1.moved hW.alike).2 1 h8).1 n _) (fun z => by cases z) (by rw [arrV_size]; exact hin) rfl rfl hd fun H' e1 z oq => ?_
    exact kk H' _ (y_arr_put hR h e1 z oq (fun k => by simp only [y_pv, upd]; split <;> rfl))
  · refine W.zast hx rfl hat (((HG.2.1.moved hW.alike).2 3 h8).1 n _) (fun z => by cases z) (by rw [arrV_size]; exact hin) rfl rfl hd fun H' e1 z oq => ?_
    exact kk H' _ (y_arr_put hR h e1 z oq (fun k => by simp only [y_pv, upd]; split <;> rfl))
theorem y_W_wL {t n : Nat} {f : Nat → Int64} {j : Int32} {x : Int64} (hx : p.tables.exec = Jvm.exec) (HG : y_G s0 b0 D dA) (hW : s0.WarmedH s.vm) (hR : y_R s0 D dA ω H locs) (h : ω.2 a = some (true, .inl (t, n, .inr (.inl f)))) (ht : t = 2) (hin : vp_in j n) (hd : decode c.code pc = .ok (.lastore, 1)) (kk : ∀ (H' : Heap) (locs' : List Loc), y_R s0 D dA (y_hup ω a (.inl (t, n, .inr (.inl (vp_updL f j.toNatClampNeg x))))) H' locs' → W p l e R s m args below meth c H' locs' cells slots Q (F0 m (pc + 1) ls rest)) : W p l e R s m args below meth c H locs cells slots Q (F0 m pc ls (.long x :: .int j :: .ref a :: rest)) := by
  subst ht
  obtain ⟨h8, hat⟩ := y_arr_at hR h
  refine W.last hx rfl hat (((HG.2.1.moved hW.alike).2 2 h8).1 n _) (fun z => by cases z) (by rw [arrV_size]; exact hin) rfl rfl hd fun H' e1 z oq => ?_
  exact kk H' _ (y_arr_put hR h e1 z oq (fun k => by simp only [y_pv, vp_updL]; split <;> rfl))
theorem y_W_wAN {t n : Nat} {f : Nat → Option Nat} {j : Int32} (hx : p.tables.exec = Jvm.exec) (HG : y_G s0 b0 D dA) (hW : s0.WarmedH s.vm) (hR : y_R s0 D dA ω H locs) (h : ω.2 a = some (true, .inl (t, n, .inr (.inr (.inr (.inr f)))))) (ht : 4 ≤ t ∧ t < 8) (hin : vp_in j n) (hd : decode c.code pc = .ok (.aastore, 1)) (kk : ∀ (H' : Heap) (locs' : List Loc), y_R s0 D dA (y_hup ω a (.inl (t, n, .inr (.inr (.inr (.inr (va_up f j.toNatClampNeg none))))))) H' locs' → W p l e R s m args below meth c H' locs' cells slots Q (F0 m (pc + 1) ls rest)) : W p l e R s m args below meth c H locs cells slots Q (F0 m pc ls (.null :: .int j :: .ref a :: rest)) := by
  obtain ⟨h8, hat⟩ := y_arr_at hR h
  obtain ⟨C, hC⟩ := y_ty_ref ht
  have hA := ((HG.2.1.moved hW.alike).2 t h8).1
  rw [hC] at hA
  refine va_WaastN (C := C) hx rfl hat (hA n _) (fun z => by cases z) (by rw [arrV_size]; exact hin) rfl rfl hd fun H' e1 z oq => ?_
  exact kk H' _ (y_arr_put hR h e1 z oq (fun k => by simp only [y_pv, va_up]; split <;> rfl))
/-- the classes that fit into an array of references, by the tables' castable words -/
def y_OKtak (s0 : State) (b0 : Nat) : Prop := ∀ t ci : Nat, y_takes t ci = true → ∀ (C : String) (r : vw_C), y_ty t = .object C → y_cl[ci]? = some r → (Cond.castable r.1 C).before #[Value.ref b0] s0 = true ∨ r.1 = C
theorem y_W_wA {t n ci v : Nat} {f : Nat → Option Nat} {j : Int32} (hx : p.tables.exec = Jvm.exec) (HG : y_G s0 b0 D dA) (HT : y_OKtak s0 b0) (hW : s0.WarmedH s.vm) (hR : y_R s0 D dA ω H locs) (h : ω.2 a = some (true, .inl (t, n, .inr (.inr (.inr (.inr f)))))) (ht : 4 ≤ t ∧ t < 8) (hin : vp_in j n) (hv : y_cls ω v = some ci) (htk : y_takes t ci = true) (hd : decode c.code pc = .ok (.aastore, 1)) (kk : ∀ (H' : Heap) (locs' : List Loc), y_R s0 D dA (y_hup ω a (.inl (t, n, .inr (.inr (.inr (.inr (va_up f j.toNatClampNeg (some v)))))))) H' locs' → W p l e R s m args below meth c H' locs' cells slots Q (F0 m (pc + 1) ls rest)) : W p l e R s m args below meth c H locs cells slots Q (F0 m pc ls (.ref v :: .int j :: .ref a :: rest)) := by
  obtain ⟨h8, hat⟩ := y_arr_at hR h
  obtain ⟨C, hC⟩ := y_ty_ref ht
  have hK := HG.2.1.moved hW.alike
  have hRA := (hK.2 t h8).2
  rw [hC] at hRA
  obtain ⟨kA, comp, k1, k2, k3, -⟩ := hRA
  have hr : ∃ r, y_cl[ci]? = some r := by
    unfold y_cls at hv
    split at hv
    · rename_i fl o ho
      cases hv
      obtain ⟨cell, q1, q2, q3, r', hr', -⟩ := y_wk_of HG hW hR ho
      exact ⟨r', hr'⟩
    · cases hv
  obtain ⟨r, hr⟩ := hr
  obtain ⟨cellV, g1, g2, g3⟩ := y_recv HG hW hR hv hr
  obtain ⟨-, kC, hkC, hkind⟩ := (hK.1 ci r hr).2
  have hcl : D.1 ci = cellV.cls := Option.some.inj ((hK.1 ci r hr).2.1.symm.trans g3)
  have hasg : s.vm.assignable cellV.cls comp = true := by
    rcases HT t ci htk C r hC hr with q | q
    · exact vb_asgC (va_Nw.warmC hW (va_Nw.of rfl q)) comp cellV.cls k3 g3
    · rw [q] at g3
      have : comp = cellV.cls := Option.some.inj (k3.symm.trans g3)
      subst this
      exact va_assign (C := r.1) (by rw [← hcl]; exact (hK.1 ci r hr).2)
  obtain ⟨kc, hkc, -⟩ := Vm.findClass_spec k3
  refine W.aast hx rfl hat (fun q z => by cases z) (fun z => by cases z) k1 k2 rfl hkc ⟨fun z => hin (Or.inl z), by rw [arrV_size]; exact Nat.not_le.mp fun z => hin (Or.inr z)⟩ g1 (fun q z => by rw [z] at g2; cases g2) (by rw [← hcl]; exact hkC) hasg rfl rfl hd fun H' e1 z oq => ?_
  exact kk H' _ (y_arr_put hR h e1 z oq (fun k => by simp only [y_pv, va_up]; split <;> rfl))
end
