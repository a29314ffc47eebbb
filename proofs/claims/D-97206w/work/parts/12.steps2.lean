/-! the steps that look at the pool or the heap -/
section
variable {M : y_Md} {mc ms : Nat} {Q : y_Po} {pc pc' c s : Nat} {lv : y_Lv} {st r : List Value} {ω : y_Hp} {Po : y_Pool}
theorem w_ldc {idx : Nat} {v : Value} (hd : decode (y_cc M) pc = .ok (.ldc idx, 2)) (hv : y_fc M idx = some v) (hl : y_isL v = false) (hp : pc + 2 = pc') : y_w M mc ms Q (pc, lv, st, ω, c, s) = y_w M mc ms Q (pc', lv, v :: st, ω, c, s) := by
  subst hp; exact y_e1 fun P Q0 => by rw [y_xI_of hd]; simp [y_xJ, hv, hl]
theorem w_ldc_w {idx : Nat} {v : Value} (hd : decode (y_cc M) pc = .ok (.ldc_w idx, 3)) (hv : y_fc M idx = some v) (hl : y_isI v = true) (hp : pc + 3 = pc') : y_w M mc ms Q (pc, lv, st, ω, c, s) = y_w M mc ms Q (pc', lv, v :: st, ω, c, s) := by
  subst hp; exact y_e1 fun P Q0 => by rw [y_xI_of hd]; simp [y_xJ, hv, hl]
theorem w_ldc2_w {idx : Nat} {v : Value} (hd : decode (y_cc M) pc = .ok (.ldc2_w idx, 3)) (hv : y_fc M idx = some v) (hl : y_isL v = true) (hp : pc + 3 = pc') : y_w M mc ms Q (pc, lv, st, ω, c, s) = y_w M mc ms Q (pc', lv, v :: st, ω, c, s) := by
  subst hp; exact y_e1 fun P Q0 => by rw [y_xI_of hd]; simp [y_xJ, hv, hl]
theorem w_getstatic {idx : Nat} {v : Value} (hd : decode (y_cc M) pc = .ok (.getstatic idx, 3)) (hv : y_fs M idx = some v) (hp : pc + 3 = pc') : y_w M mc ms Q (pc, lv, st, ω, c, s) = y_w M mc ms Q (pc', lv, v :: st, ω, c, s) := by
  subst hp; exact y_e1 fun P Q0 => by rw [y_xI_of hd]; simp [y_xJ, hv]
theorem y_gf_mono {idx : Nat} {o : Option (Bool × y_E)} {K K' : Value → Prop} (h : ∀ v, K v → K' v) (q : y_gf Po idx o K) : y_gf Po idx o K' := by
  unfold y_gf at q ⊢
  split at q
  · unfold y_gf2 at q ⊢
    split at q
    · unfold y_gf3 at q ⊢
      split at q
      · exact h _ q
      · exact q.elim
    · exact q.elim
  · exact q.elim
theorem w_getfield {idx a : Nat} (hd : decode (y_cc M) pc = .ok (.getfield idx, 3)) (hP : y_pool M = Po) (hp : pc + 3 = pc') : y_w M mc ms Q (pc, lv, .ref a :: r, ω, c, s) = y_gf Po idx (ω.2 a) (fun v => y_w M mc ms Q (pc', lv, v :: r, ω, c, s)) := by
  subst hp hP
  refine y_eG (fun P _ => y_gf (y_pool M) idx (ω.2 a) (fun v => P (pc + 3, lv, v :: r, ω, c, s))) (fun P Q0 => ?_) (fun _ _ _ _ hP _ q => y_gf_mono (fun _ z => hP _ z) q)
  rw [y_xI_of hd]
  simp only [y_xJ, true_and]
  rfl
theorem y_pf_mono {ini : Bool} {idx : Nat} {o : Option (Bool × y_E)} {v : Value} {K K' : Nat → List Value → Prop} (h : ∀ ci fs, K ci fs → K' ci fs) (q : y_pf Po ini idx o v K) : y_pf Po ini idx o v K' := by
  unfold y_pf at q ⊢
  split at q
  · unfold y_pf2 at q ⊢
    split at q
    · exact ⟨q.1, q.2.1, q.2.2.1, q.2.2.2.1, h _ _ q.2.2.2.2⟩
    · exact q.elim
  · exact q.elim
theorem w_putfield {idx a : Nat} {v : Value} {ini : Bool} (hd : decode (y_cc M) pc = .ok (.putfield idx, 3)) (hP : y_pool M = Po) (hi : y_ini M = ini) (hp : pc + 3 = pc') : y_w M mc ms Q (pc, lv, v :: .ref a :: r, ω, c, s) = y_pf Po ini idx (ω.2 a) v (fun ci fs => y_w M mc ms Q (pc', lv, r, y_hup ω a (.inr (ci, fs)), c, s)) := by
  subst hp hP hi
  refine y_eG (fun P _ => y_pf (y_pool M) (y_ini M) idx (ω.2 a) v (fun ci fs => P (pc + 3, lv, r, y_hup ω a (.inr (ci, fs)), c, s))) (fun P Q0 => ?_) (fun _ _ _ _ hP _ q => y_pf_mono (fun _ _ z => hP _ z) q)
  rw [y_xI_of hd]
  simp only [y_xJ, true_and]
  rfl
theorem w_iaload {a : Nat} {j : Int32} (hd : decode (y_cc M) pc = .ok (.iaload, 1)) (hp : pc + 1 = pc') : y_w M mc ms Q (pc, lv, .int j :: .ref a :: r, ω, c, s) = y_rI (ω.2 a) j (fun x => y_w M mc ms Q (pc', lv, .int x :: r, ω, c, s)) := by
  subst hp
  refine y_eG (fun P _ => y_rI (ω.2 a) j (fun x => P (pc + 1, lv, .int x :: r, ω, c, s))) (fun P Q0 => ?_) (fun _ _ _ _ hP _ q => ?_)
  · rw [y_xI_of hd]; simp only [y_xJ, true_and]; rfl
  · unfold y_rI at q ⊢
    split at q
    · exact ⟨q.1, q.2.1, hP _ q.2.2⟩
    · exact q.elim
theorem w_baload {a : Nat} {j : Int32} (hd : decode (y_cc M) pc = .ok (.baload, 1)) (hp : pc + 1 = pc') : y_w M mc ms Q (pc, lv, .int j :: .ref a :: r, ω, c, s) = y_rB (ω.2 a) j (fun x => y_w M mc ms Q (pc', lv, .int x :: r, ω, c, s)) := by
  subst hp
  refine y_eG (fun P _ => y_rB (ω.2 a) j (fun x => P (pc + 1, lv, .int x :: r, ω, c, s))) (fun P Q0 => ?_) (fun _ _ _ _ hP _ q => ?_)
  · rw [y_xI_of hd]; simp only [y_xJ, true_and]; rfl
  · unfold y_rB at q ⊢
    split at q
    · exact ⟨q.1, q.2.1, hP _ q.2.2⟩
    · exact q.elim
theorem w_laload {a : Nat} {j : Int32} (hd : decode (y_cc M) pc = .ok (.laload, 1)) (hp : pc + 1 = pc') : y_w M mc ms Q (pc, lv, .int j :: .ref a :: r, ω, c, s) = y_rL (ω.2 a) j (fun x => y_w M mc ms Q (pc', lv, .long x :: r, ω, c, s)) := by
  subst hp
  refine y_eG (fun P _ => y_rL (ω.2 a) j (fun x => P (pc + 1, lv, .long x :: r, ω, c, s))) (fun P Q0 => ?_) (fun _ _ _ _ hP _ q => ?_)
  · rw [y_xI_of hd]; simp only [y_xJ, true_and]; rfl
  · unfold y_rL at q ⊢
    split at q
    · exact ⟨q.1, q.2.1, hP _ q.2.2⟩
    · exact q.elim
theorem w_aaload {a : Nat} {j : Int32} (hd : decode (y_cc M) pc = .ok (.aaload, 1)) (hp : pc + 1 = pc') : y_w M mc ms Q (pc, lv, .int j :: .ref a :: r, ω, c, s) = y_rA (ω.2 a) j (fun x => y_w M mc ms Q (pc', lv, x :: r, ω, c, s)) := by
  subst hp
  refine y_eG (fun P _ => y_rA (ω.2 a) j (fun x => P (pc + 1, lv, x :: r, ω, c, s))) (fun P Q0 => ?_) (fun _ _ _ _ hP _ q => ?_)
  · rw [y_xI_of hd]; simp only [y_xJ, true_and]; rfl
  · unfold y_rA at q ⊢
    split at q
    · exact ⟨q.1, q.2.1, hP _ q.2.2⟩
    · exact q.elim
theorem w_iastore {a : Nat} {j x : Int32} (hd : decode (y_cc M) pc = .ok (.iastore, 1)) (hp : pc + 1 = pc') : y_w M mc ms Q (pc, lv, .int x :: .int j :: .ref a :: r, ω, c, s) = y_wI (ω.2 a) j x (fun e => y_w M mc ms Q (pc', lv, r, y_hup ω a e, c, s)) := by
  subst hp
  refine y_eG (fun P _ => y_wI (ω.2 a) j x (fun e => P (pc + 1, lv, r, y_hup ω a e, c, s))) (fun P Q0 => ?_) (fun _ _ _ _ hP _ q => ?_)
  · rw [y_xI_of hd]; simp only [y_xJ, true_and]; rfl
  · unfold y_wI at q ⊢
    split at q
    · exact ⟨q.1, q.2.1, hP _ q.2.2⟩
    · exact q.elim
theorem w_bastore {a : Nat} {j x : Int32} (hd : decode (y_cc M) pc = .ok (.bastore, 1)) (hp : pc + 1 = pc') : y_w M mc ms Q (pc, lv, .int x :: .int j :: .ref a :: r, ω, c, s) = y_wB (ω.2 a) j x (fun e => y_w M mc ms Q (pc', lv, r, y_hup ω a e, c, s)) := by
  subst hp
  refine y_eG (fun P _ => y_wB (ω.2 a) j x (fun e => P (pc + 1, lv, r, y_hup ω a e, c, s))) (fun P Q0 => ?_) (fun _ _ _ _ hP _ q => ?_)
  · rw [y_xI_of hd]; simp only [y_xJ, true_and]; rfl
  · unfold y_wB at q ⊢
    split at q
    · exact ⟨q.1, q.2.1, hP _ q.2.2⟩
    · exact q.elim
theorem w_lastore {a : Nat} {j : Int32} {x : Int64} (hd : decode (y_cc M) pc = .ok (.lastore, 1)) (hp : pc + 1 = pc') : y_w M mc ms Q (pc, lv, .long x :: .int j :: .ref a :: r, ω, c, s) = y_wL (ω.2 a) j x (fun e => y_w M mc ms Q (pc', lv, r, y_hup ω a e, c, s)) := by
  subst hp
  refine y_eG (fun P _ => y_wL (ω.2 a) j x (fun e => P (pc + 1, lv, r, y_hup ω a e, c, s))) (fun P Q0 => ?_) (fun _ _ _ _ hP _ q => ?_)
  · rw [y_xI_of hd]; simp only [y_xJ, true_and]; rfl
  · unfold y_wL at q ⊢
    split at q
    · exact ⟨q.1, q.2.1, hP _ q.2.2⟩
    · exact q.elim
theorem w_aastore {a : Nat} {j : Int32} {v : Value} (hd : decode (y_cc M) pc = .ok (.aastore, 1)) (hp : pc + 1 = pc') : y_w M mc ms Q (pc, lv, v :: .int j :: .ref a :: r, ω, c, s) = y_wA (ω.2 a) j v ω (fun e => y_w M mc ms Q (pc', lv, r, y_hup ω a e, c, s)) := by
  subst hp
  refine y_eG (fun P _ => y_wA (ω.2 a) j v ω (fun e => P (pc + 1, lv, r, y_hup ω a e, c, s))) (fun P Q0 => ?_) (fun _ _ _ _ hP _ q => ?_)
  · rw [y_xI_of hd]; simp only [y_xJ, true_and]; rfl
  · unfold y_wA at q ⊢
    split at q
    · refine ⟨q.1, q.2.1, ?_⟩
      have q := q.2.2
      unfold y_wA2 at q ⊢
      split at q
      · exact hP _ q
      · split at q
        · exact ⟨q.1, hP _ q.2⟩
        · exact q.elim
      · exact q.elim
    · exact q.elim
theorem w_arraylength {a : Nat} (hd : decode (y_cc M) pc = .ok (.arraylength, 1)) (hp : pc + 1 = pc') : y_w M mc ms Q (pc, lv, .ref a :: r, ω, c, s) = y_al (ω.2 a) (fun n => y_w M mc ms Q (pc', lv, .int n :: r, ω, c, s)) := by
  subst hp
  refine y_eG (fun P _ => y_al (ω.2 a) (fun n => P (pc + 1, lv, .int n :: r, ω, c, s))) (fun P Q0 => ?_) (fun _ _ _ _ hP _ q => ?_)
  · rw [y_xI_of hd]; simp only [y_xJ, true_and]; rfl
  · unfold y_al at q ⊢
    split at q
    · exact ⟨q.1, hP _ q.2⟩
    · exact q.elim
/-- room for one array of n places -/
def y_room (mc ms c s n : Nat) : Prop := c + 1 ≤ mc ∧ s + n ≤ ms
theorem w_newarray {ty : ArrayType} {t : Nat} {n : Int32} {b : Nat} (hd : decode (y_cc M) pc = .ok (.newarray ty, 2)) (ht : y_at1 ty = some t) (hb : y_bytes t = b) (hp : pc + 2 = pc') : y_w M mc ms Q (pc, lv, .int n :: r, ω, c, s) = ((¬ n < 0 ∧ n.toNatClampNeg * b ≤ 536870912 ∧ y_room mc ms c s n.toNatClampNeg) ∧ y_w M mc ms Q (pc', lv, .ref ω.1 :: r, y_hnew ω (.inl (t, y_at2 t n.toNatClampNeg)), c + 1, s + n.toNatClampNeg)) := by
  subst hp hb
  refine y_eC fun P Q0 => ?_
  rw [y_xI_of hd]
  simp [y_xJ, ht, y_room, and_assoc]
theorem w_anewarray {idx t : Nat} {n : Int32} (hd : decode (y_cc M) pc = .ok (.anewarray idx, 3)) (ht : y_fa M idx = some t) (hp : pc + 3 = pc') : y_w M mc ms Q (pc, lv, .int n :: r, ω, c, s) = ((¬ n < 0 ∧ n.toNatClampNeg * 4 ≤ 536870912 ∧ y_room mc ms c s n.toNatClampNeg) ∧ y_w M mc ms Q (pc', lv, .ref ω.1 :: r, y_hnew ω (.inl (t, n.toNatClampNeg, .inr (.inr (.inr (.inr (fun _ => none)))))), c + 1, s + n.toNatClampNeg)) := by
  subst hp
  refine y_eC fun P Q0 => ?_
  rw [y_xI_of hd]
  simp [y_xJ, ht, y_room, and_assoc]
theorem w_new {idx ci n : Nat} {vs : List Value} (hd : decode (y_cc M) pc = .ok (.new idx, 3)) (ht : y_fn M idx = some (ci, vs)) (hn : vs.length = n) (hp : pc + 3 = pc') : y_w M mc ms Q (pc, lv, st, ω, c, s) = (y_room mc ms c s n ∧ y_w M mc ms Q (pc', lv, .ref ω.1 :: st, y_hnew ω (.inr (ci, vs)), c + 1, s + n)) := by
  subst hp hn
  refine y_eC fun P Q0 => ?_
  rw [y_xI_of hd]
  simp [y_xJ, ht, y_room, and_assoc]
/-- a test by the class of an object: which classes pass -/
def y_tst (M : y_Md) (idx : Nat) (ci : Option Nat) (K : Prop) : Prop := match ci with
  | some ci => y_ft M idx ci = some 1 ∧ K
  | none => False
theorem y_tst_s {idx ci : Nat} {K : Prop} : y_tst M idx (some ci) K = (y_ft M idx ci = some 1 ∧ K) := rfl
theorem w_instanceof {idx a : Nat} (hd : decode (y_cc M) pc = .ok (.instanceof idx, 3)) (hp : pc + 3 = pc') : y_w M mc ms Q (pc, lv, .ref a :: r, ω, c, s) = y_tst M idx (y_cls ω a) (y_w M mc ms Q (pc', lv, .int 1 :: r, ω, c, s)) := by
  subst hp
  refine y_eG (fun P _ => y_tst M idx (y_cls ω a) (P (pc + 3, lv, .int 1 :: r, ω, c, s))) (fun P Q0 => ?_) (fun _ _ _ _ hP _ q => ?_)
  · rw [y_xI_of hd]; simp only [y_xJ, true_and]; rfl
  · unfold y_tst at q ⊢
    split at q
    · exact ⟨q.1, hP _ q.2⟩
    · exact q.elim
theorem y_thr_mono {a : Nat} {P P' : y_St → Prop} {Q0 Q0' : y_Po} (hP : ∀ y, P y → P' y) (hQ : ∀ o ω c s, Q0 o ω c s → Q0' o ω c s) : ∀ (hs : List (Nat × Nat × Nat × Nat)), y_thr M pc lv ω a c s P Q0 hs → y_thr M pc lv ω a c s P' Q0' hs
  | [], q => hQ _ _ _ _ q
  | h :: t, q => by
    unfold y_thr at q ⊢
    split at q
    · rename_i hc
      rw [if_pos hc]
      split at q
      · exact q.elim
      · split at q
        · exact q.elim
        · split at q
          · rename_i hb
            simp only [hb, if_true]
            exact hP _ q
          · rename_i hb
            simp only [hb, if_false]
            exact y_thr_mono hP hQ t q
    · rename_i hc
      rw [if_neg hc]
      exact y_thr_mono hP hQ t q
theorem y_vmt_mono {ci : Nat} {P P' : y_St → Prop} {Q0 Q0' : y_Po} (hP : ∀ y, P y → P' y) (hQ : ∀ o ω c s, Q0 o ω c s → Q0' o ω c s) (q : y_vmt M mc ms ci pc lv ω c s P Q0) : y_vmt M mc ms ci pc lv ω c s P' Q0' := by
  obtain ⟨h1, h2, h3, h4, h5⟩ := q
  exact ⟨h1, h2, h3, h4, fun top a fs s' g1 g2 g3 g4 => y_thr_mono hP hQ _ (h5 top a fs s' g1 g2 g3 g4)⟩
/-- a cast, by what the cell is -/
def y_tsd (b : Option Nat) (K K0 : Prop) : Prop := match b with
  | some 1 => K
  | some 0 => K0
  | _ => False
def y_tsc (M : y_Md) (idx : Nat) (o : Option (Bool × y_E)) (K K0 : Prop) : Prop := match o with
  | some (_, .inr o) => y_tsd (y_ft M idx o.1) K K0
  | some (true, .inl q) => y_ft M idx (100 + q.1) = some 1 ∧ K
  | _ => False
theorem y_tsc_o {idx ci : Nat} {fl : Bool} {fs : List Value} {K K0 : Prop} : y_tsc M idx (some (fl, .inr (ci, fs))) K K0 = y_tsd (y_ft M idx ci) K K0 := rfl
theorem y_tsc_a {idx t : Nat} {q : vp_A} {K K0 : Prop} : y_tsc M idx (some (true, .inl (t, q))) K K0 = (y_ft M idx (100 + t) = some 1 ∧ K) := rfl
theorem y_tsd_1 {K K0 : Prop} : y_tsd (some 1) K K0 = K := rfl
theorem y_tsd_0 {K K0 : Prop} : y_tsd (some 0) K K0 = K0 := rfl
theorem w_checkcast {idx a : Nat} (hd : decode (y_cc M) pc = .ok (.checkcast idx, 3)) (hp : pc + 3 = pc') : y_w M mc ms Q (pc, lv, .ref a :: r, ω, c, s) = y_tsc M idx (ω.2 a) (y_w M mc ms Q (pc', lv, .ref a :: r, ω, c, s)) (y_vmt M mc ms 18 pc lv ω c s (y_w M mc ms Q) Q) := by
  subst hp
  refine y_eG (fun P Q0 => y_tsc M idx (ω.2 a) (P (pc + 3, lv, .ref a :: r, ω, c, s)) (y_vmt M mc ms 18 pc lv ω c s P Q0)) (fun P Q0 => ?_) (fun _ _ _ _ hP hQ q => ?_)
  · rw [y_xI_of hd]; simp only [y_xJ, true_and]; rfl
  · unfold y_tsc at q ⊢
    split at q
    · unfold y_tsd at q ⊢
      split at q
      · exact hP _ q
      · exact y_vmt_mono hP hQ q
      · exact q.elim
    · exact ⟨q.1, hP _ q.2⟩
    · exact q.elim
theorem w_athrow {a : Nat} (hd : decode (y_cc M) pc = .ok (.athrow, 1)) : y_w M mc ms Q (pc, lv, .ref a :: r, ω, c, s) = y_thr M pc lv ω a c s (y_w M mc ms Q) Q (y_hh M) := by
  refine y_eG (fun P Q0 => y_thr M pc lv ω a c s P Q0 (y_hh M)) (fun P Q0 => ?_) (fun _ _ _ _ hP hQ q => y_thr_mono hP hQ _ q)
  rw [y_xI_of hd]; simp only [y_xJ, true_and]
theorem y_aft_mono {len : Nat} {P P' : y_St → Prop} {Q0 Q0' : y_Po} (hP : ∀ y, P y → P' y) (hQ : ∀ o ω c s, Q0 o ω c s → Q0' o ω c s) (o : Outcome) (ω : y_Hp) (c s : Nat) (q : y_aft M pc len lv st P Q0 o ω c s) : y_aft M pc len lv st P' Q0' o ω c s := by
  unfold y_aft at q ⊢
  split at q
  · exact hP _ q
  · exact y_thr_mono hP hQ _ q
/-- a call whose target is known by its entry: av its arguments (the last on top), r what lies below -/
theorem w_call0 {i : Instr} {md idx len ci na nf nl : Nat} {F : y_Tr} {av r : List Value} (hi : (i = .invokespecial idx ∧ md = 2 ∨ i = .invokestatic idx ∧ md = 0) ∧ len = 3) (hd : decode (y_cc M) pc = .ok (i, len)) (hk : y_fk M idx = some (idx, md, ci, na, (nf, nl), F)) (hf : y_Mono F) (hfr : nf ≤ y_fr M) (hlo : nl ≤ y_lo M) (hna : av.length = na) (hst : st = av.reverse ++ r) :
    y_w M mc ms Q (pc, lv, st, ω, c, s) = (y_cat r ≤ 8 ∧ F mc ms av ω c s (y_aft M pc len lv r (y_w M mc ms Q) Q)) := by
  have hl : na ≤ st.length := by rw [hst, List.length_append, List.length_reverse]; omega
  have ht : (st.take na).reverse = av := by
    rw [hst, List.take_left' (by rw [List.length_reverse]; exact hna), List.reverse_reverse]
  have hdr : st.drop na = r := by rw [hst, List.drop_left' (by rw [List.length_reverse]; exact hna)]
  refine y_eG (fun P Q0 => y_cat r ≤ 8 ∧ F mc ms av ω c s (y_aft M pc len lv r P Q0)) (fun P Q0 => ?_) (fun _ _ _ _ hP hQ q => ⟨q.1, hf _ _ _ _ _ _ _ _ q.2 (y_aft_mono hP hQ)⟩)
  rw [y_xI_of hd]
  rcases hi with ⟨⟨rfl, rfl⟩ | ⟨rfl, rfl⟩, rfl⟩ <;> simp [y_xJ, y_call, hk, y_go, ht, hdr, hl, hfr, hlo]
/-- a call of an array's method -/
theorem w_call4 {idx ci na nf nl : Nat} {F : y_Tr} {av r : List Value} (hd : decode (y_cc M) pc = .ok (.invokevirtual idx, 3)) (hk : y_fk M idx = some (idx, 4, ci, na, (nf, nl), F)) (hf : y_Mono F) (hfr : nf ≤ y_fr M) (hlo : nl ≤ y_lo M) (hna : av.length = na) (hst : st = av.reverse ++ r) :
    y_w M mc ms Q (pc, lv, st, ω, c, s) = (y_cat r ≤ 8 ∧ F mc ms av ω c s (y_aft M pc 3 lv r (y_w M mc ms Q) Q)) := by
  have hl : na ≤ st.length := by rw [hst, List.length_append, List.length_reverse]; omega
  have ht : (st.take na).reverse = av := by
    rw [hst, List.take_left' (by rw [List.length_reverse]; exact hna), List.reverse_reverse]
  have hdr : st.drop na = r := by rw [hst, List.drop_left' (by rw [List.length_reverse]; exact hna)]
  refine y_eG (fun P Q0 => y_cat r ≤ 8 ∧ F mc ms av ω c s (y_aft M pc 3 lv r P Q0)) (fun P Q0 => ?_) (fun _ _ _ _ hP hQ q => ⟨q.1, hf _ _ _ _ _ _ _ _ q.2 (y_aft_mono hP hQ)⟩)
  rw [y_xI_of hd]
  simp [y_xJ, y_call, hk, y_go, ht, hdr, hl, hfr, hlo]
/-- a call by the receiver's class -/
def y_vir (M : y_Md) (idx : Nat) (ci : Option Nat) (K : y_Ke → Prop) : Prop := match ci with
  | some ci => (match y_fkc M idx ci with
    | some k => K k
    | none => False)
  | none => False
theorem y_vir_s {idx ci : Nat} {K : y_Ke → Prop} {k : y_Ke} (h : y_fkc M idx ci = some k) : y_vir M idx (some ci) K = K k := by simp [y_vir, h]
theorem w_call1 {i : Instr} {md idx len ci ci0 na nf nl : Nat} {F : y_Tr} {fl0 : Nat × Nat} {F0 : y_Tr} {a : Nat} {av r : List Value} (hi : (i = .invokevirtual idx ∧ md = 1) ∧ len = 3 ∨ ((∃ ct, i = .invokeinterface idx ct) ∧ md = 3) ∧ len = 5) (hd : decode (y_cc M) pc = .ok (i, len)) (hk0 : y_fk M idx = some (idx, md, ci0, na, fl0, F0)) (hc : y_cls ω a = some ci) (hk : y_fkc M idx ci = some (idx, md, ci, na, (nf, nl), F)) (hf : y_Mono F) (hfr : nf ≤ y_fr M) (hlo : nl ≤ y_lo M) (hna : av.length + 1 = na) (hst : st = av.reverse ++ .ref a :: r) :
    y_w M mc ms Q (pc, lv, st, ω, c, s) = (y_cat r ≤ 8 ∧ F mc ms (.ref a :: av) ω c s (y_aft M pc len lv r (y_w M mc ms Q) Q)) := by
  have hst' : st = (.ref a :: av).reverse ++ r := by rw [hst]; simp
  have hl : na ≤ st.length := by rw [hst', List.length_append, List.length_reverse, List.length_cons]; omega
  have ht : (st.take na).reverse = .ref a :: av := by
    rw [hst', List.take_left' (by rw [List.length_reverse]; exact hna), List.reverse_reverse]
  have hdr : st.drop na = r := by rw [hst', List.drop_left' (by rw [List.length_reverse]; exact hna)]
  have hrc : st[na - 1]? = some (.ref a) := by
    rw [hst, List.getElem?_append_right (by rw [List.length_reverse]; omega), List.length_reverse, show na - 1 - av.length = 0 by omega]
    rfl
  refine y_eG (fun P Q0 => y_cat r ≤ 8 ∧ F mc ms (.ref a :: av) ω c s (y_aft M pc len lv r P Q0)) (fun P Q0 => ?_) (fun _ _ _ _ hP hQ q => ⟨q.1, hf _ _ _ _ _ _ _ _ q.2 (y_aft_mono hP hQ)⟩)
  rw [y_xI_of hd]
  rcases hi with ⟨⟨rfl, rfl⟩, rfl⟩ | ⟨⟨⟨ct, rfl⟩, rfl⟩, rfl⟩ <;> simp [y_xJ, y_call, hk0, hrc, hc, hk, show 0 < na by omega, y_go, ht, hdr, hl, hfr, hlo]
theorem y_aft_r {len : Nat} {pc' : Nat} {v : Option Value} {P : y_St → Prop} {Q0 : y_Po} (h : pc + len = pc') : y_aft M pc len lv st P Q0 (.returned v) ω c s = P (pc', lv, v.toList ++ st, ω, c, s) := by subst h; rfl
theorem y_aft_t {len : Nat} {a : Nat} {P : y_St → Prop} {Q0 : y_Po} : y_aft M pc len lv st P Q0 (.threw a) ω c s = y_thr M pc lv ω a c s P Q0 (y_hh M) := rfl
theorem y_thr_0 {a : Nat} {P : y_St → Prop} {Q0 : y_Po} : y_thr M pc lv ω a c s P Q0 [] = Q0 (.threw a) ω c s := rfl
theorem w_ireturn {v : Int32} {ty : FieldType} (hd : decode (y_cc M) pc = .ok (.ireturn, 1)) (hr : y_ret M = some ty) : y_w M mc ms Q (pc, lv, [.int v], ω, c, s) = (narrow ty (.int v) = .int v ∧ Q (.returned (some (.int v))) ω c s) :=
  y_eR fun P Q0 => by rw [y_xI_of hd]; simp [y_xJ, hr]
theorem w_ireturnI {v : Int32} (hd : decode (y_cc M) pc = .ok (.ireturn, 1)) (hr : y_ret M = some .int) : y_w M mc ms Q (pc, lv, [.int v], ω, c, s) = Q (.returned (some (.int v))) ω c s := by
  rw [w_ireturn hd hr]
  simp [narrow]
theorem y_eR0 {x : y_St} (o : Outcome) (ω : y_Hp) (c s : Nat) (h : ∀ P Q0, y_xI M mc ms x P Q0 = Q0 o ω c s) : y_w M mc ms Q x = Q o ω c s := by
  rw [y_eR (φ := True) (o := o) (ω := ω) (c := c) (s := s) (fun P Q0 => by rw [h, true_and]), true_and]
theorem w_lreturn {v : Int64} (hd : decode (y_cc M) pc = .ok (.lreturn, 1)) (hr : y_ret M = some .long) : y_w M mc ms Q (pc, lv, [.long v], ω, c, s) = Q (.returned (some (.long v))) ω c s :=
  y_eR0 _ _ _ _ fun P Q0 => by rw [y_xI_of hd]; simp [y_xJ, hr]
theorem w_areturn {a : Nat} {ty : FieldType} (hd : decode (y_cc M) pc = .ok (.areturn, 1)) (hr : y_ret M = some ty) (ht : (∃ n, ty = .object n) ∨ ∃ t, ty = .array t) : y_w M mc ms Q (pc, lv, [.ref a], ω, c, s) = Q (.returned (some (.ref a))) ω c s := by
  refine y_eR0 _ _ _ _ fun P Q0 => ?_
  rw [y_xI_of hd]
  rcases ht with ⟨n, rfl⟩ | ⟨t, rfl⟩ <;> simp [y_xJ, hr, y_isA]
theorem w_return (hd : decode (y_cc M) pc = .ok (.return_, 1)) (hr : y_ret M = none) : y_w M mc ms Q (pc, lv, [], ω, c, s) = Q (.returned none) ω c s :=
  y_eR0 _ _ _ _ fun P Q0 => by rw [y_xI_of hd]; simp [y_xJ, hr]
end
