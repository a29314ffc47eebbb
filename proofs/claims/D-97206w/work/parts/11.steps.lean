/-! one equation an instruction: the run at pc is the run at the next -/
theorem y_dle {a b : Nat} (h : Nat.ble a b = true) : a ≤ b := Nat.le_of_ble_eq_true h
def y_ffP (P : y_Pool) (idx ci : Nat) : Option (Nat × FieldType × Bool) := (P.1.find? (fun e => e.1 == idx && e.2.1 == ci)).map (fun e => e.2.2)
def y_kill (i : Nat) (lv : y_Lv) : y_Lv := lv.filter (fun q => !(q.1 == i) && !(q.1 + 1 == i && q.2.category == 2))
def y_kill2 (i : Nat) (lv : y_Lv) : y_Lv := lv.filter (fun q => !(q.1 == i) && (!(q.1 == i + 1) && !(q.1 + 1 == i && q.2.category == 2)))
theorem y_kill_nil {i : Nat} : y_kill i [] = [] := rfl
theorem y_kill_hit {i : Nat} {w : Value} {t : y_Lv} : y_kill i ((i, w) :: t) = y_kill i t := by simp [y_kill]
theorem y_kill_keep {i j : Nat} {w : Value} {t : y_Lv} (h1 : ¬ j = i) (h2 : ¬ j + 1 = i) : y_kill i ((j, w) :: t) = (j, w) :: y_kill i t := by simp [y_kill, h1, h2]
theorem y_kill_i {i j : Nat} {x : Int32} {t : y_Lv} (h1 : ¬ j = i) : y_kill i ((j, .int x) :: t) = (j, .int x) :: y_kill i t := by simp [y_kill, h1, Value.category]
theorem y_kill_r {i j : Nat} {x : Nat} {t : y_Lv} (h1 : ¬ j = i) : y_kill i ((j, .ref x) :: t) = (j, .ref x) :: y_kill i t := by simp [y_kill, h1, Value.category]
theorem y_kill_z {i j : Nat} {t : y_Lv} (h1 : ¬ j = i) : y_kill i ((j, .null) :: t) = (j, .null) :: y_kill i t := by simp [y_kill, h1, Value.category]
theorem y_kill_l {i j : Nat} {x : Int64} {t : y_Lv} (h2 : j + 1 = i) : y_kill i ((j, .long x) :: t) = y_kill i t := by simp [y_kill, h2, Value.category]
theorem y_kill2_nil {i : Nat} : y_kill2 i [] = [] := rfl
theorem y_kill2_hit {i : Nat} {w : Value} {t : y_Lv} : y_kill2 i ((i, w) :: t) = y_kill2 i t := by simp [y_kill2]
theorem y_kill2_hit1 {i j : Nat} {w : Value} {t : y_Lv} (h : j = i + 1) : y_kill2 i ((j, w) :: t) = y_kill2 i t := by simp [y_kill2, h]
theorem y_kill2_keep {i j : Nat} {w : Value} {t : y_Lv} (h1 : ¬ j = i) (h3 : ¬ j = i + 1) (h2 : ¬ j + 1 = i) : y_kill2 i ((j, w) :: t) = (j, w) :: y_kill2 i t := by simp [y_kill2, h1, h2, h3]
theorem y_kill2_i {i j : Nat} {x : Int32} {t : y_Lv} (h1 : ¬ j = i) (h3 : ¬ j = i + 1) : y_kill2 i ((j, .int x) :: t) = (j, .int x) :: y_kill2 i t := by simp [y_kill2, h1, h3, Value.category]
theorem y_kill2_r {i j : Nat} {x : Nat} {t : y_Lv} (h1 : ¬ j = i) (h3 : ¬ j = i + 1) : y_kill2 i ((j, .ref x) :: t) = (j, .ref x) :: y_kill2 i t := by simp [y_kill2, h1, h3, Value.category]
theorem y_kill2_l {i j : Nat} {x : Int64} {t : y_Lv} (h2 : j + 1 = i) : y_kill2 i ((j, .long x) :: t) = y_kill2 i t := by simp [y_kill2, h2, Value.category]
theorem y_ld_hit {k : Nat} {v : Value} {t : y_Lv} {K : Value → Prop} : y_ld ((k, v) :: t) k K = K v := by simp [y_ld, y_lget]
theorem y_ld_miss {j k : Nat} {v : Value} {t : y_Lv} {K : Value → Prop} (h : ¬ j = k) : y_ld ((j, v) :: t) k K = y_ld t k K := by simp [y_ld, y_lget, h]
/-- a local as an int -/
def y_ldI (lv : y_Lv) (k : Nat) (K : Value → Prop) : Prop := y_ld lv k (fun v => y_isI v = true ∧ K v)
def y_ldL (lv : y_Lv) (k : Nat) (K : Value → Prop) : Prop := y_ld lv k (fun v => y_isL v = true ∧ K v)
def y_ldA (lv : y_Lv) (k : Nat) (K : Value → Prop) : Prop := y_ld lv k (fun v => y_isA v = true ∧ K v)
theorem y_ldI_hit {k : Nat} {x : Int32} {t : y_Lv} {K : Value → Prop} : y_ldI ((k, .int x) :: t) k K = K (.int x) := by simp [y_ldI, y_ld_hit, y_isI]
theorem y_ldI_miss {j k : Nat} {v : Value} {t : y_Lv} {K : Value → Prop} (h : ¬ j = k) : y_ldI ((j, v) :: t) k K = y_ldI t k K := by simp [y_ldI, y_ld_miss h]
theorem y_ldL_hit {k : Nat} {x : Int64} {t : y_Lv} {K : Value → Prop} : y_ldL ((k, .long x) :: t) k K = K (.long x) := by simp [y_ldL, y_ld_hit, y_isL]
theorem y_ldL_miss {j k : Nat} {v : Value} {t : y_Lv} {K : Value → Prop} (h : ¬ j = k) : y_ldL ((j, v) :: t) k K = y_ldL t k K := by simp [y_ldL, y_ld_miss h]
theorem y_ldA_hit {k : Nat} {x : Nat} {t : y_Lv} {K : Value → Prop} : y_ldA ((k, .ref x) :: t) k K = K (.ref x) := by simp [y_ldA, y_ld_hit, y_isA]
theorem y_ldA_hitN {k : Nat} {t : y_Lv} {K : Value → Prop} : y_ldA ((k, .null) :: t) k K = K .null := by simp [y_ldA, y_ld_hit, y_isA]
theorem y_ldA_miss {j k : Nat} {v : Value} {t : y_Lv} {K : Value → Prop} (h : ¬ j = k) : y_ldA ((j, v) :: t) k K = y_ldA t k K := by simp [y_ldA, y_ld_miss h]
/-- reading a field, writing one -/
def y_gf3 (o : Option Value) (K : Value → Prop) : Prop := match o with
  | some v => K v
  | none => False
def y_gf2 (f : Option (Nat × FieldType × Bool)) (fs : List Value) (K : Value → Prop) : Prop := match f with
  | some f => y_gf3 fs[f.1]? K
  | none => False
def y_gf (P : y_Pool) (idx : Nat) (o : Option (Bool × y_E)) (K : Value → Prop) : Prop := match o with
  | some (_, .inr o) => y_gf2 (y_ffP P idx o.1) o.2 K
  | _ => False
def y_pf2 (f : Option (Nat × FieldType × Bool)) (ini : Bool) (ci : Nat) (fs : List Value) (v : Value) (K : Nat → List Value → Prop) : Prop := match f with
  | some f => (f.2.2 = true → ini = true) ∧ f.1 < fs.length ∧ narrow f.2.1 v = v ∧ fits f.2.1 v = true ∧ K ci (fs.set f.1 v)
  | none => False
def y_pf (P : y_Pool) (ini : Bool) (idx : Nat) (o : Option (Bool × y_E)) (v : Value) (K : Nat → List Value → Prop) : Prop := match o with
  | some (true, .inr o) => y_pf2 (y_ffP P idx o.1) ini o.1 o.2 v K
  | _ => False
theorem y_gf_ob {P : y_Pool} {idx ci : Nat} {fl : Bool} {fs : List Value} {K : Value → Prop} : y_gf P idx (some (fl, .inr (ci, fs))) K = y_gf2 (y_ffP P idx ci) fs K := rfl
theorem y_gf2_s {k : Nat} {ty : FieldType} {fin : Bool} {fs : List Value} {K : Value → Prop} : y_gf2 (some (k, ty, fin)) fs K = y_gf3 fs[k]? K := rfl
theorem y_gf3_s {v : Value} {K : Value → Prop} : y_gf3 (some v) K = K v := rfl
theorem y_pf_ob {P : y_Pool} {ini : Bool} {idx ci : Nat} {fs : List Value} {v : Value} {K : Nat → List Value → Prop} : y_pf P ini idx (some (true, .inr (ci, fs))) v K = y_pf2 (y_ffP P idx ci) ini ci fs v K := rfl
theorem y_fits_i (x : Int32) : narrow .int (.int x) = .int x ∧ fits .int (.int x) = true := ⟨rfl, rfl⟩
theorem y_fits_r (n : String) (x : Nat) : narrow (.object n) (.ref x) = .ref x ∧ fits (.object n) (.ref x) = true := ⟨rfl, rfl⟩
theorem y_fits_n (n : String) : narrow (.object n) .null = .null ∧ fits (.object n) .null = true := ⟨rfl, rfl⟩
theorem y_fits_a (t : FieldType) (x : Nat) : narrow (.array t) (.ref x) = .ref x ∧ fits (.array t) (.ref x) = true := ⟨rfl, rfl⟩
theorem y_pf2_i {k : Nat} {fin ini : Bool} {ci : Nat} {fs : List Value} {x : Int32} {K : Nat → List Value → Prop} : y_pf2 (some (k, .int, fin)) ini ci fs (.int x) K = ((fin = true → ini = true) ∧ k < fs.length ∧ K ci (fs.set k (.int x))) := by simp [y_pf2, y_fits_i]
theorem y_pf2_r {n : String} {k : Nat} {fin ini : Bool} {ci : Nat} {fs : List Value} {x : Nat} {K : Nat → List Value → Prop} : y_pf2 (some (k, .object n, fin)) ini ci fs (.ref x) K = ((fin = true → ini = true) ∧ k < fs.length ∧ K ci (fs.set k (.ref x))) := by simp [y_pf2, y_fits_r]
theorem y_pf2_n {n : String} {k : Nat} {fin ini : Bool} {ci : Nat} {fs : List Value} {K : Nat → List Value → Prop} : y_pf2 (some (k, .object n, fin)) ini ci fs .null K = ((fin = true → ini = true) ∧ k < fs.length ∧ K ci (fs.set k .null)) := by simp [y_pf2, y_fits_n]
theorem y_pf2_a {t : FieldType} {k : Nat} {fin ini : Bool} {ci : Nat} {fs : List Value} {x : Nat} {K : Nat → List Value → Prop} : y_pf2 (some (k, .array t, fin)) ini ci fs (.ref x) K = ((fin = true → ini = true) ∧ k < fs.length ∧ K ci (fs.set k (.ref x))) := by simp [y_pf2, y_fits_a]
/-- arrays read and written -/
def y_rI (o : Option (Bool × y_E)) (j : Int32) (K : Int32 → Prop) : Prop := match o with
  | some (_, .inl (t, n, .inl f)) => t = 0 ∧ vp_in j n ∧ K (f j.toNatClampNeg)
  | _ => False
def y_rB (o : Option (Bool × y_E)) (j : Int32) (K : Int32 → Prop) : Prop := match o with
  | some (_, .inl (t, n, .inl f)) => (t = 1 ∨ t = 3) ∧ vp_in j n ∧ K (f j.toNatClampNeg)
  | _ => False
def y_rL (o : Option (Bool × y_E)) (j : Int32) (K : Int64 → Prop) : Prop := match o with
  | some (_, .inl (t, n, .inr (.inl f))) => t = 2 ∧ vp_in j n ∧ K (f j.toNatClampNeg)
  | _ => False
def y_rA (o : Option (Bool × y_E)) (j : Int32) (K : Value → Prop) : Prop := match o with
  | some (_, .inl (t, n, .inr (.inr (.inr (.inr f))))) => (4 ≤ t ∧ t < 8) ∧ vp_in j n ∧ K (va_rf (f j.toNatClampNeg))
  | _ => False
def y_wI (o : Option (Bool × y_E)) (j x : Int32) (K : y_E → Prop) : Prop := match o with
  | some (true, .inl (t, n, .inl f)) => t = 0 ∧ vp_in j n ∧ K (.inl (t, n, .inl (upd f j.toNatClampNeg x)))
  | _ => False
def y_wB (o : Option (Bool × y_E)) (j x : Int32) (K : y_E → Prop) : Prop := match o with
  | some (true, .inl (t, n, .inl f)) => (t = 1 ∨ t = 3) ∧ vp_in j n ∧ K (.inl (t, n, .inl (upd f j.toNatClampNeg (if t = 1 then vp_nar .byte x else vp_nar .boolean x))))
  | _ => False
def y_wL (o : Option (Bool × y_E)) (j : Int32) (x : Int64) (K : y_E → Prop) : Prop := match o with
  | some (true, .inl (t, n, .inr (.inl f))) => t = 2 ∧ vp_in j n ∧ K (.inl (t, n, .inr (.inl (vp_updL f j.toNatClampNeg x))))
  | _ => False
def y_wA2 (t n : Nat) (f : Nat → Option Nat) (j : Int32) (v : Value) (ω : y_Hp) (K : y_E → Prop) : Prop := match v with
  | .null => K (.inl (t, n, .inr (.inr (.inr (.inr (va_up f j.toNatClampNeg none))))))
  | .ref b => (match y_cls ω b with
    | some ci => y_takes t ci = true ∧ K (.inl (t, n, .inr (.inr (.inr (.inr (va_up f j.toNatClampNeg (some b)))))))
    | none => False)
  | _ => False
def y_wA (o : Option (Bool × y_E)) (j : Int32) (v : Value) (ω : y_Hp) (K : y_E → Prop) : Prop := match o with
  | some (true, .inl (t, n, .inr (.inr (.inr (.inr f))))) => (4 ≤ t ∧ t < 8) ∧ vp_in j n ∧ y_wA2 t n f j v ω K
  | _ => False
def y_al (o : Option (Bool × y_E)) (K : Int32 → Prop) : Prop := match o with
  | some (_, .inl q) => q.1 < 8 ∧ K (nI q.2.1)
  | _ => False
theorem y_rI_s {fl : Bool} {n : Nat} {f : Nat → Int32} {j : Int32} {K : Int32 → Prop} : y_rI (some (fl, .inl (0, n, .inl f))) j K = (vp_in j n ∧ K (f j.toNatClampNeg)) := by simp [y_rI]
theorem y_rB_s1 {fl : Bool} {n : Nat} {f : Nat → Int32} {j : Int32} {K : Int32 → Prop} : y_rB (some (fl, .inl (1, n, .inl f))) j K = (vp_in j n ∧ K (f j.toNatClampNeg)) := by simp [y_rB]
theorem y_rB_s3 {fl : Bool} {n : Nat} {f : Nat → Int32} {j : Int32} {K : Int32 → Prop} : y_rB (some (fl, .inl (3, n, .inl f))) j K = (vp_in j n ∧ K (f j.toNatClampNeg)) := by simp [y_rB]
theorem y_rL_s {fl : Bool} {n : Nat} {f : Nat → Int64} {j : Int32} {K : Int64 → Prop} : y_rL (some (fl, .inl (2, n, .inr (.inl f)))) j K = (vp_in j n ∧ K (f j.toNatClampNeg)) := by simp [y_rL]
theorem y_rA_s {fl : Bool} {t n : Nat} {f : Nat → Option Nat} {j : Int32} {K : Value → Prop} : y_rA (some (fl, .inl (t, n, .inr (.inr (.inr (.inr f)))))) j K = ((4 ≤ t ∧ t < 8) ∧ vp_in j n ∧ K (va_rf (f j.toNatClampNeg))) := rfl
theorem y_wI_s {n : Nat} {f : Nat → Int32} {j x : Int32} {K : y_E → Prop} : y_wI (some (true, .inl (0, n, .inl f))) j x K = (vp_in j n ∧ K (.inl (0, n, .inl (upd f j.toNatClampNeg x)))) := by simp [y_wI]
theorem y_wB_s1 {n : Nat} {f : Nat → Int32} {j x : Int32} {K : y_E → Prop} : y_wB (some (true, .inl (1, n, .inl f))) j x K = (vp_in j n ∧ K (.inl (1, n, .inl (upd f j.toNatClampNeg (vp_nar .byte x))))) := by simp [y_wB]
theorem y_wB_s3 {n : Nat} {f : Nat → Int32} {j x : Int32} {K : y_E → Prop} : y_wB (some (true, .inl (3, n, .inl f))) j x K = (vp_in j n ∧ K (.inl (3, n, .inl (upd f j.toNatClampNeg (vp_nar .boolean x))))) := by simp [y_wB]
theorem y_wL_s {n : Nat} {f : Nat → Int64} {j : Int32} {x : Int64} {K : y_E → Prop} : y_wL (some (true, .inl (2, n, .inr (.inl f)))) j x K = (vp_in j n ∧ K (.inl (2, n, .inr (.inl (vp_updL f j.toNatClampNeg x))))) := by simp [y_wL]
theorem y_wA_s {t n : Nat} {f : Nat → Option Nat} {j : Int32} {v : Value} {ω : y_Hp} {K : y_E → Prop} : y_wA (some (true, .inl (t, n, .inr (.inr (.inr (.inr f)))))) j v ω K = ((4 ≤ t ∧ t < 8) ∧ vp_in j n ∧ y_wA2 t n f j v ω K) := rfl
theorem y_al_s {fl : Bool} {t n : Nat} {q : (Nat → Int32) ⊕ (Nat → Int64) ⊕ (Nat → UInt32) ⊕ (Nat → UInt64) ⊕ (Nat → Option Nat)} {K : Int32 → Prop} : y_al (some (fl, .inl (t, n, q))) K = (t < 8 ∧ K (nI n)) := rfl
/-- a test of a class -/
def y_ck (b : Option Bool) (K : Prop) : Prop := b = some true ∧ K
section
variable {M : y_Md} {mc ms : Nat} {Q : y_Po} {pc pc' c s : Nat} {lv : y_Lv} {st r : List Value} {ω : y_Hp} {P : y_Pool}
theorem y_xI_of {i : Instr} {len : Nat} (hd : decode (y_cc M) pc = .ok (i, len)) {P : y_St → Prop} {Q0 : y_Po} : y_xI M mc ms (pc, lv, st, ω, c, s) P Q0 = y_xJ M mc ms i len pc lv st ω c s P Q0 := by
  unfold y_xI
  rw [show decode (y_cc M) (pc, lv, st, ω, c, s).1 = .ok (i, len) from hd]
theorem w_iconst {n : Int} {v : Int32} (hd : decode (y_cc M) pc = .ok (.iconst n, 1)) (hv : Int32.ofInt n = v) (hp : pc + 1 = pc') : y_w M mc ms Q (pc, lv, st, ω, c, s) = y_w M mc ms Q (pc', lv, .int v :: st, ω, c, s) := by
  subst hp hv; exact y_e1 fun P Q0 => by rw [y_xI_of hd]; simp [y_xJ]
theorem w_bipush {n : Int} {v : Int32} (hd : decode (y_cc M) pc = .ok (.bipush n, 2)) (hv : (Int8.ofInt n).toInt32 = v) (hp : pc + 2 = pc') : y_w M mc ms Q (pc, lv, st, ω, c, s) = y_w M mc ms Q (pc', lv, .int v :: st, ω, c, s) := by
  subst hp hv; exact y_e1 fun P Q0 => by rw [y_xI_of hd]; simp [y_xJ]
theorem w_sipush {n : Int} {v : Int32} (hd : decode (y_cc M) pc = .ok (.sipush n, 3)) (hv : (Int16.ofInt n).toInt32 = v) (hp : pc + 3 = pc') : y_w M mc ms Q (pc, lv, st, ω, c, s) = y_w M mc ms Q (pc', lv, .int v :: st, ω, c, s) := by
  subst hp hv; exact y_e1 fun P Q0 => by rw [y_xI_of hd]; simp [y_xJ]
theorem w_lconst {n : Fin 2} {v : Int64} (hd : decode (y_cc M) pc = .ok (.lconst n, 1)) (hv : Int64.ofNat (n : Nat) = v) (hp : pc + 1 = pc') : y_w M mc ms Q (pc, lv, st, ω, c, s) = y_w M mc ms Q (pc', lv, .long v :: st, ω, c, s) := by
  subst hp hv; exact y_e1 fun P Q0 => by rw [y_xI_of hd]; simp [y_xJ]
theorem w_aconst_null (hd : decode (y_cc M) pc = .ok (.aconst_null, 1)) (hp : pc + 1 = pc') : y_w M mc ms Q (pc, lv, st, ω, c, s) = y_w M mc ms Q (pc', lv, .null :: st, ω, c, s) := by
  subst hp; exact y_e1 fun P Q0 => by rw [y_xI_of hd]; simp [y_xJ]
theorem y_ld_mono {k : Nat} {K K' : Value → Prop} (h : ∀ v, K v → K' v) (q : y_ld lv k K) : y_ld lv k K' := by
  unfold y_ld at q ⊢
  split at q
  · exact h _ q
  · exact q.elim
theorem y_eL {k : Nat} {t : Value → Bool} {f : Value → y_St} {x : y_St} (h : ∀ P Q0, y_xI M mc ms x P Q0 = y_ld lv k (fun v => t v = true ∧ P (f v))) : y_w M mc ms Q x = y_ld lv k (fun v => t v = true ∧ y_w M mc ms Q (f v)) :=
  y_eG (fun P _ => y_ld lv k (fun v => t v = true ∧ P (f v))) h (fun _ _ _ _ hP _ q => y_ld_mono (fun _ z => ⟨z.1, hP _ z.2⟩) q)
theorem w_iload_n {k : Fin 4} {i : Nat} (hd : decode (y_cc M) pc = .ok (.iload_n k, 1)) (hk : (k : Nat) = i) (hp : pc + 1 = pc') : y_w M mc ms Q (pc, lv, st, ω, c, s) = y_ldI lv i (fun v => y_w M mc ms Q (pc', lv, v :: st, ω, c, s)) := by
  subst hp hk; exact y_eL fun P Q0 => by rw [y_xI_of hd]; simp [y_xJ]
theorem w_iload {k : Nat} (hd : decode (y_cc M) pc = .ok (.iload k, 2)) (hp : pc + 2 = pc') : y_w M mc ms Q (pc, lv, st, ω, c, s) = y_ldI lv k (fun v => y_w M mc ms Q (pc', lv, v :: st, ω, c, s)) := by
  subst hp; exact y_eL fun P Q0 => by rw [y_xI_of hd]; simp [y_xJ]
theorem w_lload_n {k : Fin 4} {i : Nat} (hd : decode (y_cc M) pc = .ok (.lload_n k, 1)) (hk : (k : Nat) = i) (hp : pc + 1 = pc') : y_w M mc ms Q (pc, lv, st, ω, c, s) = y_ldL lv i (fun v => y_w M mc ms Q (pc', lv, v :: st, ω, c, s)) := by
  subst hp hk; exact y_eL fun P Q0 => by rw [y_xI_of hd]; simp [y_xJ]
theorem w_lload {k : Nat} (hd : decode (y_cc M) pc = .ok (.lload k, 2)) (hp : pc + 2 = pc') : y_w M mc ms Q (pc, lv, st, ω, c, s) = y_ldL lv k (fun v => y_w M mc ms Q (pc', lv, v :: st, ω, c, s)) := by
  subst hp; exact y_eL fun P Q0 => by rw [y_xI_of hd]; simp [y_xJ]
theorem w_aload_n {k : Fin 4} {i : Nat} (hd : decode (y_cc M) pc = .ok (.aload_n k, 1)) (hk : (k : Nat) = i) (hp : pc + 1 = pc') : y_w M mc ms Q (pc, lv, st, ω, c, s) = y_ldA lv i (fun v => y_w M mc ms Q (pc', lv, v :: st, ω, c, s)) := by
  subst hp hk; exact y_eL fun P Q0 => by rw [y_xI_of hd]; simp [y_xJ]
theorem w_aload {k : Nat} (hd : decode (y_cc M) pc = .ok (.aload k, 2)) (hp : pc + 2 = pc') : y_w M mc ms Q (pc, lv, st, ω, c, s) = y_ldA lv k (fun v => y_w M mc ms Q (pc', lv, v :: st, ω, c, s)) := by
  subst hp; exact y_eL fun P Q0 => by rw [y_xI_of hd]; simp [y_xJ]
theorem w_istore_n {k : Fin 4} {i : Nat} {x : Int32} (hd : decode (y_cc M) pc = .ok (.istore_n k, 1)) (hk : (k : Nat) = i) (hn : i < y_nL M) (hp : pc + 1 = pc') : y_w M mc ms Q (pc, lv, .int x :: r, ω, c, s) = y_w M mc ms Q (pc', (i, .int x) :: y_kill i lv, r, ω, c, s) := by
  subst hp hk; exact y_e1 fun P Q0 => by rw [y_xI_of hd]; simp [y_xJ, hn, y_lset, y_kill]
theorem w_istore {k : Nat} {x : Int32} (hd : decode (y_cc M) pc = .ok (.istore k, 2)) (hn : k < y_nL M) (hp : pc + 2 = pc') : y_w M mc ms Q (pc, lv, .int x :: r, ω, c, s) = y_w M mc ms Q (pc', (k, .int x) :: y_kill k lv, r, ω, c, s) := by
  subst hp; exact y_e1 fun P Q0 => by rw [y_xI_of hd]; simp [y_xJ, hn, y_lset, y_kill]
theorem w_lstore_n {k : Fin 4} {i : Nat} {x : Int64} (hd : decode (y_cc M) pc = .ok (.lstore_n k, 1)) (hk : (k : Nat) = i) (hn : i + 1 < y_nL M) (hp : pc + 1 = pc') : y_w M mc ms Q (pc, lv, .long x :: r, ω, c, s) = y_w M mc ms Q (pc', (i, .long x) :: y_kill2 i lv, r, ω, c, s) := by
  subst hp hk; exact y_e1 fun P Q0 => by rw [y_xI_of hd]; simp [y_xJ, hn, y_lset2, y_kill2]
theorem w_lstore {k : Nat} {x : Int64} (hd : decode (y_cc M) pc = .ok (.lstore k, 2)) (hn : k + 1 < y_nL M) (hp : pc + 2 = pc') : y_w M mc ms Q (pc, lv, .long x :: r, ω, c, s) = y_w M mc ms Q (pc', (k, .long x) :: y_kill2 k lv, r, ω, c, s) := by
  subst hp; exact y_e1 fun P Q0 => by rw [y_xI_of hd]; simp [y_xJ, hn, y_lset2, y_kill2]
theorem w_astore_n {k : Fin 4} {i : Nat} {v : Value} (hd : decode (y_cc M) pc = .ok (.astore_n k, 1)) (hk : (k : Nat) = i) (hn : i < y_nL M) (hp : pc + 1 = pc') : y_w M mc ms Q (pc, lv, v :: r, ω, c, s) = (y_isA v = true ∧ y_w M mc ms Q (pc', (i, v) :: y_kill i lv, r, ω, c, s)) := by
  subst hp hk; exact y_eC fun P Q0 => by rw [y_xI_of hd]; simp [y_xJ, hn, y_lset, y_kill]
theorem w_astore {k : Nat} {v : Value} (hd : decode (y_cc M) pc = .ok (.astore k, 2)) (hn : k < y_nL M) (hp : pc + 2 = pc') : y_w M mc ms Q (pc, lv, v :: r, ω, c, s) = (y_isA v = true ∧ y_w M mc ms Q (pc', (k, v) :: y_kill k lv, r, ω, c, s)) := by
  subst hp; exact y_eC fun P Q0 => by rw [y_xI_of hd]; simp [y_xJ, hn, y_lset, y_kill]
theorem y_isA_r {x : Nat} : (y_isA (.ref x) = true) = True := by simp [y_isA]
theorem y_isA_n : (y_isA .null = true) = True := by simp [y_isA]
/-- an int local is stepped -/
def y_inc (lv : y_Lv) (k : Nat) (K : Int32 → Prop) : Prop := match y_lget lv k with
  | some (.int x) => K x
  | _ => False
theorem y_inc_hit {k : Nat} {x : Int32} {t : y_Lv} {K : Int32 → Prop} : y_inc ((k, .int x) :: t) k K = K x := by simp [y_inc, y_lget]
theorem y_inc_miss {j k : Nat} {v : Value} {t : y_Lv} {K : Int32 → Prop} (h : ¬ j = k) : y_inc ((j, v) :: t) k K = y_inc t k K := by simp [y_inc, y_lget, h]
theorem w_iinc {k : Nat} {n : Int} {d : Int32} (hd : decode (y_cc M) pc = .ok (.iinc k n, 3)) (hv : Int32.ofInt n = d) (hn : k < y_nL M) (hp : pc + 3 = pc') : y_w M mc ms Q (pc, lv, st, ω, c, s) = y_inc lv k (fun x => y_w M mc ms Q (pc', (k, .int (x + d)) :: y_kill k lv, st, ω, c, s)) := by
  subst hp hv
  refine y_eG (fun P _ => y_inc lv k (fun x => P (pc + 3, (k, .int (x + Int32.ofInt n)) :: y_kill k lv, st, ω, c, s))) (fun P Q0 => ?_) (fun P P' _ _ hP _ q => ?_)
  · rw [y_xI_of hd]; simp only [y_xJ, hn, y_inc, y_lset, y_kill, true_and]; rfl
  · unfold y_inc at q ⊢
    split at q
    · exact hP _ q
    · exact q.elim
theorem w_iadd {x y : Int32} (hd : decode (y_cc M) pc = .ok (.iadd, 1)) (hp : pc + 1 = pc') : y_w M mc ms Q (pc, lv, .int y :: .int x :: r, ω, c, s) = y_w M mc ms Q (pc', lv, .int (x + y) :: r, ω, c, s) := by
  subst hp; exact y_e1 fun P Q0 => by rw [y_xI_of hd]; simp [y_xJ]
theorem w_isub {x y : Int32} (hd : decode (y_cc M) pc = .ok (.isub, 1)) (hp : pc + 1 = pc') : y_w M mc ms Q (pc, lv, .int y :: .int x :: r, ω, c, s) = y_w M mc ms Q (pc', lv, .int (x - y) :: r, ω, c, s) := by
  subst hp; exact y_e1 fun P Q0 => by rw [y_xI_of hd]; simp [y_xJ]
theorem w_imul {x y : Int32} (hd : decode (y_cc M) pc = .ok (.imul, 1)) (hp : pc + 1 = pc') : y_w M mc ms Q (pc, lv, .int y :: .int x :: r, ω, c, s) = y_w M mc ms Q (pc', lv, .int (x * y) :: r, ω, c, s) := by
  subst hp; exact y_e1 fun P Q0 => by rw [y_xI_of hd]; simp [y_xJ]
theorem w_idiv {x y : Int32} (hd : decode (y_cc M) pc = .ok (.idiv, 1)) (hp : pc + 1 = pc') : y_w M mc ms Q (pc, lv, .int y :: .int x :: r, ω, c, s) = (¬ y = 0 ∧ y_w M mc ms Q (pc', lv, .int (x / y) :: r, ω, c, s)) := by
  subst hp; exact y_eC fun P Q0 => by rw [y_xI_of hd]; simp [y_xJ]
theorem w_iand {x y : Int32} (hd : decode (y_cc M) pc = .ok (.iand, 1)) (hp : pc + 1 = pc') : y_w M mc ms Q (pc, lv, .int y :: .int x :: r, ω, c, s) = y_w M mc ms Q (pc', lv, .int (x &&& y) :: r, ω, c, s) := by
  subst hp; exact y_e1 fun P Q0 => by rw [y_xI_of hd]; simp [y_xJ]
theorem w_ior {x y : Int32} (hd : decode (y_cc M) pc = .ok (.ior, 1)) (hp : pc + 1 = pc') : y_w M mc ms Q (pc, lv, .int y :: .int x :: r, ω, c, s) = y_w M mc ms Q (pc', lv, .int (x ||| y) :: r, ω, c, s) := by
  subst hp; exact y_e1 fun P Q0 => by rw [y_xI_of hd]; simp [y_xJ]
theorem w_ixor {x y : Int32} (hd : decode (y_cc M) pc = .ok (.ixor, 1)) (hp : pc + 1 = pc') : y_w M mc ms Q (pc, lv, .int y :: .int x :: r, ω, c, s) = y_w M mc ms Q (pc', lv, .int (x ^^^ y) :: r, ω, c, s) := by
  subst hp; exact y_e1 fun P Q0 => by rw [y_xI_of hd]; simp [y_xJ]
theorem w_ishl {x y : Int32} (hd : decode (y_cc M) pc = .ok (.ishl, 1)) (hp : pc + 1 = pc') : y_w M mc ms Q (pc, lv, .int y :: .int x :: r, ω, c, s) = y_w M mc ms Q (pc', lv, .int (x <<< (y &&& 31)) :: r, ω, c, s) := by
  subst hp; exact y_e1 fun P Q0 => by rw [y_xI_of hd]; simp [y_xJ]
theorem w_ishr {x y : Int32} (hd : decode (y_cc M) pc = .ok (.ishr, 1)) (hp : pc + 1 = pc') : y_w M mc ms Q (pc, lv, .int y :: .int x :: r, ω, c, s) = y_w M mc ms Q (pc', lv, .int (x >>> (y &&& 31)) :: r, ω, c, s) := by
  subst hp; exact y_e1 fun P Q0 => by rw [y_xI_of hd]; simp [y_xJ]
theorem w_iushr {x y : Int32} (hd : decode (y_cc M) pc = .ok (.iushr, 1)) (hp : pc + 1 = pc') : y_w M mc ms Q (pc, lv, .int y :: .int x :: r, ω, c, s) = y_w M mc ms Q (pc', lv, .int (x.toUInt32 >>> (y.toUInt32 &&& Int32.toUInt32 31)).toInt32 :: r, ω, c, s) := by
  subst hp; exact y_e1 fun P Q0 => by rw [y_xI_of hd]; simp [y_xJ]
theorem w_ineg {x : Int32} (hd : decode (y_cc M) pc = .ok (.ineg, 1)) (hp : pc + 1 = pc') : y_w M mc ms Q (pc, lv, .int x :: r, ω, c, s) = y_w M mc ms Q (pc', lv, .int (-x) :: r, ω, c, s) := by
  subst hp; exact y_e1 fun P Q0 => by rw [y_xI_of hd]; simp [y_xJ]
theorem w_ladd {x y : Int64} (hd : decode (y_cc M) pc = .ok (.ladd, 1)) (hp : pc + 1 = pc') : y_w M mc ms Q (pc, lv, .long y :: .long x :: r, ω, c, s) = y_w M mc ms Q (pc', lv, .long (x + y) :: r, ω, c, s) := by
  subst hp; exact y_e1 fun P Q0 => by rw [y_xI_of hd]; simp [y_xJ]
theorem w_lsub {x y : Int64} (hd : decode (y_cc M) pc = .ok (.lsub, 1)) (hp : pc + 1 = pc') : y_w M mc ms Q (pc, lv, .long y :: .long x :: r, ω, c, s) = y_w M mc ms Q (pc', lv, .long (x - y) :: r, ω, c, s) := by
  subst hp; exact y_e1 fun P Q0 => by rw [y_xI_of hd]; simp [y_xJ]
theorem w_lmul {x y : Int64} (hd : decode (y_cc M) pc = .ok (.lmul, 1)) (hp : pc + 1 = pc') : y_w M mc ms Q (pc, lv, .long y :: .long x :: r, ω, c, s) = y_w M mc ms Q (pc', lv, .long (x * y) :: r, ω, c, s) := by
  subst hp; exact y_e1 fun P Q0 => by rw [y_xI_of hd]; simp [y_xJ]
theorem w_ldiv {x y : Int64} (hd : decode (y_cc M) pc = .ok (.ldiv, 1)) (hp : pc + 1 = pc') : y_w M mc ms Q (pc, lv, .long y :: .long x :: r, ω, c, s) = (¬ y = 0 ∧ y_w M mc ms Q (pc', lv, .long (x / y) :: r, ω, c, s)) := by
  subst hp; exact y_eC fun P Q0 => by rw [y_xI_of hd]; simp [y_xJ]
theorem w_land {x y : Int64} (hd : decode (y_cc M) pc = .ok (.land, 1)) (hp : pc + 1 = pc') : y_w M mc ms Q (pc, lv, .long y :: .long x :: r, ω, c, s) = y_w M mc ms Q (pc', lv, .long (x &&& y) :: r, ω, c, s) := by
  subst hp; exact y_e1 fun P Q0 => by rw [y_xI_of hd]; simp [y_xJ]
theorem w_lor {x y : Int64} (hd : decode (y_cc M) pc = .ok (.lor, 1)) (hp : pc + 1 = pc') : y_w M mc ms Q (pc, lv, .long y :: .long x :: r, ω, c, s) = y_w M mc ms Q (pc', lv, .long (x ||| y) :: r, ω, c, s) := by
  subst hp; exact y_e1 fun P Q0 => by rw [y_xI_of hd]; simp [y_xJ]
theorem w_lshl {x : Int64} {y : Int32} (hd : decode (y_cc M) pc = .ok (.lshl, 1)) (hp : pc + 1 = pc') : y_w M mc ms Q (pc, lv, .int y :: .long x :: r, ω, c, s) = y_w M mc ms Q (pc', lv, .long (x <<< (y.toInt64 &&& 63)) :: r, ω, c, s) := by
  subst hp; exact y_e1 fun P Q0 => by rw [y_xI_of hd]; simp [y_xJ]
theorem w_lshr {x : Int64} {y : Int32} (hd : decode (y_cc M) pc = .ok (.lshr, 1)) (hp : pc + 1 = pc') : y_w M mc ms Q (pc, lv, .int y :: .long x :: r, ω, c, s) = y_w M mc ms Q (pc', lv, .long (x >>> (y.toInt64 &&& 63)) :: r, ω, c, s) := by
  subst hp; exact y_e1 fun P Q0 => by rw [y_xI_of hd]; simp [y_xJ]
theorem w_lushr {x : Int64} {y : Int32} (hd : decode (y_cc M) pc = .ok (.lushr, 1)) (hp : pc + 1 = pc') : y_w M mc ms Q (pc, lv, .int y :: .long x :: r, ω, c, s) = y_w M mc ms Q (pc', lv, .long (x.toUInt64 >>> (y.toInt64.toUInt64 &&& Int64.toUInt64 63)).toInt64 :: r, ω, c, s) := by
  subst hp; exact y_e1 fun P Q0 => by rw [y_xI_of hd]; simp [y_xJ]
theorem w_lcmp {x y : Int64} (hd : decode (y_cc M) pc = .ok (.lcmp, 1)) (hp : pc + 1 = pc') : y_w M mc ms Q (pc, lv, .long y :: .long x :: r, ω, c, s) = y_w M mc ms Q (pc', lv, .int (lg_cmp x y) :: r, ω, c, s) := by
  subst hp; exact y_e1 fun P Q0 => by rw [y_xI_of hd]; simp [y_xJ]
theorem w_i2l {x : Int32} (hd : decode (y_cc M) pc = .ok (.i2l, 1)) (hp : pc + 1 = pc') : y_w M mc ms Q (pc, lv, .int x :: r, ω, c, s) = y_w M mc ms Q (pc', lv, .long x.toInt64 :: r, ω, c, s) := by
  subst hp; exact y_e1 fun P Q0 => by rw [y_xI_of hd]; simp [y_xJ]
theorem w_l2i {x : Int64} (hd : decode (y_cc M) pc = .ok (.l2i, 1)) (hp : pc + 1 = pc') : y_w M mc ms Q (pc, lv, .long x :: r, ω, c, s) = y_w M mc ms Q (pc', lv, .int x.toInt32 :: r, ω, c, s) := by
  subst hp; exact y_e1 fun P Q0 => by rw [y_xI_of hd]; simp [y_xJ]
theorem w_i2b {x : Int32} (hd : decode (y_cc M) pc = .ok (.i2b, 1)) (hp : pc + 1 = pc') : y_w M mc ms Q (pc, lv, .int x :: r, ω, c, s) = y_w M mc ms Q (pc', lv, .int x.toInt8.toInt32 :: r, ω, c, s) := by
  subst hp; exact y_e1 fun P Q0 => by rw [y_xI_of hd]; simp [y_xJ]
theorem w_i2s {x : Int32} (hd : decode (y_cc M) pc = .ok (.i2s, 1)) (hp : pc + 1 = pc') : y_w M mc ms Q (pc, lv, .int x :: r, ω, c, s) = y_w M mc ms Q (pc', lv, .int x.toInt16.toInt32 :: r, ω, c, s) := by
  subst hp; exact y_e1 fun P Q0 => by rw [y_xI_of hd]; simp [y_xJ]
theorem w_i2c {x : Int32} (hd : decode (y_cc M) pc = .ok (.i2c, 1)) (hp : pc + 1 = pc') : y_w M mc ms Q (pc, lv, .int x :: r, ω, c, s) = y_w M mc ms Q (pc', lv, .int (x.toUInt32 % 65536).toInt32 :: r, ω, c, s) := by
  subst hp; exact y_e1 fun P Q0 => by rw [y_xI_of hd]; simp [y_xJ]
theorem w_dup {v : Value} (hd : decode (y_cc M) pc = .ok (.dup, 1)) (hp : pc + 1 = pc') : y_w M mc ms Q (pc, lv, v :: r, ω, c, s) = (v.category = 1 ∧ y_w M mc ms Q (pc', lv, v :: v :: r, ω, c, s)) := by
  subst hp; exact y_eC fun P Q0 => by rw [y_xI_of hd]; simp [y_xJ]
theorem w_pop {v : Value} (hd : decode (y_cc M) pc = .ok (.pop, 1)) (hp : pc + 1 = pc') : y_w M mc ms Q (pc, lv, v :: r, ω, c, s) = (v.category = 1 ∧ y_w M mc ms Q (pc', lv, r, ω, c, s)) := by
  subst hp; exact y_eC fun P Q0 => by rw [y_xI_of hd]; simp [y_xJ]
theorem w_dup_x1 {v w : Value} (hd : decode (y_cc M) pc = .ok (.dup_x1, 1)) (hp : pc + 1 = pc') : y_w M mc ms Q (pc, lv, v :: w :: r, ω, c, s) = ((v.category = 1 ∧ w.category = 1) ∧ y_w M mc ms Q (pc', lv, v :: w :: v :: r, ω, c, s)) := by
  subst hp; exact y_eC fun P Q0 => by rw [y_xI_of hd]; simp [y_xJ, and_assoc]
theorem w_dup2 {v w : Value} (hd : decode (y_cc M) pc = .ok (.dup2, 1)) (hp : pc + 1 = pc') : y_w M mc ms Q (pc, lv, v :: w :: r, ω, c, s) = ((v.category = 1 ∧ w.category = 1) ∧ y_w M mc ms Q (pc', lv, v :: w :: v :: w :: r, ω, c, s)) := by
  subst hp; exact y_eC fun P Q0 => by rw [y_xI_of hd]; simp [y_xJ, and_assoc]
theorem y_cat_i {x : Int32} : ((Value.int x).category = 1) = True := by simp [Value.category]
theorem y_cat_r {x : Nat} : ((Value.ref x).category = 1) = True := by simp [Value.category]
theorem y_cat_n : ((Value.null).category = 1) = True := by simp [Value.category]
theorem w_if {cn : ClassFile.Cond} {off : Int} {tgt : Nat} {x : Int32} {b : Prop} (hd : decode (y_cc M) pc = .ok (.ifCond cn off, 3)) (ht : (pc : Int) + off = (tgt : Int)) (hp : pc + 3 = pc') (hb : y_cond cn x 0 = b) : y_w M mc ms Q (pc, lv, .int x :: r, ω, c, s) = ((b → y_w M mc ms Q (tgt, lv, r, ω, c, s)) ∧ (¬ b → y_w M mc ms Q (pc', lv, r, ω, c, s))) := by
  subst hp hb
  refine y_eB fun P Q0 => ?_
  rw [y_xI_of hd]
  simp [y_xJ, y_br, y_to, ht]
theorem w_icmp {cn : ClassFile.Cond} {off : Int} {tgt : Nat} {x y : Int32} {b : Prop} (hd : decode (y_cc M) pc = .ok (.if_icmp cn off, 3)) (ht : (pc : Int) + off = (tgt : Int)) (hp : pc + 3 = pc') (hb : y_cond cn x y = b) : y_w M mc ms Q (pc, lv, .int y :: .int x :: r, ω, c, s) = ((b → y_w M mc ms Q (tgt, lv, r, ω, c, s)) ∧ (¬ b → y_w M mc ms Q (pc', lv, r, ω, c, s))) := by
  subst hp hb
  refine y_eB fun P Q0 => ?_
  rw [y_xI_of hd]
  simp [y_xJ, y_br, y_to, ht]
theorem w_acmp_eq {off : Int} {tgt : Nat} {v w : Value} (hd : decode (y_cc M) pc = .ok (.if_acmp .eq off, 3)) (ht : (pc : Int) + off = (tgt : Int)) (hp : pc + 3 = pc') : y_w M mc ms Q (pc, lv, v :: w :: r, ω, c, s) = (y_isA v = true ∧ y_isA w = true ∧ (w = v → y_w M mc ms Q (tgt, lv, r, ω, c, s)) ∧ (¬ w = v → y_w M mc ms Q (pc', lv, r, ω, c, s))) := by
  subst hp
  refine y_eG (fun P _ => y_isA v = true ∧ y_isA w = true ∧ (w = v → P (tgt, lv, r, ω, c, s)) ∧ (¬ w = v → P (pc + 3, lv, r, ω, c, s))) (fun P Q0 => ?_) (fun _ _ _ _ hP _ q => ⟨q.1, q.2.1, fun z => hP _ (q.2.2.1 z), fun z => hP _ (q.2.2.2 z)⟩)
  rw [y_xI_of hd]
  simp [y_xJ, y_br, y_to, ht]
theorem w_acmp_ne {off : Int} {tgt : Nat} {v w : Value} (hd : decode (y_cc M) pc = .ok (.if_acmp .ne off, 3)) (ht : (pc : Int) + off = (tgt : Int)) (hp : pc + 3 = pc') : y_w M mc ms Q (pc, lv, v :: w :: r, ω, c, s) = (y_isA v = true ∧ y_isA w = true ∧ (¬ w = v → y_w M mc ms Q (tgt, lv, r, ω, c, s)) ∧ (w = v → y_w M mc ms Q (pc', lv, r, ω, c, s))) := by
  subst hp
  refine y_eG (fun P _ => y_isA v = true ∧ y_isA w = true ∧ (¬ w = v → P (tgt, lv, r, ω, c, s)) ∧ (w = v → P (pc + 3, lv, r, ω, c, s))) (fun P Q0 => ?_) (fun _ _ _ _ hP _ q => ⟨q.1, q.2.1, fun z => hP _ (q.2.2.1 z), fun z => hP _ (q.2.2.2 z)⟩)
  rw [y_xI_of hd]
  simp [y_xJ, y_br, y_to, ht]
/-- null or not -/
def y_nul (v : Value) (A B : Prop) : Prop := match v with
  | .null => A
  | .ref _ => B
  | _ => False
theorem y_nul_n {A B : Prop} : y_nul .null A B = A := rfl
theorem y_nul_r {x : Nat} {A B : Prop} : y_nul (.ref x) A B = B := rfl
theorem y_nul_mono {v : Value} {A B A' B' : Prop} (h1 : A → A') (h2 : B → B') (q : y_nul v A B) : y_nul v A' B' := by
  cases v <;> first | exact q.elim | exact h1 q | exact h2 q
theorem w_ifnull {off : Int} {tgt : Nat} {v : Value} (hd : decode (y_cc M) pc = .ok (.ifnull off, 3)) (ht : (pc : Int) + off = (tgt : Int)) (hp : pc + 3 = pc') : y_w M mc ms Q (pc, lv, v :: r, ω, c, s) = y_nul v (y_w M mc ms Q (tgt, lv, r, ω, c, s)) (y_w M mc ms Q (pc', lv, r, ω, c, s)) := by
  subst hp
  refine y_eG (fun P _ => y_nul v (P (tgt, lv, r, ω, c, s)) (P (pc + 3, lv, r, ω, c, s))) (fun P Q0 => ?_) (fun _ _ _ _ hP _ q => y_nul_mono (hP _) (hP _) q)
  rw [y_xI_of hd]
  cases v <;> simp [y_xJ, y_nul, y_to, ht]
theorem w_ifnonnull {off : Int} {tgt : Nat} {v : Value} (hd : decode (y_cc M) pc = .ok (.ifnonnull off, 3)) (ht : (pc : Int) + off = (tgt : Int)) (hp : pc + 3 = pc') : y_w M mc ms Q (pc, lv, v :: r, ω, c, s) = y_nul v (y_w M mc ms Q (pc', lv, r, ω, c, s)) (y_w M mc ms Q (tgt, lv, r, ω, c, s)) := by
  subst hp
  refine y_eG (fun P _ => y_nul v (P (pc + 3, lv, r, ω, c, s)) (P (tgt, lv, r, ω, c, s))) (fun P Q0 => ?_) (fun _ _ _ _ hP _ q => y_nul_mono (hP _) (hP _) q)
  rw [y_xI_of hd]
  cases v <;> simp [y_xJ, y_nul, y_to, ht]
theorem w_goto {off : Int} {tgt : Nat} (hd : decode (y_cc M) pc = .ok (.goto off, 3)) (ho : ¬ off < 0) (ht : (pc : Int) + off = (tgt : Int)) : y_w M mc ms Q (pc, lv, st, ω, c, s) = y_w M mc ms Q (tgt, lv, st, ω, c, s) := by
  refine y_e1 fun P Q0 => ?_
  rw [y_xI_of hd]
  simp [y_xJ, y_to, ht, ho]
/-- back to a loop's head, fewer locals known -/
theorem w_back {off : Int} {tgt : Nat} (hd : decode (y_cc M) pc = .ok (.goto off, 3)) (ho : off < 0) (ht : (pc : Int) + off = (tgt : Int)) : y_w M mc ms Q (pc, lv, st, ω, c, s) = ∃ lv', y_lsub lv' lv ∧ y_w M mc ms Q (tgt, lv', st, ω, c, s) := by
  refine y_eG (fun P _ => ∃ lv', y_lsub lv' lv ∧ P (tgt, lv', st, ω, c, s)) (fun P Q0 => ?_) (fun _ _ _ _ hP _ q => ?_)
  · rw [y_xI_of hd]
    simp [y_xJ, y_to, ht, ho]
  · obtain ⟨lv', h1, h2⟩ := q
    exact ⟨lv', h1, hP _ h2⟩
/-- a switch over lo, lo + 1 ..: its targets as a list -/
def y_sw (x : Int32) (lo : Int) (ts : List Nat) (d : Nat) (K : Nat → Prop) : Prop := (x.toInt < lo ∨ lo + ts.length ≤ x.toInt → K d) ∧ ∀ (j t : Nat), ts[j]? = some t → x.toInt = lo + j → K t
theorem w_tsw {d lo hi : Int} {offs : Array Int} {len dt : Nat} {ts : List Nat} {x : Int32} (hd : decode (y_cc M) pc = .ok (.tableswitch d lo hi offs, len)) (hdt : (pc : Int) + d = (dt : Int)) (hts : offs.toList.map (fun o => (pc : Int) + o) = ts.map (fun t : Nat => (t : Int))) (hl : lo + ts.length = hi + 1) : y_w M mc ms Q (pc, lv, .int x :: r, ω, c, s) = y_sw x lo ts dt (fun t => y_w M mc ms Q (t, lv, r, ω, c, s)) := by
  refine y_eG (fun P _ => y_sw x lo ts dt (fun t => P (t, lv, r, ω, c, s))) (fun P Q0 => ?_) (fun _ _ _ _ hP _ q => ⟨fun z => hP _ (q.1 z), fun j t h1 h2 => hP _ (q.2 j t h1 h2)⟩)
  rw [y_xI_of hd]
  have hlen : offs.size = ts.length := by
    have := congrArg List.length hts
    simpa using this
  have hget : ∀ j : Nat, (offs[j]?).map (fun o => (pc : Int) + o) = (ts[j]?).map (fun t : Nat => (t : Int)) := by
    intro j
    have := congrArg (fun l => l[j]?) hts
    simpa using this
  apply propext
  simp only [y_xJ]
  constructor
  · rintro ⟨h1, h2⟩
    refine ⟨fun z => ?_, fun j t hj hx => ?_⟩
    · have := h1 (by omega)
      simpa [y_to, hdt] using this.2
    · have hjl : j < ts.length := (List.getElem?_eq_some_iff.mp hj).1
      have h3 := h2 (by omega)
      have hn : (x.toInt - lo).toNat = j := by omega
      rw [hn] at h3
      have hg := hget j
      rw [hj] at hg
      cases ho : offs[j]? with
      | none => rw [ho] at hg; cases hg
      | some o =>
        rw [ho] at hg h3
        have hg : (pc : Int) + o = t := by simpa using hg
        simpa [y_to, hg] using h3.2
  · rintro ⟨h1, h2⟩
    refine ⟨fun z => ?_, fun z => ?_⟩
    · have := h1 (by omega)
      simpa [y_to, hdt] using this
    · have hjl : (x.toInt - lo).toNat < ts.length := by omega
      have hj : ts[(x.toInt - lo).toNat]? = some ts[(x.toInt - lo).toNat] := List.getElem?_eq_getElem hjl
      have h3 := h2 _ _ hj (by omega)
      have hg := hget (x.toInt - lo).toNat
      rw [hj] at hg
      cases ho : offs[(x.toInt - lo).toNat]? with
      | none => rw [ho] at hg; cases hg
      | some o =>
        rw [ho] at hg
        have hg : (pc : Int) + o = (ts[(x.toInt - lo).toNat] : Int) := by simpa using hg
        simpa [y_to, hg] using h3
end
