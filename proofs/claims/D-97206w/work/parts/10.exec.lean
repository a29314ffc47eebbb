/-! THE PURE EXECUTOR: bytecode over a pure heap (a top, and cells by their addresses). No machine in sight. -/
abbrev y_E : Type := (Nat × vp_A) ⊕ (Nat × List Value)
abbrev y_Hp : Type := Nat × (Nat → Option (Bool × y_E))
/-- what holds at the end: the outcome, the heap, cells and slots made so far -/
abbrev y_Po : Type := Outcome → y_Hp → Nat → Nat → Prop
/-- most cells, most slots, arguments, heap, cells and slots made so far, what is to hold at the end -/
abbrev y_Tr : Type := Nat → Nat → List Value → y_Hp → Nat → Nat → y_Po → Prop
/-- where the constants lie that the machine made before the law -/
abbrev y_Ad : Type := (Nat → Nat) × (Nat → Option Nat)
abbrev y_Lv : Type := List (Nat × Value)
/-- pc, locals, operand stack, heap, cells and slots made so far -/
abbrev y_St : Type := Nat × y_Lv × List Value × y_Hp × Nat × Nat
def y_lget : y_Lv → Nat → Option Value
  | [], _ => none
  | q :: t, k => if q.1 = k then some q.2 else y_lget t k
def y_lset (lv : y_Lv) (i : Nat) (v : Value) : y_Lv := (i, v) :: lv.filter (fun q => !(q.1 == i) && !(q.1 + 1 == i && q.2.category == 2))
def y_lset2 (lv : y_Lv) (i : Nat) (v : Value) : y_Lv := (i, v) :: lv.filter (fun q => !(q.1 == i) && (!(q.1 == i + 1) && !(q.1 + 1 == i && q.2.category == 2)))
/-- fewer locals are known -/
def y_lsub (lv' lv : y_Lv) : Prop := ∀ q ∈ lv', y_lget lv q.1 = some q.2
def y_hup (ω : y_Hp) (a : Nat) (x : y_E) : y_Hp := (ω.1, fun b => if b = a then some (true, x) else ω.2 b)
def y_hnew (ω : y_Hp) (x : y_E) : y_Hp := (ω.1 + 1, fun b => if b = ω.1 then some (true, x) else ω.2 b)
def y_cat (st : List Value) : Nat := (st.map fun v => v.category).sum
/-- idx, class, place, type, final -/
abbrev y_Fe : Type := Nat × Nat × Nat × FieldType × Bool
/-- idx, class, the fields' defaults -/
abbrev y_Ne : Type := Nat × Nat × List Value
/-- idx, mode (0 static, 1 virtual, 2 special, 3 interface, 4 virtual of an array; at 1 and 3 the receiver's class is looked at), class, arguments, (frames, words), what it does -/
abbrev y_Ke : Type := Nat × Nat × Nat × Nat × (Nat × Nat) × y_Tr
/-- fields, classes to make, constants, calls, casts (idx, class, 0 no, 1 yes; 2 no, 3 yes: a handler; an array of kind t: class 100 + t), arrays of references to make (idx, kind), statics -/
abbrev y_Pool : Type := List y_Fe × List y_Ne × List (Nat × Value) × List y_Ke × List (Nat × Nat × Nat) × List (Nat × Nat) × List (Nat × Value)
/-- code, class, (locals, answer), (frames, words), a constructor, pool, handlers -/
abbrev y_Md : Type := ByteArray × String × (Nat × Option FieldType) × (Nat × Nat) × Bool × y_Pool × List (Nat × Nat × Nat × Nat)
abbrev y_cc (M : y_Md) : ByteArray := M.1
abbrev y_own (M : y_Md) : String := M.2.1
abbrev y_nL (M : y_Md) : Nat := M.2.2.1.1
abbrev y_ret (M : y_Md) : Option FieldType := M.2.2.1.2
abbrev y_fr (M : y_Md) : Nat := M.2.2.2.1.1
abbrev y_lo (M : y_Md) : Nat := M.2.2.2.1.2
abbrev y_ini (M : y_Md) : Bool := M.2.2.2.2.1
abbrev y_pool (M : y_Md) : y_Pool := M.2.2.2.2.2.1
abbrev y_hh (M : y_Md) : List (Nat × Nat × Nat × Nat) := M.2.2.2.2.2.2
def y_ff (M : y_Md) (idx ci : Nat) : Option (Nat × FieldType × Bool) := ((y_pool M).1.find? (fun e => e.1 == idx && e.2.1 == ci)).map (fun e => e.2.2)
def y_fn (M : y_Md) (idx : Nat) : Option (Nat × List Value) := ((y_pool M).2.1.find? (fun e => e.1 == idx)).map (fun e => e.2)
def y_fc (M : y_Md) (idx : Nat) : Option Value := ((y_pool M).2.2.1.find? (fun e => e.1 == idx)).map (fun e => e.2)
def y_fk (M : y_Md) (idx : Nat) : Option y_Ke := (y_pool M).2.2.2.1.find? (fun e => e.1 == idx)
def y_fkc (M : y_Md) (idx ci : Nat) : Option y_Ke := (y_pool M).2.2.2.1.find? (fun e => e.1 == idx && e.2.2.1 == ci)
def y_ft (M : y_Md) (idx ci : Nat) : Option Nat := ((y_pool M).2.2.2.2.1.find? (fun e => e.1 == idx && (e.2.1 == ci && decide (e.2.2 < 2)))).map (fun e => e.2.2)
def y_fh (M : y_Md) (idx ci : Nat) : Option Nat := ((y_pool M).2.2.2.2.1.find? (fun e => e.1 == idx && (e.2.1 == ci && decide (2 ≤ e.2.2)))).map (fun e => e.2.2)
def y_fa (M : y_Md) (idx : Nat) : Option Nat := ((y_pool M).2.2.2.2.2.1.find? (fun e => e.1 == idx)).map (fun e => e.2)
def y_fs (M : y_Md) (idx : Nat) : Option Value := ((y_pool M).2.2.2.2.2.2.find? (fun e => e.1 == idx)).map (fun e => e.2)
/-- the class of an object -/
def y_cls (ω : y_Hp) (a : Nat) : Option Nat := match ω.2 a with
  | some (_, .inr o) => some o.1
  | _ => none
/-- which arrays of references take which objects: Object[] all, Row[] Row (5), League[] League (1) -/
def y_takes (t ci : Nat) : Bool := (t == 4 && (ci == 9 || ci == 10 || ci == 11 || ci == 12 || ci == 13)) || (t == 5 && ci == 5) || (t == 6 && ci == 1)
/-- what is thrown (a) at pc: a handler of the method's own, or out of it -/
def y_thr (M : y_Md) (pc : Nat) (lv : y_Lv) (ω : y_Hp) (a c s : Nat) (P : y_St → Prop) (Q : y_Po) : List (Nat × Nat × Nat × Nat) → Prop
  | [] => Q (.threw a) ω c s
  | h :: t => if h.1 ≤ pc ∧ pc < h.2.1 then
      (match y_cls ω a with
      | none => False
      | some ci => match y_fh M h.2.2.2 ci with
        | none => False
        | some b => if b = 3 then P (h.2.2.1, lv, [.ref a], ω, c, s) else y_thr M pc lv ω a c s P Q t)
    else y_thr M pc lv ω a c s P Q t
/-- the machine itself throws: an object of class ci, its text -/
def y_hthr (ω : y_Hp) (top a ci : Nat) (fs : List Value) : y_Hp := (top, fun b => if b = a then some (true, .inr (ci, fs)) else ω.2 b)
def y_vmt (M : y_Md) (mc ms ci pc : Nat) (lv : y_Lv) (ω : y_Hp) (c s : Nat) (P : y_St → Prop) (Q : y_Po) : Prop :=
  c + 3 ≤ mc ∧ s + 600 ≤ ms ∧ 8 ≤ y_fr M ∧ 10260 ≤ y_lo M ∧ ∀ (top a : Nat) (fs : List Value) (s' : Nat), ω.1 ≤ a → a < top → s ≤ s' → s' ≤ s + 600 → y_thr M pc lv (y_hthr ω top a ci fs) a (c + 3) s' P Q (y_hh M)
def y_aft (M : y_Md) (pc len : Nat) (lv : y_Lv) (st : List Value) (P : y_St → Prop) (Q : y_Po) : y_Po := fun o ω c s => match o with
  | .returned v => P (pc + len, lv, v.toList ++ st, ω, c, s)
  | .threw a => y_thr M pc lv ω a c s P Q (y_hh M)
/-- a call by the entry k, its arguments on the stack -/
def y_go (M : y_Md) (mc ms : Nat) (k : y_Ke) (len pc : Nat) (lv : y_Lv) (st : List Value) (ω : y_Hp) (c s : Nat) (P : y_St → Prop) (Q : y_Po) : Prop :=
  k.2.2.2.1 ≤ st.length ∧ y_cat (st.drop k.2.2.2.1) ≤ 8 ∧ k.2.2.2.2.1.1 ≤ y_fr M ∧ k.2.2.2.2.1.2 ≤ y_lo M ∧
    k.2.2.2.2.2 mc ms (st.take k.2.2.2.1).reverse ω c s (y_aft M pc len lv (st.drop k.2.2.2.1) P Q)
def y_call (M : y_Md) (mc ms : Nat) (md idx len pc : Nat) (lv : y_Lv) (st : List Value) (ω : y_Hp) (c s : Nat) (P : y_St → Prop) (Q : y_Po) : Prop :=
  match y_fk M idx with
  | none => False
  | some k => (k.2.1 = md ∨ k.2.1 = 4 ∧ md = 1) ∧ if md = 0 ∨ md = 2 ∨ k.2.1 = 4 then y_go M mc ms k len pc lv st ω c s P Q else
    match st[k.2.2.2.1 - 1]? with
    | some (.ref a) => (match y_cls ω a with
      | none => False
      | some ci => match y_fkc M idx ci with
        | none => False
        | some k' => k'.2.1 = md ∧ k'.2.2.2.1 = k.2.2.2.1 ∧ 0 < k'.2.2.2.1 ∧ y_go M mc ms k' len pc lv st ω c s P Q)
    | _ => False
def y_to (pc : Nat) (off : Int) : Nat := ((pc : Int) + off).toNat
def y_br (pc : Nat) (off : Int) (lv : y_Lv) (st : List Value) (ω : y_Hp) (c s : Nat) (P : y_St → Prop) (b : Prop) : Prop :=
  0 ≤ (pc : Int) + off ∧ (b → P (y_to pc off, lv, st, ω, c, s)) ∧ (¬ b → P (pc + 3, lv, st, ω, c, s))
def y_cond (cn : ClassFile.Cond) (x y : Int32) : Prop := match cn with
  | .eq => x = y
  | .ne => ¬ x = y
  | .lt => x < y
  | .ge => y ≤ x
  | .gt => y < x
  | .le => x ≤ y
def y_ld (lv : y_Lv) (k : Nat) (K : Value → Prop) : Prop := match y_lget lv k with
  | some v => K v
  | none => False
def y_isI (v : Value) : Bool := match v with
  | .int _ => true
  | _ => false
def y_isL (v : Value) : Bool := match v with
  | .long _ => true
  | _ => false
def y_isA (v : Value) : Bool := match v with
  | .ref _ => true
  | .null => true
  | _ => false
def y_at1 (t : ArrayType) : Option Nat := match t with
  | .int => some 0
  | .byte => some 1
  | .long => some 2
  | .boolean => some 3
  | _ => none
def y_at2 (t n : Nat) : vp_A := (n, if t = 2 then .inr (.inl (fun _ => 0)) else .inl (fun _ => 0))
def y_bytes (t : Nat) : Nat := if t = 0 then 4 else if t = 2 then 8 else 1
/-- one instruction -/
def y_xJ (M : y_Md) (mc ms : Nat) (i : Instr) (len pc : Nat) (lv : y_Lv) (st : List Value) (ω : y_Hp) (c s : Nat) (P : y_St → Prop) (Q : y_Po) : Prop :=
  match i with
  | .iconst n => len = 1 ∧ P (pc + 1, lv, .int (Int32.ofInt n) :: st, ω, c, s)
  | .bipush n => len = 2 ∧ P (pc + 2, lv, .int (Int8.ofInt n).toInt32 :: st, ω, c, s)
  | .sipush n => len = 3 ∧ P (pc + 3, lv, .int (Int16.ofInt n).toInt32 :: st, ω, c, s)
  | .lconst n => len = 1 ∧ P (pc + 1, lv, .long (Int64.ofNat (n : Nat)) :: st, ω, c, s)
  | .aconst_null => len = 1 ∧ P (pc + 1, lv, .null :: st, ω, c, s)
  | .iload_n k => len = 1 ∧ y_ld lv k (fun v => y_isI v = true ∧ P (pc + 1, lv, v :: st, ω, c, s))
  | .iload k => len = 2 ∧ y_ld lv k (fun v => y_isI v = true ∧ P (pc + 2, lv, v :: st, ω, c, s))
  | .lload_n k => len = 1 ∧ y_ld lv k (fun v => y_isL v = true ∧ P (pc + 1, lv, v :: st, ω, c, s))
  | .lload k => len = 2 ∧ y_ld lv k (fun v => y_isL v = true ∧ P (pc + 2, lv, v :: st, ω, c, s))
  | .aload_n k => len = 1 ∧ y_ld lv k (fun v => y_isA v = true ∧ P (pc + 1, lv, v :: st, ω, c, s))
  | .aload k => len = 2 ∧ y_ld lv k (fun v => y_isA v = true ∧ P (pc + 2, lv, v :: st, ω, c, s))
  | .istore_n k => len = 1 ∧ (k : Nat) < y_nL M ∧ (match st with
    | .int x :: r => P (pc + 1, y_lset lv k (.int x), r, ω, c, s)
    | _ => False)
  | .istore k => len = 2 ∧ k < y_nL M ∧ (match st with
    | .int x :: r => P (pc + 2, y_lset lv k (.int x), r, ω, c, s)
    | _ => False)
  | .lstore_n k => len = 1 ∧ (k : Nat) + 1 < y_nL M ∧ (match st with
    | .long x :: r => P (pc + 1, y_lset2 lv k (.long x), r, ω, c, s)
    | _ => False)
  | .lstore k => len = 2 ∧ k + 1 < y_nL M ∧ (match st with
    | .long x :: r => P (pc + 2, y_lset2 lv k (.long x), r, ω, c, s)
    | _ => False)
  | .astore_n k => len = 1 ∧ (k : Nat) < y_nL M ∧ (match st with
    | v :: r => y_isA v = true ∧ P (pc + 1, y_lset lv k v, r, ω, c, s)
    | _ => False)
  | .astore k => len = 2 ∧ k < y_nL M ∧ (match st with
    | v :: r => y_isA v = true ∧ P (pc + 2, y_lset lv k v, r, ω, c, s)
    | _ => False)
  | .iinc k n => len = 3 ∧ k < y_nL M ∧ (match y_lget lv k with
    | some (.int x) => P (pc + 3, y_lset lv k (.int (x + Int32.ofInt n)), st, ω, c, s)
    | _ => False)
  | .iadd => len = 1 ∧ (match st with
    | .int y :: .int x :: r => P (pc + 1, lv, .int (x + y) :: r, ω, c, s)
    | _ => False)
  | .isub => len = 1 ∧ (match st with
    | .int y :: .int x :: r => P (pc + 1, lv, .int (x - y) :: r, ω, c, s)
    | _ => False)
  | .imul => len = 1 ∧ (match st with
    | .int y :: .int x :: r => P (pc + 1, lv, .int (x * y) :: r, ω, c, s)
    | _ => False)
  | .idiv => len = 1 ∧ (match st with
    | .int y :: .int x :: r => ¬ y = 0 ∧ P (pc + 1, lv, .int (x / y) :: r, ω, c, s)
    | _ => False)
  | .iand => len = 1 ∧ (match st with
    | .int y :: .int x :: r => P (pc + 1, lv, .int (x &&& y) :: r, ω, c, s)
    | _ => False)
  | .ior => len = 1 ∧ (match st with
    | .int y :: .int x :: r => P (pc + 1, lv, .int (x ||| y) :: r, ω, c, s)
    | _ => False)
  | .ixor => len = 1 ∧ (match st with
    | .int y :: .int x :: r => P (pc + 1, lv, .int (x ^^^ y) :: r, ω, c, s)
    | _ => False)
  | .ishl => len = 1 ∧ (match st with
    | .int y :: .int x :: r => P (pc + 1, lv, .int (x <<< (y &&& 31)) :: r, ω, c, s)
    | _ => False)
  | .ishr => len = 1 ∧ (match st with
    | .int y :: .int x :: r => P (pc + 1, lv, .int (x >>> (y &&& 31)) :: r, ω, c, s)
    | _ => False)
  | .iushr => len = 1 ∧ (match st with
    | .int y :: .int x :: r => P (pc + 1, lv, .int (x.toUInt32 >>> (y.toUInt32 &&& Int32.toUInt32 31)).toInt32 :: r, ω, c, s)
    | _ => False)
  | .ineg => len = 1 ∧ (match st with
    | .int x :: r => P (pc + 1, lv, .int (-x) :: r, ω, c, s)
    | _ => False)
  | .ladd => len = 1 ∧ (match st with
    | .long y :: .long x :: r => P (pc + 1, lv, .long (x + y) :: r, ω, c, s)
    | _ => False)
  | .lsub => len = 1 ∧ (match st with
    | .long y :: .long x :: r => P (pc + 1, lv, .long (x - y) :: r, ω, c, s)
    | _ => False)
  | .lmul => len = 1 ∧ (match st with
    | .long y :: .long x :: r => P (pc + 1, lv, .long (x * y) :: r, ω, c, s)
    | _ => False)
  | .ldiv => len = 1 ∧ (match st with
    | .long y :: .long x :: r => ¬ y = 0 ∧ P (pc + 1, lv, .long (x / y) :: r, ω, c, s)
    | _ => False)
  | .land => len = 1 ∧ (match st with
    | .long y :: .long x :: r => P (pc + 1, lv, .long (x &&& y) :: r, ω, c, s)
    | _ => False)
  | .lor => len = 1 ∧ (match st with
    | .long y :: .long x :: r => P (pc + 1, lv, .long (x ||| y) :: r, ω, c, s)
    | _ => False)
  | .lshl => len = 1 ∧ (match st with
    | .int y :: .long x :: r => P (pc + 1, lv, .long (x <<< (y.toInt64 &&& 63)) :: r, ω, c, s)
    | _ => False)
  | .lshr => len = 1 ∧ (match st with
    | .int y :: .long x :: r => P (pc + 1, lv, .long (x >>> (y.toInt64 &&& 63)) :: r, ω, c, s)
    | _ => False)
  | .lushr => len = 1 ∧ (match st with
    | .int y :: .long x :: r => P (pc + 1, lv, .long (x.toUInt64 >>> (y.toInt64.toUInt64 &&& Int64.toUInt64 63)).toInt64 :: r, ω, c, s)
    | _ => False)
  | .lcmp => len = 1 ∧ (match st with
    | .long y :: .long x :: r => P (pc + 1, lv, .int (lg_cmp x y) :: r, ω, c, s)
    | _ => False)
  | .i2l => len = 1 ∧ (match st with
    | .int x :: r => P (pc + 1, lv, .long x.toInt64 :: r, ω, c, s)
    | _ => False)
  | .l2i => len = 1 ∧ (match st with
    | .long x :: r => P (pc + 1, lv, .int x.toInt32 :: r, ω, c, s)
    | _ => False)
  | .i2b => len = 1 ∧ (match st with
    | .int x :: r => P (pc + 1, lv, .int x.toInt8.toInt32 :: r, ω, c, s)
    | _ => False)
  | .i2s => len = 1 ∧ (match st with
    | .int x :: r => P (pc + 1, lv, .int x.toInt16.toInt32 :: r, ω, c, s)
    | _ => False)
  | .i2c => len = 1 ∧ (match st with
    | .int x :: r => P (pc + 1, lv, .int (x.toUInt32 % 65536).toInt32 :: r, ω, c, s)
    | _ => False)
  | .dup => len = 1 ∧ (match st with
    | v :: r => v.category = 1 ∧ P (pc + 1, lv, v :: v :: r, ω, c, s)
    | _ => False)
  | .pop => len = 1 ∧ (match st with
    | v :: r => v.category = 1 ∧ P (pc + 1, lv, r, ω, c, s)
    | _ => False)
  | .dup_x1 => len = 1 ∧ (match st with
    | v :: w :: r => v.category = 1 ∧ w.category = 1 ∧ P (pc + 1, lv, v :: w :: v :: r, ω, c, s)
    | _ => False)
  | .dup2 => len = 1 ∧ (match st with
    | v :: w :: r => v.category = 1 ∧ w.category = 1 ∧ P (pc + 1, lv, v :: w :: v :: w :: r, ω, c, s)
    | _ => False)
  | .ifCond cn off => len = 3 ∧ (match st with
    | .int x :: r => y_br pc off lv r ω c s P (y_cond cn x 0)
    | _ => False)
  | .if_icmp cn off => len = 3 ∧ (match st with
    | .int y :: .int x :: r => y_br pc off lv r ω c s P (y_cond cn x y)
    | _ => False)
  | .if_acmp cn off => len = 3 ∧ (match st with
    | v :: w :: r => y_isA v = true ∧ y_isA w = true ∧ y_br pc off lv r ω c s P (match cn with
      | .eq => w = v
      | .ne => ¬ w = v)
    | _ => False)
  | .ifnull off => len = 3 ∧ (match st with
    | .null :: r => 0 ≤ (pc : Int) + off ∧ P (y_to pc off, lv, r, ω, c, s)
    | .ref _ :: r => P (pc + 3, lv, r, ω, c, s)
    | _ => False)
  | .ifnonnull off => len = 3 ∧ (match st with
    | .null :: r => P (pc + 3, lv, r, ω, c, s)
    | .ref _ :: r => 0 ≤ (pc : Int) + off ∧ P (y_to pc off, lv, r, ω, c, s)
    | _ => False)
  | .goto off => len = 3 ∧ 0 ≤ (pc : Int) + off ∧ (if off < 0 then ∃ lv', y_lsub lv' lv ∧ P (y_to pc off, lv', st, ω, c, s) else P (y_to pc off, lv, st, ω, c, s))
  | .tableswitch d lo hi offs => (match st with
    | .int x :: r => (x.toInt < lo ∨ hi < x.toInt → 0 ≤ (pc : Int) + d ∧ P (y_to pc d, lv, r, ω, c, s)) ∧ (¬ (x.toInt < lo ∨ hi < x.toInt) → match offs[(x.toInt - lo).toNat]? with
      | some o => 0 ≤ (pc : Int) + o ∧ P (y_to pc o, lv, r, ω, c, s)
      | none => False)
    | _ => False)
  | .ldc idx => len = 2 ∧ (match y_fc M idx with
    | some v => y_isL v = false ∧ P (pc + 2, lv, v :: st, ω, c, s)
    | none => False)
  | .ldc_w idx => len = 3 ∧ (match y_fc M idx with
    | some v => y_isI v = true ∧ P (pc + 3, lv, v :: st, ω, c, s)
    | none => False)
  | .ldc2_w idx => len = 3 ∧ (match y_fc M idx with
    | some v => y_isL v = true ∧ P (pc + 3, lv, v :: st, ω, c, s)
    | none => False)
  | .getstatic idx => len = 3 ∧ (match y_fs M idx with
    | some v => P (pc + 3, lv, v :: st, ω, c, s)
    | none => False)
  | .getfield idx => len = 3 ∧ (match st with
    | .ref a :: r => (match ω.2 a with
      | some (_, .inr o) => (match y_ff M idx o.1 with
        | some f => (match o.2[f.1]? with
          | some v => P (pc + 3, lv, v :: r, ω, c, s)
          | none => False)
        | none => False)
      | _ => False)
    | _ => False)
  | .putfield idx => len = 3 ∧ (match st with
    | v :: .ref a :: r => (match ω.2 a with
      | some (true, .inr o) => (match y_ff M idx o.1 with
        | some f => (f.2.2 = true → y_ini M = true) ∧ f.1 < o.2.length ∧ narrow f.2.1 v = v ∧ fits f.2.1 v = true ∧ P (pc + 3, lv, r, y_hup ω a (.inr (o.1, o.2.set f.1 v)), c, s)
        | none => False)
      | _ => False)
    | _ => False)
  | .iaload => len = 1 ∧ (match st with
    | .int j :: .ref a :: r => (match ω.2 a with
      | some (_, .inl (t, n, .inl f)) => t = 0 ∧ vp_in j n ∧ P (pc + 1, lv, .int (f j.toNatClampNeg) :: r, ω, c, s)
      | _ => False)
    | _ => False)
  | .baload => len = 1 ∧ (match st with
    | .int j :: .ref a :: r => (match ω.2 a with
      | some (_, .inl (t, n, .inl f)) => (t = 1 ∨ t = 3) ∧ vp_in j n ∧ P (pc + 1, lv, .int (f j.toNatClampNeg) :: r, ω, c, s)
      | _ => False)
    | _ => False)
  | .laload => len = 1 ∧ (match st with
    | .int j :: .ref a :: r => (match ω.2 a with
      | some (_, .inl (t, n, .inr (.inl f))) => t = 2 ∧ vp_in j n ∧ P (pc + 1, lv, .long (f j.toNatClampNeg) :: r, ω, c, s)
      | _ => False)
    | _ => False)
  | .aaload => len = 1 ∧ (match st with
    | .int j :: .ref a :: r => (match ω.2 a with
      | some (_, .inl (t, n, .inr (.inr (.inr (.inr f))))) => (4 ≤ t ∧ t < 8) ∧ vp_in j n ∧ P (pc + 1, lv, va_rf (f j.toNatClampNeg) :: r, ω, c, s)
      | _ => False)
    | _ => False)
  | .iastore => len = 1 ∧ (match st with
    | .int x :: .int j :: .ref a :: r => (match ω.2 a with
      | some (true, .inl (t, n, .inl f)) => t = 0 ∧ vp_in j n ∧ P (pc + 1, lv, r, y_hup ω a (.inl (t, n, .inl (upd f j.toNatClampNeg x))), c, s)
      | _ => False)
    | _ => False)
  | .bastore => len = 1 ∧ (match st with
    | .int x :: .int j :: .ref a :: r => (match ω.2 a with
      | some (true, .inl (t, n, .inl f)) => (t = 1 ∨ t = 3) ∧ vp_in j n ∧ P (pc + 1, lv, r, y_hup ω a (.inl (t, n, .inl (upd f j.toNatClampNeg (if t = 1 then vp_nar .byte x else vp_nar .boolean x)))), c, s)
      | _ => False)
    | _ => False)
  | .lastore => len = 1 ∧ (match st with
    | .long x :: .int j :: .ref a :: r => (match ω.2 a with
      | some (true, .inl (t, n, .inr (.inl f))) => t = 2 ∧ vp_in j n ∧ P (pc + 1, lv, r, y_hup ω a (.inl (t, n, .inr (.inl (vp_updL f j.toNatClampNeg x)))), c, s)
      | _ => False)
    | _ => False)
  | .aastore => len = 1 ∧ (match st with
    | v :: .int j :: .ref a :: r => (match ω.2 a with
      | some (true, .inl (t, n, .inr (.inr (.inr (.inr f))))) => (4 ≤ t ∧ t < 8) ∧ vp_in j n ∧ (match v with
        | .null => P (pc + 1, lv, r, y_hup ω a (.inl (t, n, .inr (.inr (.inr (.inr (va_up f j.toNatClampNeg none)))))), c, s)
        | .ref b => (match y_cls ω b with
          | some ci => y_takes t ci = true ∧ P (pc + 1, lv, r, y_hup ω a (.inl (t, n, .inr (.inr (.inr (.inr (va_up f j.toNatClampNeg (some b))))))), c, s)
          | none => False)
        | _ => False)
      | _ => False)
    | _ => False)
  | .arraylength => len = 1 ∧ (match st with
    | .ref a :: r => (match ω.2 a with
      | some (_, .inl q) => q.1 < 8 ∧ P (pc + 1, lv, .int (nI q.2.1) :: r, ω, c, s)
      | _ => False)
    | _ => False)
  | .newarray ty => len = 2 ∧ (match st with
    | .int n :: r => (match y_at1 ty with
      | some t => ¬ n < 0 ∧ n.toNatClampNeg * y_bytes t ≤ 536870912 ∧ c + 1 ≤ mc ∧ s + n.toNatClampNeg ≤ ms ∧ P (pc + 2, lv, .ref ω.1 :: r, y_hnew ω (.inl (t, y_at2 t n.toNatClampNeg)), c + 1, s + n.toNatClampNeg)
      | none => False)
    | _ => False)
  | .anewarray idx => len = 3 ∧ (match st with
    | .int n :: r => (match y_fa M idx with
      | some t => ¬ n < 0 ∧ n.toNatClampNeg * 4 ≤ 536870912 ∧ c + 1 ≤ mc ∧ s + n.toNatClampNeg ≤ ms ∧ P (pc + 3, lv, .ref ω.1 :: r, y_hnew ω (.inl (t, n.toNatClampNeg, .inr (.inr (.inr (.inr (fun _ => none)))))), c + 1, s + n.toNatClampNeg)
      | none => False)
    | _ => False)
  | .new idx => len = 3 ∧ (match y_fn M idx with
    | some o => c + 1 ≤ mc ∧ s + o.2.length ≤ ms ∧ P (pc + 3, lv, .ref ω.1 :: st, y_hnew ω (.inr o), c + 1, s + o.2.length)
    | none => False)
  | .checkcast idx => len = 3 ∧ (match st with
    | .null :: r => P (pc + 3, lv, .null :: r, ω, c, s)
    | .ref a :: r => (match ω.2 a with
      | some (_, .inr o) => (match y_ft M idx o.1 with
        | some 1 => P (pc + 3, lv, .ref a :: r, ω, c, s)
        | some 0 => y_vmt M mc ms 18 pc lv ω c s P Q
        | _ => False)
      | some (true, .inl q) => y_ft M idx (100 + q.1) = some 1 ∧ P (pc + 3, lv, .ref a :: r, ω, c, s)
      | _ => False)
    | _ => False)
  | .instanceof idx => len = 3 ∧ (match st with
    | .null :: r => P (pc + 3, lv, .int 0 :: r, ω, c, s)
    | .ref a :: r => (match y_cls ω a with
      | some ci => y_ft M idx ci = some 1 ∧ P (pc + 3, lv, .int 1 :: r, ω, c, s)
      | none => False)
    | _ => False)
  | .invokevirtual idx => len = 3 ∧ y_call M mc ms 1 idx 3 pc lv st ω c s P Q
  | .invokespecial idx => len = 3 ∧ y_call M mc ms 2 idx 3 pc lv st ω c s P Q
  | .invokestatic idx => len = 3 ∧ y_call M mc ms 0 idx 3 pc lv st ω c s P Q
  | .invokeinterface idx _ => len = 5 ∧ y_call M mc ms 3 idx 5 pc lv st ω c s P Q
  | .ireturn => len = 1 ∧ (match st with
    | [.int v] => (match y_ret M with
      | some ty => narrow ty (.int v) = .int v ∧ Q (.returned (some (.int v))) ω c s
      | none => False)
    | _ => False)
  | .lreturn => len = 1 ∧ (match st with
    | [.long v] => y_ret M = some .long ∧ Q (.returned (some (.long v))) ω c s
    | _ => False)
  | .areturn => len = 1 ∧ (match st with
    | [v] => y_isA v = true ∧ (match y_ret M with
      | some (.object _) => Q (.returned (some v)) ω c s
      | some (.array _) => Q (.returned (some v)) ω c s
      | _ => False)
    | _ => False)
  | .return_ => len = 1 ∧ st = [] ∧ y_ret M = none ∧ Q (.returned none) ω c s
  | .athrow => len = 1 ∧ (match st with
    | .ref a :: _ => y_thr M pc lv ω a c s P Q (y_hh M)
    | _ => False)
  | _ => False
def y_xI (M : y_Md) (mc ms : Nat) (x : y_St) (P : y_St → Prop) (Q : y_Po) : Prop :=
  match decode (y_cc M) x.1 with
  | .ok il => y_xJ M mc ms il.1 il.2 x.1 x.2.1 x.2.2.1 x.2.2.2.1 x.2.2.2.2.1 x.2.2.2.2.2 P Q
  | .error _ => False
/-- one step, closed upwards -/
def y_x1 (M : y_Md) (mc ms : Nat) (S : y_St → Prop) (Q : y_Po) (x : y_St) : Prop :=
  ∃ (P : y_St → Prop) (Q0 : y_Po), y_xI M mc ms x P Q0 ∧ (∀ y, P y → S y) ∧ ∀ o ω c s, Q0 o ω c s → Q o ω c s
/-- THE RUN COMES TO ITS END, and there Q: the least set closed under steps -/
def y_w (M : y_Md) (mc ms : Nat) (Q : y_Po) (x : y_St) : Prop := ∀ S : y_St → Prop, (∀ y, y_x1 M mc ms S Q y → S y) → S x
theorem y_x1_mono {M : y_Md} {mc ms : Nat} {S S' : y_St → Prop} {Q Q' : y_Po} {x : y_St} (h : y_x1 M mc ms S Q x) (hS : ∀ y, S y → S' y) (hQ : ∀ o ω c s, Q o ω c s → Q' o ω c s) : y_x1 M mc ms S' Q' x := by
  obtain ⟨P, Q0, h1, h2, h3⟩ := h
  exact ⟨P, Q0, h1, fun y q => hS y (h2 y q), fun o ω c s q => hQ o ω c s (h3 o ω c s q)⟩
theorem y_w_fold {M : y_Md} {mc ms : Nat} {Q : y_Po} {x : y_St} (h : y_x1 M mc ms (y_w M mc ms Q) Q x) : y_w M mc ms Q x :=
  fun S hS => hS x (y_x1_mono h (fun _ q => q S hS) (fun _ _ _ _ q => q))
theorem y_w_unfold {M : y_Md} {mc ms : Nat} {Q : y_Po} {x : y_St} (h : y_w M mc ms Q x) : y_x1 M mc ms (y_w M mc ms Q) Q x :=
  h _ (fun _ q => y_x1_mono q (fun _ r => y_w_fold r) (fun _ _ _ _ r => r))
theorem y_w_mono {M : y_Md} {mc ms : Nat} {Q Q' : y_Po} {x : y_St} (h : y_w M mc ms Q x) (hQ : ∀ o ω c s, Q o ω c s → Q' o ω c s) : y_w M mc ms Q' x :=
  h _ (fun _ q => y_w_fold (y_x1_mono q (fun _ r => r) hQ))
/-- what a method does -/
def y_F (M : y_Md) : y_Tr := fun mc ms av ω c s Q => y_cat av ≤ y_nL M ∧ y_w M mc ms Q (0, lv_args 0 av, [], ω, c, s)
def y_Mono (F : y_Tr) : Prop := ∀ (mc ms : Nat) (av : List Value) (ω : y_Hp) (c s : Nat) (Q Q' : y_Po), F mc ms av ω c s Q → (∀ o ω' c' s', Q o ω' c' s' → Q' o ω' c' s') → F mc ms av ω c s Q'
theorem y_F_mono (M : y_Md) : y_Mono (y_F M) := fun _ _ _ _ _ _ _ _ h hQ => ⟨h.1, y_w_mono h.2 hQ⟩
/-! unfolding, by the shape of the step -/
section
variable {M : y_Md} {mc ms : Nat} {Q : y_Po} {x : y_St}
theorem y_e1 {y : y_St} (h : ∀ P Q0, y_xI M mc ms x P Q0 = P y) : y_w M mc ms Q x = y_w M mc ms Q y := by
  refine propext ⟨fun q => ?_, fun q => y_w_fold ⟨_, _, by rw [h]; exact q, fun _ r => r, fun _ _ _ _ r => r⟩⟩
  obtain ⟨P, Q0, h1, h2, -⟩ := y_w_unfold q
  rw [h] at h1
  exact h2 _ h1
theorem y_eC {y : y_St} {φ : Prop} (h : ∀ P Q0, y_xI M mc ms x P Q0 = (φ ∧ P y)) : y_w M mc ms Q x = (φ ∧ y_w M mc ms Q y) := by
  refine propext ⟨fun q => ?_, fun q => y_w_fold ⟨_, _, by rw [h]; exact q, fun _ r => r, fun _ _ _ _ r => r⟩⟩
  obtain ⟨P, Q0, h1, h2, -⟩ := y_w_unfold q
  rw [h] at h1
  exact ⟨h1.1, h2 _ h1.2⟩
theorem y_eB {y z : y_St} {b : Prop} (h : ∀ P Q0, y_xI M mc ms x P Q0 = ((b → P y) ∧ (¬ b → P z))) : y_w M mc ms Q x = ((b → y_w M mc ms Q y) ∧ (¬ b → y_w M mc ms Q z)) := by
  refine propext ⟨fun q => ?_, fun q => y_w_fold ⟨_, _, by rw [h]; exact q, fun _ r => r, fun _ _ _ _ r => r⟩⟩
  obtain ⟨P, Q0, h1, h2, -⟩ := y_w_unfold q
  rw [h] at h1
  exact ⟨fun k => h2 _ (h1.1 k), fun k => h2 _ (h1.2 k)⟩
theorem y_eR {o : Outcome} {ω : y_Hp} {c s : Nat} {φ : Prop} (h : ∀ P Q0, y_xI M mc ms x P Q0 = (φ ∧ Q0 o ω c s)) : y_w M mc ms Q x = (φ ∧ Q o ω c s) := by
  refine propext ⟨fun q => ?_, fun q => y_w_fold ⟨_, _, by rw [h]; exact q, fun _ r => r, fun _ _ _ _ r => r⟩⟩
  obtain ⟨P, Q0, h1, -, h3⟩ := y_w_unfold q
  rw [h] at h1
  exact ⟨h1.1, h3 _ _ _ _ h1.2⟩
/-- the general form: the step as a predicate of what follows, which is monotone -/
theorem y_eG (G : (y_St → Prop) → y_Po → Prop) (h : ∀ P Q0, y_xI M mc ms x P Q0 = G P Q0) (hm : ∀ P P' Q0 Q0', (∀ y, P y → P' y) → (∀ o ω c s, Q0 o ω c s → Q0' o ω c s) → G P Q0 → G P' Q0') : y_w M mc ms Q x = G (y_w M mc ms Q) Q := by
  refine propext ⟨fun q => ?_, fun q => y_w_fold ⟨_, _, by rw [h]; exact q, fun _ r => r, fun _ _ _ _ r => r⟩⟩
  obtain ⟨P, Q0, h1, h2, h3⟩ := y_w_unfold q
  rw [h] at h1
  exact hm _ _ _ _ h2 h3 h1
end
