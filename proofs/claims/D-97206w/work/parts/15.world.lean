/-! THE MACHINE AND THE PURE HEAP: what it is that a heap holds a pure heap -/
def y_cl : List vw_C := [(RX0, TX0, 12), (RX1, TX1, 14), (RX2, TX2, 2), (RX3, TX3, 25), (RX4, TX4, 7), (RX5, TX5, 2), (RX6, TX6, 8), (RX7, TX7, 8), (RJ3, TJ3, 5), (RX9, TX9, 2), (RX10, TX10, 2), (RX11, TX11, 2), (RX12, TX12, 2), (RX13, TX13, 2), (RJ2, TJ2, 3), (RJ8, TJ8, 4), (RJ10, TJ10, 4), (RJ7, TJ7, 6), (RJ20, TJ20, 6)]
def y_ty (t : Nat) : FieldType := match t with
  | 0 => .int
  | 1 => .byte
  | 2 => .long
  | 3 => .boolean
  | 4 => .object "java/lang/Object"
  | 5 => .object "YoungerBack$Row"
  | 6 => .object "YoungerBack$League"
  | _ => .object "java/lang/String"
def y_con (dA : Nat → ClassId) (x : y_E) : va_E := match x with
  | .inl q => .inl (dA q.1, q.2)
  | .inr o => .inr o
def y_pv (q : (Nat → Int32) ⊕ (Nat → Int64) ⊕ (Nat → UInt32) ⊕ (Nat → UInt64) ⊕ (Nat → Option Nat)) (j : Nat) : Value := match q with
  | .inl f => .int (f j)
  | .inr (.inl f) => .long (f j)
  | .inr (.inr (.inl f)) => .float (f j)
  | .inr (.inr (.inr (.inl f))) => .double (f j)
  | .inr (.inr (.inr (.inr f))) => va_rf (f j)
theorem y_cell_eq (cA : ClassId) (n : Nat) (q : (Nat → Int32) ⊕ (Nat → Int64) ⊕ (Nat → UInt32) ⊕ (Nat → UInt64) ⊕ (Nat → Option Nat)) : vp_cell cA (n, q) = arrV cA n (y_pv q) := by
  rcases q with f | f | f | f | f <;> rfl
/-- what can be read of a cell -/
def y_wk (U : State) (D : va_G) (a : Nat) (x : y_E) (H : Heap) : Prop := ∃ cell : Cell, H[a]? = some cell ∧ cell.vm ≠ .unknown ∧ cell.vm.isStatics = false ∧ (match x with
  | .inl q => U.isArrayOf cell (y_ty q.1) ∧ cell.slots.size = q.2.1 ∧ ∀ j, j < q.2.1 → cell.slots[j]? = some (y_pv q.2.2 j)
  | .inr o => ∃ r : vw_C, y_cl[o.1]? = some r ∧ cell.cls = D.1 o.1 ∧ ∀ k, k < r.2.2 → cell.slots[D.2 o.1 k]? = some (vp_V o.2 k))
def y_okE (x : y_E) : Prop := match x with
  | .inl q => q.1 < 8
  | .inr _ => True
def y_K (D : va_G) (dA : Nat → ClassId) (U : State) : Prop := (∀ (c : Nat) (q : vw_C), y_cl[c]? = some q → u_Kn U q.1 q.2.1 q.2.2 (D.1 c) (D.2 c)) ∧ ∀ t, t < 8 → ArrOfT U (dA t) (y_ty t) ∧ va_RA U (dA t) (y_ty t)
theorem y_K.moved {D : va_G} {dA : Nat → ClassId} {u U : State} (hvm : u.vm.Alike U.vm) (h : y_K D dA u) : y_K D dA U := ⟨fun c q hq => u_Kn_moved hvm (h.1 c q hq), fun t ht => ⟨arrOfT_moved hvm (h.2 t ht).1, (h.2 t ht).2.moved hvm⟩⟩
/-- what is known at the law's start -/
def y_G (s0 : State) (b0 : Nat) (D : va_G) (dA : Nat → ClassId) : Prop := (∀ w ∈ lw_tbl, w.before #[Value.ref b0] s0 = true) ∧ y_K D dA s0 ∧ (Jvm.Cond.and given_1 narrow_1).before #[Value.ref b0] s0 = true
def y_HP (s0 : State) (D : va_G) (dA : Nat → ClassId) (ω : y_Hp) (H : Heap) : Prop := H.size = ω.1 ∧ s0.heap.size ≤ ω.1 ∧ ∀ (a : Nat) (fl : Bool) (x : y_E), ω.2 a = some (fl, x) → (fl = true → s0.heap.size ≤ a ∧ y_okE x ∧ va_at D y_cl (a, y_con dA x) H) ∧ (fl = false → a < s0.heap.size ∧ y_wk s0 D a x s0.heap)
/-- the heap holds ω; what was there at the start is there as it was; what was written is new -/
def y_R (s0 : State) (D : va_G) (dA : Nat → ClassId) (ω : y_Hp) (H : Heap) (locs : List Loc) : Prop := y_HP s0 D dA ω H ∧ (∀ q, q < s0.heap.size → H[q]? = s0.heap[q]?) ∧ ∀ q ∈ locs, s0.heap.size ≤ q.base
theorem y_hts {s0 s : State} {b0 : Nat} {D : va_G} {dA : Nat → ClassId} {args : Array Value} (HG : y_G s0 b0 D dA) (hW : s0.WarmedH s.vm) : ∀ w ∈ lw_all, w.before args s = true := fun w h => word_at hW (lw_self w h).2 (HG.1 w (lw_all_tbl h))
theorem y_wk_of {s0 s : State} {b0 : Nat} {D : va_G} {dA : Nat → ClassId} {ω : y_Hp} {H : Heap} {locs : List Loc} {a : Nat} {fl : Bool} {x : y_E} (HG : y_G s0 b0 D dA) (hW : s0.WarmedH s.vm) (hR : y_R s0 D dA ω H locs) (h : ω.2 a = some (fl, x)) : y_wk s D a x H := by
  obtain ⟨⟨h1, h2, h3⟩, h4, -⟩ := hR
  obtain ⟨ht, hf⟩ := h3 a fl x h
  cases fl with
  | true =>
    obtain ⟨-, hok, hat⟩ := ht rfl
    rcases x with ⟨t, n, q⟩ | ⟨ci, fs⟩
    · have hat : H[a]? = some (vp_cell (dA t) (n, q)) := hat
      rw [y_cell_eq] at hat
      refine ⟨_, hat, (fun z => by cases z), rfl, ?_, arrV_size _ _ _, fun j hj => arrV_read _ _ hj⟩
      exact ((HG.2.1.moved hW.alike).2 t hok).1 n (y_pv q)
    · obtain ⟨r, hr, cell, q1, q2, q3, q4⟩ := hat
      exact ⟨cell, q1, (by rw [q3]; exact fun z => by cases z), (by rw [q3]; rfl), r, hr, q2, q4⟩
  | false =>
    obtain ⟨hlt, cell, q1, q2, q3, q4⟩ := hf rfl
    refine ⟨cell, by rw [h4 a hlt]; exact q1, q2, q3, ?_⟩
    rcases x with ⟨t, n, q⟩ | ⟨ci, fs⟩
    · exact ⟨State.isArrayOf_alike hW.alike q4.1, q4.2⟩
    · exact q4
theorem y_lt {s0 : State} {D : va_G} {dA : Nat → ClassId} {ω : y_Hp} {H : Heap} {a : Nat} {fl : Bool} {x : y_E} (hR : y_HP s0 D dA ω H) (h : ω.2 a = some (fl, x)) : a < H.size := by
  obtain ⟨h1, h2, h3⟩ := hR
  obtain ⟨ht, hf⟩ := h3 a fl x h
  cases fl with
  | true => exact va_at.lt (ht rfl).2.2
  | false => have := (hf rfl).1; omega
/-- a cell of ours is written -/
theorem y_R_up {s0 : State} {D : va_G} {dA : Nat → ClassId} {ω : y_Hp} {H H' : Heap} {locs : List Loc} {a i : Nat} {x x' : y_E} (hR : y_R s0 D dA ω H locs) (h : ω.2 a = some (true, x)) (hok : y_okE x') (hat : va_at D y_cl (a, y_con dA x') H') (hz : H'.size = H.size) (ho : ∀ q, q ≠ a → H'[q]? = H[q]?) : y_R s0 D dA (y_hup ω a x') H' (locs ++ [⟨a, i⟩]) := by
  obtain ⟨⟨h1, h2, h3⟩, h4, h5⟩ := hR
  have ha := ((h3 a true x h).1 rfl).1
  refine ⟨⟨hz.trans h1, h2, fun b fl y hy => ?_⟩, fun q hq => (ho q (by omega)).trans (h4 q hq), fun q hq => ?_⟩
  · by_cases hb : b = a
    · subst hb
      simp only [y_hup, if_true, Option.some.injEq, Prod.mk.injEq] at hy
      obtain ⟨rfl, rfl⟩ := hy
      exact ⟨fun _ => ⟨ha, hok, hat⟩, fun z => by cases z⟩
    · simp only [y_hup, if_neg hb] at hy
      obtain ⟨g1, g2⟩ := h3 b fl y hy
      exact ⟨fun z => ⟨(g1 z).1, (g1 z).2.1, va_at.kept (g1 z).2.2 (ho b hb)⟩, g2⟩
  · rcases List.mem_append.mp hq with z | z
    · exact h5 q z
    · rw [List.mem_singleton.mp z]; exact ha
/-- a cell is made -/
theorem y_R_new {s0 : State} {D : va_G} {dA : Nat → ClassId} {ω : y_Hp} {H H' : Heap} {locs : List Loc} {x' : y_E} (hR : y_R s0 D dA ω H locs) (hok : y_okE x') (hat : va_at D y_cl (H.size, y_con dA x') H') (hz : H'.size = H.size + 1) (ho : ∀ q, q < H.size → H'[q]? = H[q]?) : y_R s0 D dA (y_hnew ω x') H' locs := by
  have hR0 := hR.1
  obtain ⟨⟨h1, h2, h3⟩, h4, h5⟩ := hR
  refine ⟨⟨by rw [hz, h1]; rfl, by show _ ≤ ω.1 + 1; omega, fun b fl y hy => ?_⟩, fun q hq => (ho q (by omega)).trans (h4 q hq), h5⟩
  by_cases hb : b = ω.1
  · subst hb
    simp only [y_hnew, if_true, Option.some.injEq, Prod.mk.injEq] at hy
    obtain ⟨rfl, rfl⟩ := hy
    exact ⟨fun _ => ⟨h2, hok, by rw [← h1]; exact hat⟩, fun z => by cases z⟩
  · simp only [y_hnew, if_neg hb] at hy
    have hlt := y_lt hR0 hy
    obtain ⟨g1, g2⟩ := h3 b fl y hy
    exact ⟨fun z => ⟨(g1 z).1, (g1 z).2.1, va_at.kept (g1 z).2.2 (ho b hlt)⟩, g2⟩
/-- the receiver of a call, an object to be cast -/
theorem y_recv {s0 s : State} {b0 : Nat} {D : va_G} {dA : Nat → ClassId} {ω : y_Hp} {H : Heap} {locs : List Loc} {a ci : Nat} {r : vw_C} (HG : y_G s0 b0 D dA) (hW : s0.WarmedH s.vm) (hR : y_R s0 D dA ω H locs) (h : y_cls ω a = some ci) (hr : y_cl[ci]? = some r) : ∃ cell : Cell, H[a]? = some cell ∧ cell.vm.isStatics = false ∧ s.vm.findClass r.1 = some cell.cls := by
  unfold y_cls at h
  split at h
  · rename_i fl o ho
    cases h
    obtain ⟨cell, q1, q2, q3, r', hr', q4, -⟩ := y_wk_of HG hW hR ho
    cases hr.symm.trans hr'
    refine ⟨cell, q1, q3, ?_⟩
    rw [q4]
    exact ((HG.2.1.moved hW.alike).1 _ _ hr).2.1
  · cases h
