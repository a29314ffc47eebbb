/-! the whole executor, sound -/
section
variable {p : Program} {l : Launch} {e : Env} {R : Room} {s : State} {m : MethodId} {args : Array Value} {below : List Frame} {meth : Method} {c : Code} {H : Heap} {locs : List Loc} {cells slots : Nat} {Q : State → Prop}
variable {s0 : State} {b0 : Nat} {D : va_G} {dA : Nat → ClassId} {ω : y_Hp} {pc : Nat} {ls : Array Slot} {rest : List Value} {a : Nat} {Qp : y_Po} {mc ms c0 d0 ca sa : Nat}
theorem y_W_mono {Q Q' : State → Prop} {g : JFrame} (h : ∀ t, Q t → Q' t) (k : W p l e R s m args below meth c H locs cells slots Q g) : W p l e R s m args below meth c H locs cells slots Q' g := by
  intro T hT X
  obtain ⟨t, a1, b1⟩ := k T hT X
  exact ⟨t, a1, h t b1⟩
/-- a method returns -/
theorem y_MQ_of {o : Outcome} (args : Array Value) (hW0 : s0.WarmedH s.vm) (hR : y_R s0 D dA ω H locs) (hc : cells + c0 = ca ∧ ca ≤ mc) (hs : slots + d0 = sa ∧ sa ≤ ms) (hq : Qp o ω ca sa) : ∀ t : State, MQ below (fun _ st o' t => o' = o ∧ t.heap = H ∧ st.WarmedH t.vm) args s cells slots (fun q => s0.heap.size ≤ q) t → y_MQ s0 D dA below Qp s mc ms c0 d0 t := by
  rintro t ⟨o', h1, h2, ⟨rfl, h3, h4⟩, L, ⟨-, h5, h6⟩, h7⟩
  exact ⟨o', h1, h2, ω, ca, sa, cells, slots, hq, ⟨State.WarmedH.trans hW0 h4, by rw [h3]; exact ⟨hR.1, hR.2.1, fun q h => by cases h⟩⟩, hc, hs, L, ⟨h5, h6⟩, h7⟩
theorem y_W_ret {i : Instr} {st : List Value} {v : Option Value} {M : y_Md} (X : y_X s0 p s m meth c M) (hR : y_R s0 D dA ω H locs) (hc : cells + c0 = ca ∧ ca ≤ mc) (hs : slots + d0 = sa ∧ sa ≤ ms) (hd : decode c.code pc = .ok (i, 1))
    (hi : (∃ x ty, i = .ireturn ∧ st = [.int x] ∧ v = some (.int x) ∧ y_ret M = some ty ∧ narrow ty (.int x) = .int x) ∨ (∃ x, i = .lreturn ∧ st = [.long x] ∧ v = some (.long x) ∧ y_ret M = some .long) ∨ (∃ x ty, i = .areturn ∧ st = [x] ∧ y_isA x = true ∧ v = some x ∧ y_ret M = some ty ∧ ((∃ n, ty = .object n) ∨ ∃ t, ty = .array t)) ∨ (i = .return_ ∧ st = [] ∧ v = none ∧ y_ret M = none))
    (hq : Qp (.returned v) ω ca sa) : W p l e R s m args below meth c H locs cells slots (y_MQ s0 D dA below Qp s mc ms c0 d0) (F0 m pc ls st) := by
  obtain ⟨hx, -, -, hr, hlk, -, hW, -⟩ := X
  refine y_W_mono (y_MQ_of (o := .returned v) args hW hR hc hs hq) ?_
  rcases hi with ⟨x, ty, rfl, rfl, rfl, h1, h2⟩ | ⟨x, rfl, rfl, rfl, h1⟩ | ⟨x, ty, rfl, rfl, h0, rfl, h1, h2⟩ | ⟨rfl, rfl, rfl, h1⟩
  · exact W.zret hx rfl (hr.trans h1) h2 (fun t ht hW => ⟨rfl, ht, hW⟩) hR.2.2 hd hlk
  · exact W.lret hx rfl (hr.trans h1) (fun t ht hW => ⟨rfl, ht, hW⟩) hR.2.2 hd hlk
  · exact W.aret hx rfl (hr.trans h1) h2 (by
      cases x with
      | ref z => exact Or.inr ⟨z, rfl⟩
      | null => exact Or.inl rfl
      | _ => cases h0) (fun t ht hW => ⟨rfl, ht, hW⟩) hR.2.2 hd hlk
  · exact W.vret hx rfl (hr.trans h1) (fun t ht hW => ⟨rfl, ht, hW⟩) hR.2.2 hd hlk
theorem y_at_ty {ty : ArrayType} {t : Nat} (h : y_at1 ty = some t) : t < 4 ∧ newarray.typeOf ty = y_ty t ∧ componentBytes (y_ty t) = y_bytes t := by
  cases ty <;> simp [y_at1] at h <;> subst h <;> exact ⟨by decide, rfl, rfl⟩
theorem y_W_newa {ty : ArrayType} {t : Nat} {n : Int32} (hx : p.tables.exec = Jvm.exec) (HG : y_G s0 b0 D dA) (hA : ∀ t, t < 4 → Cond.arrayClass (y_ty t) ∈ lw_all) (hW : s0.WarmedH s.vm) (hR : y_R s0 D dA ω H locs) (ht : y_at1 ty = some t) (hn : ¬ n < 0) (hb : n.toNatClampNeg * y_bytes t ≤ 536870912) (hcells : cells + 1 ≤ R.cells) (hslots : slots + n.toNatClampNeg ≤ R.slots) (hd : decode c.code pc = .ok (.newarray ty, 2))
    (kk : ∀ H' : Heap, y_R s0 D dA (y_hnew ω (.inl (t, y_at2 t n.toNatClampNeg))) H' locs → W p l e R s m args below meth c H' locs (cells + 1) (slots + n.toNatClampNeg) Q (F0 m (pc + 2) ls (.ref ω.1 :: rest))) : W p l e R s m args below meth c H locs cells slots Q (F0 m pc ls (.int n :: rest)) := by
  obtain ⟨h4, hty, hby⟩ := y_at_ty ht
  have hK := HG.2.1.moved hW.alike
  have hfc := (hK.2 t (by omega)).2
  have hfc : s.vm.findClass ("[" ++ (y_ty t).toString) = some (dA t) := by
    have : t = 0 ∨ t = 1 ∨ t = 2 ∨ t = 3 := by omega
    rcases this with rfl | rfl | rfl | rfl <;> exact hfc
  refine va_newaK hx rfl (by rw [hty]; exact y_hts HG hW _ (hA t h4)) rfl hd rfl hn rfl (by rw [hty, hby]; exact hb) hcells hslots rfl fun H' cA e1 z1 o1 _ hNm => ?_
  rw [hty] at hNm e1
  have hcA : cA = dA t := Option.some.inj (hNm.symm.trans hfc)
  subst hcA
  have hsz : H.size = ω.1 := hR.1.1
  have K := kk H' (y_R_new hR (show t < 8 by omega) (by
    show H'[H.size]? = some (vp_cell (dA t) (y_at2 t n.toNatClampNeg))
    rw [e1]
    have : t = 0 ∨ t = 1 ∨ t = 2 ∨ t = 3 := by omega
    rcases this with rfl | rfl | rfl | rfl <;> rfl) z1 o1)
  rw [hsz]
  exact K
theorem y_ff_mem {M : y_Md} {idx ci : Nat} {f : Nat × FieldType × Bool} (h : y_ff M idx ci = some f) : (idx, ci, f) ∈ (y_pool M).1 := by
  unfold y_ff at h
  cases hf : (y_pool M).1.find? (fun e => e.1 == idx && e.2.1 == ci) with
  | none => rw [hf] at h; cases h
  | some x =>
    rw [hf] at h
    obtain ⟨h1, h2⟩ := y_find_mem hf
    simp only [Bool.and_eq_true, beq_iff_eq] at h2
    simp only [Option.map_some, Option.some.injEq] at h
    rw [← h, ← h2.1, ← h2.2]
    exact h1
theorem y_fn_mem {M : y_Md} {idx : Nat} {f : Nat × List Value} (h : y_fn M idx = some f) : (idx, f) ∈ (y_pool M).2.1 := by
  unfold y_fn at h
  cases hf : (y_pool M).2.1.find? (fun e => e.1 == idx) with
  | none => rw [hf] at h; cases h
  | some x =>
    rw [hf] at h
    obtain ⟨h1, h2⟩ := y_find_mem hf
    simp only [beq_iff_eq] at h2
    simp only [Option.map_some, Option.some.injEq] at h
    rw [← h, ← h2]
    exact h1
theorem y_fc_mem {M : y_Md} {idx : Nat} {f : Value} (h : y_fc M idx = some f) : (idx, f) ∈ (y_pool M).2.2.1 := by
  unfold y_fc at h
  cases hf : (y_pool M).2.2.1.find? (fun e => e.1 == idx) with
  | none => rw [hf] at h; cases h
  | some x =>
    rw [hf] at h
    obtain ⟨h1, h2⟩ := y_find_mem hf
    simp only [beq_iff_eq] at h2
    simp only [Option.map_some, Option.some.injEq] at h
    rw [← h, ← h2]
    exact h1
theorem y_fa_mem {M : y_Md} {idx : Nat} {f : Nat} (h : y_fa M idx = some f) : (idx, f) ∈ (y_pool M).2.2.2.2.2.1 := by
  unfold y_fa at h
  cases hf : (y_pool M).2.2.2.2.2.1.find? (fun e => e.1 == idx) with
  | none => rw [hf] at h; cases h
  | some x =>
    rw [hf] at h
    obtain ⟨h1, h2⟩ := y_find_mem hf
    simp only [beq_iff_eq] at h2
    simp only [Option.map_some, Option.some.injEq] at h
    rw [← h, ← h2]
    exact h1
theorem y_fs_mem {M : y_Md} {idx : Nat} {f : Value} (h : y_fs M idx = some f) : (idx, f) ∈ (y_pool M).2.2.2.2.2.2 := by
  unfold y_fs at h
  cases hf : (y_pool M).2.2.2.2.2.2.find? (fun e => e.1 == idx) with
  | none => rw [hf] at h; cases h
  | some x =>
    rw [hf] at h
    obtain ⟨h1, h2⟩ := y_find_mem hf
    simp only [beq_iff_eq] at h2
    simp only [Option.map_some, Option.some.injEq] at h
    rw [← h, ← h2]
    exact h1
theorem y_ft_mem {M : y_Md} {idx ci : Nat} {f : Nat} (h : y_ft M idx ci = some f) : (idx, ci, f) ∈ (y_pool M).2.2.2.2.1 := by
  unfold y_ft at h
  cases hf : (y_pool M).2.2.2.2.1.find? (fun e => e.1 == idx && (e.2.1 == ci && decide (e.2.2 < 2))) with
  | none => rw [hf] at h; cases h
  | some x =>
    rw [hf] at h
    obtain ⟨h1, h2⟩ := y_find_mem hf
    simp only [Bool.and_eq_true, beq_iff_eq] at h2
    simp only [Option.map_some, Option.some.injEq] at h
    rw [← h, ← h2.1, ← h2.2.1]
    exact h1
theorem y_fk_mem {M : y_Md} {idx : Nat} {k : y_Ke} (h : y_fk M idx = some k) : k ∈ (y_pool M).2.2.2.1 ∧ k.1 = idx := by
  obtain ⟨h1, h2⟩ := y_find_mem h
  exact ⟨h1, by simpa using h2⟩
theorem y_fkc_mem {M : y_Md} {idx ci : Nat} {k : y_Ke} (h : y_fkc M idx ci = some k) : k ∈ (y_pool M).2.2.2.1 ∧ k.1 = idx ∧ k.2.2.1 = ci := by
  obtain ⟨h1, h2⟩ := y_find_mem h
  simp only [Bool.and_eq_true, beq_iff_eq] at h2
  exact ⟨h1, h2.1, h2.2⟩
end
theorem y_cls_cl {s0 s : State} {b0 : Nat} {D : va_G} {dA : Nat → ClassId} {ω : y_Hp} {H : Heap} {locs : List Loc} {a ci : Nat} (HG : y_G s0 b0 D dA) (hW : s0.WarmedH s.vm) (hR : y_R s0 D dA ω H locs) (h : y_cls ω a = some ci) : ∃ r, y_cl[ci]? = some r := by
  unfold y_cls at h
  split at h
  · rename_i fl o ho
    cases h
    obtain ⟨cell, q1, q2, q3, r', hr', -⟩ := y_wk_of HG hW hR ho
    exact ⟨r', hr'⟩
  · cases h
/-- athrow: what is on top is thrown -/
theorem y_athrow {p : Program} {l : Launch} {e : Env} {R : Room} {s : State} {m : MethodId} {args : Array Value} {below : List Frame} {meth : Method} {c : Code} {locs : List Loc} {cells slots : Nat} {T t : State} {pc a : Nat} {ls : Array Slot} {rest : List Value} (X : Stand p l e R s m args below meth c T locs cells slots) (hx : p.tables.exec = Jvm.exec) (hd : decode c.code pc = .ok (.athrow, 1)) (h : Steps p.tables e below ((T.setTop (F0 m pc ls rest)).pushFrame (.throwing a)) t) : Steps p.tables e below (T.setTop (F0 m pc ls (.ref a :: rest))) t := by
  jvm_step X.here [hx, hd, athrow.wp_sem]
  exact h
