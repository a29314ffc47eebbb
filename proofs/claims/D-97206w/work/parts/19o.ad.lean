/-! where the constants lie; which classes a handler takes -/
/-- 0 DEFAULTCAPACITY_EMPTY_ELEMENTDATA, 1 SORT, 2 "", 3 "law", 4 "way", 5 "person"; UNASSIGNED_STACK, SUPPRESSED_SENTINEL -/
def y_AD (s0 : State) (ad : y_Ad) : Prop :=
  va_Z "java/util/ArrayList" "DEFAULTCAPACITY_EMPTY_ELEMENTDATA" "[Ljava/lang/Object;" (.ref (ad.1 0)) (fun q => s0.heap.size ≤ q) s0 s0.heap ∧ va_Z "YoungerBack" "SORT" "[Ljava/lang/String;" (.ref (ad.1 1)) (fun q => s0.heap.size ≤ q) s0 s0.heap ∧
  va_Z "java/lang/Throwable" "UNASSIGNED_STACK" "[Ljava/lang/StackTraceElement;" (va_rf (ad.2 0)) (fun q => s0.heap.size ≤ q) s0 s0.heap ∧ va_Z "java/lang/Throwable" "SUPPRESSED_SENTINEL" "Ljava/util/List;" (va_rf (ad.2 1)) (fun q => s0.heap.size ≤ q) s0 s0.heap ∧
  vk_R "YoungerBack$Reader" 9 "" (ad.1 2) s0 ∧ vk_R "YoungerBack$Reader" 90 "law" (ad.1 3) s0 ∧ vk_R "YoungerBack$Reader" 109 "way" (ad.1 4) s0 ∧ vk_R "YoungerBack$Reader" 113 "person" (ad.1 5) s0
section
variable {s0 : State} {b0 : Nat} {D : va_G} {dA : Nat → ClassId}
theorem y_Zc (HG : y_G s0 b0 D dA) : va_Z "java/lang/String" "COMPACT_STRINGS" "Z" (.int 1) (fun q => s0.heap.size ≤ q) s0 s0.heap :=
  va_Zof (HG.1 _ q497) (HG.1 _ (lw_all_tbl q74)) (va_eqi (nw9 HG)) (fun a h => Nat.not_le.mpr h)
theorem y_hnd_yes (HG : y_G s0 b0 D dA) {own nm C : String} {T : u_T} {N idx ci : Nat} (hne : idx ≠ 0) (hl : Cond.classLink own idx nm ∈ lw_all) (hc : y_cl[ci]? = some (C, T, N)) (hcs : Cond.castable C nm ∈ lw_tbl) : idx ≠ 0 ∧ ∃ (nm : String) (r : vw_C) (cC cT : ClassId), Cond.classLink own idx nm ∈ lw_all ∧ y_cl[ci]? = some r ∧ s0.vm.findClass r.1 = some cC ∧ s0.vm.findClass nm = some cT ∧ s0.vm.assignable cC cT = decide (3 = 3) := by
  obtain ⟨c, t, h1, h2, h3⟩ := Cond.castable_spec (HG.1 _ hcs)
  exact ⟨hne, nm, _, c, t, hl, hc, h1, h2, by simpa using h3⟩
theorem y_hnd_no (HG : y_G s0 b0 D dA) {own nm C : String} {T : u_T} {N idx ci : Nat} (hne : idx ≠ 0) (hl : Cond.classLink own idx nm ∈ lw_all) (hc : y_cl[ci]? = some (C, T, N)) (hcs : (Cond.not (Cond.castable C nm)).before #[Value.ref b0] s0 = true) : idx ≠ 0 ∧ ∃ (nm : String) (r : vw_C) (cC cT : ClassId), Cond.classLink own idx nm ∈ lw_all ∧ y_cl[ci]? = some r ∧ s0.vm.findClass r.1 = some cC ∧ s0.vm.findClass nm = some cT ∧ s0.vm.assignable cC cT = decide (2 = 3) := by
  obtain ⟨c, t, h1, h2, h3⟩ := va_Nc.of hcs
  exact ⟨hne, nm, _, c, t, hl, hc, h1, h2, by simpa using h3⟩
end
theorem y_tst_not {s0 : State} {own : String} {t : Nat × Nat × Nat} (h : t.2.2 ≠ 1) : y_OKtst s0 own t := fun z => absurd z h
theorem y_tst_arr {s0 : State} {own : String} {t : Nat × Nat × Nat} (h : 100 ≤ t.2.1) : y_OKtst s0 own t := by
  intro _ p l e R s m args below meth c H locs cells slots Q pc ls rest a r _ _ _ hr
  have : y_cl[t.2.1]? = none := List.getElem?_eq_none (by have : y_cl.length = 19 := rfl; omega)
  rw [this] at hr
  cases hr
theorem y_fh_mem {M : y_Md} {idx ci f : Nat} (h : y_fh M idx ci = some f) : (idx, ci, f) ∈ (y_pool M).2.2.2.2.1 ∧ 2 ≤ f := by
  unfold y_fh at h
  cases hf : (y_pool M).2.2.2.2.1.find? (fun e => e.1 == idx && (e.2.1 == ci && decide (2 ≤ e.2.2))) with
  | none => rw [hf] at h; cases h
  | some x =>
    rw [hf] at h
    obtain ⟨h1, h2⟩ := y_find_mem hf
    simp only [Bool.and_eq_true, beq_iff_eq, decide_eq_true_eq] at h2
    simp only [Option.map_some, Option.some.injEq] at h
    rw [← h, ← h2.1, ← h2.2.1]
    exact ⟨h1, h2.2.2⟩
theorem y_hnd_of {s0 : State} {M : y_Md} (h : ∀ t ∈ (y_pool M).2.2.2.2.1, 2 ≤ t.2.2 → t.1 ≠ 0 ∧ ∃ (nm : String) (r : vw_C) (cC cT : ClassId), Cond.classLink (y_own M) t.1 nm ∈ lw_all ∧ y_cl[t.2.1]? = some r ∧ s0.vm.findClass r.1 = some cC ∧ s0.vm.findClass nm = some cT ∧ s0.vm.assignable cC cT = decide (t.2.2 = 3)) : y_OKhnd s0 M := by
  intro idx ci b hb
  obtain ⟨h1, h2⟩ := y_fh_mem hb
  exact h _ h1 h2
/-- the arraycopy of copy(), which may throw -/
def y_CP (s0 : State) (D : va_G) (dA : Nat → ClassId) : Prop := y_OKcal s0 D dA "YoungerBack" (117, 0, 0, 5, (8, 10280), y_acopyT)
