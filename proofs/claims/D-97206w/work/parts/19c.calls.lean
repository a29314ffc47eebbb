/-! call by call: what the pool's entry asks, out of the callee's contract -/
def y_cwOK (cw : Cond) (y : MethodName) (maxL : Nat) : Prop := ((cw.onTables && cw.keeps) = true ∨ ∃ ty, cw = .arrayClass ty) ∧ ∀ (a : Array Value) (U : State), cw.before a U = true → ∃ (mk : MethodId) (methY : Method) (cY : Code), U.methodNamed? y = some mk ∧ U.vm.method? mk = some methY ∧ methY.code = some cY ∧ cY.maxLocals = maxL ∧ parseMethodDescriptor y.desc = some methY.sig
theorem y_cw_code {y : MethodName} {cc : ByteArray} {maxL : Nat} {ret : Option FieldType} : y_cwOK (Cond.code y cc maxL ret) y maxL := by
  refine ⟨Or.inl rfl, fun a U h => ?_⟩
  obtain ⟨mk, hn⟩ := Cond.code_named h
  obtain ⟨meth, c, h1, h2, -, h4, -, -, -, h8⟩ := Cond.code_spec hn h
  exact ⟨mk, meth, c, hn, h1, h2, h4, h8⟩
theorem y_cw_with {y : MethodName} {cc : ByteArray} {maxL : Nat} {ret : Option FieldType} {hh : List (Nat × Nat × Nat × Nat)} : y_cwOK (Cond.codeWith y cc maxL ret hh) y maxL := by
  refine ⟨Or.inl rfl, fun a U h => ?_⟩
  obtain ⟨mk, meth, c, hn, h1, h2, -, h4, -, -, -, h8⟩ := Cond.codeWith_spec h
  exact ⟨mk, meth, c, hn, h1, h2, h4, h8⟩
section
variable {s0 : State} {b0 : Nat} {D : va_G} {dA : Nat → ClassId}
theorem y_GW_blind {av : List Value} {ω : y_Hp} : FrameBlind (va_Pc av (y_GW s0 D dA ω)) := fun _ _ _ _ q => q
/-- the call's end, whatever its link was -/
theorem y_cal_end {p : Program} {l : Launch} {e : Env} {R : Room} {s : State} {m : MethodId} {args : Array Value} {below : List Frame} {meth : Method} {c : Code} {locs : List Loc} {cells slots : Nat} {Q : State → Prop} {pc : Nat} {ls : Array Slot} {rest av : List Value} {ω : y_Hp} {Qp : y_Po} {i : Instr} {len fr lo maxL nf nl mc ms ca sa c0 d0 : Nat} {y : MethodName} {cw : Cond} {F : y_Tr} {T : State} {vm₁ : Vm} {mk : MethodId} {st : List Value}
    (hct : ∀ l, y_CT s0 D dA l y cw fr lo F) (hcwk : y_cwOK cw y maxL) (hcw : cw.before args s = true) (hini : (Cond.initialized y.cls).before args s = true) (hW0 : s0.WarmedH s.vm) (hR : y_R s0 D dA ω T.heap locs) (hnf : fr + 1 = nf) (hnl : 8 + (maxL + 11) + lo = nl) (hfr : nf ≤ R.frames) (hlo : nl ≤ R.locals) (hcat : y_cat rest ≤ 8) (hmc : R.cells + c0 = mc ∧ R.slots + d0 = ms) (hca : cells + c0 = ca ∧ ca ≤ mc) (hsa : slots + d0 = sa ∧ sa ≤ ms) (hsz : ls.size = c.maxLocals) (hd : decode c.code pc = .ok (i, len)) (hF : F mc ms av ω ca sa Qp)
    (X₁ : Stand p l e R s m args below meth c (T.setVm vm₁) locs cells slots) (hn : (T.setVm vm₁).methodNamed? y = some mk) (hstep : ∀ target, (∀ acts, Steps p.tables e below (doInvoke e ((T.setVm vm₁).setTop (F0 m pc ls rest)) acts mk av.toArray).1 target) → Steps p.tables e below (T.setTop (F0 m pc ls st)) target)
    (kr : ∀ (v : Option Value) (ω' : y_Hp) (H' : Heap) (locs' : List Loc) (c' s' ce' sl' : Nat), Qp (.returned v) ω' c' s' → ce' + c0 = c' ∧ c' ≤ mc → sl' + d0 = s' ∧ s' ≤ ms → y_R s0 D dA ω' H' locs' → W p l e R s m args below meth c H' locs' ce' sl' Q (F0 m (pc + len) ls (v.toList ++ rest)))
    (kt : ∀ (x : Nat) (ω' : y_Hp) (H' : Heap) (locs' : List Loc) (c' s' ce' sl' : Nat), Qp (.threw x) ω' c' s' → ce' + c0 = c' ∧ c' ≤ mc → sl' + d0 = s' ∧ s' ≤ ms → y_R s0 D dA ω' H' locs' → y_WT p l e R s m args below meth c H' locs' ce' sl' Q (F0 m pc ls rest) x) :
    ∃ t, Steps p.tables e below (T.setTop (F0 m pc ls st)) t ∧ Q t := by
  have hW1 : s.WarmedH (T.setVm vm₁).vm := X₁.warmed
  have hcw1 : ∀ a, cw.before a (T.setVm vm₁) = true := fun a => word_at hW1 hcwk.1 hcw
  obtain ⟨mk', methY, cY, q1, q2, q3, q4, q5⟩ := hcwk.2 #[] _ (hcw1 _)
  cases hn.symm.trans q1
  obtain ⟨k0, hk0⟩ : ∃ k0, k0 + ca = mc := ⟨mc - ca, by omega⟩
  obtain ⟨n0, hn0⟩ : ∃ n0, n0 + sa = ms := ⟨ms - sa, by omega⟩
  obtain ⟨o, st₀, t, T', L, k, n, h0, ⟨ω', c', s', hq, ⟨hW', hR'⟩, hk1, hn1⟩, X', hL, e1, e2, hr, ht⟩ := y_back (g := F0 m pc ls rest) (Wd := 8) (maxL := maxL) (hct l mc ms av ω ca sa Qp hF k0 n0 hk0 hn0) y_GW_blind (by show fr + 1 ≤ _; omega) (by show 8 + (maxL + 11) + lo ≤ _; omega) (hcw1 _) ⟨methY, cY, q2, q3, q4⟩
    (word_at hW1 (Or.inl (by first | rfl | simp [Cond.onTables, Cond.keeps, Cond.steady])) hini) X₁ rfl hsz hd (lv_room (show (rest.map fun v => v.category).sum ≤ 8 from hcat)) hn (by show cells + k0 ≤ R.cells; omega) (by show slots + n0 ≤ R.slots; omega) ⟨rfl, State.WarmedH.trans hW0 hW1, ⟨hR.1, hR.2.1, fun q h => by cases h⟩⟩
  have hR2 : y_R s0 D dA ω' T'.heap (locs ++ L) := by
    rw [e1]
    refine ⟨hR'.1, hR'.2.1, fun q h => ?_⟩
    rcases List.mem_append.mp h with z | z
    · exact hR.2.2 q z
    · exact hL q z
  cases o with
  | returned v =>
    obtain ⟨t2, a1, b1⟩ := kr v ω' T'.heap _ c' s' _ _ hq ⟨by omega, hk1.2⟩ ⟨by omega, hn1.2⟩ hR2 T' rfl X'
    exact ⟨t2, hstep _ fun acts => by rw [doInvoke_state]; exact (hr v rfl).trans a1, b1⟩
  | threw x =>
    obtain ⟨t2, a1, b1⟩ := kt x ω' T'.heap _ c' s' _ _ hq ⟨by omega, hk1.2⟩ ⟨by omega, hn1.2⟩ hR2 T' rfl X'
    exact ⟨t2, hstep _ fun acts => by rw [doInvoke_state]; exact (ht x rfl).trans a1, b1⟩
/-- invokestatic -/
theorem y_calS {own : String} {idx ci na nf nl fr lo maxL : Nat} {y : MethodName} {cw : Cond} {F : y_Tr} (HG : y_G s0 b0 D dA) (hct : ∀ l, y_CT s0 D dA l y cw fr lo F) (hcwk : y_cwOK cw y maxL) (h1 : Cond.methodLink own idx y ∈ lw_all) (h2 : Cond.static y ∈ lw_all) (h3 : Cond.initialized y.cls ∈ lw_all) (h4 : cw ∈ lw_all)
    (hy : y.cls ≠ "java/lang/invoke/MethodHandle" ∧ y.cls ≠ "java/lang/invoke/VarHandle" ∧ (parseMethodDescriptor y.desc).map (fun d => d.parameters.length) = some na) (hnf : fr + 1 = nf) (hnl : 8 + (maxL + 11) + lo = nl) : y_OKcal s0 D dA own (idx, 0, ci, na, (nf, nl), F) := by
  intro p l e R s m args below meth c H locs cells slots Q pc ls rest av ω Qp i len mc ms ca sa c0 d0 hx hsz hown hW _ hR hfr hlo hna hcat hmc hca0 hsa0 hi hd hF kr kt
  have hi : i = .invokestatic idx ∧ len = 3 := by
    rcases hi with ⟨h, -⟩ | ⟨-, h⟩ | ⟨h, -⟩ | ⟨⟨h, -⟩ | ⟨h, -⟩, -⟩
    · cases h
    · exact h
    · cases h
    · cases h
    · cases h
  obtain ⟨rfl, rfl⟩ := hi
  intro T hT X
  subst hT
  have hts := y_hts (args := args) HG hW
  obtain ⟨mk, methM, cM, hnamed, hmethM, -, -, hsigM⟩ := hcwk.2 _ _ (hts _ h4)
  have hstatic : methM.isStatic = true := Cond.static_spec hnamed hmethM (hts _ h2)
  obtain ⟨kP, hkP, -⟩ := className_of_methodNamed hnamed
  have hinitP : kP.init = .initialized := Cond.initialized_spec (findClass_of_methodNamed hnamed) hkP (hts _ h3)
  have hlen : av.length = methM.sig.parameters.length := by
    have h := hy.2.2
    rw [hsigM] at h
    exact hna.trans (Option.some.inj h).symm
  obtain ⟨vm₁, X₁, hstep₁⟩ := X.invokestatic hx hown (hts _ h1) hnamed hmethM hstatic hkP hinitP ⟨hy.1, hy.2.1⟩ (g := F0 m pc ls (av.reverse ++ rest)) rfl (argsL := av) (rest := rest) hlen rfl hd
  exact y_cal_end hct hcwk (hts _ h4) (hts _ h3) hW hR hnf hnl hfr hlo hcat hmc hca0 hsa0 hsz hd hF X₁ (X₁.named hnamed) hstep₁ kr kt
/-- invokevirtual: the receiver's class is the method's own -/
theorem y_calV {own : String} {idx ci na nf nl fr lo maxL : Nat} {y : MethodName} {cw : Cond} {F : y_Tr} {r : vw_C} (HG : y_G s0 b0 D dA) (hct : ∀ l, y_CT s0 D dA l y cw fr lo F) (hcwk : y_cwOK cw y maxL) (hr : y_cl[ci]? = some r) (hrc : r.1 = y.cls) (h1 : Cond.methodLink own idx y ∈ lw_all) (h2 : Cond.instanceMethod y ∈ lw_all) (hs : Cond.selects y.cls y y ∈ lw_all) (h3 : Cond.initialized y.cls ∈ lw_all) (h4 : cw ∈ lw_all)
    (hy : y.cls ≠ "java/lang/invoke/MethodHandle" ∧ y.cls ≠ "java/lang/invoke/VarHandle" ∧ (parseMethodDescriptor y.desc).map (fun d => d.parameters.length + 1) = some na) (hnf : fr + 1 = nf) (hnl : 8 + (maxL + 11) + lo = nl) : y_OKcal s0 D dA own (idx, 1, ci, na, (nf, nl), F) := by
  intro p l e R s m args below meth c H locs cells slots Q pc ls rest av ω Qp i len mc ms ca sa c0 d0 hx hsz hown hW _ hR hfr hlo hna hcat hmc hca0 hsa0 hi hd hF kr kt
  have hi : (i = .invokevirtual idx ∧ len = 3) ∧ ∃ a av', av = .ref a :: av' ∧ y_cls ω a = some ci := by
    rcases hi with ⟨h, -⟩ | ⟨h, -⟩ | ⟨h, -⟩ | ⟨⟨-, h⟩ | ⟨h, -⟩, h'⟩
    · cases h
    · cases h
    · cases h
    · exact ⟨h, h'⟩
    · cases h
  obtain ⟨⟨rfl, rfl⟩, a, av', rfl, hca⟩ := hi
  obtain ⟨cellB, hcell, hobj, hcls⟩ := y_recv HG hW hR hca hr
  rw [hrc] at hcls
  intro T hT X
  subst hT
  have hts := y_hts (args := args) HG hW
  obtain ⟨mk, methM, hnamed, hmethM, hstM, habM⟩ := Cond.instanceMethod_spec (hts _ h2)
  obtain ⟨mk', methM', cM, hnamed', hmethM', -, -, hsigM⟩ := hcwk.2 _ _ (hts _ h4)
  cases hnamed.symm.trans hnamed'
  cases hmethM.symm.trans hmethM'
  obtain ⟨c2, r2, m2, q1, q2, q3, q4, kP, hkP, hkPi⟩ := Cond.selects_spec (hts _ hs)
  cases hcls.symm.trans q1
  cases (State.methodFound?_of_named hnamed ⟨hy.1, hy.2.1⟩).symm.trans q2
  cases hnamed.symm.trans q3
  have hselP : selectMethod e.platform s.vm cellB.cls mk = .method mk := by rw [Launch.admits_selectMethod X.admits]; exact q4
  have hlen : av'.length = methM.sig.parameters.length := by
    have h := hy.2.2
    rw [hsigM] at h
    have h : methM.sig.parameters.length + 1 = na := Option.some.inj h
    rw [List.length_cons] at hna
    have hna : av'.length + 1 = na := hna
    omega
  have hst : (Value.ref a :: av').reverse ++ rest = av'.reverse ++ .ref a :: rest := by simp
  rw [hst]
  obtain ⟨vm₁, X₁, hstep₁⟩ := X.invokevirtual hx hown (hts _ h1) hnamed hmethM hstM hkP hkPi ⟨hy.1, hy.2.1⟩ (a := a) (cell := cellB) hcell
    (fun z h => by rw [h] at hobj; cases hobj) hselP hmethM habM hkP hkPi (g := F0 m pc ls (av'.reverse ++ .ref a :: rest)) rfl (argsL := av') (rest := rest) hlen rfl hd
  exact y_cal_end hct hcwk (hts _ h4) (hts _ h3) hW hR hnf hnl hfr hlo hcat hmc hca0 hsa0 hsz hd hF X₁ (X₁.named hnamed) hstep₁ kr kt
/-- invokespecial of a constructor -/
theorem y_calI {own : String} {idx ci na nf nl fr lo maxL : Nat} {y : MethodName} {cc : ByteArray} {F : y_Tr} (HG : y_G s0 b0 D dA) (hct : ∀ l, y_CT s0 D dA l y (Cond.code y cc maxL none) fr lo F) (hy1 : y.name = "<init>") (h1 : Cond.methodLink own idx y ∈ lw_all) (h2 : Cond.instanceMethod y ∈ lw_all) (h3 : Cond.initialized y.cls ∈ lw_all) (h4 : Cond.code y cc maxL none ∈ lw_all)
    (hy : y.cls ≠ "java/lang/invoke/MethodHandle" ∧ y.cls ≠ "java/lang/invoke/VarHandle" ∧ (parseMethodDescriptor y.desc).map (fun d => d.parameters.length + 1) = some na) (hnf : fr + 1 = nf) (hnl : 8 + (maxL + 11) + lo = nl) (hfst : ∀ k n av ω c s Q, F k n av ω c s Q → ∃ a av', av = .ref a :: av') : y_OKcal s0 D dA own (idx, 2, ci, na, (nf, nl), F) := by
  intro p l e R s m args below meth c H locs cells slots Q pc ls rest av ω Qp i len mc ms ca sa c0 d0 hx hsz hown hW _ hR hfr hlo hna hcat hmc hca0 hsa0 hi hd hF kr kt
  have hi : i = .invokespecial idx ∧ len = 3 := by
    rcases hi with ⟨h, -⟩ | ⟨h, -⟩ | ⟨-, h⟩ | ⟨⟨h, -⟩ | ⟨h, -⟩, -⟩
    · cases h
    · cases h
    · exact h
    · cases h
    · cases h
  obtain ⟨rfl, rfl⟩ := hi
  obtain ⟨a, av', rfl⟩ := hfst _ _ _ _ _ _ _ hF
  intro T hT X
  subst hT
  have hts := y_hts (args := args) HG hW
  have hcwk : y_cwOK (Cond.code y cc maxL none) y maxL := y_cw_code
  have hst : (Value.ref a :: av').reverse ++ rest = av'.reverse ++ .ref a :: rest := by simp
  rw [hst]
  have hpl : e.platform.magicAccessors = ({} : Platform).magicAccessors := by rw [X.admits.platform]
  have hlen : ∀ sig, parseMethodDescriptor y.desc = some sig → av'.length = sig.parameters.length := by
    intro sig hsig
    have h := hy.2.2
    rw [hsig] at h
    have h : sig.parameters.length + 1 = na := Option.some.inj h
    rw [List.length_cons] at hna
    have hna : av'.length + 1 = na := hna
    omega
  obtain ⟨mk, methM, cM, kP, vm₁, hnamed, hmethM, hcodeM, -, hlocalsM, -, hkP, -, hW₁, hstep₁⟩ := Steps.initColdArgs (e := e) X.here hx X.warmed hpl hown hy1 ⟨hy.1, hy.2.1⟩ (hts _ h1) (hts _ h2) (hts _ h4) (f := F0 m pc ls (av'.reverse ++ .ref a :: rest)) rfl hlen rfl hd
  have X₁ := X.noted hW₁
  exact y_cal_end hct hcwk (hts _ h4) (hts _ h3) hW hR hnf hnl hfr hlo hcat hmc hca0 hsa0 hsz hd hF X₁ (X₁.named hnamed) hstep₁ kr kt
end
