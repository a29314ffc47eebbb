/-! further calls: nest mates, inherited and overriding methods, super, interfaces -/
section
variable {s0 : State} {b0 : Nat} {D : va_G} {dA : Nat → ClassId}
theorem y_st {w : Cond} {s : State} {args : Array Value} (h : w.before #[Value.ref b0] s0 = true) (g : goodWord w = true) (hW : s0.WarmedH s.vm) : w.before args s = true := word_at hW (good_of_word g) h
theorem y_len {av' : List Value} {na : Nat} {y : MethodName} {a : Nat} (hna : (Value.ref a :: av').length = na) (hy : (parseMethodDescriptor y.desc).map (fun d => d.parameters.length + 1) = some na) : ∀ sig, parseMethodDescriptor y.desc = some sig → av'.length = sig.parameters.length := by
  intro sig hsig
  rw [hsig] at hy
  have h : sig.parameters.length + 1 = na := Option.some.inj hy
  rw [List.length_cons] at hna
  omega
/-- a nest mate's private static -/
theorem y_calSN {own host : String} {idx ci na nf nl fr lo maxL : Nat} {y : MethodName} {cw : Cond} {F : y_Tr} (HG : y_G s0 b0 D dA) (hct : ∀ l, y_CT s0 D dA l y cw fr lo F) (hcwk : y_cwOK cw y maxL) (h1 : Cond.methodLinkNest own idx y host ∈ lw_tbl) (h2 : Cond.static y ∈ lw_all) (h3 : Cond.initialized y.cls ∈ lw_all) (h4 : cw ∈ lw_all)
    (hy : y.cls ≠ "java/lang/invoke/MethodHandle" ∧ y.cls ≠ "java/lang/invoke/VarHandle" ∧ (parseMethodDescriptor y.desc).map (fun d => d.parameters.length) = some na) (hnf : fr + 1 = nf) (hnl : 8 + (maxL + 11) + lo = nl) : y_OKcal s0 D dA own (idx, 0, ci, na, (nf, nl), F) := by
  intro p l e R s m args below meth c H locs cells slots Q pc ls rest av ω Qp i len mc ms ca sa c0 d0 hx hsz hown hW _ hR hfr hlo hna hcat hmc hca0 hsa0 hi hd hF kr kt
  have hi : i = .invokestatic idx ∧ len = 3 := by
    rcases hi with ⟨h, -⟩ | ⟨-, h⟩ | ⟨h, -⟩ | ⟨⟨h, -⟩ | ⟨h, -⟩, -⟩
    · cases h
    · exact h
    · cases h
    · cases h
    · cases h
  obtain ⟨rfl, rfl⟩ := hi
  intro T hT X
  subst hT
  have hts := y_hts (args := args) HG hW
  have hlink : (Cond.methodLinkNest own idx y host).before args s = true := va_Nw.use rfl (va_Nw.warmM hW (va_Nw.of rfl (HG.1 _ h1)))
  obtain ⟨mk, methM, cM, hnamed, hmethM, -, -, hsigM⟩ := hcwk.2 _ _ (hts _ h4)
  have hstatic : methM.isStatic = true := Cond.static_spec hnamed hmethM (hts _ h2)
  obtain ⟨kP, hkP, -⟩ := className_of_methodNamed hnamed
  have hinitP : kP.init = .initialized := Cond.initialized_spec (findClass_of_methodNamed hnamed) hkP (hts _ h3)
  have hlen : av.length = methM.sig.parameters.length := by
    have h := hy.2.2
    rw [hsigM] at h
    exact hna.trans (Option.some.inj h).symm
  obtain ⟨vm₁, X₁, hstep₁⟩ := X.invokestaticNest hx hown hlink hnamed hmethM hstatic hkP hinitP ⟨hy.1, hy.2.1⟩ (g := F0 m pc ls (av.reverse ++ rest)) rfl (argsL := av) (rest := rest) hlen rfl hd
  exact y_cal_end hct hcwk (hts _ h4) (hts _ h3) hW hR hnf hnl hfr hlo hcat hmc hca0 hsa0 hsz hd hF X₁ (X₁.named hnamed) hstep₁ kr kt
/-- a nest mate's private constructor -/
theorem y_calIN {own host : String} {idx ci na nf nl fr lo maxL : Nat} {y : MethodName} {cc : ByteArray} {F : y_Tr} (HG : y_G s0 b0 D dA) (hct : ∀ l, y_CT s0 D dA l y (Cond.code y cc maxL none) fr lo F) (hy1 : y.name = "<init>") (h1 : Cond.methodLinkNest own idx y host ∈ lw_tbl) (h2 : Cond.instanceMethod y ∈ lw_all) (h3 : Cond.initialized y.cls ∈ lw_all) (h4 : Cond.code y cc maxL none ∈ lw_all)
    (hy : y.cls ≠ "java/lang/invoke/MethodHandle" ∧ y.cls ≠ "java/lang/invoke/VarHandle" ∧ (parseMethodDescriptor y.desc).map (fun d => d.parameters.length + 1) = some na) (hnf : fr + 1 = nf) (hnl : 8 + (maxL + 11) + lo = nl) (hfst : ∀ k n av ω c s Q, F k n av ω c s Q → ∃ a av', av = .ref a :: av') : y_OKcal s0 D dA own (idx, 2, ci, na, (nf, nl), F) := by
  intro p l e R s m args below meth c H locs cells slots Q pc ls rest av ω Qp i len mc ms ca sa c0 d0 hx hsz hown hW _ hR hfr hlo hna hcat hmc hca0 hsa0 hi hd hF kr kt
  have hi : i = .invokespecial idx ∧ len = 3 := by
    rcases hi with ⟨h, -⟩ | ⟨h, -⟩ | ⟨-, h⟩ | ⟨⟨h, -⟩ | ⟨h, -⟩, -⟩
    · cases h
    · cases h
    · exact h
    · cases h
    · cases h
  obtain ⟨rfl, rfl⟩ := hi
  obtain ⟨a, av', rfl⟩ := hfst _ _ _ _ _ _ _ hF
  intro T hT X
  subst hT
  have hts := y_hts (args := args) HG hW
  have hlink : (Cond.methodLinkNest own idx y host).before args s = true := va_Nw.use rfl (va_Nw.warmM hW (va_Nw.of rfl (HG.1 _ h1)))
  have hcwk : y_cwOK (Cond.code y cc maxL none) y maxL := y_cw_code
  have hst : (Value.ref a :: av').reverse ++ rest = av'.reverse ++ .ref a :: rest := by simp
  rw [hst]
  have hpl : e.platform.magicAccessors = ({} : Platform).magicAccessors := by rw [X.admits.platform]
  obtain ⟨mk, methM, cM, kP, vm₁, hnamed, hmethM, hcodeM, -, hlocalsM, -, hkP, -, hW₁, hstep₁⟩ := Steps.initColdArgsNest (e := e) X.here hx X.warmed hpl hown hy1 ⟨hy.1, hy.2.1⟩ hlink (hts _ h2) (hts _ h4) (f := F0 m pc ls (av'.reverse ++ .ref a :: rest)) rfl (y_len hna hy.2.2) rfl hd
  have X₁ := X.noted hW₁
  exact y_cal_end hct hcwk (hts _ h4) (hts _ h3) hW hR hnf hnl hfr hlo hcat hmc hca0 hsa0 hsz hd hF X₁ (X₁.named hnamed) hstep₁ kr kt
/-- a method that a class declares: by its code, or abstract -/
def y_Dec (s0 : State) (b0 : Nat) (x : MethodName) : Prop := (∃ cw maxL, (Cond.instanceMethod x).before #[Value.ref b0] s0 = true ∧ cw.before #[Value.ref b0] s0 = true ∧ y_cwOK cw x maxL) ∨ (Cond.declares x).before #[Value.ref b0] s0 = true
theorem y_Dec.at {x : MethodName} {s : State} (h : y_Dec s0 b0 x) (hW : s0.WarmedH s.vm) : va_Decl s x := by
  rcases h with ⟨cw, maxL, h1, h2, h3⟩ | h
  · have g1 : (Cond.instanceMethod x).before #[] s = true := y_st h1 rfl hW
    have g2 : cw.before #[] s = true := word_at hW h3.1 h2
    obtain ⟨r0, r, hn, hrm, hst, -⟩ := Cond.instanceMethod_spec g1
    obtain ⟨mk, r', cY, q1, q2, -, -, q5⟩ := h3.2 _ _ g2
    cases hn.symm.trans q1
    cases hrm.symm.trans q2
    exact ⟨r0, r, hn, hrm, hst, q5⟩
  · exact va_Decl.abs (va_Nw.warmD hW (va_Nw.of rfl h))
/-- invokevirtual that names x, declared by owner; the receiver's class selects y -/
theorem y_calU {own owner : String} {idx ci na nf nl fr lo maxL : Nat} {x y z : MethodName} {cw : Cond} {F : y_Tr} {r : vw_C} (HG : y_G s0 b0 D dA) (hct : ∀ l, y_CT s0 D dA l y cw fr lo F) (hcwk : y_cwOK cw y maxL) (hr : y_cl[ci]? = some r) (h1 : (Cond.methodLink own idx x).before #[Value.ref b0] s0 = true) (hsame : (Cond.sameMethod x.cls owner x.name x.desc).before #[Value.ref b0] s0 = true) (hdec : y_Dec s0 b0 ⟨owner, x.name, x.desc⟩) (hz : z = x ∨ z = ⟨owner, x.name, x.desc⟩) (hs : Cond.selects r.1 z y ∈ lw_all) (h2 : Cond.instanceMethod y ∈ lw_all) (h3 : Cond.initialized y.cls ∈ lw_all) (h4 : cw ∈ lw_all)
    (ho : owner ≠ "java/lang/invoke/MethodHandle" ∧ owner ≠ "java/lang/invoke/VarHandle" ∧ (parseMethodDescriptor x.desc).map (fun d => d.parameters.length + 1) = some na) (hnf : fr + 1 = nf) (hnl : 8 + (maxL + 11) + lo = nl) : y_OKcal s0 D dA own (idx, 1, ci, na, (nf, nl), F) := by
  intro p l e R s m args below meth c H locs cells slots Q pc ls rest av ω Qp i len mc ms ca sa c0 d0 hx hsz hown hW _ hR hfr hlo hna hcat hmc hca0 hsa0 hi hd hF kr kt
  have hi : (i = .invokevirtual idx ∧ len = 3) ∧ ∃ a av', av = .ref a :: av' ∧ y_cls ω a = some ci := by
    rcases hi with ⟨h, -⟩ | ⟨h, -⟩ | ⟨h, -⟩ | ⟨⟨-, h⟩ | ⟨h, -⟩, h'⟩
    · cases h
    · cases h
    · cases h
    · exact ⟨h, h'⟩
    · cases h
  obtain ⟨⟨rfl, rfl⟩, a, av', rfl, hca⟩ := hi
  obtain ⟨cellB, hcell, hobj, hcls⟩ := y_recv HG hW hR hca hr
  intro T hT X
  subst hT
  have hts := y_hts (args := args) HG hW
  have hlinkS : (Cond.methodLink own idx x).before args s = true := y_st h1 rfl hW
  have hsameS : (Cond.sameMethod x.cls owner x.name x.desc).before args s = true := y_st hsame rfl hW
  obtain ⟨r0, rm, hn, hrm, hstR, hsigR⟩ := hdec.at hW
  obtain ⟨cn, ck, r1, hcn, hck, hni, hf, hn1⟩ := Cond.sameMethod_found hsameS
  cases hn.symm.trans hn1
  obtain ⟨mk, methM, hnamed, hmethM, -, habM⟩ := Cond.instanceMethod_spec (hts _ h2)
  obtain ⟨c2, r2, m2, q1, q2, q3, q4, kP, hkP, hkPi⟩ := Cond.selects_spec (hts _ hs)
  cases hcls.symm.trans q1
  have hr2 : r2 = r0 := by
    rcases hz with rfl | rfl
    · exact (Option.some.inj (hf.symm.trans q2)).symm
    · exact (Option.some.inj ((State.methodFound?_of_named hn ⟨ho.1, ho.2.1⟩).symm.trans q2)).symm
  subst hr2
  cases hnamed.symm.trans q3
  have hselP : selectMethod e.platform s.vm cellB.cls r2 = .method mk := by rw [Launch.admits_selectMethod X.admits]; exact q4
  have hst : (Value.ref a :: av').reverse ++ rest = av'.reverse ++ .ref a :: rest := by simp
  rw [hst]
  obtain ⟨vm₁, X₁, hstep₁⟩ := X.invokevirtualUp hx hown hlinkS hsameS ⟨ho.1, ho.2.1⟩ hn hrm hstR (a := a) (cell := cellB) hcell
    (fun z h => by rw [h] at hobj; cases hobj) hselP hmethM habM hkP hkPi (g := F0 m pc ls (av'.reverse ++ .ref a :: rest)) rfl (argsL := av') (rest := rest) (y_len hna ho.2.2 _ hsigR) rfl hd
  exact y_cal_end hct hcwk (hts _ h4) (hts _ h3) hW hR hnf hnl hfr hlo hcat hmc hca0 hsa0 hsz hd hF X₁ (X₁.named hnamed) hstep₁ kr kt
/-- super.m(..) -/
theorem y_calSU {own : String} {idx ci na nf nl fr lo maxL : Nat} {y : MethodName} {cw : Cond} {F : y_Tr} (HG : y_G s0 b0 D dA) (hct : ∀ l, y_CT s0 D dA l y cw fr lo F) (hcwk : y_cwOK cw y maxL) (h1 : Cond.methodLink own idx y ∈ lw_all) (hsame : Cond.sameMethod y.cls y.cls y.name y.desc ∈ lw_all) (hsup : Cond.superclass own y.cls ∈ lw_all) (h2 : Cond.instanceMethod y ∈ lw_all) (h3 : Cond.initialized y.cls ∈ lw_all) (h4 : cw ∈ lw_all) (hno : y.name ≠ "<init>")
    (hy : (parseMethodDescriptor y.desc).map (fun d => d.parameters.length + 1) = some na) (hnf : fr + 1 = nf) (hnl : 8 + (maxL + 11) + lo = nl) (hfst : ∀ k n av ω c s Q, F k n av ω c s Q → ∃ a av' ci, av = .ref a :: av' ∧ y_cls ω a = some ci) : y_OKcal s0 D dA own (idx, 2, ci, na, (nf, nl), F) := by
  intro p l e R s m args below meth c H locs cells slots Q pc ls rest av ω Qp i len mc ms ca sa c0 d0 hx hsz hown hW _ hR hfr hlo hna hcat hmc hca0 hsa0 hi hd hF kr kt
  have hi : i = .invokespecial idx ∧ len = 3 := by
    rcases hi with ⟨h, -⟩ | ⟨h, -⟩ | ⟨-, h⟩ | ⟨⟨h, -⟩ | ⟨h, -⟩, -⟩
    · cases h
    · cases h
    · exact h
    · cases h
    · cases h
  obtain ⟨rfl, rfl⟩ := hi
  obtain ⟨a, av', ci0, rfl, hca⟩ := hfst _ _ _ _ _ _ _ hF
  obtain ⟨r, hr⟩ := y_cls_cl HG hW hR hca
  obtain ⟨cellB, hcell, hobj, hcls⟩ := y_recv HG hW hR hca hr
  obtain ⟨kB, hkB, -⟩ := Vm.findClass_spec hcls
  intro T hT X
  subst hT
  have hts := y_hts (args := args) HG hW
  obtain ⟨mk, methM, hnamed, hmethM, hstM, habM⟩ := Cond.instanceMethod_spec (hts _ h2)
  obtain ⟨mk', methM', cM, hnamed', hmethM', -, -, hsigM⟩ := hcwk.2 _ _ (hts _ h4)
  cases hnamed.symm.trans hnamed'
  cases hmethM.symm.trans hmethM'
  obtain ⟨ps, dk, kp, hps, hdk, hkp, hsuper, -, -, hnid⟩ := Cond.superclass_spec hown (hts _ hsup)
  have hn : s.methodNamed? ⟨y.cls, y.name, y.desc⟩ = some mk := hnamed
  have hpm : ps = mk.cls := Option.some.inj (hps.symm.trans (findClass_of_methodNamed hnamed))
  have hsub : s.vm.isSubclass ps mk.cls = true := by rw [hpm]; simp [Vm.isSubclass, Vm.isSubclassAux]
  have hst : (Value.ref a :: av').reverse ++ rest = av'.reverse ++ .ref a :: rest := by simp
  rw [hst]
  obtain ⟨vm₁, X₁, hstep₁⟩ := X.invokespecialUp hx hown (hts _ h1) (hts _ hsame) hn hmethM hstM habM hno hdk hnid hps hsuper hsub (a := a) (cell := cellB) hcell
    (fun z h => by rw [h] at hobj; cases hobj) hkB (g := F0 m pc ls (av'.reverse ++ .ref a :: rest)) rfl (argsL := av') (rest := rest) (y_len hna hy _ hsigM) rfl hd
  exact y_cal_end hct hcwk (hts _ h4) (hts _ h3) hW hR hnf hnl hfr hlo hcat hmc hca0 hsa0 hsz hd hF X₁ (X₁.named hnamed) (fun target h => hstep₁ _ (h _)) kr kt
/-- through an interface -/
theorem y_calF {own : String} {idx ci na nf nl fr lo maxL : Nat} {x y : MethodName} {cw : Cond} {F : y_Tr} {r : vw_C} (HG : y_G s0 b0 D dA) (hct : ∀ l, y_CT s0 D dA l y cw fr lo F) (hcwk : y_cwOK cw y maxL) (hr : y_cl[ci]? = some r) (h1 : Cond.methodLink own idx x ∈ lw_all) (hF1 : Cond.declares x ∈ lw_tbl) (hF2 : Cond.interfaceMethod x.cls x.cls x.name x.desc ∈ lw_tbl) (hF3 : Cond.publicMethod y ∈ lw_tbl) (hF4 : Cond.unhidden r.1 x.name x.desc ∈ lw_tbl) (hF5 : Cond.castable r.1 x.cls ∈ lw_tbl) (hs : Cond.selects r.1 x y ∈ lw_all) (h2 : Cond.instanceMethod y ∈ lw_all) (h3 : Cond.initialized y.cls ∈ lw_all) (h4 : cw ∈ lw_all)
    (ho : x.cls ≠ "java/lang/invoke/MethodHandle" ∧ x.cls ≠ "java/lang/invoke/VarHandle" ∧ (parseMethodDescriptor x.desc).map (fun d => d.parameters.length + 1) = some na) (hnf : fr + 1 = nf) (hnl : 8 + (maxL + 11) + lo = nl) : y_OKcal s0 D dA own (idx, 3, ci, na, (nf, nl), F) := by
  intro p l e R s m args below meth c H locs cells slots Q pc ls rest av ω Qp i len mc ms ca sa c0 d0 hx hsz hown hW _ hR hfr hlo hna hcat hmc hca0 hsa0 hi hd hFF kr kt
  have hi : ((∃ ct, i = .invokeinterface idx ct) ∧ len = 5) ∧ ∃ a av', av = .ref a :: av' ∧ y_cls ω a = some ci := by
    rcases hi with ⟨h, -⟩ | ⟨h, -⟩ | ⟨h, -⟩ | ⟨⟨h, -⟩ | ⟨-, h⟩, h'⟩
    · cases h
    · cases h
    · cases h
    · cases h
    · exact ⟨h, h'⟩
  obtain ⟨⟨⟨ct, rfl⟩, rfl⟩, a, av', rfl, hca⟩ := hi
  obtain ⟨cellB, hcell, hobj, hcls⟩ := y_recv HG hW hR hca hr
  obtain ⟨kB, hkB, -⟩ := Vm.findClass_spec hcls
  intro T hT X
  subst hT
  have hts := y_hts (args := args) HG hW
  obtain ⟨g1, g2, g3, g4, g5⟩ := va_Fw.moved ⟨ho.1, ho.2.1⟩ hW.alike (va_Fw.of (C := r.1) (x := x) (y := y) (HG.1 _ hF1) (HG.1 _ hF2) (HG.1 _ hF3) (HG.1 _ hF4) (HG.1 _ hF5))
  obtain ⟨r0, rm, hn, hrm, hstR, hsigR⟩ := Cond.declares_spec g1
  obtain ⟨cL, kL, r1, hcL, hkL, hiL, hfoundL, hn1⟩ := Cond.interfaceMethod_spec g2
  cases hn.symm.trans hn1
  have hr0cls : r0.cls = cL := Option.some.inj ((findClass_of_methodNamed hn).symm.trans hcL)
  obtain ⟨hnameR, hdescR⟩ := name_of_methodNamed hn hrm
  obtain ⟨mk, methM, hnamed, hmethM, -, habM⟩ := Cond.instanceMethod_spec (hts _ h2)
  obtain ⟨c2, r2, m2, q1, q2, q3, q4, -⟩ := Cond.selects_spec (hts _ hs)
  cases hcls.symm.trans q1
  cases hfoundL.symm.trans q2
  cases hnamed.symm.trans q3
  have hselP : selectMethod e.platform s.vm cellB.cls r0 = .method mk := by rw [Launch.admits_selectMethod X.admits]; exact q4
  have hpubM : hasFlag methM.accessFlags Acc.public_ = true := Cond.publicMethod_spec hnamed hmethM g3
  have hway : ((cellB.cls :: s.vm.superclasses cellB.cls).any fun k => (declaredIn s.vm rm.name rm.desc k).any fun (_, z) => z.isPrivate || z.isStatic) = false := by
    rw [hnameR, hdescR]; exact Cond.unhidden_spec hcls g4
  obtain ⟨c3, t3, w1, w2, w3⟩ := Cond.castable_spec g5
  cases hcls.symm.trans w1
  cases hcL.symm.trans w2
  have hst : (Value.ref a :: av').reverse ++ rest = av'.reverse ++ .ref a :: rest := by simp
  rw [hst]
  obtain ⟨vm₁, X₁, hstep₁⟩ := X.invokeinterface hx hown (hts _ h1) hn hrm hstR (by rw [hr0cls]; exact hkL) hiL ⟨ho.1, ho.2.1⟩ (a := a) (cell := cellB) (kcell := kB) hcell
    (fun z h => by rw [h] at hobj; cases hobj) hkB (by rw [hr0cls]; exact w3) hselP hmethM hway hpubM habM (g := F0 m pc ls (av'.reverse ++ .ref a :: rest)) rfl (argsL := av') (rest := rest) (y_len hna ho.2.2 _ hsigR) rfl hd
  exact y_cal_end hct hcwk (hts _ h4) (hts _ h3) hW hR hnf hnl hfr hlo hcat hmc hca0 hsa0 hsz hd hFF X₁ (X₁.named hnamed) hstep₁ kr kt
end
