/-! a private method of a superclass -/
section
variable {s0 : State} {b0 : Nat} {D : va_G} {dA : Nat → ClassId}
theorem y_calP {own : String} {idx ci na nf nl fr lo maxL : Nat} {y : MethodName} {cw : Cond} {F : y_Tr} {r : vw_C} (HG : y_G s0 b0 D dA) (hct : ∀ l, y_CT s0 D dA l y cw fr lo F) (hcwk : y_cwOK cw y maxL) (hr : y_cl[ci]? = some r) (h1 : Cond.methodLink own idx y ∈ lw_all) (hsame : Cond.sameMethod y.cls y.cls y.name y.desc ∈ lw_all) (hpr : Cond.privateMethod y ∈ lw_tbl) (h2 : Cond.instanceMethod y ∈ lw_all) (h3 : Cond.initialized y.cls ∈ lw_all) (h4 : cw ∈ lw_all)
    (ho : y.cls ≠ "java/lang/invoke/MethodHandle" ∧ y.cls ≠ "java/lang/invoke/VarHandle" ∧ (parseMethodDescriptor y.desc).map (fun d => d.parameters.length + 1) = some na) (hnf : fr + 1 = nf) (hnl : 8 + (maxL + 11) + lo = nl) : y_OKcal s0 D dA own (idx, 1, ci, na, (nf, nl), F) := by
  intro p l e R s m args below meth c H locs cells slots Q pc ls rest av ω Qp i len mc ms ca sa c0 d0 hx hsz hown hW _ hR hfr hlo hna hcat hmc hca0 hsa0 hi hd hF kr kt
  have hi : (i = .invokevirtual idx ∧ len = 3) ∧ ∃ a av', av = .ref a :: av' ∧ y_cls ω a = some ci := by
    rcases hi with ⟨h, -⟩ | ⟨h, -⟩ | ⟨h, -⟩ | ⟨⟨-, h⟩ | ⟨h, -⟩, h'⟩
    · cases h
    · cases h
    · cases h
    · exact ⟨h, h'⟩
    · cases h
  obtain ⟨⟨rfl, rfl⟩, a, av', rfl, hca⟩ := hi
  obtain ⟨cellB, hcell, hobj, hcls⟩ := y_recv HG hW hR hca hr
  intro T hT X
  subst hT
  have hts := y_hts (args := args) HG hW
  obtain ⟨mk, methM, hnamed, hmethM, hstM, habM⟩ := Cond.instanceMethod_spec (hts _ h2)
  obtain ⟨mk', methM', cM, hnamed', hmethM', -, -, hsigM⟩ := hcwk.2 _ _ (hts _ h4)
  cases hnamed.symm.trans hnamed'
  cases hmethM.symm.trans hmethM'
  have hpv : methM.isPrivate = true := by
    obtain ⟨mk0, methM0, hn0, hm0, -, -⟩ := Cond.instanceMethod_spec (HG.1 _ (lw_all_tbl h2))
    have hn1 : s.methodNamed? y = some mk0 := (State.methodNamed?_setVm (s := s0) hW.alike y).trans hn0
    cases hnamed.symm.trans hn1
    have hm1 : s.vm.method? mk = some methM0 := by rw [hW.alike.method?]; exact hm0
    cases hmethM.symm.trans hm1
    exact Cond.privateMethod_at (HG.1 _ hpr) _ _ hn0 hm0
  obtain ⟨kP, hkP, -⟩ := className_of_methodNamed hnamed
  obtain ⟨cn, ck, r1, hcn, hck, hni, -, -⟩ := Cond.sameMethod_found (hts _ hsame)
  cases hcn.symm.trans (findClass_of_methodNamed hnamed)
  cases hck.symm.trans hkP
  have hselP : selectMethod e.platform s.vm cellB.cls mk = .method mk := selectMethod_private hmethM hpv
  have hst : (Value.ref a :: av').reverse ++ rest = av'.reverse ++ .ref a :: rest := by simp
  rw [hst]
  obtain ⟨vm₁, X₁, hstep₁⟩ := X.invokevirtualUp (owner := y.cls) hx hown (hts _ h1) (hts _ hsame) ⟨ho.1, ho.2.1⟩ hnamed hmethM hstM (a := a) (cell := cellB) hcell
    (fun z h => by rw [h] at hobj; cases hobj) hselP hmethM habM hkP hni (g := F0 m pc ls (av'.reverse ++ .ref a :: rest)) rfl (argsL := av') (rest := rest) (y_len hna ho.2.2 _ hsigM) rfl hd
  exact y_cal_end hct hcwk (hts _ h4) (hts _ h3) hW hR hnf hnl hfr hlo hcat hmc hca0 hsa0 hsz hd hF X₁ (X₁.named hnamed) hstep₁ kr kt
end
