section
variable {s0 : State} {b0 : Nat} {D : va_G} {dA : Nat → ClassId}
/-- super.m(..), x the name it is called by, which lands in the interface's y -/
theorem y_calSD {own owner : String} {idx ci na nf nl : Nat} {x y : MethodName} {M : y_Md} (HG : y_G s0 b0 D dA) (hG : y_Good s0 D dA M) (hpf : plainFor y = true) (hyown : y.cls = y_own M) (hini : y_ini M = false) (hhh : y_hh M = []) (h1 : (Cond.methodLink own idx x).before #[Value.ref b0] s0 = true) (hsame : (Cond.sameMethod x.cls owner x.name x.desc).before #[Value.ref b0] s0 = true) (hyo : y = ⟨owner, x.name, x.desc⟩) (hland : (Cond.landsInDefault x.cls x y).before #[Value.ref b0] s0 = true) (hsup : Cond.superclass own x.cls ∈ lw_all) (h2 : Cond.instanceMethod y ∈ lw_all) (h4 : Cond.code y (y_cc M) (y_nL M) (y_ret M) ∈ lw_all) (hno : x.name ≠ "<init>")
    (hy : (parseMethodDescriptor y.desc).map (fun d => d.parameters.length + 1) = some na) (hnf : y_fr M + 1 = nf) (hnl : 8 + (y_nL M + 11) + y_lo M = nl) : y_OKcal s0 D dA own (idx, 2, ci, na, (nf, nl), y_self (y_F M)) := by
  subst hyo
  intro p l e R s m args below meth c H locs cells slots Q pc ls rest av ω Qp i len mc ms ca sa c0 d0 hx hsz hown hW _ hR hfr hlo hna hcat hmc hca0 hsa0 hi hd hF kr kt
  have hi : i = .invokespecial idx ∧ len = 3 := by
    rcases hi with ⟨h, -⟩ | ⟨h, -⟩ | ⟨-, h⟩ | ⟨⟨h, -⟩ | ⟨h, -⟩, -⟩
    · cases h
    · cases h
    · exact h
    · cases h
    · cases h
  obtain ⟨rfl, rfl⟩ := hi
  obtain ⟨a, av', ci0, rfl, hca⟩ := y_self_fst _ _ _ _ _ _ _ hF
  obtain ⟨r, hr⟩ := y_cls_cl HG hW hR hca
  obtain ⟨cellB, hcell, hobj, hcls⟩ := y_recv HG hW hR hca hr
  obtain ⟨kB, hkB, -⟩ := Vm.findClass_spec hcls
  intro T hT X
  subst hT
  have hts := y_hts (args := args) HG hW
  have hlinkS : (Cond.methodLink own idx x).before args s = true := y_st h1 rfl hW
  have hsameS : (Cond.sameMethod x.cls owner x.name x.desc).before args s = true := y_st hsame rfl hW
  obtain ⟨mk, methM, hnamed, hmethM, hstM, habM⟩ := Cond.instanceMethod_spec (hts _ h2)
  obtain ⟨mk', methM', cM, hnamed', hmethM', -, -, hsigM⟩ := (y_cw_code (y := ⟨owner, x.name, x.desc⟩) (cc := y_cc M) (maxL := y_nL M) (ret := y_ret M)).2 _ _ (hts _ h4)
  cases hnamed.symm.trans hnamed'
  cases hmethM.symm.trans hmethM'
  obtain ⟨ps, dk, kp, hps, hdk, hkp, hsuper, -, -, hnid⟩ := Cond.superclass_spec hown (hts _ hsup)
  have hpl : e.platform.magicAccessors = ({} : Platform).magicAccessors := by rw [X.admits.platform]
  obtain ⟨cn', ck, r1, hcn', hck, hni, hf, hn1⟩ := Cond.sameMethod_found hsameS
  cases hnamed.symm.trans hn1
  cases hps.symm.trans hcn'
  obtain ⟨cix, hl, hright⟩ := Cond.methodLink_specUp hown hps hck hni hf hlinkS e.platform hpl (by rw [X.admits.platform])
  obtain ⟨kr0, hkr0, -⟩ := className_of_methodNamed hnamed
  obtain ⟨hrn, hrd⟩ := name_of_methodNamed hnamed hmethM
  obtain ⟨dk₀, cfile, nt, _, _, ck₀, _, _, hd₀, hcf, hcp, -, -, -, hc₀, -, hpoly, -⟩ := hl.here
  cases hdk.symm.trans hd₀
  cases hck.symm.trans hc₀
  have hup : s.vm.lookupUp ps x.name x.desc = some mk := ((State.methodFound?_class hps hck hni hpoly mk).mp hf).1
  have hfound0 : lookupSpecial s.vm ps x.name x.desc = .method mk := by
    obtain ⟨cn0, ck0, r10, hcn0, hck0, hni0, hf0, hn10⟩ := Cond.sameMethod_found hsame
    have e1 : s0.methodNamed? ⟨owner, x.name, x.desc⟩ = some mk := ((State.methodNamed?_setVm (s := s0) hW.alike _).symm).trans hnamed
    cases e1.symm.trans hn10
    have e2 : s0.vm.findClass x.cls = some ps := by rw [← hW.alike.findClass]; exact hps
    cases e2.symm.trans hcn0
    have e3 : s0.vm.method? mk = some methM := by rw [← hW.alike.method?]; exact hmethM
    have e4 : s0.vm.lookupUp ps x.name x.desc = some mk := by rw [← hW.alike.lookupUp]; exact hup
    have := y_lands (s := s0) (r := methM) hland e2 hck0 hni0 hf0 (by rw [hrn, hrd]; exact e4) e3 hstM e1
    rw [hrn, hrd] at this
    rw [hW.alike.lookupSpecial]
    exact this
  have hst : (Value.ref a :: av').reverse ++ rest = av'.reverse ++ .ref a :: rest := by simp
  rw [hst]
  obtain ⟨vm', hW', st⟩ := Steps.invokeSuperColdArgs (tb := p.tables) (e := e) (s₀ := s) (U := T) (f := F0 m pc ls (av'.reverse ++ .ref a :: rest)) (args := av') (rest := rest) (a := a) (cell := cellB) (m := mk) X.here hx hd X.warmed hl hright hdk hcf hcp hmethM hck
    (by rw [hrn]; simp [hno]) hstM (by rw [hrn, hrd, hsuper]; simpa using hfound0) hnid hkr0 habM (y_len hna hy _ hsigM) rfl hcell (fun z h => by rw [h] at hobj; cases hobj) hkB
  have X₁ := X.noted hW'
  exact y_cal_endW HG (y_HT HG) y_HA hG hx hpf hyown hini hhh (hts _ h4) hW hR hnf hnl hfr hlo hcat hmc hca0 hsa0 hsz hd hF.2 X₁ (X₁.named hnamed) (fun target h => st _ (h _)) kr kt
end
