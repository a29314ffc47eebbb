/-! handlers: the catch types may not have been resolved yet -/
theorem y_go_cold {E : CtlPost} {e : Env} {d : Bool} {acts : List Action} {s : State} {f : JFrame} {a : Addr} {Q : Handler → Pre} {x : ExceptionTableEntry} {t : List ExceptionTableEntry} {c : ClassId} {cell : Cell} {vm' : Vm} (hx : covers x f.pc = true) (h0 : x.catchType ≠ 0) (hg : (resolveClass f.method.cls x.catchType).Gives e.toSetting s.vm (.ok c) vm') (hsz : vm'.classes.size ≤ s.vm.classes.size) (hcell : s.heap[a]? = some cell) (hobj : ∀ k, cell.vm ≠ .statics k)
    (hk : ∃ k, vm'.classes[cell.cls]? = some k) (hc : ∃ k, vm'.classes[c]? = some k) :
    wp (findHandler.go f a (x :: t)) Q E e d acts s ↔ if vm'.assignable cell.cls c = true then Q (.found x.handlerPc) d acts (s.setVm vm') else wp (findHandler.go f a t) Q E e d acts (s.setVm vm') := by
  simp only [covers] at hx
  obtain ⟨ha, ht⟩ := hg.op (op := VmOp.resolveClass f.method.cls x.catchType) rfl
  have hcell' : (s.setVm vm').heap[a]? = some cell := hcell
  have hk' : ∃ k, (s.setVm vm').vm.classes[cell.cls]? = some k := hk
  have hc' : ∃ k, (s.setVm vm').vm.classes[c]? = some k := hc
  cases hfit : vm'.assignable cell.cls c <;>
    simp [findHandler.go, hx, h0, ha, ht, hsz, hcell, hobj, hk, hc, hfit, VmOp.dirties, VmOp.acts]
/-- the search gives h, at tables where what it resolved is noted -/
def y_Finds (e : Env) (s : State) (f : JFrame) (a : Addr) (h : Handler) (vm' : Vm) : Prop := ∀ (Q : Handler → Pre) (E : CtlPost) (d : Bool) (acts : List Action), wp (findHandler f a) Q E e d acts s ↔ Q h d acts (s.setVm vm')
theorem y_step_catch {e : Env} {s : State} {a : Addr} {f : JFrame} {r : List Frame} {pc : Nat} {vm' : Vm} (hfind : y_Finds e s f a (.found pc) vm') :
    (stepThrowing e s a (.java f :: r)).Is ((s.setVm vm').setFrames (.java { f with pc := pc, stack := [.ref a] } :: r)) [] := by
  simp only [stepThrowing, searchFrame, vmDo]
  generalize hr : Sem.go _ e false [] s = res
  obtain ⟨as, rfl, ha⟩ := Sem.eq_ok_of hr (a := Handler.found pc) (s' := s.setVm vm') (acts' := []) (by simp [hfind _ _ _ _])
  exact ⟨rfl, ha⟩
theorem y_step_leave {e : Env} {s : State} {a : Addr} {f : JFrame} {r : List Frame} {meth : Method} {vm' : Vm}
    (hm : vm'.method? f.method = some meth) (hl : meth.locks = false) (hlocked : f.locked = none) (hentered : f.entered = []) (hfind : y_Finds e s f a .none vm') :
    (stepThrowing e s a (.java f :: r)).Is ((s.setVm vm').setFrames (.throwing a :: r)) [] := by
  simp only [stepThrowing, searchFrame, vmDo]
  generalize hr : Sem.go _ e false [] s = res
  obtain ⟨as, rfl, ha⟩ := Sem.eq_ok_of hr (a := Handler.none) (s' := s.setVm vm') (acts' := [])
    (by cases hp : e.platform.frameOwnsMonitors <;> simp [hfind _ _ _ _, hm, hl, hlocked, hentered, hp, leaveIfLocked])
  exact ⟨rfl, ha⟩
section
variable {tb : Tables} {e : Env} {s target : State} {g : JFrame} {c : Code} {below : List Frame} {a : Addr}
theorem y_caught (h : At s g.method c below) {pc : Nat} {vm' : Vm} (hfind : y_Finds e ((s.setTop g).pushFrame (.throwing a)) g a (.found pc) vm')
    (hrest : Steps tb e below ((s.setVm vm').setTop { g with pc := pc, stack := [.ref a] }) target) :
    Steps tb e below ((s.setTop g).pushFrame (.throwing a)) target := by
  obtain ⟨hgo, hw⟩ := h.throwing a
  refine Steps.head hgo hw ?_
  rw [stepThread_throwing (frames_entered h.top _), (y_step_catch (s := (s.setTop g).pushFrame (.throwing a)) hfind).1]
  obtain ⟨g₀, hg⟩ := Option.isSome_iff_exists.mp h.top
  obtain ⟨r, hr⟩ := State.topJava?_eq_some.mp hg
  have hr' : (s.setVm vm').frames = .java g₀ :: r := hr
  have e1 : (((s.setTop g).pushFrame (.throwing a)).setVm vm') = ((s.setVm vm').setTop g).pushFrame (.throwing a) := by
    rw [State.setTop_of_frames _ hr, State.setTop_of_frames _ hr']
    rfl
  rw [e1, State.pushFrame, State.setFrames_setFrames, State.setTop_of_frames _ hr', State.setFrames_setFrames]
  rw [State.setTop_of_frames _ hr'] at hrest
  rw [hr]
  exact hrest
theorem y_thrownOut (h : At s g.method c below) {meth : Method} {vm' : Vm} (hm : vm'.method? g.method = some meth) (hl : meth.locks = false)
    (hlocked : g.locked = none) (hentered : g.entered = []) (hfind : y_Finds e ((s.setTop g).pushFrame (.throwing a)) g a .none vm')
    (hrest : Steps tb e below ((s.setVm vm').setFrames (.throwing a :: s.frames.tail)) target) :
    Steps tb e below ((s.setTop g).pushFrame (.throwing a)) target := by
  obtain ⟨hgo, hw⟩ := h.throwing a
  refine Steps.head hgo hw ?_
  rw [stepThread_throwing (frames_entered h.top _), (y_step_leave (s := (s.setTop g).pushFrame (.throwing a)) (meth := meth) hm hl hlocked hentered hfind).1]
  obtain ⟨g₀, hg⟩ := Option.isSome_iff_exists.mp h.top
  obtain ⟨r, hr⟩ := State.topJava?_eq_some.mp hg
  have hr' : (s.setVm vm').frames = .java g₀ :: r := hr
  have e1 : (((s.setTop g).pushFrame (.throwing a)).setVm vm') = ((s.setVm vm').setTop g).pushFrame (.throwing a) := by
    rw [State.setTop_of_frames _ hr, State.setTop_of_frames _ hr']
    rfl
  rw [e1, State.pushFrame, State.setFrames_setFrames, State.setTop_of_frames _ hr', State.setFrames_setFrames]
  exact hrest
end
/-- which classes a handler takes: as the machine says -/
def y_OKhnd (s0 : State) (M : y_Md) : Prop := ∀ (idx ci b : Nat), y_fh M idx ci = some b → idx ≠ 0 ∧ ∃ (nm : String) (r : vw_C) (cC cT : ClassId), Cond.classLink (y_own M) idx nm ∈ lw_all ∧ y_cl[ci]? = some r ∧ s0.vm.findClass r.1 = some cC ∧ s0.vm.findClass nm = some cT ∧ s0.vm.assignable cC cT = decide (b = 3)
section
variable {s0 : State} {b0 : Nat} {D : va_G} {dA : Nat → ClassId}
variable {p : Program} {l : Launch} {e : Env} {R : Room} {s : State} {m : MethodId} {args : Array Value} {below : List Frame} {meth : Method} {c : Code} {locs : List Loc} {cells slots : Nat}
theorem y_vm_comm {T : State} (X : Stand p l e R s m args below meth c T locs cells slots) (g : JFrame) (x : Frame) (vm' : Vm) : ((T.setTop g).pushFrame x).setVm vm' = ((T.setVm vm').setTop g).pushFrame x := by
  obtain ⟨g₀, hfr⟩ := X.frames_eq
  have hfr' : (T.setVm vm').frames = .java g₀ :: below := hfr
  rw [State.setTop_of_frames _ hfr, State.setTop_of_frames _ hfr']
  rfl
theorem y_vm_same {T : State} (X : Stand p l e R s m args below meth c T locs cells slots) (g : JFrame) (x : Frame) : ((T.setTop g).pushFrame x).vm = T.vm := by
  obtain ⟨g₀, hfr⟩ := X.frames_eq
  rw [State.setTop_of_frames _ hfr]
  rfl
theorem y_heap_same {T : State} (X : Stand p l e R s m args below meth c T locs cells slots) (g : JFrame) (x : Frame) : ((T.setTop g).pushFrame x).heap = T.heap := by
  obtain ⟨g₀, hfr⟩ := X.frames_eq
  rw [State.setTop_of_frames _ hfr]
  rfl
theorem y_search {M : y_Md} (HG : y_G s0 b0 D dA) (hH : y_OKhnd s0 M) {g : JFrame} (hg : g.method = m) {lv : y_Lv} {ω : y_Hp} {H : Heap} {a ca sa : Nat} {P : y_St → Prop} {Q0 : y_Po} (hown : s.vm.findClass (y_own M) = some m.cls) (hW : s0.WarmedH s.vm) (hR : y_R s0 D dA ω H locs) :
    ∀ (es : List ExceptionTableEntry) (T : State), T.heap = H → Stand p l e R s m args below meth c T locs cells slots → y_thr M g.pc lv ω a ca sa P Q0 (es.map (fun h => (h.startPc, h.endPc, h.handlerPc, h.catchType))) →
      ∃ (vm' : Vm) (h : Handler), Stand p l e R s m args below meth c (T.setVm vm') locs cells slots ∧ (∀ (Q : Handler → Pre) (E : CtlPost) (d : Bool) (acts : List Action), wp (findHandler.go g a es) Q E e d acts ((T.setTop g).pushFrame (.throwing a)) ↔ Q h d acts (((T.setTop g).pushFrame (.throwing a)).setVm vm')) ∧
        ((∃ pc', h = .found pc' ∧ P (pc', lv, [.ref a], ω, ca, sa)) ∨ (h = .none ∧ Q0 (.threw a) ω ca sa))
  | [], T, hT, X, h => by
    refine ⟨T.vm, .none, X, fun Q E d acts => ?_, Or.inr ⟨rfl, h⟩⟩
    have e1 : (((T.setTop g).pushFrame (.throwing a)).setVm T.vm) = ((T.setTop g).pushFrame (.throwing a)) := by
      rw [y_vm_comm X]
      rfl
    rw [e1]
    exact W.findHandler_go_nil
  | x :: t, T, hT, X, h => by
    rw [List.map_cons] at h
    unfold y_thr at h
    split at h
    · rename_i hcov
      have hcov' : covers x g.pc = true := by simp only [covers, Bool.and_eq_true, decide_eq_true_eq]; exact hcov
      split at h
      · exact h.elim
      · rename_i ci hci
        split at h
        · exact h.elim
        · rename_i b hb
          obtain ⟨hne, nm, r, cC, cT, hlink, hr, hfC, hfT, hasg⟩ := hH _ _ _ hb
          obtain ⟨cell, hcell, hobj, hcls⟩ := y_recv HG hW hR hci hr
          have hts := y_hts (args := args) HG hW
          have hfC' : s.vm.findClass r.1 = some cC := by rw [hW.alike.findClass]; exact hfC
          have hfT' : s.vm.findClass nm = some cT := by rw [hW.alike.findClass]; exact hfT
          cases hcls.symm.trans hfC'
          have hpl : e.platform.magicAccessors = ({} : Platform).magicAccessors := by rw [X.admits.platform]
          obtain ⟨c', hc', hcl⟩ := Cond.classLink_spec hown (hts _ hlink) e.platform hpl
          cases hfT'.symm.trans hc'
          obtain ⟨dk, _, _, kt, hd, _, _, _, _, hkt, _, hopen⟩ := hcl.here
          have hcl₀ := X.warmed.classLinks hcl
          have hW' : s.WarmedH (T.vm.noted m.cls x.catchType (.cls cT)) := X.warmed.noted hd hopen (State.rightAt_cls hcl)
          obtain ⟨ks, hks, -⟩ := Vm.findClass_spec hcls
          obtain ⟨ks', hks', -⟩ := hW'.alike.2.2 _ _ hks
          obtain ⟨kt', hkt', -⟩ := hW'.alike.2.2 _ _ hkt
          have X' := X.noted hW'
          have hS := fun (Q : Handler → Pre) (E : CtlPost) (d : Bool) (acts : List Action) => y_go_cold (E := E) (d := d) (acts := acts) (Q := Q) (s := (T.setTop g).pushFrame (.throwing a)) (f := g) (a := a) (t := t) (c := cT) (cell := cell) (vm' := T.vm.noted m.cls x.catchType (.cls cT)) hcov' hne
            (by rw [hg, y_vm_same X]; exact resolveClass_links e.toSetting hcl₀) (by rw [y_vm_same X]; no_record) (by rw [y_heap_same X, hT]; exact hcell) (VmData.noStatics_of hobj) ⟨ks', hks'⟩ ⟨kt', hkt'⟩
          have hasg' : (T.vm.noted m.cls x.catchType (.cls cT)).assignable cell.cls cT = decide (b = 3) := by
            rw [hW'.alike.assignable, hW.alike.assignable]; exact hasg
          split at h
          · rename_i hb3
            refine ⟨_, .found x.handlerPc, X', fun Q E d acts => ?_, Or.inl ⟨_, rfl, h⟩⟩
            rw [hS, hasg', if_pos (by simp [hb3])]
          · rename_i hb3
            obtain ⟨vm2, h2, X2, hf2, hres⟩ := y_search HG hH hg hown hW hR t (T.setVm (T.vm.noted m.cls x.catchType (.cls cT))) hT X' h
            refine ⟨vm2, h2, X2, fun Q E d acts => ?_, hres⟩
            rw [hS, hasg', if_neg (by simp [hb3]), y_vm_comm X, hf2, ← y_vm_comm X]
            rfl
    · rename_i hcov
      have hcov' : covers x g.pc = false := by
        simp only [covers, Bool.and_eq_false_iff, decide_eq_false_iff_not]
        by_cases h1 : x.startPc ≤ g.pc
        · exact Or.inr (fun h2 => hcov ⟨h1, h2⟩)
        · exact Or.inl h1
      obtain ⟨vm2, h2, X2, hf2, hres⟩ := y_search HG hH hg hown hW hR t T hT X h
      exact ⟨vm2, h2, X2, fun Q E d acts => (W.findHandler_go_skip hcov').trans (hf2 Q E d acts), hres⟩
theorem y_thr_of {M : y_Md} (HG : y_G s0 b0 D dA) (hH : y_OKhnd s0 M) : y_OKthr s0 D dA M := by
  intro mc ms Qp Q0 P p l e R s m args below meth c H locs ca sa c0 d0 ce sl pc a ls lv st ω X hfr hlo hmc hms hca hsa hR hl hP hQ h
  have hX := X
  obtain ⟨hx, -, -, -, hlk, hown, hW, -, -, hex⟩ := X
  rw [← hex] at h
  intro T hT XX
  obtain ⟨vm', hd, X', hf, hres⟩ := y_search (g := F0 m pc ls st) HG hH rfl hown hW hR _ T hT XX h
  have hm : T.vm.method? m = some meth := XX.method'
  have hfind : y_Finds e ((T.setTop (F0 m pc ls st)).pushFrame (.throwing a)) (F0 m pc ls st) a hd vm' := fun Q E d acts => (W.findHandler_eq (f := F0 m pc ls st) (by rw [y_vm_same XX]; exact hm) XX.code).trans (hf Q E d acts)
  rcases hres with ⟨pc', rfl, hp⟩ | ⟨rfl, hq⟩
  · obtain ⟨t, a1, b1⟩ := hP _ hp p l e R s m args below meth c H locs ls c0 d0 ce sl hX hfr hlo hmc hms hca hsa hR hl (T.setVm vm') hT X'
    exact ⟨t, y_caught XX.here hfind a1, b1⟩
  · obtain ⟨g₁, hfr'⟩ := X'.frames_eq
    refine ⟨(T.setVm vm').setFrames (.throwing a :: below), ?_, .threw a, X'.here.running, State.frames_setFrames _ (State.cur_lt_of_frames hfr'), ω, ca, sa, ce, sl, hQ _ _ _ _ hq, ⟨State.WarmedH.trans hW (X'.ends _).1, ?_⟩, hca, hsa, locs, ⟨(X'.ends _).1, (X'.ends _).2⟩, hR.2.2⟩
    · refine y_thrownOut XX.here (meth := meth) (vm' := vm') (X'.method') hlk rfl rfl hfind ?_
      rw [XX.tail]
      exact Steps.refl _
    · show y_R s0 D dA ω T.heap []
      rw [hT]
      exact ⟨hR.1, hR.2.1, fun q z => by cases z⟩
end
