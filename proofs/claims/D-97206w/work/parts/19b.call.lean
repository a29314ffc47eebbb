/-! METHODS BY CONTRACT: from the executor's run to the machine's method; calls, which come back or throw -/
def y_MX (l : Launch) (y : MethodName) (cw : Cond) (rm : Room) (Pc : Array Value → State → Prop) (Qc : Array Value → State → Outcome → State → Nat → Nat → Prop) (free : Addr → Prop) : Prop :=
  MetFree l y (headSpec [cw] rm) Pc (fun _ _ _ _ _ => True) (fun a st o t => ∃ k n, Qc a st o t k n ∧ ∃ L, y_FE st t L k n ∧ ∀ q ∈ L, free q.base)
/-- what a method's F_ says is what the machine does -/
def y_CT (s0 : State) (D : va_G) (dA : Nat → ClassId) (l : Launch) (y : MethodName) (cw : Cond) (fr lo : Nat) (F : y_Tr) : Prop :=
  ∀ (mc ms : Nat) (av : List Value) (ω : y_Hp) (ca sa : Nat) (Q : y_Po), F mc ms av ω ca sa Q → ∀ k0 n0, k0 + ca = mc → n0 + sa = ms → y_MX l y cw { frames := fr, cells := k0, slots := n0, locals := lo } (va_Pc av (y_GW s0 D dA ω)) (fun _ _ o t k n => ∃ ω' c' s', Q o ω' c' s' ∧ y_GW s0 D dA ω' t ∧ (k + ca = c' ∧ c' ≤ mc) ∧ (n + sa = s' ∧ s' ≤ ms)) (fun q => s0.heap.size ≤ q)
theorem y_sl_cat : ∀ (vs : List Value), (lg_sl vs).length = y_cat vs
  | [] => rfl
  | v :: t => by
    have ih := y_sl_cat t
    unfold lg_sl at ih ⊢
    rw [List.flatMap_cons, List.length_append, ih]
    unfold y_cat
    rw [List.map_cons, List.sum_cons]
    congr 1
    rcases lv_cat v with h | h <;> simp [h]
section
variable {s0 : State} {b0 : Nat} {D : va_G} {dA : Nat → ClassId}
theorem y_ct_of {M : y_Md} {l : Launch} {y : MethodName} (HG : y_G s0 b0 D dA) (HT : y_OKtak s0 b0) (HA : ∀ t, t < 4 → Cond.arrayClass (y_ty t) ∈ lw_all) (hG : y_Good s0 D dA M) (hy : plainFor y = true) (hown : y.cls = y_own M) (hini : y_ini M = true → y.name = "<init>") (hhh : y_hh M = []) :
    y_CT s0 D dA l y (Cond.code y (y_cc M) (y_nL M) (y_ret M)) (y_fr M) (y_lo M) (y_F M) := by
  intro mc ms av ω ca sa Q hF k0 n0 hk0 hn0
  refine MetFree.of_bodySF (code := y_cc M) (maxLocals := y_nL M) (ret := y_ret M) hy ?_ ?_
  · intro args s m h hn
    obtain ⟨meth, c, h1, h2, h3, h4, h5, h6, -, -⟩ := Cond.code_spec hn (atoms_spec (ws := [Cond.code y (y_cc M) (y_nL M) (y_ret M)]) h _ List.mem_cons_self)
    exact ⟨meth, c, h1, h2, h3, h4, h5, h6⟩
  · intro p e s m args below meth c s₁ B hml hP _
    obtain ⟨rfl, hW, hR⟩ := hP
    have hh0 : s₁.heap = s.heap := by rw [B.state]; rfl
    have hex : c.exceptionTable.toList = [] := by
      have h := B.noHandlers (atoms_spec (ws := [Cond.code y (y_cc M) (y_nL M) (y_ret M)]) B.pre _ List.mem_cons_self)
      simpa using h
    have X : y_X s0 p s m meth c M := ⟨B.exec, B.bytes, hml, B.returns, B.notSynchronized, by rw [← hown]; exact findClass_of_methodNamed B.named, hW, by rw [hR.1.1]; exact hR.1.2.1, fun q => (name_of_methodNamed B.named B.method).1.trans (hini q), by rw [hex, hhh]; rfl⟩
    have hJ := hF.2 _ (y_sound HG HT HA hG)
    have hl := lv_entry av (n := y_nL M) (by rw [y_sl_cat]; exact hF.1)
    have hw := hJ p l e { frames := y_fr M, cells := k0, slots := n0, locals := y_lo M } s m av.toArray below meth c s.heap [] _ ca sa 0 0 X (Nat.le_refl _) (Nat.le_refl _) hk0 hn0 ⟨Nat.zero_add _, by show ca ≤ mc; omega⟩ ⟨Nat.zero_add _, by show sa ≤ ms; omega⟩ hR hl
    have hw : W p l e { frames := y_fr M, cells := k0, slots := n0, locals := y_lo M } s m av.toArray below meth c s.heap [] 0 0 (y_MQ s0 D dA below Q s mc ms ca sa) (entryFrame m av.toArray (y_nL M)) := by
      rw [lg_entry_eq]; exact hw
    obtain ⟨t, a1, o, b1, b2, ω', c', s', k, n, b3, b4, b5, b6, b7⟩ := hw s₁ hh0 (Stand.of_body B)
    exact ⟨t, o, a1, b1, b2, k, n, ⟨ω', c', s', b3, b4, b5, b6⟩, b7⟩
end
section
variable {l : Launch} {R : Room} {p : Program} {e : Env} {below : List Frame} {s : State} {sargs : Array Value}
/-- behind a callee's end -/
theorem y_back2 {len : Nat} {Qc : Array Value → State → Outcome → State → Nat → Nat → Prop} {free : Addr → Prop} {m : MethodId} {meth : Method} {c : Code} {U : State} {locs : List Loc} {cells slots : Nat} {g : JFrame} {ig : Instr} {mk : MethodId} {a : Array Value} {o : Outcome} {s₂ : State}
    (X : Stand p l e R s m sargs below meth c U locs cells slots) (hg : g.method = m) (hdg : decode c.code g.pc = .ok (ig, len)) (hsteps : Steps p.tables e below (doInvoke e (U.setTop g) [] mk a).1 s₂) (hend : Ended s₂ (.java g :: U.frames.tail) o)
    (hq : ∃ k n, Qc a (U.calling g mk a) o s₂ k n ∧ ∃ L, y_FE (U.calling g mk a) s₂ L k n ∧ ∀ q ∈ L, free q.base) :
    ∃ (o : Outcome) (st₀ t T' : State) (L : List Loc) (k n : Nat), st₀.heap = U.heap ∧ Qc a st₀ o t k n ∧ Stand p l e R s m sargs below meth c T' (locs ++ L) (cells + k) (slots + n) ∧ (∀ q ∈ L, free q.base) ∧ T'.heap = t.heap ∧ T'.vm = t.vm ∧
      (∀ v, o = .returned v → Steps p.tables e below (doInvoke e (U.setTop g) [] mk a).1 (T'.setTop { g with pc := g.pc + len, stack := v.toList ++ g.stack })) ∧
      (∀ x, o = .threw x → Steps p.tables e below (doInvoke e (U.setTop g) [] mk a).1 ((T'.setTop g).pushFrame (.throwing x))) := by
  have h : At U g.method c below := by rw [hg]; exact X.here
  obtain ⟨mc, ms, hq, L, ⟨hW₂, hsame⟩, hL⟩ := hq
  have htail : U.frames.tail = below := X.tail
  cases o with
  | threw x =>
    have hend : Ended s₂ (.java g :: below) (.threw x) := by rw [htail] at hend; exact hend
    obtain ⟨T', X', hW', hB, ht⟩ := X.outOfThrown hg hend hW₂ hsame
    refine ⟨.threw x, U.calling g mk a, s₂, T', L, mc, ms, rfl, hq, X', hL, ?_, ?_, (fun v z => by cases z), fun x' z => ?_⟩
    · rw [ht, Stand.throwing_heap]
    · rw [ht, Stand.throwing_vm]
    · cases z
      rw [← ht]
      exact hsteps
  | returned v =>
    obtain ⟨e2, q2, q3, q4, q5, q6⟩ := hsame
    have e3 : s₂ = ({ (U.calling g mk a).setFrames s₂.frames with heap := s₂.heap, slotsUsed := s₂.slotsUsed } : State).setVm s₂.vm := by
      have : s₂ = ({ s₂ with vm := (U.calling g mk a).vm } : State).setVm s₂.vm := rfl
      rw [e2] at this
      exact this
    obtain ⟨c₂, i₂, len₂, hc₂, hd₂, hf₂⟩ := hend
    have hW' : U.WarmedH s₂.vm := hW₂
    have hcc : c₂ = c := by
      have h1 : s₂.code? g.method = U.code? g.method := by
        rw [State.code?_eq, State.code?_eq, hW'.alike.method?]
      exact Option.some.inj (hc₂.symm.trans (h1.trans h.code))
    subst hcc
    have hlen : len₂ = len := by rw [hdg] at hd₂; cases hd₂; rfl
    subst hlen
    obtain ⟨g₀, hg0⟩ := Option.isSome_iff_exists.mp h.top
    obtain ⟨r, hr⟩ := State.topJava?_eq_some.mp hg0
    have hs₂ : s₂ = (({ U with heap := s₂.heap, slotsUsed := s₂.slotsUsed } : State).setVm s₂.vm).setTop { g with pc := g.pc + len₂, stack := v.toList ++ g.stack } := by
      have hr' : (({ U with heap := s₂.heap, slotsUsed := s₂.slotsUsed } : State).setVm s₂.vm).frames = .java g₀ :: r := hr
      refine e3.trans ?_
      rw [hf₂, State.calling_eq h.top, State.setFrames_setFrames, State.setTop_of_frames _ hr', hr]
      rfl
    have hsame : U.sameButNew ({ U with heap := s₂.heap, slotsUsed := s₂.slotsUsed } : State) L mc ms := by
      refine ⟨?_, q2, q3, q4, q5, q6⟩
      obtain ⟨t, ht, -⟩ := State.frames_cons hr
      show ({ U with heap := s₂.heap, slotsUsed := s₂.slotsUsed } : State) = { U.setFrames U.frames with heap := s₂.heap, slotsUsed := s₂.slotsUsed }
      rw [State.setFrames_self ht]
    subst hg
    refine ⟨.returned v, U.calling g mk a, s₂, ({ U with heap := s₂.heap, slotsUsed := s₂.slotsUsed } : State).setVm s₂.vm, L, mc, ms, rfl, hq,
      ⟨X.admits, X.cas, X.clock, X.frames, X.room, X.hears, X.method, X.code, (X.here.setHeapUsed s₂.heap s₂.slotsUsed).setVm hW'.alike, X.tail, State.WarmedH.trans X.warmed hW', X.limits, X.bytes, X.same.trans (hsame.setVm s.vm)⟩, hL, rfl, rfl, fun v' z => ?_, fun x z => by cases z⟩
    cases z
    rw [← hs₂]
    exact hsteps
/-- the callee behind its link: it comes back, or throws -/
theorem y_back {y : MethodName} {len Wd : Nat} {cw : Cond} {rm : Room} {Pc : Array Value → State → Prop} {Qc : Array Value → State → Outcome → State → Nat → Nat → Prop} {free : Addr → Prop} {maxL : Nat} {m : MethodId} {meth : Method} {c : Code} {U : State} {locs : List Loc} {cells slots : Nat} {g : JFrame} {ig : Instr} {mk : MethodId} {a : Array Value} (hM : y_MX l y cw rm Pc Qc free) (hblind : FrameBlind Pc) (hframes : rm.frames + 1 ≤ R.frames) (hlocals : Wd + (maxL + 11) + rm.locals ≤ R.locals)
    (hcw : cw.before a U = true) (hcd : ∃ (methY : Method) (cY : Code), U.vm.method? mk = some methY ∧ methY.code = some cY ∧ cY.maxLocals = maxL) (hini : (Cond.initialized y.cls).before a U = true)
    (X : Stand p l e R s m sargs below meth c U locs cells slots) (hg : g.method = m) (hsize : g.locals.size = c.maxLocals) (hdg : decode c.code g.pc = .ok (ig, len)) (hW : 2 * g.monitorRoom + (g.stack.map fun v => v.category).sum ≤ Wd) (hn : U.methodNamed? y = some mk) (hc1 : cells + rm.cells ≤ R.cells) (hc2 : slots + rm.slots ≤ R.slots) (hp : Pc a U) :
    ∃ (o : Outcome) (st₀ t T' : State) (L : List Loc) (k n : Nat), st₀.heap = U.heap ∧ Qc a st₀ o t k n ∧ Stand p l e R s m sargs below meth c T' (locs ++ L) (cells + k) (slots + n) ∧ (∀ q ∈ L, free q.base) ∧ T'.heap = t.heap ∧ T'.vm = t.vm ∧
      (∀ v, o = .returned v → Steps p.tables e below (doInvoke e (U.setTop g) [] mk a).1 (T'.setTop { g with pc := g.pc + len, stack := v.toList ++ g.stack })) ∧
      (∀ x, o = .threw x → Steps p.tables e below (doInvoke e (U.setTop g) [] mk a).1 ((T'.setTop g).pushFrame (.throwing x))) := by
  obtain ⟨methY, cY, hmY, hcY, hlY⟩ := hcd
  obtain ⟨kY, hkY, -⟩ := className_of_methodNamed hn
  have hinitY : kY.init = .initialized := Cond.initialized_spec (findClass_of_methodNamed hn) hkY hini
  have h : At U g.method c below := by rw [hg]; exact X.here
  have happ : (headSpec [cw] rm).appliesLoose y e.platform (U.calling g mk a) = true :=
    Spec.appliesLoose_calling (g := g) h hdg hn hkY hinitY
      (X.room_calling (g := g) (R' := (headSpec [cw] rm).room) hsize hmY hcY hframes (by rw [hlY]; show _ + _ + rm.locals ≤ _; omega) hc1 hc2)
      (atoms_intro fun w hw => by rw [List.mem_singleton.mp hw]; exact hcw)
  obtain ⟨mid, hmid⟩ := h.above
  have hfr : (U.setTop g).frames = (.java g :: mid) ++ below := by rw [State.frames_setTop' g h.top, hmid]; rfl
  obtain ⟨o, s₂, hsteps, -, hend, hq⟩ := Steps.callFree hM p X.admits X.cas X.clock (acts := []) hfr happ (hblind _ _ _ _ hp) trivial
  rw [State.frames_setTop' g h.top] at hend
  exact y_back2 X hg hdg hsteps hend hq
end
