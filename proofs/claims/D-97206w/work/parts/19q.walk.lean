/-! a callee that is walked, not taken by its contract (nothing says that its class is initialised) -/
section
variable {s0 : State} {b0 : Nat} {D : va_G} {dA : Nat → ClassId}
theorem y_weaken {tb : Tables} {e : Env} {f : Frame} {below : List Frame} {s t : State} (h : Steps tb e (f :: below) s t) : Steps tb e below s t := by
  obtain ⟨n, h1, h2⟩ := h
  exact ⟨n, h1, fun k hk => Within.weaken (mid := [f]) (h2 k hk)⟩
theorem y_enter {p : Program} {l : Launch} {e : Env} {R R' : Room} {s U : State} {m : MethodId} {args : Array Value} {below : List Frame} {meth : Method} {c : Code} {locs : List Loc} {cells slots : Nat} {g : JFrame} {ig : Instr} {len : Nat} {mk : MethodId} {a : Array Value} {y : MethodName} {methY : Method} {cY : Code}
    (X : Stand p l e R s m args below meth c U locs cells slots) (hg : g.method = m) (hsize : g.locals.size = c.maxLocals) (hdg : decode c.code g.pc = .ok (ig, len)) (hx : plainFor y = true) (hn : U.methodNamed? y = some mk) (hm : U.vm.method? mk = some methY) (hc : methY.code = some cY) (hlk : methY.locks = false)
    (hframes : R'.frames + 1 ≤ R.frames) (hlocals : 2 * g.monitorRoom + (g.stack.map fun v => v.category).sum + (cY.maxLocals + 11) + R'.locals ≤ R.locals) (hcells : cells + R'.cells ≤ R.cells) (hslots : slots + R'.slots ≤ R.slots) :
    ∃ s₁ : State, s₁.heap = U.heap ∧ Stand p l e R' (U.calling g mk a) mk a (.java g :: below) methY cY s₁ [] 0 0 ∧ ∀ acts, (doInvoke e (U.setTop g) acts mk a).1 = s₁.setTop (entryFrame mk a cY.maxLocals) := by
  have h : At U g.method c below := by rw [hg]; exact X.here
  have htail : U.frames.tail = below := X.tail
  have hf : (U.calling g mk a).frames = .invoking mk a :: .java g :: below := by rw [← htail]; exact State.frames_calling h.top g mk a
  have hcur := State.cur_lt_of_frames hf
  have hroom := X.room_calling (g := g) (R' := R') (args' := a) hsize hm hc hframes hlocals hcells hslots
  have hcode : (U.calling g mk a).code? g.method = some c := by
    have := h.code
    rw [State.code?_eq] at this ⊢
    simpa [State.calling, State.pushFrame, State.setFrames] using this
  have hhears : (U.calling g mk a).hears mk (.java g :: below) = true := by simp [State.hears, hcode, hdg, Except.toOption]
  have hm' : (U.calling g mk a).vm.method? mk = some methY := by simpa [State.calling, State.pushFrame, State.setFrames] using hm
  have hn' : (U.calling g mk a).methodNamed? y = some mk := by rw [State.calling_eq h.top]; exact hn
  have hf1 : ((U.calling g mk a).setFrames (.java (entryFrame mk a cY.maxLocals) :: .java g :: below)).frames = .java (entryFrame mk a cY.maxLocals) :: .java g :: below := State.frames_setFrames _ hcur
  have ht1 := State.topJava?_of_frames hf1
  have hplain : ((U.calling g mk a).setFrames (.java (entryFrame mk a cY.maxLocals) :: .java g :: below)).plainMethod mk := State.plainMethod.of_named (s := U.calling g mk a) hx hn' hm'
  have hAt : At ((U.calling g mk a).setFrames (.java (entryFrame mk a cY.maxLocals) :: .java g :: below)) mk cY (.java g :: below) :=
    ⟨by rw [ht1]; rfl, ⟨[], by rw [hf1]; rfl⟩, h.running, by simpa [State.calling] using h.runnable, by simpa [State.calling] using h.alone,
      by rw [State.code?_eq]; simp [State.setFrames, hm', hc], hplain⟩
  obtain ⟨t0, ht0, -⟩ := State.frames_cons hf
  refine ⟨_, ?_, ⟨X.admits, X.cas, X.clock, hf, hroom, hhears, hm', hc, hAt, by rw [hf1]; rfl, State.WarmedH.refl _, by rw [State.stackLimits_setFrames], by rw [State.stackBytes_setFrames], (State.sameButNew.refl (U.calling g mk a) ht0).setFrames (.java (entryFrame mk a cY.maxLocals) :: .java g :: below) hcur⟩, fun acts => ?_⟩
  · simp [State.calling, State.pushFrame, State.setFrames]
  · have hfull := X.notFull (g := g) hsize (vars := cY.maxLocals) (by omega) (by omega)
    have hF : (U.setTop g).frames = .java g :: below := by rw [State.frames_setTop' _ h.top, htail]
    rw [State.setTop_self ht1, doInvoke_state e (U.setTop g) acts, (doInvoke_java (s := U.setTop g) (e := e) (meth := methY) (code := cY) (show (U.setTop g).vm.method? mk = some methY from hm) hc hlk hfull).1]
    simp only [State.calling, State.pushFrame, State.setFrames_setFrames, hF, entryFrame]
theorem y_cal_endW {p : Program} {l : Launch} {e : Env} {R : Room} {s : State} {m : MethodId} {args : Array Value} {below : List Frame} {meth : Method} {c : Code} {locs : List Loc} {cells slots : Nat} {Q : State → Prop} {pc : Nat} {ls : Array Slot} {rest av : List Value} {ω : y_Hp} {Qp : y_Po} {i : Instr} {len nf nl mc ms ca sa c0 d0 : Nat} {y : MethodName} {M : y_Md} {T : State} {vm₁ : Vm} {mk : MethodId} {st : List Value}
    (HG : y_G s0 b0 D dA) (HT : y_OKtak s0 b0) (HA : ∀ t, t < 4 → Cond.arrayClass (y_ty t) ∈ lw_all) (hG : y_Good s0 D dA M) (hx : p.tables.exec = Jvm.exec) (hy : plainFor y = true) (hown : y.cls = y_own M) (hini : y_ini M = false) (hhh : y_hh M = []) (hcw : (Cond.code y (y_cc M) (y_nL M) (y_ret M)).before args s = true) (hW0 : s0.WarmedH s.vm) (hR : y_R s0 D dA ω T.heap locs) (hnf : y_fr M + 1 = nf) (hnl : 8 + (y_nL M + 11) + y_lo M = nl) (hfr : nf ≤ R.frames) (hlo : nl ≤ R.locals) (hcat : y_cat rest ≤ 8) (hmc : R.cells + c0 = mc ∧ R.slots + d0 = ms) (hca : cells + c0 = ca ∧ ca ≤ mc) (hsa : slots + d0 = sa ∧ sa ≤ ms) (hsz : ls.size = c.maxLocals) (hd : decode c.code pc = .ok (i, len)) (hF : y_F M mc ms av ω ca sa Qp)
    (X₁ : Stand p l e R s m args below meth c (T.setVm vm₁) locs cells slots) (hn : (T.setVm vm₁).methodNamed? y = some mk) (hstep : ∀ target, (∀ acts, Steps p.tables e below (doInvoke e ((T.setVm vm₁).setTop (F0 m pc ls rest)) acts mk av.toArray).1 target) → Steps p.tables e below (T.setTop (F0 m pc ls st)) target)
    (kr : ∀ (v : Option Value) (ω' : y_Hp) (H' : Heap) (locs' : List Loc) (c' s' ce' sl' : Nat), Qp (.returned v) ω' c' s' → ce' + c0 = c' ∧ c' ≤ mc → sl' + d0 = s' ∧ s' ≤ ms → y_R s0 D dA ω' H' locs' → W p l e R s m args below meth c H' locs' ce' sl' Q (F0 m (pc + len) ls (v.toList ++ rest)))
    (kt : ∀ (x : Nat) (ω' : y_Hp) (H' : Heap) (locs' : List Loc) (c' s' ce' sl' : Nat), Qp (.threw x) ω' c' s' → ce' + c0 = c' ∧ c' ≤ mc → sl' + d0 = s' ∧ s' ≤ ms → y_R s0 D dA ω' H' locs' → y_WT p l e R s m args below meth c H' locs' ce' sl' Q (F0 m pc ls rest) x) :
    ∃ t, Steps p.tables e below (T.setTop (F0 m pc ls st)) t ∧ Q t := by
  have hW1 : s.WarmedH (T.setVm vm₁).vm := X₁.warmed
  have hcw1 : (Cond.code y (y_cc M) (y_nL M) (y_ret M)).before args (T.setVm vm₁) = true := word_at hW1 (Or.inl rfl) hcw
  obtain ⟨methY, cY, q2, q3, qb, q4, qr, qlk, qe, qs⟩ := Cond.code_spec hn hcw1
  obtain ⟨k0, hk0⟩ : ∃ k0, k0 + ca = mc := ⟨mc - ca, by omega⟩
  obtain ⟨n0, hn0⟩ : ∃ n0, n0 + sa = ms := ⟨ms - sa, by omega⟩
  have hcat' : (rest.map fun v => v.category).sum ≤ 8 := hcat
  obtain ⟨s₁, hh0, XX, hent⟩ := y_enter (R' := { frames := y_fr M, cells := k0, slots := n0, locals := y_lo M }) (g := F0 m pc ls rest) (a := av.toArray) X₁ rfl hsz hd hy hn q2 q3 qlk (by show y_fr M + 1 ≤ _; omega) (by rw [q4]; show 2 * 0 + (rest.map fun v => v.category).sum + (y_nL M + 11) + y_lo M ≤ R.locals; omega) (by show cells + k0 ≤ R.cells; omega) (by show slots + n0 ≤ R.slots; omega)
  have h : At (T.setVm vm₁) m c below := X₁.here
  have hWs : s0.WarmedH ((T.setVm vm₁).calling (F0 m pc ls rest) mk av.toArray).vm := by
    rw [State.calling_eq h.top]; exact State.WarmedH.trans hW0 hW1
  have hhs : ((T.setVm vm₁).calling (F0 m pc ls rest) mk av.toArray).heap = T.heap := by rw [State.calling_eq h.top]; rfl
  have hex : cY.exceptionTable.toList = [] := by simpa using qe
  have X2 : y_X s0 p ((T.setVm vm₁).calling (F0 m pc ls rest) mk av.toArray) mk methY cY M := ⟨hx, qb, q4, qr, qlk, by rw [← hown, State.calling_eq h.top]; exact findClass_of_methodNamed hn, hWs, by rw [hhs, hR.1.1]; exact hR.1.2.1, (fun q => absurd (hini.symm.trans q) (by decide)), (by rw [hex, hhh]; rfl)⟩
  have hJ := hF.2 _ (y_sound HG HT HA hG)
  have hl := lv_entry av (n := y_nL M) (by rw [y_sl_cat]; exact hF.1)
  have hw := hJ p l e { frames := y_fr M, cells := k0, slots := n0, locals := y_lo M } _ mk av.toArray (.java (F0 m pc ls rest) :: below) methY cY T.heap [] _ ca sa 0 0 X2 (Nat.le_refl _) (Nat.le_refl _) hk0 hn0 ⟨Nat.zero_add _, by show ca ≤ mc; omega⟩ ⟨Nat.zero_add _, by show sa ≤ ms; omega⟩ ⟨hR.1, hR.2.1, fun q z => by cases z⟩ hl
  have hw : W p l e { frames := y_fr M, cells := k0, slots := n0, locals := y_lo M } ((T.setVm vm₁).calling (F0 m pc ls rest) mk av.toArray) mk av.toArray (.java (F0 m pc ls rest) :: below) methY cY T.heap [] 0 0 (y_MQ s0 D dA (.java (F0 m pc ls rest) :: below) Qp ((T.setVm vm₁).calling (F0 m pc ls rest) mk av.toArray) mc ms ca sa) (entryFrame mk av.toArray (y_nL M)) := by
    rw [lg_entry_eq]; exact hw
  obtain ⟨t, a1, o, b1, b2, ω', c', s', k, n, b3, b4, b5, b6, L, b7, b8⟩ := hw s₁ hh0 XX
  rw [← q4] at a1
  obtain ⟨o', st₀, t', T', L', k', n', h0, ⟨ω2, c2, s2, hq, ⟨hW', hR'⟩, hk1, hn1⟩, X', hL, e1, e2, hr, ht⟩ := y_back2 (Qc := fun _ _ o t k n => ∃ ω' c' s', Qp o ω' c' s' ∧ y_GW s0 D dA ω' t ∧ (k + ca = c' ∧ c' ≤ mc) ∧ (n + sa = s' ∧ s' ≤ ms)) (free := fun q => s0.heap.size ≤ q) (g := F0 m pc ls rest) X₁ rfl hd (by rw [hent]; exact y_weaken a1) (by rw [X₁.tail]; exact b2) ⟨k, n, ⟨ω', c', s', b3, b4, b5, b6⟩, L, b7, b8⟩
  have hR2 : y_R s0 D dA ω2 T'.heap (locs ++ L') := by
    rw [e1]
    refine ⟨hR'.1, hR'.2.1, fun q h => ?_⟩
    rcases List.mem_append.mp h with z | z
    · exact hR.2.2 q z
    · exact hL q z
  cases o' with
  | returned v =>
    obtain ⟨t2, a2, b9⟩ := kr v ω2 T'.heap _ c2 s2 _ _ hq ⟨by omega, hk1.2⟩ ⟨by omega, hn1.2⟩ hR2 T' rfl X'
    exact ⟨t2, hstep _ fun acts => by rw [doInvoke_state]; exact (hr v rfl).trans a2, b9⟩
  | threw x =>
    obtain ⟨t2, a2, b9⟩ := kt x ω2 T'.heap _ c2 s2 _ _ hq ⟨by omega, hk1.2⟩ ⟨by omega, hn1.2⟩ hR2 T' rfl X'
    exact ⟨t2, hstep _ fun acts => by rw [doInvoke_state]; exact (ht x rfl).trans a2, b9⟩
end
