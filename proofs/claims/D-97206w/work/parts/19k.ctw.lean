/-! a method with handlers, by contract -/
section
variable {s0 : State} {b0 : Nat} {D : va_G} {dA : Nat → ClassId}
theorem y_ctw_of {M : y_Md} {l : Launch} {y : MethodName} (HG : y_G s0 b0 D dA) (HT : y_OKtak s0 b0) (HA : ∀ t, t < 4 → Cond.arrayClass (y_ty t) ∈ lw_all) (hG : y_Good s0 D dA M) (hy : plainFor y = true) (hown : y.cls = y_own M) (hini : y_ini M = true → y.name = "<init>") :
    y_CT s0 D dA l y (Cond.codeWith y (y_cc M) (y_nL M) (y_ret M) (y_hh M)) (y_fr M) (y_lo M) (y_F M) := by
  intro mc ms av ω ca sa Q hF k0 n0 hk0 hn0
  refine MetFree.of_bodySF (code := y_cc M) (maxLocals := y_nL M) (ret := y_ret M) hy ?_ ?_
  · intro args s m h hn
    obtain ⟨mk, meth, c, hn', h1, h2, h3, h4, h5, h6, h7, -⟩ := Cond.codeWith_spec (atoms_spec (ws := [Cond.codeWith y (y_cc M) (y_nL M) (y_ret M) (y_hh M)]) h _ List.mem_cons_self)
    cases hn.symm.trans hn'
    exact ⟨meth, c, h1, h2, h3, h4, h6, h7⟩
  · intro p e s m args below meth c s₁ B hml hP _
    obtain ⟨rfl, hW, hR⟩ := hP
    have hh0 : s₁.heap = s.heap := by rw [B.state]; rfl
    have hex : c.exceptionTable.toList.map (fun h => (h.startPc, h.endPc, h.handlerPc, h.catchType)) = y_hh M := by
      obtain ⟨mk, meth', c', hn', h1, h2, h3, h4, h5, h6, h7, -⟩ := Cond.codeWith_spec (atoms_spec (ws := [Cond.codeWith y (y_cc M) (y_nL M) (y_ret M) (y_hh M)]) B.pre _ List.mem_cons_self)
      cases B.named.symm.trans hn'
      cases B.method.symm.trans h1
      cases (Stand.of_body B).code.symm.trans h2
      exact h5
    have X : y_X s0 p s m meth c M := ⟨B.exec, B.bytes, hml, B.returns, B.notSynchronized, by rw [← hown]; exact findClass_of_methodNamed B.named, hW, by rw [hR.1.1]; exact hR.1.2.1, fun q => (name_of_methodNamed B.named B.method).1.trans (hini q), hex⟩
    have hJ := hF.2 _ (y_sound HG HT HA hG)
    have hl := lv_entry av (n := y_nL M) (by rw [y_sl_cat]; exact hF.1)
    have hw := hJ p l e { frames := y_fr M, cells := k0, slots := n0, locals := y_lo M } s m av.toArray below meth c s.heap [] _ ca sa 0 0 X (Nat.le_refl _) (Nat.le_refl _) hk0 hn0 ⟨Nat.zero_add _, by show ca ≤ mc; omega⟩ ⟨Nat.zero_add _, by show sa ≤ ms; omega⟩ hR hl
    have hw : W p l e { frames := y_fr M, cells := k0, slots := n0, locals := y_lo M } s m av.toArray below meth c s.heap [] 0 0 (y_MQ s0 D dA below Q s mc ms ca sa) (entryFrame m av.toArray (y_nL M)) := by
      rw [lg_entry_eq]; exact hw
    obtain ⟨t, a1, o, b1, b2, ω', c', s', k, n, b3, b4, b5, b6, b7⟩ := hw s₁ hh0 (Stand.of_body B)
    exact ⟨t, o, a1, b1, b2, k, n, ⟨ω', c', s', b3, b4, b5, b6⟩, b7⟩
end
