/-! statics, texts; System.arraycopy, an array's clone and cast -/
section
variable {s0 : State} {b0 : Nat} {D : va_G} {dA : Nat → ClassId}
theorem y_sta_of {own : String} {idx : Nat} {C n d : String} {v : Value} {A : Nat → Prop} (HG : y_G s0 b0 D dA) (hZ : va_Z C n d v A s0 s0.heap) (hlink : Cond.fieldLink own idx C n d ∈ lw_all) : y_OKsta s0 own (idx, v) := by
  intro p l e R s m args below meth c H locs cells slots Q pc ls rest hx hown hW hH hd kk
  obtain ⟨cf, kf, fi, f, a, cell, h1, h2, h3, h4, h5, h6, h7, -⟩ := va_Z.moved hW.alike hZ
  exact W.gets hx rfl hown (y_hts HG hW _ hlink) h1 h2 h3 h4 (by rw [hH a (Array.getElem?_eq_some_iff.mp h5).1]; exact h5) (fun e => by rw [e] at h6; cases h6) h7 rfl hd kk
theorem y_staN_of {own host : String} {idx : Nat} {C n d : String} {v : Value} {A : Nat → Prop} (HG : y_G s0 b0 D dA) (hZ : va_Z C n d v A s0 s0.heap) (hlink : Cond.fieldLinkNest own idx C n d host ∈ lw_tbl) : y_OKsta s0 own (idx, v) := by
  intro p l e R s m args below meth c H locs cells slots Q pc ls rest hx hown hW hH hd kk
  obtain ⟨cf, kf, fi, f, a, cell, h1, h2, h3, h4, h5, h6, h7, -⟩ := va_Z.moved hW.alike hZ
  exact va_WgetsN hx rfl hown (va_Nw.use rfl (va_Nw.warmF hW (va_Nw.of rfl (HG.1 _ hlink)))) h1 h2 h3 h4 (by rw [hH a (Array.getElem?_eq_some_iff.mp h5).1]; exact h5) (fun e => by rw [e] at h6; cases h6) h7 rfl hd kk
theorem y_con_s {own tx : String} {idx a : Nat} (hR : vk_R own idx tx a s0) : y_OKcon s0 own (idx, .ref a) := by
  intro p l e R s m args below meth c H locs cells slots Q pc ls rest i len hx hown hW _ hi hd kk
  rcases hi with ⟨-, rfl, rfl⟩ | ⟨h0, -⟩ | ⟨h0, -⟩
  · exact va_ldcS hx rfl hown (vk_R.warm hW hR) hd kk
  · cases h0
  · cases h0
/-- a cast of an array to its own class -/
theorem y_tsa_of {own : String} {idx t : Nat} {nm : String} (HG : y_G s0 b0 D dA) (hlink : Cond.classLink own idx nm ∈ lw_all) (ht : t < 8) (hnm : ∀ (U : State) (cA : ClassId), va_RA U cA (y_ty t) → U.vm.findClass nm = some cA) : y_OKtsa s0 D dA own (idx, 100 + t, 1) := by
  intro _ k hk p l e R s m args below meth c H locs cells slots Q pc ls rest a q ω hx hown hW hK hR ho hd kk
  have hk : t = k := by have : 100 + t = 100 + k := hk; omega
  subst hk
  obtain ⟨-, -, hat⟩ := (hR.1.2.2 a true _ ho).1 rfl
  have hcell : H[a]? = some (vp_cell (dA t) q) := hat
  have hvm0 : (vp_cell (dA t) q).vm = .none := by obtain ⟨n, f | f | f | f | f⟩ := q <;> rfl
  have hcl0 : (vp_cell (dA t) q).cls = dA t := by obtain ⟨n, f | f | f | f | f⟩ := q <;> rfl
  intro T hT X
  obtain ⟨vm', X', st⟩ := X.checkcastYes hx hown (y_hts HG hW _ hlink) (by rw [hT]; exact hcell) (by rw [hvm0]; rfl) (hnm s _ (hK.2 t ht).2) (by rw [hcl0]; exact va_asg _ _) (g := F0 m pc ls (.ref a :: rest)) rfl rfl hd
  obtain ⟨t', a1, b1⟩ := kk (T.setVm vm') hT X'
  exact ⟨t', st t' a1, b1⟩
/-- System.arraycopy between int[]s or byte[]s of ours -/
def y_acopy : y_Tr := fun _ _ av ω c s Q => match av with
  | [.ref a0, .int sp, .ref a1, .int dp, .int n] => (match ω.2 a0 with
    | some (true, .inl (t0, n0, .inl f)) => (match ω.2 a1 with
      | some (true, .inl (t1, n1, .inl g)) => t0 = t1 ∧ t1 < 2 ∧ (t1 = 1 → ∀ i, i < n.toNatClampNeg → fits .byte (.int (f (sp.toNatClampNeg + i))) = true) ∧ (¬ sp < 0 ∧ ¬ dp < 0 ∧ ¬ n < 0 ∧ sp.toNatClampNeg + n.toNatClampNeg ≤ n0 ∧ dp.toNatClampNeg + n.toNatClampNeg ≤ n1) ∧
          Q (.returned none) (y_hup ω a1 (.inl (t1, n1, .inl (va_cpy f g sp.toNatClampNeg dp.toNatClampNeg n.toNatClampNeg)))) c s
      | _ => False)
    | _ => False)
  | _ => False
theorem y_acopy_mono : y_Mono y_acopy := by
  intro mc ms av ω c s Q Q' h hQ
  unfold y_acopy at h ⊢
  split at h
  · split at h
    · split at h
      · exact ⟨h.1, h.2.1, h.2.2.1, h.2.2.2.1, hQ _ _ _ _ h.2.2.2.2⟩
      · exact h.elim
    · exact h.elim
  · exact h.elim
theorem y_cal_acopy {own : String} {idx ci : Nat} (HG : y_G s0 b0 D dA) (h1 : Cond.methodLink own idx arraycopyName ∈ lw_all) (h2 : Cond.native arraycopyName ∈ lw_all) (h3 : Cond.static arraycopyName ∈ lw_all) (h4 : Cond.initialized "java/lang/System" ∈ lw_all) : y_OKcal s0 D dA own (idx, 0, ci, 5, (1, 60), y_acopy) := by
  intro p l e R s m args below meth c H locs cells slots Q pc ls rest av ω Qp i len mc ms ca sa c0 d0 hx hsz hown hW _ hR hfr hlo hna hcat hmc hca0 hsa0 hi hd hF kr kt
  have hi : i = .invokestatic idx ∧ len = 3 := by
    rcases hi with ⟨h, -⟩ | ⟨-, h⟩ | ⟨h, -⟩ | ⟨⟨h, -⟩ | ⟨h, -⟩, -⟩
    · cases h
    · exact h
    · cases h
    · cases h
    · cases h
  obtain ⟨rfl, rfl⟩ := hi
  replace hF : y_acopy mc ms av ω ca sa Qp := hF
  unfold y_acopy at hF
  split at hF
  · rename_i a0 sp a1 dp n
    split at hF
    · rename_i t0 n0 f ho0
      split at hF
      · rename_i t1 n1 g ho1
        obtain ⟨rfl, ht, hfit, ⟨g1, g2, g3, g4, g5⟩, hq⟩ := hF
        have hts := y_hts (args := args) HG hW
        have hK := HG.2.1.moved hW.alike
        have nn : ∀ z : Int32, ¬ z < 0 → z.toInt = (z.toNatClampNeg : Int) := by
          intro z hz
          have hz0 : (0 : Int) ≤ z.toInt := by
            have := Int32.not_lt.mp hz
            simpa using Int32.le_iff_toInt_le.mp this
          show z.toInt = ((z.toInt.toNat : Nat) : Int)
          omega
        have hc0 : H[a0]? = some (vp_cell (dA t0) (n0, .inl f)) := ((hR.1.2.2 a0 true _ ho0).1 rfl).2.2
        have hc1 : H[a1]? = some (vp_cell (dA t0) (n1, .inl g)) := ((hR.1.2.2 a1 true _ ho1).1 rfl).2.2
        obtain ⟨-, k0, hk0, cm0, hkk0⟩ := (hK.2 t0 (by omega)).1 n0 (fun j => .int (f j))
        obtain ⟨-, k1, hk1, cm1, hkk1⟩ := (hK.2 t0 (by omega)).1 n1 (fun j => .int (g j))
        intro T hT X
        have hprim : refKind (y_ty t0) = false := by
          have : t0 = 0 ∨ t0 = 1 := by omega
          rcases this with rfl | rfl <;> rfl
        have hfit' : ∀ i, i < n.toNatClampNeg → fits (y_ty t0) (.int (f (sp.toNatClampNeg + i))) = true := by
          have : t0 = 0 ∨ t0 = 1 := by omega
          rcases this with rfl | rfl
          · intro i _; rfl
          · exact hfit rfl
        obtain ⟨vm', X', step⟩ := X.arraycopy hx hown (hts _ h1) (hts _ h2) (hts _ h3) (hts _ h4) (src := a0) (dst := a1) (cs := vp_cell (dA t0) (n0, .inl f)) (cd := vp_cell (dA t0) (n1, .inl g)) (srcPos := sp) (destPos := dp) (n := n) (by rw [hT]; exact hc0) (by rw [hT]; exact hc1)
          (fun _ h => by cases h) (fun _ h => by cases h) (fun h => by cases h) (fun h => by cases h) hk0 hk1 hkk0 hkk1 (by simp [hprim]) g1 g2 g3
          (by rw [nn sp g1, nn n g3]; show ¬ _ > ((arrV (dA t0) n0 (fun j => .int (f j))).slots.size : Int); rw [arrV_size]; omega)
          (by rw [nn dp g2, nn n g3]; show ¬ _ > ((arrV (dA t0) n1 (fun j => .int (g j))).slots.size : Int); rw [arrV_size]; omega)
          (fun vm₁ _ i hi => by
            have e : (vp_cell (dA t0) (n0, .inl f)).slots.getD (sp.toNatClampNeg + i) .null = .int (f (sp.toNatClampNeg + i)) := by
              show (arrV (dA t0) n0 (fun j => .int (f j))).slots.getD _ _ = _
              rw [Array.getD_eq_getD_getElem?, arrV_read _ _ (by omega)]
              rfl
            refine ⟨?_, ?_⟩
            · rw [e]
              exact hfit' i hi
            · rw [e]
              exact trivial)
          (g := F0 m pc ls (.int n :: .int dp :: .ref a1 :: .int sp :: .ref a0 :: rest)) rfl hsz (rest := rest) rfl hd hfr (by
            have hw : nativeFrameWords "java/lang/System" "arraycopy" 5 + 11 ≤ 52 := by decide
            have : (rest.map fun v => v.category).sum ≤ 8 := hcat
            show 2 * 0 + (rest.map fun v => v.category).sum + _ ≤ R.locals
            have hlo' : 60 ≤ R.locals := hlo
            omega)
        have e1 : copied (vp_cell (dA t0) (n0, .inl f)) (vp_cell (dA t0) (n1, .inl g)) sp dp n = vp_cell (dA t0) (n1, .inl (va_cpy f g sp.toNatClampNeg dp.toNatClampNeg n.toNatClampNeg)) := va_copied (fun z => .int z) _ _ f g g4
        rw [e1] at X' step
        have hl : a1 < H.size := (Array.getElem?_eq_some_iff.mp hc1).1
        have hheap : ((T.setVm vm').setCell a1 (vp_cell (dA t0) (n1, .inl (va_cpy f g sp.toNatClampNeg dp.toNatClampNeg n.toNatClampNeg)))).heap = H.setIfInBounds a1 (vp_cell (dA t0) (n1, .inl (va_cpy f g sp.toNatClampNeg dp.toNatClampNeg n.toNatClampNeg))) := by rw [← hT]; rfl
        have hup := y_R_up (i := 0) (x' := .inl (t0, n1, .inl (va_cpy f g sp.toNatClampNeg dp.toNatClampNeg n.toNatClampNeg))) (H' := H.setIfInBounds a1 (vp_cell (dA t0) (n1, .inl (va_cpy f g sp.toNatClampNeg dp.toNatClampNeg n.toNatClampNeg)))) hR ho1 (show t0 < 8 by omega) (show (H.setIfInBounds a1 _)[a1]? = some _ by simp [Array.getElem?_setIfInBounds, hl]) (by simp) (fun q hq => by simp [Array.getElem?_setIfInBounds, Ne.symm hq])
        have hA1 := ((hR.1.2.2 a1 true _ ho1).1 rfl).1
        obtain ⟨t, b1, b2⟩ := kr none _ _ _ ca sa cells slots hq hca0 hsa0 ⟨hup.1, hup.2.1, fun q hq => by
          rcases List.mem_append.mp hq with h | h
          · exact hR.2.2 q h
          · obtain ⟨z, -, hz⟩ := List.mem_map.mp h
            rw [← hz]
            exact hA1⟩ _ hheap X'
        exact ⟨t, step t b1, b2⟩
      · exact hF.elim
    · exact hF.elim
  · exact hF.elim
/-- System.arraycopy between int[]s of ours, which may throw -/
def y_acopyT : y_Tr := fun mc ms av ω c s Q => match av with
  | [.ref a0, .int sp, .ref a1, .int dp, .int n] => (match ω.2 a0 with
    | some (true, .inl (t0, n0, .inl f)) => (match ω.2 a1 with
      | some (true, .inl (t1, n1, .inl g)) => t0 = 0 ∧ t1 = 0 ∧ ((¬ sp < 0 ∧ ¬ dp < 0 ∧ ¬ n < 0 ∧ sp.toNatClampNeg + n.toNatClampNeg ≤ n0 ∧ dp.toNatClampNeg + n.toNatClampNeg ≤ n1) →
          Q (.returned none) (y_hup ω a1 (.inl (t1, n1, .inl (va_cpy f g sp.toNatClampNeg dp.toNatClampNeg n.toNatClampNeg)))) c s) ∧
          (¬ (¬ sp < 0 ∧ ¬ dp < 0 ∧ ¬ n < 0 ∧ sp.toNatClampNeg + n.toNatClampNeg ≤ n0 ∧ dp.toNatClampNeg + n.toNatClampNeg ≤ n1) → c + 3 ≤ mc ∧ s + 600 ≤ ms ∧ ∀ (top a : Nat) (fs : List Value) (s' : Nat), ω.1 ≤ a → a < top → s ≤ s' → s' ≤ s + 600 → Q (.threw a) (y_hthr ω top a 17 fs) (c + 3) s')
      | _ => False)
    | _ => False)
  | _ => False
theorem y_acopyT_mono : y_Mono y_acopyT := by
  intro mc ms av ω c s Q Q' h hQ
  unfold y_acopyT at h ⊢
  split at h
  · split at h
    · split at h
      · exact ⟨h.1, h.2.1, fun z => hQ _ _ _ _ (h.2.2.1 z), fun z => ⟨(h.2.2.2 z).1, (h.2.2.2 z).2.1, fun top a fs s' g1 g2 g3 g4 => hQ _ _ _ _ ((h.2.2.2 z).2.2 top a fs s' g1 g2 g3 g4)⟩⟩
      · exact h.elim
    · exact h.elim
  · exact h.elim
/-- byte[].clone() -/
def y_clone : y_Tr := fun mc ms av ω c s Q => match av with
  | [.ref a] => (match ω.2 a with
    | some (true, .inl (t, n, .inl f)) => t = 1 ∧ (∀ i, i < n → fits .byte (.int (f i)) = true) ∧ c + 1 ≤ mc ∧ s + n ≤ ms ∧ Q (.returned (some (.ref ω.1))) (y_hnew ω (.inl (t, n, .inl f))) (c + 1) (s + n)
    | _ => False)
  | _ => False
theorem y_clone_mono : y_Mono y_clone := by
  intro mc ms av ω c s Q Q' h hQ
  unfold y_clone at h ⊢
  split at h
  · split at h
    · exact ⟨h.1, h.2.1, h.2.2.1, h.2.2.2.1, hQ _ _ _ _ h.2.2.2.2⟩
    · exact h.elim
  · exact h.elim
theorem y_cal_clone {own : String} {idx ci : Nat} (HG : y_G s0 b0 D dA) (h1 : Cond.methodLink own idx ⟨"[B", "clone", "()Ljava/lang/Object;"⟩ ∈ lw_all) (h2 : Cond.sameMethod "[B" "java/lang/Object" "clone" "()Ljava/lang/Object;" ∈ lw_all) (h3 : Cond.native ⟨"java/lang/Object", "clone", "()Ljava/lang/Object;"⟩ ∈ lw_all) (h4 : Cond.instanceMethod ⟨"java/lang/Object", "clone", "()Ljava/lang/Object;"⟩ ∈ lw_all)
    (h5 : Cond.selects "[B" ⟨"[B", "clone", "()Ljava/lang/Object;"⟩ ⟨"java/lang/Object", "clone", "()Ljava/lang/Object;"⟩ ∈ lw_all) (h6 : Cond.castable "[B" "java/lang/Cloneable" ∈ lw_tbl) : y_OKcal s0 D dA own (idx, 4, ci, 1, (1, 22), y_clone) := by
  intro p l e R s m args below meth c H locs cells slots Q pc ls rest av ω Qp i len mc ms ca sa c0 d0 hx hsz hown hW _ hR hfr hlo hna hcat hmc hca0 hsa0 hi hd hF kr kt
  have hi : i = .invokevirtual idx ∧ len = 3 := by
    rcases hi with ⟨-, h⟩ | ⟨h, -⟩ | ⟨h, -⟩ | ⟨⟨h, -⟩ | ⟨h, -⟩, -⟩
    · exact h
    · cases h
    · cases h
    · cases h
    · cases h
  obtain ⟨rfl, rfl⟩ := hi
  replace hF : y_clone mc ms av ω ca sa Qp := hF
  unfold y_clone at hF
  split at hF
  · rename_i a
    split at hF
    · rename_i t n f ho
      obtain ⟨rfl, hfit, hr1, hr2, hq⟩ := hF
      have hts := y_hts (args := args) HG hW
      have hK := HG.2.1.moved hW.alike
      have hc : H[a]? = some (vp_cell (dA 1) (n, .inl f)) := ((hR.1.2.2 a true _ ho).1 rfl).2.2
      have hnm := va_nm_byte (hK.2 1 (by omega)).2
      obtain ⟨cc0, t0', f1, f2, f3⟩ := Cond.castable_spec (va_Nw.use (A := args) rfl (va_Nw.warmC hW (va_Nw.of rfl (HG.1 _ h6))))
      cases hnm.symm.trans f1
      intro T hT X
      have hcellT : T.heap[a]? = some (vp_cell (dA 1) (n, .inl f)) := by rw [hT]; exact hc
      obtain ⟨-, kA, hkA, comp, hkind⟩ := State.isArrayOf_alike X.warmed.alike ((hK.2 1 (by omega)).1 0 (fun _ => .null))
      obtain ⟨-, kS, hkS, compS, hkindS⟩ := (hK.2 1 (by omega)).1 0 (fun _ => .null)
      have hsz0 : (vp_cell (dA 1) (n, .inl f)).slots.size = n := arrV_size _ _ _
      obtain ⟨vm', X', st⟩ := X.cloneArray hx hown (hts _ h1) (hts _ h2) (hts _ h3) (hts _ h4) (hts _ h5) (a := a) (cell := vp_cell (dA 1) (n, .inl f)) hcellT (fun k h => by cases h) (fun h => by cases h) hnm f2 f3
        (fun i v hv => by
          have hk' : T.vm.classes[dA 1]? = some kA := hkA
          have hcl0 : (vp_cell (dA 1) (n, .inl f)).cls = dA 1 := rfl
          rw [hcl0]
          simpa [State.fitsSlot, State.slotType?, hk', hkind] using va_fit (ty := y_ty 1) (F := fun j => .int (f j)) hfit i v hv)
        (g := F0 m pc ls (.ref a :: rest)) rfl hsz rfl hd hfr (by
          have : (rest.map fun v => v.category).sum ≤ 8 := hcat
          show 2 * 0 + (rest.map fun v => v.category).sum + 14 ≤ R.locals
          have hlo' : 22 ≤ R.locals := hlo
          omega) (by show cells + 1 ≤ R.cells; omega) (by rw [hsz0]; omega) (hloader := Vm.clonesLoader_of_array hkS hkindS)
      have hcellE : ({ cls := (vp_cell (dA 1) (n, .inl f)).cls, slots := (vp_cell (dA 1) (n, .inl f)).slots } : Cell) = vp_cell (dA 1) (n, .inl f) := rfl
      rw [hcellE, hsz0] at X'
      have hnew := y_R_new (x' := .inl (1, n, .inl f)) (H' := H.push (vp_cell (dA 1) (n, .inl f))) hR (show 1 < 8 by omega) (show (H.push _)[H.size]? = some _ by rw [Array.getElem?_push_size]) (by rw [Array.size_push]) (fun q hq => by rw [Array.getElem?_push, if_neg (Nat.ne_of_lt hq)])
      obtain ⟨t, b1, b2⟩ := kr _ _ _ _ (ca + 1) (sa + n) (cells + 1) (slots + n) hq ⟨by omega, hr1⟩ ⟨by omega, hr2⟩ hnew ((T.setVm vm').pushCell (vp_cell (dA 1) (n, .inl f))) (by rw [← hT]; rfl) X'
      refine ⟨t, st t ?_, b2⟩
      rw [hcellE, hT, hR.1.1]
      exact b1
    · exact hF.elim
  · exact hF.elim
end
