/-! Object's constructor: walked (nothing says that Object is initialised) -/
def y_oinit : y_Tr := fun _ _ av ω c s Q => match av with
  | [.ref _] => Q (.returned none) ω c s
  | _ => False
theorem y_oinit_mono : y_Mono y_oinit := by
  intro mc ms av ω c s Q Q' h hQ
  unfold y_oinit at h ⊢
  split at h
  · exact hQ _ _ _ _ h
  · exact h.elim
theorem y_oinit_s {mc ms a : Nat} {ω : y_Hp} {c s : Nat} {Q : y_Po} : y_oinit mc ms [.ref a] ω c s Q = Q (.returned none) ω c s := rfl
theorem y_oinit_len : ∀ sig, parseMethodDescriptor "()V" = some sig → ([] : List Value).length = sig.parameters.length := by
  intro sig hs
  have h0 : parseMethodDescriptor "()V" = some ⟨[], none⟩ := by decide
  cases h0.symm.trans hs
  rfl
section
variable {s0 : State} {b0 : Nat} {D : va_G} {dA : Nat → ClassId}
theorem y_cal_oinit {own : String} {idx ci : Nat} (HG : y_G s0 b0 D dA) (h1 : Cond.methodLink own idx ⟨"java/lang/Object", "<init>", "()V"⟩ ∈ lw_all) (h2 : Cond.instanceMethod ⟨"java/lang/Object", "<init>", "()V"⟩ ∈ lw_all) (h4 : Cond.code ⟨"java/lang/Object", "<init>", "()V"⟩ object_method_1_code 1 none ∈ lw_all) : y_OKcal s0 D dA own (idx, 2, ci, 1, (1, 20), y_oinit) := by
  intro p l e R s m args below meth c H locs cells slots Q pc ls rest av ω Qp i len mc ms ca sa c0 d0 hx hsz hown hW _ hR hfr hlo hna hcat hmc hca0 hsa0 hi hd hF kr kt
  have hi : i = .invokespecial idx ∧ len = 3 := by
    rcases hi with ⟨h, -⟩ | ⟨h, -⟩ | ⟨-, h⟩ | ⟨⟨h, -⟩ | ⟨h, -⟩, -⟩
    · cases h
    · cases h
    · exact h
    · cases h
    · cases h
  obtain ⟨rfl, rfl⟩ := hi
  replace hF : y_oinit mc ms av ω ca sa Qp := hF
  unfold y_oinit at hF
  split at hF
  · rename_i a
    intro T hT X
    subst hT
    have hts := y_hts (args := args) HG hW
    have hpl : e.platform.magicAccessors = ({} : Platform).magicAccessors := by rw [X.admits.platform]
    obtain ⟨mk, methM, cM, kP, vm₁, hnamed, hmethM, hcodeM, hbytesM, hlocalsM, hlk, hkP, hnm, hW₁, hstep₁⟩ := Steps.initColdArgs (e := e) X.here hx X.warmed hpl hown (t := ⟨"java/lang/Object", "<init>", "()V"⟩) rfl ⟨by decide, by decide⟩ (hts _ h1) (hts _ h2) (hts _ h4) (f := F0 m pc ls (.ref a :: rest)) rfl (argsL := []) y_oinit_len rfl hd
    have X₁ := X.noted hW₁
    obtain ⟨k', hk', he⟩ := hW₁.alike.2.2 _ _ hkP
    obtain ⟨t, a1, b1⟩ := kr none ω T.heap locs ca sa cells slots hF hca0 hsa0 hR (T.setVm vm₁) rfl X₁
    refine ⟨t, hstep₁ _ fun acts => ?_, b1⟩
    refine X₁.objectInit hx (g := F0 m pc ls rest) rfl hsz (ig := .invokespecial idx) (len := 3) acts hk' (by rw [he]; exact hnm) (show vm₁.method? mk = some methM by rw [hW₁.alike.method?]; exact hmethM) hcodeM hbytesM hlk hfr ?_ hd a1
    have : (rest.map fun v => v.category).sum ≤ 8 := hcat
    have hlo' : 20 ≤ R.locals := hlo
    rw [hlocalsM]
    show 2 * 0 + (rest.map fun v => v.category).sum + (1 + 11) ≤ R.locals
    omega
  · exact hF.elim
end
