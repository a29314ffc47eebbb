/-! a constructor's receiver is a reference; super's receiver is an object that is known -/
def y_ref (F : y_Tr) : y_Tr := fun mc ms av ω c s Q => (match av with
  | .ref _ :: _ => True
  | _ => False) ∧ F mc ms av ω c s Q
def y_self (F : y_Tr) : y_Tr := fun mc ms av ω c s Q => (match av with
  | .ref a :: _ => (y_cls ω a).isSome = true
  | _ => False) ∧ F mc ms av ω c s Q
theorem y_ref_mono {F : y_Tr} (h : y_Mono F) : y_Mono (y_ref F) := fun _ _ _ _ _ _ _ _ q hQ => ⟨q.1, h _ _ _ _ _ _ _ _ q.2 hQ⟩
theorem y_self_mono {F : y_Tr} (h : y_Mono F) : y_Mono (y_self F) := fun _ _ _ _ _ _ _ _ q hQ => ⟨q.1, h _ _ _ _ _ _ _ _ q.2 hQ⟩
theorem y_ref_s {F : y_Tr} {mc ms a : Nat} {av : List Value} {ω : y_Hp} {c s : Nat} {Q : y_Po} : y_ref F mc ms (.ref a :: av) ω c s Q = F mc ms (.ref a :: av) ω c s Q := by simp [y_ref]
theorem y_self_s {F : y_Tr} {mc ms a ci : Nat} {av : List Value} {ω : y_Hp} {c s : Nat} {Q : y_Po} (h : y_cls ω a = some ci) : y_self F mc ms (.ref a :: av) ω c s Q = F mc ms (.ref a :: av) ω c s Q := by simp [y_self, h]
theorem y_ref_fst {F : y_Tr} : ∀ k n av ω c s Q, y_ref F k n av ω c s Q → ∃ a av', av = .ref a :: av' := by
  intro k n av ω c s Q h
  have h := h.1
  split at h
  · exact ⟨_, _, rfl⟩
  · exact h.elim
theorem y_self_fst {F : y_Tr} : ∀ k n av ω c s Q, y_self F k n av ω c s Q → ∃ a av' ci, av = .ref a :: av' ∧ y_cls ω a = some ci := by
  intro k n av ω c s Q h
  have h := h.1
  match av, h with
  | .ref a :: av', h =>
    obtain ⟨ci, hci⟩ := Option.isSome_iff_exists.mp h
    exact ⟨a, av', ci, rfl, hci⟩
section
variable {s0 : State} {b0 : Nat} {D : va_G} {dA : Nat → ClassId} {l : Launch} {y : MethodName} {cw : Cond} {fr lo : Nat} {F : y_Tr}
theorem y_CT.ref (h : y_CT s0 D dA l y cw fr lo F) : y_CT s0 D dA l y cw fr lo (y_ref F) := fun mc ms av ω ca sa Q q => h mc ms av ω ca sa Q q.2
theorem y_CT.self (h : y_CT s0 D dA l y cw fr lo F) : y_CT s0 D dA l y cw fr lo (y_self F) := fun mc ms av ω ca sa Q q => h mc ms av ω ca sa Q q.2
end
