theorem y_HA : ∀ t, t < 4 → Cond.arrayClass (y_ty t) ∈ lw_all := by
  intro t ht
  have : t = 0 ∨ t = 1 ∨ t = 2 ∨ t = 3 := by omega
  rcases this with rfl | rfl | rfl | rfl
  · exact q140
  · exact q139
  · exact q262
  · exact q1334
theorem y_HT {s0 : State} {b0 : Nat} {D : va_G} {dA : Nat → ClassId} (HG : y_G s0 b0 D dA) : y_OKtak s0 b0 := by
  intro t ci h C r hC hr
  unfold y_takes at h
  simp only [Bool.or_eq_true, Bool.and_eq_true, beq_iff_eq] at h
  rcases h with (⟨rfl, h⟩ | ⟨rfl, rfl⟩) | ⟨rfl, rfl⟩
  · cases hC
    rcases h with (((rfl | rfl) | rfl) | rfl) | rfl <;> cases hr
    · exact Or.inl (HG.1 _ q1655)
    · exact Or.inl (HG.1 _ q1656)
    · exact Or.inl (HG.1 _ q1657)
    · exact Or.inl (HG.1 _ q1658)
    · exact Or.inl (HG.1 _ q1659)
  · cases hC
    cases hr
    exact Or.inr rfl
  · cases hC
    cases hr
    exact Or.inr rfl
