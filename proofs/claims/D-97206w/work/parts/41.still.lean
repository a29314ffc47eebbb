/-! sets of at most five that only grow are still after four steps -/
def v_c (r : Nat → Bool) : Nat := (r 0).toNat + (r 1).toNat + (r 2).toNat + (r 3).toNat + (r 4).toNat
theorem v_le {r q : Nat → Bool} (h : ∀ j, r j = true → q j = true) (j : Nat) : (r j).toNat ≤ (q j).toNat := by
  have := h j
  cases hr : r j <;> cases hq : q j <;> simp_all
theorem v_lt {r q : Nat → Bool} (h : ∀ j, r j = true → q j = true) (hq : ∀ j, q j = true → j < 5) (hn : ¬ ∀ j, q j = r j) : v_c r + 1 ≤ v_c q := by
  obtain ⟨j, hj⟩ := Classical.not_forall.mp hn
  have h1 : q j = true ∧ r j = false := by
    have := h j
    cases hr : r j <;> cases hq : q j <;> simp_all
  have l0 := v_le h 0; have l1 := v_le h 1; have l2 := v_le h 2; have l3 := v_le h 3; have l4 := v_le h 4
  have hj5 := hq j h1.1
  have a : (q j).toNat = 1 := by rw [h1.1]; rfl
  have b : (r j).toNat = 0 := by rw [h1.2]; rfl
  unfold v_c
  have : j = 0 ∨ j = 1 ∨ j = 2 ∨ j = 3 ∨ j = 4 := by omega
  rcases this with rfl | rfl | rfl | rfl | rfl <;> omega
theorem v_still {R : Nat → Nat → Bool} (h5 : ∀ k h, R k h = true → h < 5) (hm : ∀ k h, R k h = true → R (k + 1) h = true) (hs : ∀ k, (∀ h, R (k + 1) h = R k h) → ∀ h, R (k + 2) h = R (k + 1) h) {h0 : Nat} (h00 : R 0 h0 = true) : ∀ h, R 5 h = R 4 h := by
  have up : ∀ k, (∀ h, R (k + 1) h = R k h) ∨ v_c (R k) + 1 ≤ v_c (R (k + 1)) := by
    intro k
    by_cases hk : ∀ h, R (k + 1) h = R k h
    · exact .inl hk
    · exact .inr (v_lt (hm k) (h5 (k + 1)) hk)
  have b0 : 1 ≤ v_c (R 0) := by
    have := h5 0 h0 h00
    have a : (R 0 h0).toNat = 1 := by rw [h00]; rfl
    unfold v_c
    have : h0 = 0 ∨ h0 = 1 ∨ h0 = 2 ∨ h0 = 3 ∨ h0 = 4 := by omega
    rcases this with rfl | rfl | rfl | rfl | rfl <;> omega
  have b5 : v_c (R 5) ≤ 5 := by
    unfold v_c
    have := Bool.toNat_le (R 5 0); have := Bool.toNat_le (R 5 1); have := Bool.toNat_le (R 5 2); have := Bool.toNat_le (R 5 3); have := Bool.toNat_le (R 5 4)
    omega
  rcases up 4 with e | e4
  · exact e
  rcases up 3 with e | e3
  · exact hs 3 e
  rcases up 2 with e | e2
  · exact hs 3 (hs 2 e)
  rcases up 1 with e | e1
  · exact hs 3 (hs 2 (hs 1 e))
  rcases up 0 with e | e0
  · exact hs 3 (hs 2 (hs 1 (hs 0 e)))
  exfalso
  simp only [Nat.reduceAdd] at *
  omega
