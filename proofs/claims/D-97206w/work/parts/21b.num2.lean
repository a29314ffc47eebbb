theorem y_clN {n : Nat} (h : n < 2147483648) : (nI n).toNatClampNeg = n := nI_clamp h
theorem y_vinN {n k : Nat} (h : n < 2147483648) : vp_in (nI n) k = (n < k) := by
  unfold vp_in
  rw [y_clN h]
  have := nI_pos (n := n) h
  simp [this]
theorem y_vin0 {k : Nat} : vp_in 0 k = (0 < k) := by
  have := @y_vinN 0 k (by decide)
  rwa [show nI 0 = 0 from rfl] at this
theorem y_vin1 {k : Nat} : vp_in 1 k = (1 < k) := by
  have := @y_vinN 1 k (by decide)
  rwa [show nI 1 = 1 from rfl] at this
theorem y_cl0 : (0 : Int32).toNatClampNeg = 0 := by decide
theorem y_cl1 : (1 : Int32).toNatClampNeg = 1 := by decide
theorem y_vinT {n k : Nat} (h : n < k) (hk : k ≤ 2147483648) : vp_in (nI n) k = True := by
  rw [y_vinN (by omega)]
  exact eq_true h
theorem y_nIm (a b : Nat) : nI a * nI b = nI (a * b) := (Int32.ofNat_mul a b).symm
