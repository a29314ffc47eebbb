theorem y_leN {a b : Nat} (ha : a < 2147483648) (hb : b < 2147483648) : (nI a ≤ nI b) = (a ≤ b) := propext (nI_leI ha hb)
theorem y_ltN {a b : Nat} (ha : a < 2147483648) (hb : b < 2147483648) : (nI a < nI b) = (a < b) := propext (nI_ltI ha hb)
theorem y_eqN {a b : Nat} (ha : a < 2147483648) (hb : b < 2147483648) : (nI a = nI b) = (a = b) := propext (nI_eq ha hb)
theorem y_leT {a b : Nat} (h : a ≤ b) (hb : b < 2147483648) : (nI a ≤ nI b) = True := eq_true (nI_le h hb)
theorem y_leF {a b : Nat} (h : b < a) (hb : a < 2147483648) : (nI a ≤ nI b) = False := eq_false (nI_ge h hb)
theorem y_ltT {a b : Nat} (h : a < b) (hb : b < 2147483648) : (nI a < nI b) = True := eq_true (nI_lt h hb)
theorem y_ltF {a b : Nat} (h : b ≤ a) (hb : a < 2147483648) : (nI a < nI b) = False := eq_false (nI_nlt h hb)
theorem y_eqF {a b : Nat} (h : a ≠ b) (ha : a < 2147483648) (hb : b < 2147483648) : (nI a = nI b) = False := eq_false (fun q => h ((nI_eq ha hb).mp q))
theorem y_ge0 {n : Nat} (h : n < 2147483648) : ((0 : Int32) ≤ nI n) = True := eq_true (nI_pos' h)
theorem y_nlt0 {n : Nat} (h : n < 2147483648) : (nI n < 0) = False := eq_false (nI_pos h)
theorem y_sub1 {n : Nat} (h : 0 < n) : nI n - 1 = nI (n - 1) := by
  obtain ⟨k, rfl⟩ : ∃ k, n = k + 1 := ⟨n - 1, by omega⟩
  exact nI_pred k
theorem y_subN {a b : Nat} (h : b ≤ a) : nI a - nI b = nI (a - b) := pk_sub h
theorem m_sa_si {σ : m_S} {k j : Nat} {v : Int32} {f : Nat → Int32} : m_sa (m_si σ k v) j f = m_si (m_sa σ j f) k v := rfl
theorem m_sl_si {σ : m_S} {k j : Nat} {v : Int32} {f : Nat → Int64} : m_sl (m_si σ k v) j f = m_si (m_sl σ j f) k v := rfl
theorem m_sl_sa {σ : m_S} {k j : Nat} {v : Nat → Int32} {f : Nat → Int64} : m_sl (m_sa σ k v) j f = m_sa (m_sl σ j f) k v := rfl
theorem m_si_si {σ : m_S} {k : Nat} {v w : Int32} : m_si (m_si σ k v) k w = m_si σ k w := by
  refine Prod.ext (funext fun j => ?_) rfl
  show (if j = k then w else if j = k then v else σ.1 j) = (if j = k then w else σ.1 j)
  by_cases h : j = k
  · rw [if_pos h, if_pos h]
  · rw [if_neg h, if_neg h, if_neg h]
theorem m_sa_sa {σ : m_S} {k : Nat} {v w : Nat → Int32} : m_sa (m_sa σ k v) k w = m_sa σ k w := by
  refine Prod.ext rfl (Prod.ext (funext fun j => ?_) rfl)
  show (if j = k then w else if j = k then v else σ.2.1 j) = (if j = k then w else σ.2.1 j)
  by_cases h : j = k
  · rw [if_pos h, if_pos h]
  · rw [if_neg h, if_neg h, if_neg h]
theorem m_sl_sl {σ : m_S} {k : Nat} {v w : Nat → Int64} : m_sl (m_sl σ k v) k w = m_sl σ k w := by
  refine Prod.ext rfl (Prod.ext rfl (funext fun j => ?_))
  show (if j = k then w else if j = k then v else σ.2.2 j) = (if j = k then w else σ.2.2 j)
  by_cases h : j = k
  · rw [if_pos h, if_pos h]
  · rw [if_neg h, if_neg h, if_neg h]
/-- places copied from one row into another -/
def y_cp (f g : Nat → Int32) (d s n : Nat) : Nat → Int32 := fun j => if d ≤ j ∧ j < d + n then g (s + (j - d)) else f j
theorem y_cp0 {f g : Nat → Int32} {d s : Nat} : y_cp f g d s 0 = f := funext fun j => if_neg (by omega)
theorem y_cpS {f g : Nat → Int32} {d s k : Nat} : upd (y_cp f g d s k) (d + k) (g (s + k)) = y_cp f g d s (k + 1) := by
  funext j
  unfold upd y_cp
  by_cases h : j = d + k
  · rw [if_pos h, if_pos (by omega), h, Nat.add_sub_cancel_left]
  · rw [if_neg h]
    by_cases h2 : d ≤ j ∧ j < d + k
    · rw [if_pos h2, if_pos (by omega)]
    · rw [if_neg h2, if_neg (by omega)]
theorem y_cp_in {f g : Nat → Int32} {d s n j : Nat} (h : d ≤ j ∧ j < d + n) : y_cp f g d s n j = g (s + (j - d)) := if_pos h
theorem y_cp_off {f g : Nat → Int32} {d s n j : Nat} (h : ¬ (d ≤ j ∧ j < d + n)) : y_cp f g d s n j = f j := if_neg h
theorem upd_at {f : Nat → Int32} {j : Nat} {x : Int32} : upd f j x j = x := if_pos rfl
theorem upd_off {f : Nat → Int32} {i j : Nat} {x : Int32} (h : i ≠ j) : upd f j x i = f i := if_neg h
/-! a league as naturals -/
def n_up (N : Nat → Nat) (j v : Nat) : Nat → Nat := fun i => if i = j then v else N i
theorem n_up_at {N : Nat → Nat} {j v : Nat} : n_up N j v j = v := if_pos rfl
theorem n_up_off {N : Nat → Nat} {i j v : Nat} (h : i ≠ j) : n_up N j v i = N i := if_neg h
def oI (o : Option Nat) : Int32 := match o with
  | none => (-1000000)
  | some h => nI h
theorem oI_none : oI none = (-1000000) := rfl
theorem oI_some {h : Nat} : oI (some h) = nI h := rfl
/-- where a way leads, for one of a kind -/
def n_end (N : Nat → Nat) (p w f : Nat) : Option Nat := if N (36 + 8 * p) = 5 ∧ 10 < N (4 + 4 * w + 2) then none else if N (4 + 4 * w) = f then some (N (4 + 4 * w + 1)) else if N (4 + 4 * w + 1) = f then some (N (4 + 4 * w)) else none
def n_ages (N : Nat → Nat) (p w : Nat) : Nat := if N (36 + 8 * p) = 2 then N (4 + 4 * w + 3) - 1 else if N (36 + 8 * p) = 3 then 0 else if N (36 + 8 * p) = 4 then N (4 + 4 * w + 2) else N (4 + 4 * w + 3)
/-- what is kept ahead of an act -/
def n_ka (a : Nat) : Nat := if a = 24 then 24 else a + 1
def n_kH (H : Nat → Nat → Nat) (a : Nat) (N : Nat → Nat) : Nat → Nat → Nat := fun k => if a = 24 then (if k < 23 then H (k + 1) else N) else (if k < a then H k else N)
/-- all numbers of a league are small -/
def n_sm (N : Nat → Nat) : Prop := ∀ j, j < 68 → N j < 1000000
/-- what a league is -/
def n_ok (N : Nat → Nat) : Prop := (N 0 ≤ 5 ∧ N 1 ≤ 20 ∧ N 2 ≤ 8 ∧ N 3 ≤ 4) ∧
  (∀ w, w < N 2 → N (4 + 4 * w) < N 0 ∧ N (4 + 4 * w + 1) < N 0 ∧ N (4 + 4 * w) ≠ N (4 + 4 * w + 1) ∧ 1 ≤ N (4 + 4 * w + 2) ∧ N (4 + 4 * w + 2) ≤ 20 ∧ N (4 + 4 * w + 3) ≤ N (4 + 4 * w + 2)) ∧
  (∀ p, p < N 3 → (1 ≤ N (36 + 8 * p) ∧ N (36 + 8 * p) ≤ 5) ∧ N (36 + 8 * p + 1) < N 0 ∧ N (36 + 8 * p + 2) ≤ 99 ∧ N (36 + 8 * p + 3) ≤ 200 ∧ N (36 + 8 * p + 4) ≤ N (36 + 8 * p + 2) + N (36 + 8 * p + 3) ∧ N (36 + 8 * p + 5) ≤ 9999 ∧ N (36 + 8 * p + 6) ≤ N (36 + 8 * p + 3) ∧ N (36 + 8 * p + 7) ≤ N (36 + 8 * p + 4))
