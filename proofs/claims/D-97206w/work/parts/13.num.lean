/-! truth values, numbers -/
noncomputable def y_b (p : Prop) : Int32 := @ite Int32 p (Classical.propDecidable p) 1 0
theorem y_b_t {p : Prop} (h : p) : y_b p = 1 := by unfold y_b; exact if_pos h
theorem y_b_f {p : Prop} (h : ¬ p) : y_b p = 0 := by unfold y_b; exact if_neg h
theorem y_b_0 {p : Prop} : (y_b p = 0) = ¬ p := by
  by_cases h : p
  · rw [y_b_t h]; simp [h]
  · rw [y_b_f h]; simp [h]
theorem y_b_1 {p : Prop} : (y_b p = 1) = p := by
  by_cases h : p
  · rw [y_b_t h]; simp [h]
  · rw [y_b_f h]; simp [h]
theorem y_b_nar {p : Prop} : (narrow .boolean (.int (y_b p)) = .int (y_b p)) = True := by
  by_cases h : p
  · rw [y_b_t h]; simp; decide
  · rw [y_b_f h]; simp; decide
theorem y_nar1 : (narrow .boolean (.int 1) = .int 1) = True := by simp; decide
theorem y_nar0 : (narrow .boolean (.int 0) = .int 0) = True := by simp; decide
theorem y_b_eq {p : Prop} {Q : Int32 → Prop} : ((p → Q 1) ∧ (¬ p → Q 0)) = Q (y_b p) := by
  by_cases h : p
  · rw [y_b_t h]; simp [h]
  · rw [y_b_f h]; simp [h]
theorem y_catE : y_cat [] = 0 := rfl
theorem y_catI {x : Int32} {r : List Value} : y_cat (.int x :: r) = 1 + y_cat r := rfl
theorem y_catL {x : Int64} {r : List Value} : y_cat (.long x :: r) = 2 + y_cat r := rfl
theorem y_catR {x : Nat} {r : List Value} : y_cat (.ref x :: r) = 1 + y_cat r := rfl
theorem y_aft_s {M : y_Md} {pc len : Nat} {lv : y_Lv} {st : List Value} {c s : Nat} {P : y_St → Prop} {Q : y_Po} {ω : y_Hp} {v : Value} : y_aft M pc len lv st P Q (.returned (some v)) ω c s = P (pc + len, lv, v :: st, ω, c, s) := rfl
theorem y_aft_n {M : y_Md} {pc len : Nat} {lv : y_Lv} {st : List Value} {c s : Nat} {P : y_St → Prop} {Q : y_Po} {ω : y_Hp} : y_aft M pc len lv st P Q (.returned none) ω c s = P (pc + len, lv, st, ω, c, s) := rfl
theorem y_args0 {i : Nat} : lv_args i [] = [] := rfl
theorem y_argsI {i : Nat} {x : Int32} {vs : List Value} : lv_args i (.int x :: vs) = (i, .int x) :: lv_args (i + 1) vs := rfl
theorem y_argsR {i : Nat} {x : Nat} {vs : List Value} : lv_args i (.ref x :: vs) = (i, .ref x) :: lv_args (i + 1) vs := rfl
theorem y_argsN {i : Nat} {vs : List Value} : lv_args i (.null :: vs) = (i, .null) :: lv_args (i + 1) vs := rfl
theorem y_argsL {i : Nat} {x : Int64} {vs : List Value} : lv_args i (.long x :: vs) = (i, .long x) :: lv_args (i + 2) vs := rfl
theorem y_lsub_nil {lv : y_Lv} : y_lsub [] lv := fun _ h => by cases h
theorem y_lsub_cons {lv t : y_Lv} {q : Nat × Value} (h1 : y_lget lv q.1 = some q.2) (h2 : y_lsub t lv) : y_lsub (q :: t) lv := by
  intro z hz
  rcases List.mem_cons.mp hz with e | e
  · rw [e]; exact h1
  · exact h2 z e
theorem y_c_lt (x y : Int64) : (lg_cmp x y < 0) = (x < y) := propext (lg_cmp_lt x y)
theorem y_c_gt (x y : Int64) : (0 < lg_cmp x y) = (y < x) := propext (lg_cmp_gt x y)
theorem y_c_le (x y : Int64) : (lg_cmp x y ≤ 0) = (x ≤ y) := propext (lg_cmp_le x y)
theorem y_c_ge (x y : Int64) : (0 ≤ lg_cmp x y) = (y ≤ x) := propext (lg_cmp_ge x y)
theorem y_c_eq (x y : Int64) : (lg_cmp x y = 0) = (x = y) := propext (lg_cmp_eq x y)
/-- an int between two numbers -/
def y_in (x lo hi : Int32) : Prop := lo ≤ x ∧ x ≤ hi
theorem y_64le {x y : Int32} : (x.toInt64 ≤ y.toInt64) = (x ≤ y) := by
  apply propext
  rw [Int64.le_iff_toInt_le, Int32.le_iff_toInt_le, Int32.toInt_toInt64, Int32.toInt_toInt64]
theorem y_64le0 {x : Int32} : ((0 : Int64) ≤ x.toInt64) = (0 ≤ x) := by
  have := @y_64le 0 x
  rwa [show (0 : Int32).toInt64 = 0 by decide] at this
theorem y_64le1 {x : Int32} : ((1 : Int64) ≤ x.toInt64) = (1 ≤ x) := by
  have := @y_64le 1 x
  rwa [show (1 : Int32).toInt64 = 1 by decide] at this
theorem y_64leN {x : Int32} {n : Nat} (h : n < 2 ^ 31) : (x.toInt64 ≤ lN n) = (x ≤ nI n) := by
  have := @y_64le x (nI n)
  rwa [nI_l h] at this
theorem y_64le1' {x : Int32} : (x.toInt64 ≤ 1) = (x ≤ 1) := by
  have := @y_64le x 1
  rwa [show (1 : Int32).toInt64 = 1 by decide] at this
theorem y_10 : ((1 : Int32) = 0) = False := by simp
theorem y_nIm1 : nI 0 = 0 := rfl
