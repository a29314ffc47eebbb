def b_pop : Nat → Nat → Nat
  | 0, _ => 0
  | k + 1, x => x % 2 + b_pop k (x / 2)
/-- masks: k bytes each m -/
def b_rep (m : Nat) : Nat → Nat
  | 0 => 0
  | k + 1 => 256 * b_rep m k + m
theorem b_and {y r m m0 : Nat} (hr : r < 256) (hm : m0 < 256) : (256 * y + r) &&& (256 * m + m0) = 256 * (y &&& m) + (r &&& m0) := by
  have h1 : 256 * y + r = y <<< 8 ||| r := by
    rw [Nat.mul_comm, show (256:Nat) = 2^8 by rfl, ← Nat.shiftLeft_eq, Nat.shiftLeft_add_eq_or_of_lt (by simpa using hr)]
  have h2 : 256 * m + m0 = m <<< 8 ||| m0 := by
    rw [Nat.mul_comm, show (256:Nat) = 2^8 by rfl, ← Nat.shiftLeft_eq, Nat.shiftLeft_add_eq_or_of_lt (by simpa using hm)]
  have h3 : r &&& m0 < 256 := Nat.lt_of_le_of_lt Nat.and_le_left hr
  have h4 : 256 * (y &&& m) + (r &&& m0) = (y &&& m) <<< 8 ||| (r &&& m0) := by
    rw [Nat.mul_comm, show (256:Nat) = 2^8 by rfl, ← Nat.shiftLeft_eq, Nat.shiftLeft_add_eq_or_of_lt (by simpa using h3)]
  rw [h1, h2, h4]
  apply Nat.eq_of_testBit_eq
  intro i
  simp only [Nat.testBit_and, Nat.testBit_or, Nat.testBit_shiftLeft]
  by_cases hi : 8 ≤ i
  · have a1 : r.testBit i = false := Nat.testBit_lt_two_pow (Nat.lt_of_lt_of_le hr (Nat.pow_le_pow_right (by decide : 0 < 2) hi))
    have a2 : m0.testBit i = false := Nat.testBit_lt_two_pow (Nat.lt_of_lt_of_le hm (Nat.pow_le_pow_right (by decide : 0 < 2) hi))
    simp [hi, a1, a2]
  · simp [hi]
/-- the three steps that sum within bytes -/
def b_s1 (x m : Nat) : Nat := x - ((x / 2) &&& m)
def b_s2 (x m : Nat) : Nat := (x &&& m) + ((x / 4) &&& m)
def b_s3 (x m : Nat) : Nat := (x + x / 16) &&& m
def b_low (r : Nat) : Nat := b_s3 (b_s2 (b_s1 r 85) 51) 15
theorem b_lowT : ∀ r, r < 256 → (b_low r = b_pop 8 r ∧ ((r / 2) &&& 85) ≤ r ∧ b_s1 r 85 < 256 ∧ b_s2 (b_s1 r 85) 51 < 256 ∧ b_s2 (b_s1 r 85) 51 % 16 ≤ 4 ∧ b_s2 (b_s1 r 85) 51 / 16 ≤ 4) := by decide +kernel
theorem b_h1 {y r m : Nat} (hr : r < 256) : ((256 * y + r) / 2) &&& (256 * m + 85) = 256 * ((y / 2) &&& m) + ((r / 2) &&& 85) := by
  have e : (256 * y + r) / 2 = 256 * (y / 2) + (128 * (y % 2) + r / 2) := by omega
  rw [e, b_and (by omega) (by decide)]
  have : ∀ q, q < 128 → (128 + q) &&& 85 = q &&& 85 := by decide +kernel
  rcases Nat.mod_two_eq_zero_or_one y with h | h
  · rw [h]; simp
  · rw [h, this _ (by omega)]
theorem b_h2 {y r m : Nat} (hr : r < 256) : ((256 * y + r) / 4) &&& (256 * m + 51) = 256 * ((y / 4) &&& m) + ((r / 4) &&& 51) := by
  have e : (256 * y + r) / 4 = 256 * (y / 4) + (64 * (y % 4) + r / 4) := by omega
  rw [e, b_and (by omega) (by decide)]
  have : ∀ q, q < 64 → ∀ z, z < 4 → (64 * z + q) &&& 51 = q &&& 51 := by decide +kernel
  rw [this _ (by omega) _ (by omega)]
theorem b_S1 {y r m : Nat} (hr : r < 256) (hy : (y / 2) &&& m ≤ y) : b_s1 (256 * y + r) (256 * m + 85) = 256 * b_s1 y m + b_s1 r 85 := by
  unfold b_s1
  rw [b_h1 hr]
  have := (b_lowT r hr).2.1
  omega
theorem b_S2 {y r m : Nat} (hr : r < 256) : b_s2 (256 * y + r) (256 * m + 51) = 256 * b_s2 y m + b_s2 r 51 := by
  unfold b_s2
  rw [b_h2 hr, b_and hr (by decide)]
  omega
theorem b_S3 {y r m : Nat} (hr : r < 256) (h1 : r / 16 ≤ 4) (h2 : r % 16 ≤ 4) (h3 : y % 16 ≤ 4) : b_s3 (256 * y + r) (256 * m + 15) = 256 * b_s3 y m + b_s3 r 15 := by
  unfold b_s3
  have e : 256 * y + r + (256 * y + r) / 16 = 256 * (y + y / 16) + (16 * (y % 16) + (r + r / 16)) := by omega
  rw [e, b_and (by omega) (by decide)]
  have : ∀ q, q < 256 → ∀ z, z < 5 → (16 * z + q) &&& 15 = q &&& 15 := by decide +kernel
  rw [this _ (by omega) _ (by omega)]
/-- bytes' sums, one a byte -/
def b_by : Nat → Nat → Nat
  | 0, _ => 0
  | k + 1, x => 256 * b_by k (x / 256) + b_pop 8 (x % 256)
theorem b_main (k : Nat) : ∀ x, x < 256 ^ k → ((x / 2) &&& b_rep 85 k ≤ x ∧ b_s3 (b_s2 (b_s1 x (b_rep 85 k)) (b_rep 51 k)) (b_rep 15 k) = b_by k x ∧ b_s2 (b_s1 x (b_rep 85 k)) (b_rep 51 k) % 16 ≤ 4) := by
  induction k with
  | zero => intro x hx; have : x = 0 := by omega
            subst this; decide
  | succ k ih =>
    intro x hx
    obtain ⟨y, r, hr, rfl⟩ : ∃ y r, r < 256 ∧ x = 256 * y + r := ⟨x / 256, x % 256, by omega, by omega⟩
    have hy : y < 256 ^ k := by rw [Nat.pow_succ] at hx; omega
    obtain ⟨i1, i2, i3⟩ := ih y hy
    obtain ⟨t0, t1, t2, t3, t4, t5⟩ := b_lowT r hr
    refine ⟨?_, ?_, ?_⟩
    · show ((256 * y + r) / 2) &&& (256 * b_rep 85 k + 85) ≤ _
      rw [b_h1 hr]; omega
    · show b_s3 (b_s2 (b_s1 (256 * y + r) (256 * b_rep 85 k + 85)) (256 * b_rep 51 k + 51)) (256 * b_rep 15 k + 15) = 256 * b_by k ((256 * y + r) / 256) + b_pop 8 ((256 * y + r) % 256)
      rw [b_S1 hr i1, b_S2 t2, b_S3 t3 t5 t4 i3, i2, show (256 * y + r) / 256 = y by omega, show (256 * y + r) % 256 = r by omega, ← t0]
      rfl
    · show b_s2 (b_s1 (256 * y + r) (256 * b_rep 85 k + 85)) (256 * b_rep 51 k + 51) % 16 ≤ 4
      rw [b_S1 hr i1, b_S2 t2]; omega

theorem b_popT : ∀ r, r < 256 → b_pop 8 r ≤ 8 := by decide +kernel
theorem b_fin {b0 b1 b2 b3 b4 b5 b6 b7 c0 c1 c2 c3 c4 c5 c6 u t z : Nat} (h0 : b0 ≤ 8) (h1 : b1 ≤ 8) (h2 : b2 ≤ 8) (h3 : b3 ≤ 8) (h4 : b4 ≤ 8) (h5 : b5 ≤ 8) (h6 : b6 ≤ 8) (h7 : b7 ≤ 8) (k6 : c6 = 256 * b7 + b6) (k5 : c5 = 256 * c6 + b5) (k4 : c4 = 256 * c5 + b4) (k3 : c3 = 256 * c4 + b3) (k2 : c2 = 256 * c3 + b2) (k1 : c1 = 256 * c2 + b1) (k0 : c0 = 256 * c1 + b0) (hu : u = c0 + c0 / 256) (ht : t = u + u / 65536) (hz : z = t + t / 4294967296) : z % 128 = b0 + b1 + b2 + b3 + b4 + b5 + b6 + b7 ∧ z < 18446744073709551616 := by
  have e1 : c0 / 256 = c1 := by clear hu ht hz k1 k2 k3 k4 k5 k6; omega
  rw [e1] at hu
  have e2 : u / 65536 = c2 + c3 := by clear hz ht k3 k4 k5 k6; omega
  rw [e2] at ht
  have g0 : c0 = 4294967296 * c4 + (b0 + 256 * b1 + 65536 * b2 + 16777216 * b3) := by clear hu ht hz e1 e2; omega
  have g1 : c1 = 4294967296 * c5 + (b1 + 256 * b2 + 65536 * b3 + 16777216 * b4) := by clear hu ht hz e1 e2 g0; omega
  have g2 : c2 = 4294967296 * c6 + (b2 + 256 * b3 + 65536 * b4 + 16777216 * b5) := by clear hu ht hz e1 e2 g0 g1; omega
  have g3 : c3 = 4294967296 * b7 + (b3 + 256 * b4 + 65536 * b5 + 16777216 * b6) := by clear hu ht hz e1 e2 g0 g1 g2; omega
  have e3 : t / 4294967296 = c4 + c5 + c6 + b7 := by clear hz e1 e2 k0 k1 k2 k3 k4 k5 k6; omega
  rw [e3] at hz
  constructor
  · clear g0 g1 g2 g3 e1 e2 e3; omega
  · clear e1 e2 e3 k0 k1 k2 k3; omega
theorem b_pop_add (a b : Nat) : ∀ x, b_pop (a + b) x = b_pop a x + b_pop b (x / 2 ^ a) := by
  induction a with
  | zero => intro x; simp [b_pop]
  | succ a ih => intro x; rw [show a + 1 + b = a + b + 1 by omega]; show x % 2 + b_pop (a + b) (x / 2) = x % 2 + b_pop a (x / 2) + _; rw [ih, Nat.div_div_eq_div_mul, show 2 * 2 ^ a = 2 ^ (a + 1) by rw [Nat.pow_succ]; omega]; omega
theorem b_pop_mod (k : Nat) : ∀ n x, k ≤ n → b_pop k (x % 2 ^ n) = b_pop k x := by
  induction k with
  | zero => intro n x _; rfl
  | succ k ih =>
    intro n x h
    obtain ⟨n, rfl⟩ : ∃ q, n = q + 1 := ⟨n - 1, by omega⟩
    show x % 2 ^ (n + 1) % 2 + b_pop k (x % 2 ^ (n + 1) / 2) = x % 2 + b_pop k (x / 2)
    rw [show x % 2 ^ (n + 1) / 2 = (x / 2) % 2 ^ n by rw [Nat.pow_succ, Nat.mul_comm, Nat.mod_mul_right_div_self], ih _ _ (by omega), Nat.mod_mod_of_dvd]
    exact ⟨2 ^ n, by rw [Nat.pow_succ]; omega⟩
theorem b_pop_split (k x : Nat) : b_pop (8 + k) x = b_pop 8 (x % 256) + b_pop k (x / 256) := by
  rw [b_pop_add, show (256 : Nat) = 2 ^ 8 by rfl, b_pop_mod 8 8 x (by decide)]
/-- the sum of all -/
theorem b_count {x : Nat} (hx : x < 256 ^ 8) {v u t z : Nat} (hv : v = b_s3 (b_s2 (b_s1 x (b_rep 85 8)) (b_rep 51 8)) (b_rep 15 8)) (hu : u = v + v / 256) (ht : t = u + u / 65536) (hz : z = t + t / 4294967296) : z % 128 = b_pop 64 x ∧ z < 18446744073709551616 := by
  rw [(b_main 8 x hx).2.1] at hv
  have hd : ∀ y : Nat, y % 256 < 256 := fun y => Nat.mod_lt _ (by decide)
  have := b_fin (c0 := v) (b_popT (x % 256) (hd _)) (b_popT (x / 256 % 256) (hd _)) (b_popT (x / 256 / 256 % 256) (hd _)) (b_popT (x / 256 / 256 / 256 % 256) (hd _)) (b_popT (x / 256 / 256 / 256 / 256 % 256) (hd _)) (b_popT (x / 256 / 256 / 256 / 256 / 256 % 256) (hd _)) (b_popT (x / 256 / 256 / 256 / 256 / 256 / 256 % 256) (hd _)) (b_popT (x / 256 / 256 / 256 / 256 / 256 / 256 / 256 % 256) (hd _)) rfl rfl rfl rfl rfl rfl (by rw [hv]; simp only [b_by]; rw [Nat.mul_zero, Nat.zero_add]) hu ht hz
  refine ⟨?_, this.2⟩
  rw [this.1, show (64 : Nat) = 8 + (8 + (8 + (8 + (8 + (8 + (8 + (8 + 0))))))) by rfl]
  simp only [b_pop_split]
  have z0 : ∀ y, b_pop 0 y = 0 := fun _ => rfl
  rw [z0]
  omega
