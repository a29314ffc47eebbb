/-! THE WORLD between two calls -/
/-- where a cell belongs: none: never written again; some t: the block t -/
abbrev w_G : Type := Nat → Option Nat
/-- from one world to the next: only blocks in T are written -/
def w_fr (T : Option Nat → Prop) (g g2 : w_G) (Ω Ω2 : y_Hp) : Prop := Ω.1 ≤ Ω2.1 ∧ ∀ a, a < Ω.1 → g2 a = g a ∧ (¬ T (g a) → Ω2.2 a = Ω.2 a)
theorem w_fr_refl {T : Option Nat → Prop} {g : w_G} {Ω : y_Hp} : w_fr T g g Ω Ω := ⟨Nat.le_refl _, fun _ _ => ⟨rfl, fun _ => rfl⟩⟩
theorem w_fr_trans {T : Option Nat → Prop} {g g2 g3 : w_G} {Ω Ω2 Ω3 : y_Hp} (h1 : w_fr T g g2 Ω Ω2) (h2 : w_fr T g2 g3 Ω2 Ω3) : w_fr T g g3 Ω Ω3 :=
  ⟨Nat.le_trans h1.1 h2.1, fun a ha => by
    obtain ⟨p1, p2⟩ := h1.2 a ha
    obtain ⟨q1, q2⟩ := h2.2 a (Nat.lt_of_lt_of_le ha h1.1)
    exact ⟨q1.trans p1, fun n => (q2 (by rw [p1]; exact n)).trans (p2 n)⟩⟩
theorem w_fr_mono {T T2 : Option Nat → Prop} {g g2 : w_G} {Ω Ω2 : y_Hp} (h : w_fr T g g2 Ω Ω2) (hT : ∀ t, T t → T2 t) : w_fr T2 g g2 Ω Ω2 := ⟨h.1, fun a ha => ⟨(h.2 a ha).1, fun n => (h.2 a ha).2 (fun q => n (hT _ q))⟩⟩
/-- the people of a league -/
def w_P (g : w_G) (Ω : y_Hp) (a : Nat) (N : Nat → Nat) : Prop := ∃ (md : Int32) (e n : Nat) (f : Nat → Option Nat) (fl fl2 : Bool), (a < Ω.1 ∧ g a = none ∧ e < Ω.1 ∧ g e = none) ∧ Ω.2 a = some (fl, .inr (14, [.int md, .ref e, .int (nI (N 3))])) ∧ Ω.2 e = some (fl2, .inl (4, n, .inr (.inr (.inr (.inr f))))) ∧ (N 3 ≤ n ∨ N 3 = 0) ∧
  ∀ p, p < N 3 → ∃ (q : Nat) (f3 : Bool), (q < Ω.1 ∧ g q = none) ∧ f p = some q ∧ Ω.2 q = some (f3, .inr (8 + N (36 + 8 * p), [.int (nI p), .int (nI (N (36 + 8 * p + 2)))]))
theorem w_P_l {g : w_G} {Ω : y_Hp} {a : Nat} {N : Nat → Nat} (h : w_P g Ω a N) : l_P Ω a N := by
  obtain ⟨md, e, n, f, fl, fl2, -, h2, h3, h4, h5⟩ := h
  exact ⟨md, e, n, f, fl, fl2, h2, h3, h4, fun p hp => by
    obtain ⟨q, f3, -, a1, a2⟩ := h5 p hp
    exact ⟨q, f3, a1, a2⟩⟩
theorem w_P_fr {T : Option Nat → Prop} {g g2 : w_G} {Ω Ω2 : y_Hp} {a : Nat} {N : Nat → Nat} (h : w_P g Ω a N) (hf : w_fr T g g2 Ω Ω2) (hT : ¬ T none) : w_P g2 Ω2 a N := by
  obtain ⟨md, e, n, f, fl, fl2, ⟨h1, h1g, h1e, h1f⟩, h2, h3, h4, h5⟩ := h
  have ha := hf.2 a h1
  have he := hf.2 e h1e
  refine ⟨md, e, n, f, fl, fl2, ⟨Nat.lt_of_lt_of_le h1 hf.1, ha.1.trans h1g, Nat.lt_of_lt_of_le h1e hf.1, he.1.trans h1f⟩, (ha.2 (by rw [h1g]; exact hT)).trans h2, (he.2 (by rw [h1f]; exact hT)).trans h3, h4, fun p hp => ?_⟩
  obtain ⟨q, f3, ⟨a0, a0g⟩, a1, a2⟩ := h5 p hp
  have hq := hf.2 q a0
  exact ⟨q, f3, ⟨Nat.lt_of_lt_of_le a0 hf.1, hq.1.trans a0g⟩, a1, (hq.2 (by rw [a0g]; exact hT)).trans a2⟩
theorem w_P_N {g : w_G} {Ω : y_Hp} {a : Nat} {N N2 : Nat → Nat} (h : w_P g Ω a N) (h3 : N2 3 = N 3) (hk : ∀ p, p < N 3 → N2 (36 + 8 * p) = N (36 + 8 * p) ∧ N2 (36 + 8 * p + 2) = N (36 + 8 * p + 2)) : w_P g Ω a N2 := by
  obtain ⟨md, e, n, f, fl, fl2, h1, h2, h4, h5, h6⟩ := h
  refine ⟨md, e, n, f, fl, fl2, h1, by rw [h3]; exact h2, h4, by rw [h3]; exact h5, fun p hp => ?_⟩
  rw [h3] at hp
  rw [(hk p hp).1, (hk p hp).2]
  exact h6 p hp
def w_B (g : w_G) (Ω : y_Hp) (b : Nat) (l : l_S) : Prop := l_B b l Ω ∧ ∀ k, k < 12 → b + k < Ω.1 ∧ g (b + k) = some b
theorem w_B_fr {T : Option Nat → Prop} {g g2 : w_G} {Ω Ω2 : y_Hp} {b : Nat} {l : l_S} (h : w_B g Ω b l) (hf : w_fr T g g2 Ω Ω2) (hT : ¬ T (some b)) : w_B g2 Ω2 b l :=
  ⟨fun k hk => by
    obtain ⟨a1, a2⟩ := h.2 k hk
    rw [(hf.2 _ a1).2 (by rw [a2]; exact hT)]
    exact h.1 k hk, fun k hk => by
    obtain ⟨a1, a2⟩ := h.2 k hk
    exact ⟨Nat.lt_of_lt_of_le a1 hf.1, (hf.2 _ a1).1.trans a2⟩⟩
/-- a league that lives at b -/
def w_L (g : w_G) (Ω : y_Hp) (b : Nat) (N : Nat → Nat) : Prop := ∃ l : l_S, w_B g Ω b l ∧ l_N l N ∧ w_P g Ω l.2.1 N ∧ n_ok N ∧ n_sm N
theorem w_L_fr {T : Option Nat → Prop} {g g2 : w_G} {Ω Ω2 : y_Hp} {b : Nat} {N : Nat → Nat} (h : w_L g Ω b N) (hf : w_fr T g g2 Ω Ω2) (hT : ¬ T (some b)) (hT0 : ¬ T none) : w_L g2 Ω2 b N := by
  obtain ⟨l, h1, h2, h3, h4⟩ := h
  exact ⟨l, w_B_fr h1 hf hT, h2, w_P_fr h3 hf hT0, h4⟩
/-- the places where leagues may be kept: 24 of the past, 2 images -/
def w_sl (ξ : x_S) (i : Nat) : Option Nat := if i < 24 then x_r ξ 15 i else x_r ξ 16 (i - 24)
def w_D (x : Nat) (g : w_G) (ξ : x_S) (Ω : y_Hp) : Prop := (∀ i b, i < 26 → w_sl ξ i = some b → x + 34 ≤ b ∧ ∃ l : l_S, w_B g Ω b l) ∧ (∀ i j b, i < 26 → j < 26 → w_sl ξ i = some b → w_sl ξ j = some b → i = j)
def w_Hi (g : w_G) (ξ : x_S) (Ω : y_Hp) (σ : m_S) (a : Nat) (H : Nat → Nat → Nat) : Prop := ∀ k, k < a → (∃ b, x_r ξ 15 k = some b ∧ w_L g Ω b (H k)) ∧ ∀ j, j < 68 → m_a σ 6 (68 * k + j) = nI (H k j)
def w_Im (g : w_G) (ξ : x_S) (Ω : y_Hp) (σ : m_S) : Prop := ∀ k, k < 2 → (x_r ξ 16 k = none ∧ m_a σ 10 k = 0) ∨ ∃ (b : Nat) (G : Nat → Nat), x_r ξ 16 k = some b ∧ m_a σ 10 k = 1 ∧ w_L g Ω b G ∧ ∀ j, j < 68 → m_a σ 11 (68 * k + j) = nI (G j)
def w_R (x : Nat) (g : w_G) (ξ : x_S) (Ω : y_Hp) (σ : m_S) : Prop := (∀ r, r < 8 → (x_r ξ 1 r = none ∧ m_a σ 1 r = (-1)) ∨ ∃ (q ln n : Nat) (f : Nat → Int32), x_r ξ 1 r = some q ∧ (x + 34 ≤ q ∧ q + 1 < Ω.1 ∧ g q = some q ∧ g (q + 1) = some q) ∧ Ω.2 q = some (true, .inr (5, [.int (nI ln), .ref (q + 1)])) ∧ Ω.2 (q + 1) = some (true, .inl (0, n, .inl f)) ∧ ln < 3 ∧ n ≤ 40 ∧ m_a σ 1 r = nI ln ∧ m_a σ 2 r = nI n ∧ ∀ i, i < n → f i = m_a σ 3 (40 * r + i)) ∧ (∀ r r2 q, r < 8 → r2 < 8 → x_r ξ 1 r = some q → x_r ξ 1 r2 = some q → r = r2)
def w_T (x : Nat) (g : w_G) (ξ : x_S) (Ω : y_Hp) (σ : m_S) : Prop := ∃ (n : Nat) (f : Nat → Int32), (x + 17 ≤ x_tr ξ ∧ x_tr ξ + 1 < Ω.1 ∧ g (x_tr ξ) = some (x_tr ξ) ∧ g (x_tr ξ + 1) = some (x_tr ξ)) ∧ Ω.2 (x_tr ξ) = some (true, .inr (2, [.ref (x_tr ξ + 1), .int (nI n)])) ∧ Ω.2 (x_tr ξ + 1) = some (true, .inl (0, 16, .inl f)) ∧ n ≤ 16 ∧ m_i σ 24 = nI n ∧ ∀ i, i < n → f i = m_a σ 12 i
def w_Tp (ξ : x_S) (σ : m_S) : Prop := ∃ n, n ≤ 400 ∧ x_i ξ 2 = nI n ∧ m_i σ 10 = nI n ∧ ∀ i, i < n → ∃ b, b < 256 ∧ m_a σ 7 i = nI b ∧ x_t ξ i = (nI b).toInt8.toInt32
def w_A (x : Nat) (g : w_G) (ξ : x_S) (σ : m_S) (Ω : y_Hp) : Prop := x + 34 ≤ Ω.1 ∧ (∀ k, x_own x (x + k) → Ω.2 (x + k) = some (true, x_cell x ξ k)) ∧ (∀ k, k < 13 → Ω.2 (x + 21 + k) = some (true, m_cell (x + 21) σ k)) ∧ (∀ k, k < 34 → k ≠ 8 → k ≠ 17 → k ≠ 18 → g (x + k) = some x) ∧ g (x + 8) = none
def w_Sc (ξ : x_S) (σ : m_S) (a : Nat) : Prop := x_i ξ 3 = m_i σ 11 ∧ x_i ξ 6 = nI a ∧ m_i σ 8 = nI a ∧ a ≤ 24 ∧ x_i ξ 9 = m_i σ 1
def w_C (g : w_G) (ξ : x_S) (Ω : y_Hp) (σ : m_S) (N : Nat → Nat) : Prop := l_N (x_l ξ) N ∧ (∀ j, j < 68 → m_a σ 4 j = nI (N j)) ∧ n_ok N ∧ n_sm N ∧ w_P g Ω (x_l ξ).2.1 N
/-- a text -/
def w_str (g : w_G) (Ω : y_Hp) (a : Nat) (W : List Nat) : Prop := ∃ (v : Nat) (h z : Int32) (f : Nat → Int32) (fl fl2 : Bool), (a < Ω.1 ∧ g a = none ∧ v < Ω.1 ∧ g v = none) ∧ Ω.2 a = some (fl, .inr (15, [.ref v, .int 0, .int h, .int z])) ∧ Ω.2 v = some (fl2, .inl (1, W.length, .inl f)) ∧ ∀ i w, W[i]? = some w → f i = nI w
theorem w_str_fr {T : Option Nat → Prop} {g g2 : w_G} {Ω Ω2 : y_Hp} {a : Nat} {W : List Nat} (h : w_str g Ω a W) (hf : w_fr T g g2 Ω Ω2) (hT : ¬ T none) : w_str g2 Ω2 a W := by
  obtain ⟨v, h0, z, f, fl, fl2, ⟨h1, h1g, h1e, h1f⟩, h2, h3, h4⟩ := h
  have ha := hf.2 a h1
  have he := hf.2 v h1e
  exact ⟨v, h0, z, f, fl, fl2, ⟨Nat.lt_of_lt_of_le h1 hf.1, ha.1.trans h1g, Nat.lt_of_lt_of_le h1e hf.1, he.1.trans h1f⟩, (ha.2 (by rw [h1g]; exact hT)).trans h2, (he.2 (by rw [h1f]; exact hT)).trans h3, h4⟩
def w_sorts : List (List Nat) := [[99, 97, 112, 116, 97, 105, 110], [112, 105, 108, 111, 116], [109, 111, 110, 107], [99, 108, 101, 114, 107], [98, 111, 121]]
/-- the constants: the empty list's places, the sorts, the texts -/
def w_K (ad : y_Ad) (g : w_G) (Ω : y_Hp) : Prop := (∃ (f : Nat → Option Nat) (fl : Bool), ad.1 0 < Ω.1 ∧ g (ad.1 0) = none ∧ Ω.2 (ad.1 0) = some (fl, .inl (4, 0, .inr (.inr (.inr (.inr f)))))) ∧
  (∃ (f : Nat → Option Nat) (fl : Bool), ad.1 1 < Ω.1 ∧ g (ad.1 1) = none ∧ Ω.2 (ad.1 1) = some (fl, .inl (7, 5, .inr (.inr (.inr (.inr f))))) ∧ ∀ k W, w_sorts[k]? = some W → ∃ t, f k = some t ∧ w_str g Ω t W) ∧
  w_str g Ω (ad.1 2) [] ∧ w_str g Ω (ad.1 3) [108, 97, 119] ∧ w_str g Ω (ad.1 4) [119, 97, 121] ∧ w_str g Ω (ad.1 5) [112, 101, 114, 115, 111, 110]
theorem w_K_fr {T : Option Nat → Prop} {ad : y_Ad} {g g2 : w_G} {Ω Ω2 : y_Hp} (h : w_K ad g Ω) (hf : w_fr T g g2 Ω Ω2) (hT : ¬ T none) : w_K ad g2 Ω2 := by
  obtain ⟨⟨f, fl, a1, a2, a3⟩, ⟨f2, fl2, b1, b2, b3, b4⟩, h2, h3, h4, h5⟩ := h
  have ha := hf.2 _ a1
  have hb := hf.2 _ b1
  refine ⟨⟨f, fl, Nat.lt_of_lt_of_le a1 hf.1, ha.1.trans a2, (ha.2 (by rw [a2]; exact hT)).trans a3⟩, ⟨f2, fl2, Nat.lt_of_lt_of_le b1 hf.1, hb.1.trans b2, (hb.2 (by rw [b2]; exact hT)).trans b3, fun k W hk => ?_⟩, w_str_fr h2 hf hT, w_str_fr h3 hf hT, w_str_fr h4 hf hT, w_str_fr h5 hf hT⟩
  obtain ⟨t, t1, t2⟩ := b4 k W hk
  exact ⟨t, t1, w_str_fr t2 hf hT⟩
/-- THE INVARIANT -/
def w_I (ad : y_Ad) (x : Nat) (g : w_G) (ξ : x_S) (σ : m_S) (N : Nat → Nat) (a : Nat) (H : Nat → Nat → Nat) (Ω : y_Hp) : Prop := w_A x g ξ σ Ω ∧ w_Sc ξ σ a ∧ w_C g ξ Ω σ N ∧ w_D x g ξ Ω ∧ w_Hi g ξ Ω σ a H ∧ w_Im g ξ Ω σ ∧ w_R x g ξ Ω σ ∧ w_T x g ξ Ω σ ∧ w_Tp ξ σ ∧ w_K ad g Ω
/-- what an op ends with: the value v, few new cells, a world -/
def w_End (ad : y_Ad) (x c s : Nat) (v : Int32) : y_Po := fun o Ω c2 s2 => o = .returned (some (.int v)) ∧ c2 ≤ c + 9400 ∧ s2 ≤ s + 113000 ∧ ∃ (g : w_G) (ξ : x_S) (σ : m_S) (N : Nat → Nat) (a : Nat) (H : Nat → Nat → Nat), w_I ad x g ξ σ N a H Ω
/-- component, then reference -/
def w_Op (ad : y_Ad) (x c s : Nat) (F3 : Nat → Nat → y_Hp → y_Po → Prop) : y_Po := fun o Ω c2 s2 => ∃ v : Int32, o = .returned (some (.int v)) ∧ F3 c2 s2 Ω (w_End ad x c s v)
/-! frames of the parts -/
theorem w_D_fr {T : Option Nat → Prop} {x : Nat} {g g2 : w_G} {ξ ξ2 : x_S} {Ω Ω2 : y_Hp} (h : w_D x g ξ Ω) (hf : w_fr T g g2 Ω Ω2) (hx : ∀ i, i < 26 → w_sl ξ2 i = w_sl ξ i) (hT : ∀ i b, i < 26 → w_sl ξ i = some b → ¬ T (some b)) : w_D x g2 ξ2 Ω2 :=
  ⟨fun i b hi hb => by
    rw [hx i hi] at hb
    obtain ⟨h1, l, h2⟩ := h.1 i b hi hb
    exact ⟨h1, l, w_B_fr h2 hf (hT i b hi hb)⟩, fun i j b hi hj h1 h2 => by
    rw [hx i hi] at h1
    rw [hx j hj] at h2
    exact h.2 i j b hi hj h1 h2⟩
theorem w_Hi_fr {T : Option Nat → Prop} {g g2 : w_G} {ξ ξ2 : x_S} {Ω Ω2 : y_Hp} {σ σ2 : m_S} {a : Nat} {H : Nat → Nat → Nat} (h : w_Hi g ξ Ω σ a H) (hf : w_fr T g g2 Ω Ω2) (hx : ∀ k, k < a → x_r ξ2 15 k = x_r ξ 15 k) (hm : ∀ k j, k < a → j < 68 → m_a σ2 6 (68 * k + j) = m_a σ 6 (68 * k + j)) (hT0 : ¬ T none) (hT : ∀ k b, k < a → x_r ξ 15 k = some b → ¬ T (some b)) : w_Hi g2 ξ2 Ω2 σ2 a H := fun k hk => by
  obtain ⟨⟨b, h1, h2⟩, h3⟩ := h k hk
  exact ⟨⟨b, (hx k hk).trans h1, w_L_fr h2 hf (hT k b hk h1) hT0⟩, fun j hj => (hm k j hk hj).trans (h3 j hj)⟩
theorem w_Im_fr {T : Option Nat → Prop} {g g2 : w_G} {ξ ξ2 : x_S} {Ω Ω2 : y_Hp} {σ σ2 : m_S} (h : w_Im g ξ Ω σ) (hf : w_fr T g g2 Ω Ω2) (hx : x_r ξ2 16 = x_r ξ 16) (hm : m_a σ2 10 = m_a σ 10) (hm2 : m_a σ2 11 = m_a σ 11) (hT0 : ¬ T none) (hT : ∀ k b, k < 2 → x_r ξ 16 k = some b → ¬ T (some b)) : w_Im g2 ξ2 Ω2 σ2 := fun k hk => by
  rcases h k hk with ⟨h1, h2⟩ | ⟨b, G, h1, h2, h3, h4⟩
  · exact .inl ⟨by rw [hx]; exact h1, by rw [hm]; exact h2⟩
  · exact .inr ⟨b, G, by rw [hx]; exact h1, by rw [hm]; exact h2, w_L_fr h3 hf (hT k b hk h1) hT0, fun j hj => by rw [hm2]; exact h4 j hj⟩
theorem w_R_fr {T : Option Nat → Prop} {x : Nat} {g g2 : w_G} {ξ ξ2 : x_S} {Ω Ω2 : y_Hp} {σ σ2 : m_S} (h : w_R x g ξ Ω σ) (hf : w_fr T g g2 Ω Ω2) (hx : x_r ξ2 1 = x_r ξ 1) (h1 : m_a σ2 1 = m_a σ 1) (h2 : m_a σ2 2 = m_a σ 2) (h3 : m_a σ2 3 = m_a σ 3) (hT : ∀ r q, r < 8 → x_r ξ 1 r = some q → ¬ T (some q)) : w_R x g2 ξ2 Ω2 σ2 := by
  refine ⟨fun r hr => ?_, fun r r2 q hr hr2 a1 a2 => h.2 r r2 q hr hr2 (by rw [← hx]; exact a1) (by rw [← hx]; exact a2)⟩
  rcases h.1 r hr with ⟨z1, z2⟩ | ⟨q, ln, n, f, z1, ⟨z2, z2b, z2c, z2d⟩, z3, z4, z5, z6, z7, z8, z9⟩
  · exact .inl ⟨by rw [hx]; exact z1, by rw [h1]; exact z2⟩
  · have hn := hT r q hr z1
    have e1 := hf.2 q (by omega)
    have e2 := hf.2 (q + 1) z2b
    exact .inr ⟨q, ln, n, f, by rw [hx]; exact z1, ⟨z2, Nat.lt_of_lt_of_le z2b hf.1, e1.1.trans z2c, e2.1.trans z2d⟩, (e1.2 (by rw [z2c]; exact hn)).trans z3, (e2.2 (by rw [z2d]; exact hn)).trans z4, z5, z6, by rw [h1]; exact z7, by rw [h2]; exact z8, fun i hi => by rw [h3]; exact z9 i hi⟩
theorem w_T_fr {T : Option Nat → Prop} {x : Nat} {g g2 : w_G} {ξ ξ2 : x_S} {Ω Ω2 : y_Hp} {σ σ2 : m_S} (h : w_T x g ξ Ω σ) (hf : w_fr T g g2 Ω Ω2) (hx : x_tr ξ2 = x_tr ξ) (h1 : m_i σ2 24 = m_i σ 24) (h2 : m_a σ2 12 = m_a σ 12) (hT : ¬ T (some (x_tr ξ))) : w_T x g2 ξ2 Ω2 σ2 := by
  obtain ⟨n, f, ⟨z1, z2, z3, z4⟩, z5, z6, z7, z8, z9⟩ := h
  have e1 := hf.2 (x_tr ξ) (by omega)
  have e2 := hf.2 (x_tr ξ + 1) z2
  unfold w_T
  rw [hx, h1, h2]
  exact ⟨n, f, ⟨z1, Nat.lt_of_lt_of_le z2 hf.1, e1.1.trans z3, e2.1.trans z4⟩, (e1.2 (by rw [z3]; exact hT)).trans z5, (e2.2 (by rw [z4]; exact hT)).trans z6, z7, z8, z9⟩
theorem w_C_fr {T : Option Nat → Prop} {g g2 : w_G} {ξ ξ2 : x_S} {Ω Ω2 : y_Hp} {σ σ2 : m_S} {N : Nat → Nat} (h : w_C g ξ Ω σ N) (hf : w_fr T g g2 Ω Ω2) (hx : x_l ξ2 = x_l ξ) (hm : m_a σ2 4 = m_a σ 4) (hT0 : ¬ T none) : w_C g2 ξ2 Ω2 σ2 N := by
  obtain ⟨h1, h2, h3, h4, h5⟩ := h
  unfold w_C
  rw [hx, hm]
  exact ⟨h1, h2, h3, h4, w_P_fr h5 hf hT0⟩
/-- the two objects written into a world, by what they are to be -/
def w_out (x : Nat) (ξ : x_S) (σ : m_S) (Ω : y_Hp) : y_Hp := m_H (x + 21) σ (x_H x ξ Ω)
theorem w_out_A {x : Nat} {g : w_G} {ξ : x_S} {σ : m_S} {Ω : y_Hp} (ht : x + 34 ≤ Ω.1) (hg : ∀ k, k < 34 → k ≠ 8 → k ≠ 17 → k ≠ 18 → g (x + k) = some x) (hg8 : g (x + 8) = none) : w_A x g ξ σ (w_out x ξ σ Ω) := by
  refine ⟨ht, fun k hk => ?_, fun k hk => m_at hk, hg, hg8⟩
  show (m_H (x + 21) σ (x_H x ξ Ω)).2 (x + k) = _
  rw [m_off (by unfold x_own at hk; omega), x_in hk]
/-- off the two objects nothing changes, and not their list -/
theorem w_out_fr {x : Nat} {g : w_G} {ξ ξ2 : x_S} {σ σ2 : m_S} {Ω Ω2 : y_Hp} (hA : w_A x g ξ σ Ω) (hl : (x_l ξ2).2.2.1 = (x_l ξ).2.2.1) (h2 : Ω2.2 (x + 8) = Ω.2 (x + 8)) : ∀ a, g a ≠ some x → (w_out x ξ2 σ2 Ω2).2 a = Ω2.2 a := by
  intro a hne
  show (m_H (x + 21) σ2 (x_H x ξ2 Ω2)).2 a = _
  by_cases hm : x + 21 ≤ a ∧ a < x + 34
  · have := hA.2.2.2.1 (a - x) (by omega) (by omega) (by omega) (by omega)
    rw [show x + (a - x) = a by omega] at this
    exact (hne this).elim
  · rw [m_off (by omega)]
    by_cases ho : x_own x a
    · by_cases h8 : a = x + 8
      · subst h8
        rw [x_in ho, h2, hA.2.1 8 ho]
        show some (true, l_cell (x + 3) (x_l ξ2) 5) = some (true, l_cell (x + 3) (x_l ξ) 5)
        unfold l_cell
        simp only [Nat.reduceEqDiff, if_false, if_true, hl]
      · have ho2 := ho
        unfold x_own at ho2
        have := hA.2.2.2.1 (a - x) (by omega) (by omega) (by omega) (by omega)
        rw [show x + (a - x) = a by omega] at this
        exact (hne this).elim
    · rw [x_off ho]
theorem w_x_in {x : Nat} {g : w_G} {ξ : x_S} {σ : m_S} {Ω : y_Hp} (hA : w_A x g ξ σ Ω) : x_H x ξ Ω = Ω := x_HB hA.2.1
theorem m_HB {m : Nat} {σ : m_S} {ω : y_Hp} (h : ∀ k, k < 13 → ω.2 (m + k) = some (true, m_cell m σ k)) : m_H m σ ω = ω := by
  refine Prod.ext rfl (funext fun a => ?_)
  show (if m ≤ a ∧ a < m + 13 then some (true, m_cell m σ (a - m)) else ω.2 a) = ω.2 a
  by_cases q : m ≤ a ∧ a < m + 13
  · rw [if_pos q, ← h (a - m) (by omega), show m + (a - m) = a by omega]
  · rw [if_neg q]
/-- the reference is still there behind the component's work -/
theorem w_m_in {x : Nat} {ξ ξ2 : x_S} {σ : m_S} {Ω Ω2 : y_Hp} {g : w_G} (hA : w_A x g ξ σ Ω) (h : ∀ k, k < 13 → Ω2.2 (x + 21 + k) = Ω.2 (x + 21 + k)) : x_H x ξ2 Ω2 = m_H (x + 21) σ (x_H x ξ2 Ω2) := by
  refine (m_HB (fun k hk => ?_)).symm
  rw [x_off (by unfold x_own; omega), h k hk, hA.2.2.1 k hk]
