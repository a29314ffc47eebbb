/-! the component's world: a league lies in twelve cells side by side; the object with its rows, tape, league, past, images, gains in 21 cells from x on (17 and 18 are the first trail) -/
/-- harbours, rate, ways; the list of people; the list made with it (modCount, places, size); the arrays by their cells -/
abbrev l_S : Type := (Nat → Int32) × Nat × (Int32 × Nat × Int32) × (Nat → Nat → Int32)
def l_fs (b : Nat) (l : l_S) : List Value := [.int (l.1 0), .int (l.1 1), .int (l.1 2), .ref (b + 1), .ref (b + 2), .ref (b + 3), .ref (b + 4), .ref l.2.1, .ref (b + 6), .ref (b + 7), .ref (b + 8), .ref (b + 9), .ref (b + 10), .ref (b + 11)]
def l_cell (b : Nat) (l : l_S) (k : Nat) : y_E := if k = 0 then .inr (1, l_fs b l) else if k = 5 then .inr (14, [.int l.2.2.1.1, .ref l.2.2.1.2.1, .int l.2.2.1.2.2]) else .inl (0, if k < 5 then 8 else 4, .inl (l.2.2.2 k))
def l_H (b : Nat) (l : l_S) (ω : y_Hp) : y_Hp := (ω.1, fun a => if b ≤ a ∧ a < b + 12 then some (true, l_cell b l (a - b)) else ω.2 a)
/-- a league lies at b -/
def l_B (b : Nat) (l : l_S) (ω : y_Hp) : Prop := ∀ k, k < 12 → ω.2 (b + k) = some (true, l_cell b l k)
theorem l_top {b : Nat} {l : l_S} {ω : y_Hp} : (l_H b l ω).1 = ω.1 := rfl
theorem l_off {b a : Nat} {l : l_S} {ω : y_Hp} (h : a < b ∨ b + 12 ≤ a) : (l_H b l ω).2 a = ω.2 a := if_neg (by omega)
theorem l_in {b k : Nat} {l : l_S} {ω : y_Hp} (h : k < 12) : (l_H b l ω).2 (b + k) = some (true, l_cell b l k) := by
  show (if b ≤ b + k ∧ b + k < b + 12 then some (true, l_cell b l (b + k - b)) else ω.2 (b + k)) = _
  rw [if_pos (by omega), Nat.add_sub_cancel_left]
theorem l_BH {b : Nat} {l : l_S} {ω : y_Hp} : l_B b l (l_H b l ω) := fun _ h => l_in h
theorem l_HB {b : Nat} {l : l_S} {ω : y_Hp} (h : l_B b l ω) : l_H b l ω = ω := by
  refine Prod.ext rfl (funext fun a => ?_)
  show (if b ≤ a ∧ a < b + 12 then some (true, l_cell b l (a - b)) else ω.2 a) = ω.2 a
  by_cases q : b ≤ a ∧ a < b + 12
  · rw [if_pos q, ← h (a - b) (by omega), show b + (a - b) = a by omega]
  · rw [if_neg q]
theorem l_HH {b : Nat} {l l2 : l_S} {ω : y_Hp} : l_H b l (l_H b l2 ω) = l_H b l ω := by
  refine Prod.ext rfl (funext fun a => ?_)
  show (if b ≤ a ∧ a < b + 12 then some (true, l_cell b l (a - b)) else if b ≤ a ∧ a < b + 12 then some (true, l_cell b l2 (a - b)) else ω.2 a) = (if b ≤ a ∧ a < b + 12 then some (true, l_cell b l (a - b)) else ω.2 a)
  by_cases q : b ≤ a ∧ a < b + 12
  · rw [if_pos q, if_pos q]
  · rw [if_neg q, if_neg q, if_neg q]
theorem l_at0 {b : Nat} {l : l_S} {ω : y_Hp} (h : l_B b l ω) : ω.2 b = some (true, .inr (1, l_fs b l)) := h 0 (by decide)
theorem l_at5 {b : Nat} {l : l_S} {ω : y_Hp} (h : l_B b l ω) : ω.2 (b + 5) = some (true, .inr (14, [.int l.2.2.1.1, .ref l.2.2.1.2.1, .int l.2.2.1.2.2])) := h 5 (by decide)
theorem l_at1 {b : Nat} {l : l_S} {ω : y_Hp} (h : l_B b l ω) : ω.2 (b + 1) = some (true, .inl (0, 8, .inl (l.2.2.2 1))) := h 1 (by decide)
theorem l_at2 {b : Nat} {l : l_S} {ω : y_Hp} (h : l_B b l ω) : ω.2 (b + 2) = some (true, .inl (0, 8, .inl (l.2.2.2 2))) := h 2 (by decide)
theorem l_at3 {b : Nat} {l : l_S} {ω : y_Hp} (h : l_B b l ω) : ω.2 (b + 3) = some (true, .inl (0, 8, .inl (l.2.2.2 3))) := h 3 (by decide)
theorem l_at4 {b : Nat} {l : l_S} {ω : y_Hp} (h : l_B b l ω) : ω.2 (b + 4) = some (true, .inl (0, 8, .inl (l.2.2.2 4))) := h 4 (by decide)
theorem l_at6 {b : Nat} {l : l_S} {ω : y_Hp} (h : l_B b l ω) : ω.2 (b + 6) = some (true, .inl (0, 4, .inl (l.2.2.2 6))) := h 6 (by decide)
theorem l_at7 {b : Nat} {l : l_S} {ω : y_Hp} (h : l_B b l ω) : ω.2 (b + 7) = some (true, .inl (0, 4, .inl (l.2.2.2 7))) := h 7 (by decide)
theorem l_at8 {b : Nat} {l : l_S} {ω : y_Hp} (h : l_B b l ω) : ω.2 (b + 8) = some (true, .inl (0, 4, .inl (l.2.2.2 8))) := h 8 (by decide)
theorem l_at9 {b : Nat} {l : l_S} {ω : y_Hp} (h : l_B b l ω) : ω.2 (b + 9) = some (true, .inl (0, 4, .inl (l.2.2.2 9))) := h 9 (by decide)
theorem l_at10 {b : Nat} {l : l_S} {ω : y_Hp} (h : l_B b l ω) : ω.2 (b + 10) = some (true, .inl (0, 4, .inl (l.2.2.2 10))) := h 10 (by decide)
theorem l_at11 {b : Nat} {l : l_S} {ω : y_Hp} (h : l_B b l ω) : ω.2 (b + 11) = some (true, .inl (0, 4, .inl (l.2.2.2 11))) := h 11 (by decide)
theorem l_cls {b : Nat} {l : l_S} {ω : y_Hp} (h : l_B b l ω) : y_cls ω b = some 1 := by unfold y_cls; rw [l_at0 h]
theorem l_g0 {b : Nat} {l : l_S} : (l_fs b l)[0]? = some (.int (l.1 0)) := rfl
theorem l_g1 {b : Nat} {l : l_S} : (l_fs b l)[1]? = some (.int (l.1 1)) := rfl
theorem l_g2 {b : Nat} {l : l_S} : (l_fs b l)[2]? = some (.int (l.1 2)) := rfl
theorem l_g3 {b : Nat} {l : l_S} : (l_fs b l)[3]? = some (.ref (b + 1)) := rfl
theorem l_g4 {b : Nat} {l : l_S} : (l_fs b l)[4]? = some (.ref (b + 2)) := rfl
theorem l_g5 {b : Nat} {l : l_S} : (l_fs b l)[5]? = some (.ref (b + 3)) := rfl
theorem l_g6 {b : Nat} {l : l_S} : (l_fs b l)[6]? = some (.ref (b + 4)) := rfl
theorem l_g8 {b : Nat} {l : l_S} : (l_fs b l)[8]? = some (.ref (b + 6)) := rfl
theorem l_g9 {b : Nat} {l : l_S} : (l_fs b l)[9]? = some (.ref (b + 7)) := rfl
theorem l_g10 {b : Nat} {l : l_S} : (l_fs b l)[10]? = some (.ref (b + 8)) := rfl
theorem l_g11 {b : Nat} {l : l_S} : (l_fs b l)[11]? = some (.ref (b + 9)) := rfl
theorem l_g12 {b : Nat} {l : l_S} : (l_fs b l)[12]? = some (.ref (b + 10)) := rfl
theorem l_g13 {b : Nat} {l : l_S} : (l_fs b l)[13]? = some (.ref (b + 11)) := rfl
theorem l_g7 {b : Nat} {l : l_S} : (l_fs b l)[7]? = some (.ref l.2.1) := rfl
theorem l_fs_len {b : Nat} {l : l_S} : (l_fs b l).length = 14 := rfl
def l_si (l : l_S) (k : Nat) (v : Int32) : l_S := (fun j => if j = k then v else l.1 j, l.2)
def l_sp (l : l_S) (p : Nat) : l_S := (l.1, p, l.2.2)
def l_sa (l : l_S) (k : Nat) (f : Nat → Int32) : l_S := (l.1, l.2.1, l.2.2.1, fun j => if j = k then f else l.2.2.2 j)
def l_so (l : l_S) (o : Int32 × Nat × Int32) : l_S := (l.1, l.2.1, o, l.2.2.2)
def l_i (l : l_S) (k : Nat) : Int32 := l.1 k
theorem l_p0 {b : Nat} {l : l_S} {v : Int32} : (l_fs b l).set 0 (.int v) = l_fs b (l_si l 0 v) := rfl
theorem l_p1 {b : Nat} {l : l_S} {v : Int32} : (l_fs b l).set 1 (.int v) = l_fs b (l_si l 1 v) := rfl
theorem l_p2 {b : Nat} {l : l_S} {v : Int32} : (l_fs b l).set 2 (.int v) = l_fs b (l_si l 2 v) := rfl
theorem l_p7 {b : Nat} {l : l_S} {v : Nat} : (l_fs b l).set 7 (.ref v) = l_fs b (l_sp l v) := rfl
theorem l_upd {b : Nat} {l l2 : l_S} {ω : y_Hp} {k : Nat} {e : y_E} (hB : l_B b l ω) (hk : k < 12) (h : ∀ j, j < 12 → l_cell b l2 j = if j = k then e else l_cell b l j) : y_hup ω (b + k) e = l_H b l2 ω := by
  unfold y_hup l_H
  refine Prod.ext rfl (funext fun a => ?_)
  show (if a = b + k then some (true, e) else ω.2 a) = (if b ≤ a ∧ a < b + 12 then some (true, l_cell b l2 (a - b)) else ω.2 a)
  by_cases h1 : b ≤ a ∧ a < b + 12
  · rw [if_pos h1, h (a - b) (by omega)]
    by_cases h2 : a = b + k
    · rw [if_pos h2, if_pos (by omega)]
    · rw [if_neg h2, if_neg (by omega), ← hB (a - b) (by omega), show b + (a - b) = a by omega]
  · rw [if_neg h1, if_neg (by omega)]
theorem l_cell0 {b : Nat} {l l2 : l_S} {j : Nat} (h : l2.2.2 = l.2.2) : l_cell b l2 j = if j = 0 then .inr (1, l_fs b l2) else l_cell b l j := by
  unfold l_cell
  by_cases h0 : j = 0
  · rw [if_pos h0, if_pos h0]
  · rw [if_neg h0, if_neg h0, if_neg h0, h]
/-- the object of a league written -/
theorem l_put0 {b : Nat} {l l2 : l_S} {ω : y_Hp} (hB : l_B b l ω) (h : l2.2.2 = l.2.2) : y_hup ω b (.inr (1, l_fs b l2)) = l_H b l2 ω := l_upd (k := 0) hB (by decide) (fun j _ => l_cell0 h)
theorem l_puti {b k : Nat} {l : l_S} {ω : y_Hp} {v : Int32} (hB : l_B b l ω) : y_hup ω b (.inr (1, l_fs b (l_si l k v))) = l_H b (l_si l k v) ω := l_put0 hB rfl
theorem l_putp {b : Nat} {l : l_S} {ω : y_Hp} {v : Nat} (hB : l_B b l ω) : y_hup ω b (.inr (1, l_fs b (l_sp l v))) = l_H b (l_sp l v) ω := l_put0 hB rfl
theorem l_puto {b : Nat} {l : l_S} {ω : y_Hp} {o : Int32 × Nat × Int32} (hB : l_B b l ω) : y_hup ω (b + 5) (.inr (14, [.int o.1, .ref o.2.1, .int o.2.2])) = l_H b (l_so l o) ω :=
  l_upd hB (by decide) (fun j hj => by
    have h : j = 0 ∨ j = 1 ∨ j = 2 ∨ j = 3 ∨ j = 4 ∨ j = 5 ∨ j = 6 ∨ j = 7 ∨ j = 8 ∨ j = 9 ∨ j = 10 ∨ j = 11 := by omega
    rcases h with rfl | rfl | rfl | rfl | rfl | rfl | rfl | rfl | rfl | rfl | rfl | rfl <;> rfl)
theorem l_put1 {b : Nat} {l : l_S} {ω : y_Hp} {f : Nat → Int32} (hB : l_B b l ω) : y_hup ω (b + 1) (.inl (0, 8, .inl f)) = l_H b (l_sa l 1 f) ω :=
  l_upd hB (by decide) (fun j hj => by
    have h : j = 0 ∨ j = 1 ∨ j = 2 ∨ j = 3 ∨ j = 4 ∨ j = 5 ∨ j = 6 ∨ j = 7 ∨ j = 8 ∨ j = 9 ∨ j = 10 ∨ j = 11 := by omega
    rcases h with rfl | rfl | rfl | rfl | rfl | rfl | rfl | rfl | rfl | rfl | rfl | rfl <;> rfl)
theorem l_put2 {b : Nat} {l : l_S} {ω : y_Hp} {f : Nat → Int32} (hB : l_B b l ω) : y_hup ω (b + 2) (.inl (0, 8, .inl f)) = l_H b (l_sa l 2 f) ω :=
  l_upd hB (by decide) (fun j hj => by
    have h : j = 0 ∨ j = 1 ∨ j = 2 ∨ j = 3 ∨ j = 4 ∨ j = 5 ∨ j = 6 ∨ j = 7 ∨ j = 8 ∨ j = 9 ∨ j = 10 ∨ j = 11 := by omega
    rcases h with rfl | rfl | rfl | rfl | rfl | rfl | rfl | rfl | rfl | rfl | rfl | rfl <;> rfl)
theorem l_put3 {b : Nat} {l : l_S} {ω : y_Hp} {f : Nat → Int32} (hB : l_B b l ω) : y_hup ω (b + 3) (.inl (0, 8, .inl f)) = l_H b (l_sa l 3 f) ω :=
  l_upd hB (by decide) (fun j hj => by
    have h : j = 0 ∨ j = 1 ∨ j = 2 ∨ j = 3 ∨ j = 4 ∨ j = 5 ∨ j = 6 ∨ j = 7 ∨ j = 8 ∨ j = 9 ∨ j = 10 ∨ j = 11 := by omega
    rcases h with rfl | rfl | rfl | rfl | rfl | rfl | rfl | rfl | rfl | rfl | rfl | rfl <;> rfl)
theorem l_put4 {b : Nat} {l : l_S} {ω : y_Hp} {f : Nat → Int32} (hB : l_B b l ω) : y_hup ω (b + 4) (.inl (0, 8, .inl f)) = l_H b (l_sa l 4 f) ω :=
  l_upd hB (by decide) (fun j hj => by
    have h : j = 0 ∨ j = 1 ∨ j = 2 ∨ j = 3 ∨ j = 4 ∨ j = 5 ∨ j = 6 ∨ j = 7 ∨ j = 8 ∨ j = 9 ∨ j = 10 ∨ j = 11 := by omega
    rcases h with rfl | rfl | rfl | rfl | rfl | rfl | rfl | rfl | rfl | rfl | rfl | rfl <;> rfl)
theorem l_put6 {b : Nat} {l : l_S} {ω : y_Hp} {f : Nat → Int32} (hB : l_B b l ω) : y_hup ω (b + 6) (.inl (0, 4, .inl f)) = l_H b (l_sa l 6 f) ω :=
  l_upd hB (by decide) (fun j hj => by
    have h : j = 0 ∨ j = 1 ∨ j = 2 ∨ j = 3 ∨ j = 4 ∨ j = 5 ∨ j = 6 ∨ j = 7 ∨ j = 8 ∨ j = 9 ∨ j = 10 ∨ j = 11 := by omega
    rcases h with rfl | rfl | rfl | rfl | rfl | rfl | rfl | rfl | rfl | rfl | rfl | rfl <;> rfl)
theorem l_put7 {b : Nat} {l : l_S} {ω : y_Hp} {f : Nat → Int32} (hB : l_B b l ω) : y_hup ω (b + 7) (.inl (0, 4, .inl f)) = l_H b (l_sa l 7 f) ω :=
  l_upd hB (by decide) (fun j hj => by
    have h : j = 0 ∨ j = 1 ∨ j = 2 ∨ j = 3 ∨ j = 4 ∨ j = 5 ∨ j = 6 ∨ j = 7 ∨ j = 8 ∨ j = 9 ∨ j = 10 ∨ j = 11 := by omega
    rcases h with rfl | rfl | rfl | rfl | rfl | rfl | rfl | rfl | rfl | rfl | rfl | rfl <;> rfl)
theorem l_put8 {b : Nat} {l : l_S} {ω : y_Hp} {f : Nat → Int32} (hB : l_B b l ω) : y_hup ω (b + 8) (.inl (0, 4, .inl f)) = l_H b (l_sa l 8 f) ω :=
  l_upd hB (by decide) (fun j hj => by
    have h : j = 0 ∨ j = 1 ∨ j = 2 ∨ j = 3 ∨ j = 4 ∨ j = 5 ∨ j = 6 ∨ j = 7 ∨ j = 8 ∨ j = 9 ∨ j = 10 ∨ j = 11 := by omega
    rcases h with rfl | rfl | rfl | rfl | rfl | rfl | rfl | rfl | rfl | rfl | rfl | rfl <;> rfl)
theorem l_put9 {b : Nat} {l : l_S} {ω : y_Hp} {f : Nat → Int32} (hB : l_B b l ω) : y_hup ω (b + 9) (.inl (0, 4, .inl f)) = l_H b (l_sa l 9 f) ω :=
  l_upd hB (by decide) (fun j hj => by
    have h : j = 0 ∨ j = 1 ∨ j = 2 ∨ j = 3 ∨ j = 4 ∨ j = 5 ∨ j = 6 ∨ j = 7 ∨ j = 8 ∨ j = 9 ∨ j = 10 ∨ j = 11 := by omega
    rcases h with rfl | rfl | rfl | rfl | rfl | rfl | rfl | rfl | rfl | rfl | rfl | rfl <;> rfl)
theorem l_put10 {b : Nat} {l : l_S} {ω : y_Hp} {f : Nat → Int32} (hB : l_B b l ω) : y_hup ω (b + 10) (.inl (0, 4, .inl f)) = l_H b (l_sa l 10 f) ω :=
  l_upd hB (by decide) (fun j hj => by
    have h : j = 0 ∨ j = 1 ∨ j = 2 ∨ j = 3 ∨ j = 4 ∨ j = 5 ∨ j = 6 ∨ j = 7 ∨ j = 8 ∨ j = 9 ∨ j = 10 ∨ j = 11 := by omega
    rcases h with rfl | rfl | rfl | rfl | rfl | rfl | rfl | rfl | rfl | rfl | rfl | rfl <;> rfl)
theorem l_put11 {b : Nat} {l : l_S} {ω : y_Hp} {f : Nat → Int32} (hB : l_B b l ω) : y_hup ω (b + 11) (.inl (0, 4, .inl f)) = l_H b (l_sa l 11 f) ω :=
  l_upd hB (by decide) (fun j hj => by
    have h : j = 0 ∨ j = 1 ∨ j = 2 ∨ j = 3 ∨ j = 4 ∨ j = 5 ∨ j = 6 ∨ j = 7 ∨ j = 8 ∨ j = 9 ∨ j = 10 ∨ j = 11 := by omega
    rcases h with rfl | rfl | rfl | rfl | rfl | rfl | rfl | rfl | rfl | rfl | rfl | rfl <;> rfl)
/-- a league and its numbers -/
def l_N (l : l_S) (N : Nat → Nat) : Prop := (l.1 0 = nI (N 0) ∧ l.1 1 = nI (N 1) ∧ l.1 2 = nI (N 2)) ∧
  (∀ w, w < 8 → l.2.2.2 1 w = nI (N (4 + 4 * w)) ∧ l.2.2.2 2 w = nI (N (4 + 4 * w + 1)) ∧ l.2.2.2 3 w = nI (N (4 + 4 * w + 2)) ∧ l.2.2.2 4 w = nI (N (4 + 4 * w + 3))) ∧
  (∀ p, p < 4 → l.2.2.2 6 p = nI (N (36 + 8 * p + 1)) ∧ l.2.2.2 7 p = nI (N (36 + 8 * p + 3)) ∧ l.2.2.2 8 p = nI (N (36 + 8 * p + 4)) ∧ l.2.2.2 9 p = nI (N (36 + 8 * p + 5)) ∧ l.2.2.2 10 p = nI (N (36 + 8 * p + 6)) ∧ l.2.2.2 11 p = nI (N (36 + 8 * p + 7)))
/-- the list at a holds the people of a league -/
def l_P (ω : y_Hp) (a : Nat) (N : Nat → Nat) : Prop := ∃ (md : Int32) (e n : Nat) (f : Nat → Option Nat) (fl fl2 : Bool), ω.2 a = some (fl, .inr (14, [.int md, .ref e, .int (nI (N 3))])) ∧ ω.2 e = some (fl2, .inl (4, n, .inr (.inr (.inr (.inr f))))) ∧ (N 3 ≤ n ∨ N 3 = 0) ∧
  ∀ p, p < N 3 → ∃ (q : Nat) (f3 : Bool), f p = some q ∧ ω.2 q = some (f3, .inr (8 + N (36 + 8 * p), [.int (nI p), .int (nI (N (36 + 8 * p + 2)))]))
theorem l_h1 {b : Nat} {l : l_S} {ω : y_Hp} : (l_H b l ω).2 (b + 1) = some (true, .inl (0, 8, .inl (l.2.2.2 1))) := l_in (k := 1) (by decide)
theorem l_w1 {b : Nat} {l : l_S} {ω : y_Hp} {f : Nat → Int32} : y_hup (l_H b l ω) (b + 1) (.inl (0, 8, .inl f)) = l_H b (l_sa l 1 f) ω := by rw [l_put1 l_BH, l_HH]
theorem l_h2 {b : Nat} {l : l_S} {ω : y_Hp} : (l_H b l ω).2 (b + 2) = some (true, .inl (0, 8, .inl (l.2.2.2 2))) := l_in (k := 2) (by decide)
theorem l_w2 {b : Nat} {l : l_S} {ω : y_Hp} {f : Nat → Int32} : y_hup (l_H b l ω) (b + 2) (.inl (0, 8, .inl f)) = l_H b (l_sa l 2 f) ω := by rw [l_put2 l_BH, l_HH]
theorem l_h3 {b : Nat} {l : l_S} {ω : y_Hp} : (l_H b l ω).2 (b + 3) = some (true, .inl (0, 8, .inl (l.2.2.2 3))) := l_in (k := 3) (by decide)
theorem l_w3 {b : Nat} {l : l_S} {ω : y_Hp} {f : Nat → Int32} : y_hup (l_H b l ω) (b + 3) (.inl (0, 8, .inl f)) = l_H b (l_sa l 3 f) ω := by rw [l_put3 l_BH, l_HH]
theorem l_h4 {b : Nat} {l : l_S} {ω : y_Hp} : (l_H b l ω).2 (b + 4) = some (true, .inl (0, 8, .inl (l.2.2.2 4))) := l_in (k := 4) (by decide)
theorem l_w4 {b : Nat} {l : l_S} {ω : y_Hp} {f : Nat → Int32} : y_hup (l_H b l ω) (b + 4) (.inl (0, 8, .inl f)) = l_H b (l_sa l 4 f) ω := by rw [l_put4 l_BH, l_HH]
theorem l_h6 {b : Nat} {l : l_S} {ω : y_Hp} : (l_H b l ω).2 (b + 6) = some (true, .inl (0, 4, .inl (l.2.2.2 6))) := l_in (k := 6) (by decide)
theorem l_w6 {b : Nat} {l : l_S} {ω : y_Hp} {f : Nat → Int32} : y_hup (l_H b l ω) (b + 6) (.inl (0, 4, .inl f)) = l_H b (l_sa l 6 f) ω := by rw [l_put6 l_BH, l_HH]
theorem l_h7 {b : Nat} {l : l_S} {ω : y_Hp} : (l_H b l ω).2 (b + 7) = some (true, .inl (0, 4, .inl (l.2.2.2 7))) := l_in (k := 7) (by decide)
theorem l_w7 {b : Nat} {l : l_S} {ω : y_Hp} {f : Nat → Int32} : y_hup (l_H b l ω) (b + 7) (.inl (0, 4, .inl f)) = l_H b (l_sa l 7 f) ω := by rw [l_put7 l_BH, l_HH]
theorem l_h8 {b : Nat} {l : l_S} {ω : y_Hp} : (l_H b l ω).2 (b + 8) = some (true, .inl (0, 4, .inl (l.2.2.2 8))) := l_in (k := 8) (by decide)
theorem l_w8 {b : Nat} {l : l_S} {ω : y_Hp} {f : Nat → Int32} : y_hup (l_H b l ω) (b + 8) (.inl (0, 4, .inl f)) = l_H b (l_sa l 8 f) ω := by rw [l_put8 l_BH, l_HH]
theorem l_h9 {b : Nat} {l : l_S} {ω : y_Hp} : (l_H b l ω).2 (b + 9) = some (true, .inl (0, 4, .inl (l.2.2.2 9))) := l_in (k := 9) (by decide)
theorem l_w9 {b : Nat} {l : l_S} {ω : y_Hp} {f : Nat → Int32} : y_hup (l_H b l ω) (b + 9) (.inl (0, 4, .inl f)) = l_H b (l_sa l 9 f) ω := by rw [l_put9 l_BH, l_HH]
theorem l_h10 {b : Nat} {l : l_S} {ω : y_Hp} : (l_H b l ω).2 (b + 10) = some (true, .inl (0, 4, .inl (l.2.2.2 10))) := l_in (k := 10) (by decide)
theorem l_w10 {b : Nat} {l : l_S} {ω : y_Hp} {f : Nat → Int32} : y_hup (l_H b l ω) (b + 10) (.inl (0, 4, .inl f)) = l_H b (l_sa l 10 f) ω := by rw [l_put10 l_BH, l_HH]
theorem l_h11 {b : Nat} {l : l_S} {ω : y_Hp} : (l_H b l ω).2 (b + 11) = some (true, .inl (0, 4, .inl (l.2.2.2 11))) := l_in (k := 11) (by decide)
theorem l_w11 {b : Nat} {l : l_S} {ω : y_Hp} {f : Nat → Int32} : y_hup (l_H b l ω) (b + 11) (.inl (0, 4, .inl f)) = l_H b (l_sa l 11 f) ω := by rw [l_put11 l_BH, l_HH]
theorem l_h0 {b : Nat} {l : l_S} {ω : y_Hp} : (l_H b l ω).2 b = some (true, .inr (1, l_fs b l)) := l_in (k := 0) (by decide)
theorem l_h5 {b : Nat} {l : l_S} {ω : y_Hp} : (l_H b l ω).2 (b + 5) = some (true, .inr (14, [.int l.2.2.1.1, .ref l.2.2.1.2.1, .int l.2.2.1.2.2])) := l_in (k := 5) (by decide)
theorem l_wi {b k : Nat} {l : l_S} {ω : y_Hp} {v : Int32} : y_hup (l_H b l ω) b (.inr (1, l_fs b (l_si l k v))) = l_H b (l_si l k v) ω := by rw [l_puti l_BH, l_HH]
theorem l_wp {b : Nat} {l : l_S} {ω : y_Hp} {v : Nat} : y_hup (l_H b l ω) b (.inr (1, l_fs b (l_sp l v))) = l_H b (l_sp l v) ω := by rw [l_putp l_BH, l_HH]
theorem l_hcls {b : Nat} {l : l_S} {ω : y_Hp} : y_cls (l_H b l ω) b = some 1 := l_cls l_BH
theorem l_fr {b o : Nat} {l l2 : l_S} {ω : y_Hp} (h : l_B o l2 ω) (hd : o + 12 ≤ b ∨ b + 12 ≤ o) : l_B o l2 (l_H b l ω) := fun k hk => by rw [l_off (by omega)]; exact h k hk
/-! the object -/
abbrev x_S : Type := (Nat → Int32) × (Nat → Nat → Option Nat) × (Nat → Int32) × l_S × Nat × (Nat → Nat → Int64)
def x_i (ξ : x_S) (k : Nat) : Int32 := ξ.1 k
def x_r (ξ : x_S) (k : Nat) : Nat → Option Nat := ξ.2.1 k
def x_t (ξ : x_S) : Nat → Int32 := ξ.2.2.1
def x_l (ξ : x_S) : l_S := ξ.2.2.2.1
def x_tr (ξ : x_S) : Nat := ξ.2.2.2.2.1
def x_g (ξ : x_S) (k : Nat) : Nat → Int64 := ξ.2.2.2.2.2 k
def x_si (ξ : x_S) (k : Nat) (v : Int32) : x_S := (fun j => if j = k then v else ξ.1 j, ξ.2)
def x_sr (ξ : x_S) (k : Nat) (f : Nat → Option Nat) : x_S := (ξ.1, fun j => if j = k then f else ξ.2.1 j, ξ.2.2)
def x_st (ξ : x_S) (f : Nat → Int32) : x_S := (ξ.1, ξ.2.1, f, ξ.2.2.2)
def x_sl (ξ : x_S) (l : l_S) : x_S := (ξ.1, ξ.2.1, ξ.2.2.1, l, ξ.2.2.2.2)
def x_str (ξ : x_S) (t : Nat) : x_S := (ξ.1, ξ.2.1, ξ.2.2.1, ξ.2.2.2.1, t, ξ.2.2.2.2.2)
def x_sg (ξ : x_S) (k : Nat) (f : Nat → Int64) : x_S := (ξ.1, ξ.2.1, ξ.2.2.1, ξ.2.2.2.1, ξ.2.2.2.2.1, fun j => if j = k then f else ξ.2.2.2.2.2 j)
theorem x_i_si {ξ : x_S} {j : Nat} {k : Nat} {v : Int32} : x_i (x_si ξ k v) j = if j = k then v else x_i ξ j := rfl
theorem x_r_si {ξ : x_S} {j : Nat} {k : Nat} {v : Int32} : x_r (x_si ξ k v) j = x_r ξ j := rfl
theorem x_t_si {ξ : x_S}  {k : Nat} {v : Int32} : x_t (x_si ξ k v) = x_t ξ := rfl
theorem x_l_si {ξ : x_S}  {k : Nat} {v : Int32} : x_l (x_si ξ k v) = x_l ξ := rfl
theorem x_tr_si {ξ : x_S}  {k : Nat} {v : Int32} : x_tr (x_si ξ k v) = x_tr ξ := rfl
theorem x_g_si {ξ : x_S} {j : Nat} {k : Nat} {v : Int32} : x_g (x_si ξ k v) j = x_g ξ j := rfl
theorem x_i_sr {ξ : x_S} {j : Nat} {k : Nat} {f : Nat → Option Nat} : x_i (x_sr ξ k f) j = x_i ξ j := rfl
theorem x_r_sr {ξ : x_S} {j : Nat} {k : Nat} {f : Nat → Option Nat} : x_r (x_sr ξ k f) j = if j = k then f else x_r ξ j := rfl
theorem x_t_sr {ξ : x_S}  {k : Nat} {f : Nat → Option Nat} : x_t (x_sr ξ k f) = x_t ξ := rfl
theorem x_l_sr {ξ : x_S}  {k : Nat} {f : Nat → Option Nat} : x_l (x_sr ξ k f) = x_l ξ := rfl
theorem x_tr_sr {ξ : x_S}  {k : Nat} {f : Nat → Option Nat} : x_tr (x_sr ξ k f) = x_tr ξ := rfl
theorem x_g_sr {ξ : x_S} {j : Nat} {k : Nat} {f : Nat → Option Nat} : x_g (x_sr ξ k f) j = x_g ξ j := rfl
theorem x_i_st {ξ : x_S} {j : Nat} {f : Nat → Int32} : x_i (x_st ξ f) j = x_i ξ j := rfl
theorem x_r_st {ξ : x_S} {j : Nat} {f : Nat → Int32} : x_r (x_st ξ f) j = x_r ξ j := rfl
theorem x_t_st {ξ : x_S}  {f : Nat → Int32} : x_t (x_st ξ f) = f := rfl
theorem x_l_st {ξ : x_S}  {f : Nat → Int32} : x_l (x_st ξ f) = x_l ξ := rfl
theorem x_tr_st {ξ : x_S}  {f : Nat → Int32} : x_tr (x_st ξ f) = x_tr ξ := rfl
theorem x_g_st {ξ : x_S} {j : Nat} {f : Nat → Int32} : x_g (x_st ξ f) j = x_g ξ j := rfl
theorem x_i_sl {ξ : x_S} {j : Nat} {l : l_S} : x_i (x_sl ξ l) j = x_i ξ j := rfl
theorem x_r_sl {ξ : x_S} {j : Nat} {l : l_S} : x_r (x_sl ξ l) j = x_r ξ j := rfl
theorem x_t_sl {ξ : x_S}  {l : l_S} : x_t (x_sl ξ l) = x_t ξ := rfl
theorem x_l_sl {ξ : x_S}  {l : l_S} : x_l (x_sl ξ l) = l := rfl
theorem x_tr_sl {ξ : x_S}  {l : l_S} : x_tr (x_sl ξ l) = x_tr ξ := rfl
theorem x_g_sl {ξ : x_S} {j : Nat} {l : l_S} : x_g (x_sl ξ l) j = x_g ξ j := rfl
theorem x_i_str {ξ : x_S} {j : Nat} {t : Nat} : x_i (x_str ξ t) j = x_i ξ j := rfl
theorem x_r_str {ξ : x_S} {j : Nat} {t : Nat} : x_r (x_str ξ t) j = x_r ξ j := rfl
theorem x_t_str {ξ : x_S}  {t : Nat} : x_t (x_str ξ t) = x_t ξ := rfl
theorem x_l_str {ξ : x_S}  {t : Nat} : x_l (x_str ξ t) = x_l ξ := rfl
theorem x_tr_str {ξ : x_S}  {t : Nat} : x_tr (x_str ξ t) = t := rfl
theorem x_g_str {ξ : x_S} {j : Nat} {t : Nat} : x_g (x_str ξ t) j = x_g ξ j := rfl
theorem x_i_sg {ξ : x_S} {j : Nat} {k : Nat} {f : Nat → Int64} : x_i (x_sg ξ k f) j = x_i ξ j := rfl
theorem x_r_sg {ξ : x_S} {j : Nat} {k : Nat} {f : Nat → Int64} : x_r (x_sg ξ k f) j = x_r ξ j := rfl
theorem x_t_sg {ξ : x_S}  {k : Nat} {f : Nat → Int64} : x_t (x_sg ξ k f) = x_t ξ := rfl
theorem x_l_sg {ξ : x_S}  {k : Nat} {f : Nat → Int64} : x_l (x_sg ξ k f) = x_l ξ := rfl
theorem x_tr_sg {ξ : x_S}  {k : Nat} {f : Nat → Int64} : x_tr (x_sg ξ k f) = x_tr ξ := rfl
theorem x_g_sg {ξ : x_S} {j : Nat} {k : Nat} {f : Nat → Int64} : x_g (x_sg ξ k f) j = if j = k then f else x_g ξ j := rfl
def x_fs (x : Nat) (ξ : x_S) : List Value := [.ref (x + 1), .ref (x + 2), .int (x_i ξ 2), .int (x_i ξ 3), .ref (x + 3), .ref (x + 15), .int (x_i ξ 6), .ref (x + 16), .ref (x_tr ξ), .int (x_i ξ 9), .ref (x + 19), .ref (x + 20)]
def x_cell (x : Nat) (ξ : x_S) (k : Nat) : y_E := if k = 0 then .inr (0, x_fs x ξ) else if k = 1 then .inl (5, 8, .inr (.inr (.inr (.inr (x_r ξ 1))))) else if k = 2 then .inl (1, 400, .inl (x_t ξ)) else if k < 15 then l_cell (x + 3) (x_l ξ) (k - 3) else if k = 15 then .inl (6, 24, .inr (.inr (.inr (.inr (x_r ξ 15))))) else if k = 16 then .inl (6, 2, .inr (.inr (.inr (.inr (x_r ξ 16))))) else .inl (2, 205, .inr (.inl (x_g ξ k)))
abbrev x_own (x a : Nat) : Prop := x ≤ a ∧ a < x + 21 ∧ a ≠ x + 17 ∧ a ≠ x + 18
def x_H (x : Nat) (ξ : x_S) (ω : y_Hp) : y_Hp := (ω.1, fun a => if x_own x a then some (true, x_cell x ξ (a - x)) else ω.2 a)
theorem x_top {x : Nat} {ξ : x_S} {ω : y_Hp} : (x_H x ξ ω).1 = ω.1 := rfl
theorem x_off {x a : Nat} {ξ : x_S} {ω : y_Hp} (h : ¬ x_own x a) : (x_H x ξ ω).2 a = ω.2 a := if_neg h
theorem x_in {x k : Nat} {ξ : x_S} {ω : y_Hp} (h : x_own x (x + k)) : (x_H x ξ ω).2 (x + k) = some (true, x_cell x ξ k) := by
  show (if x_own x (x + k) then some (true, x_cell x ξ (x + k - x)) else ω.2 (x + k)) = _
  rw [if_pos h, Nat.add_sub_cancel_left]
theorem x_HH {x : Nat} {ξ ξ2 : x_S} {ω : y_Hp} : x_H x ξ (x_H x ξ2 ω) = x_H x ξ ω := by
  refine Prod.ext rfl (funext fun a => ?_)
  show (if x_own x a then some (true, x_cell x ξ (a - x)) else if x_own x a then some (true, x_cell x ξ2 (a - x)) else ω.2 a) = (if x_own x a then some (true, x_cell x ξ (a - x)) else ω.2 a)
  by_cases q : x_own x a
  · rw [if_pos q, if_pos q]
  · rw [if_neg q, if_neg q, if_neg q]
theorem x_HB {x : Nat} {ξ : x_S} {ω : y_Hp} (h : ∀ k, x_own x (x + k) → ω.2 (x + k) = some (true, x_cell x ξ k)) : x_H x ξ ω = ω := by
  refine Prod.ext rfl (funext fun a => ?_)
  show (if x_own x a then some (true, x_cell x ξ (a - x)) else ω.2 a) = ω.2 a
  by_cases q : x_own x a
  · have e : x + (a - x) = a := by unfold x_own at q; omega
    rw [if_pos q, ← h (a - x) (by rw [e]; exact q), e]
  · rw [if_neg q]
theorem x_at0 {x : Nat} {ξ : x_S} {ω : y_Hp} : (x_H x ξ ω).2 x = some (true, .inr (0, x_fs x ξ)) := x_in (k := 0) (by unfold x_own; omega)
theorem x_at1 {x : Nat} {ξ : x_S} {ω : y_Hp} : (x_H x ξ ω).2 (x + 1) = some (true, .inl (5, 8, .inr (.inr (.inr (.inr (x_r ξ 1)))))) := x_in (k := 1) (by unfold x_own; omega)
theorem x_at2 {x : Nat} {ξ : x_S} {ω : y_Hp} : (x_H x ξ ω).2 (x + 2) = some (true, .inl (1, 400, .inl (x_t ξ))) := x_in (k := 2) (by unfold x_own; omega)
theorem x_at15 {x : Nat} {ξ : x_S} {ω : y_Hp} : (x_H x ξ ω).2 (x + 15) = some (true, .inl (6, 24, .inr (.inr (.inr (.inr (x_r ξ 15)))))) := x_in (k := 15) (by unfold x_own; omega)
theorem x_at16 {x : Nat} {ξ : x_S} {ω : y_Hp} : (x_H x ξ ω).2 (x + 16) = some (true, .inl (6, 2, .inr (.inr (.inr (.inr (x_r ξ 16)))))) := x_in (k := 16) (by unfold x_own; omega)
theorem x_at19 {x : Nat} {ξ : x_S} {ω : y_Hp} : (x_H x ξ ω).2 (x + 19) = some (true, .inl (2, 205, .inr (.inl (x_g ξ 19)))) := x_in (k := 19) (by unfold x_own; omega)
theorem x_at20 {x : Nat} {ξ : x_S} {ω : y_Hp} : (x_H x ξ ω).2 (x + 20) = some (true, .inl (2, 205, .inr (.inl (x_g ξ 20)))) := x_in (k := 20) (by unfold x_own; omega)
theorem x_atL {x : Nat} {ξ : x_S} {ω : y_Hp} : l_B (x + 3) (x_l ξ) (x_H x ξ ω) := fun k hk => by
  rw [Nat.add_assoc, x_in (k := 3 + k) (by unfold x_own; omega)]
  unfold x_cell
  rw [if_neg (by omega), if_neg (by omega), if_neg (by omega), if_pos (by omega), show 3 + k - 3 = k by omega]
theorem x_lat1 {x : Nat} {ξ : x_S} {ω : y_Hp} : (x_H x ξ ω).2 (x + 3 + 1) = some (true, .inl (0, 8, .inl ((x_l ξ).2.2.2 1))) := l_at1 x_atL
theorem x_lat2 {x : Nat} {ξ : x_S} {ω : y_Hp} : (x_H x ξ ω).2 (x + 3 + 2) = some (true, .inl (0, 8, .inl ((x_l ξ).2.2.2 2))) := l_at2 x_atL
theorem x_lat3 {x : Nat} {ξ : x_S} {ω : y_Hp} : (x_H x ξ ω).2 (x + 3 + 3) = some (true, .inl (0, 8, .inl ((x_l ξ).2.2.2 3))) := l_at3 x_atL
theorem x_lat4 {x : Nat} {ξ : x_S} {ω : y_Hp} : (x_H x ξ ω).2 (x + 3 + 4) = some (true, .inl (0, 8, .inl ((x_l ξ).2.2.2 4))) := l_at4 x_atL
theorem x_lat6 {x : Nat} {ξ : x_S} {ω : y_Hp} : (x_H x ξ ω).2 (x + 3 + 6) = some (true, .inl (0, 4, .inl ((x_l ξ).2.2.2 6))) := l_at6 x_atL
theorem x_lat7 {x : Nat} {ξ : x_S} {ω : y_Hp} : (x_H x ξ ω).2 (x + 3 + 7) = some (true, .inl (0, 4, .inl ((x_l ξ).2.2.2 7))) := l_at7 x_atL
theorem x_lat8 {x : Nat} {ξ : x_S} {ω : y_Hp} : (x_H x ξ ω).2 (x + 3 + 8) = some (true, .inl (0, 4, .inl ((x_l ξ).2.2.2 8))) := l_at8 x_atL
theorem x_lat9 {x : Nat} {ξ : x_S} {ω : y_Hp} : (x_H x ξ ω).2 (x + 3 + 9) = some (true, .inl (0, 4, .inl ((x_l ξ).2.2.2 9))) := l_at9 x_atL
theorem x_lat10 {x : Nat} {ξ : x_S} {ω : y_Hp} : (x_H x ξ ω).2 (x + 3 + 10) = some (true, .inl (0, 4, .inl ((x_l ξ).2.2.2 10))) := l_at10 x_atL
theorem x_lat11 {x : Nat} {ξ : x_S} {ω : y_Hp} : (x_H x ξ ω).2 (x + 3 + 11) = some (true, .inl (0, 4, .inl ((x_l ξ).2.2.2 11))) := l_at11 x_atL
theorem x_lat0 {x : Nat} {ξ : x_S} {ω : y_Hp} : (x_H x ξ ω).2 (x + 3) = some (true, .inr (1, l_fs (x + 3) (x_l ξ))) := l_at0 x_atL
theorem x_lat5 {x : Nat} {ξ : x_S} {ω : y_Hp} : (x_H x ξ ω).2 (x + 3 + 5) = some (true, .inr (14, [.int (x_l ξ).2.2.1.1, .ref (x_l ξ).2.2.1.2.1, .int (x_l ξ).2.2.1.2.2])) := l_at5 x_atL
theorem x_cls0 {x : Nat} {ξ : x_S} {ω : y_Hp} : y_cls (x_H x ξ ω) x = some 0 := by unfold y_cls; rw [x_at0]
theorem x_clsL {x : Nat} {ξ : x_S} {ω : y_Hp} : y_cls (x_H x ξ ω) (x + 3) = some 1 := l_cls x_atL
theorem x_gf0 {x : Nat} {ξ : x_S} : (x_fs x ξ)[0]? = some (.ref (x + 1)) := rfl
theorem x_gf1 {x : Nat} {ξ : x_S} : (x_fs x ξ)[1]? = some (.ref (x + 2)) := rfl
theorem x_gf2 {x : Nat} {ξ : x_S} : (x_fs x ξ)[2]? = some (.int (x_i ξ 2)) := rfl
theorem x_gf3 {x : Nat} {ξ : x_S} : (x_fs x ξ)[3]? = some (.int (x_i ξ 3)) := rfl
theorem x_gf4 {x : Nat} {ξ : x_S} : (x_fs x ξ)[4]? = some (.ref (x + 3)) := rfl
theorem x_gf5 {x : Nat} {ξ : x_S} : (x_fs x ξ)[5]? = some (.ref (x + 15)) := rfl
theorem x_gf6 {x : Nat} {ξ : x_S} : (x_fs x ξ)[6]? = some (.int (x_i ξ 6)) := rfl
theorem x_gf7 {x : Nat} {ξ : x_S} : (x_fs x ξ)[7]? = some (.ref (x + 16)) := rfl
theorem x_gf8 {x : Nat} {ξ : x_S} : (x_fs x ξ)[8]? = some (.ref (x_tr ξ)) := rfl
theorem x_gf9 {x : Nat} {ξ : x_S} : (x_fs x ξ)[9]? = some (.int (x_i ξ 9)) := rfl
theorem x_gf10 {x : Nat} {ξ : x_S} : (x_fs x ξ)[10]? = some (.ref (x + 19)) := rfl
theorem x_gf11 {x : Nat} {ξ : x_S} : (x_fs x ξ)[11]? = some (.ref (x + 20)) := rfl
theorem x_fs_len {x : Nat} {ξ : x_S} : (x_fs x ξ).length = 12 := rfl
theorem x_p2 {x : Nat} {ξ : x_S} {v : Int32} : (x_fs x ξ).set 2 (.int v) = x_fs x (x_si ξ 2 v) := rfl
theorem x_p3 {x : Nat} {ξ : x_S} {v : Int32} : (x_fs x ξ).set 3 (.int v) = x_fs x (x_si ξ 3 v) := rfl
theorem x_p6 {x : Nat} {ξ : x_S} {v : Int32} : (x_fs x ξ).set 6 (.int v) = x_fs x (x_si ξ 6 v) := rfl
theorem x_p9 {x : Nat} {ξ : x_S} {v : Int32} : (x_fs x ξ).set 9 (.int v) = x_fs x (x_si ξ 9 v) := rfl
theorem x_p8 {x : Nat} {ξ : x_S} {v : Nat} : (x_fs x ξ).set 8 (.ref v) = x_fs x (x_str ξ v) := rfl
theorem x_upd {x k : Nat} {ξ ξ2 : x_S} {ω : y_Hp} {e : y_E} (hk : x_own x (x + k)) (h : ∀ j, x_own x (x + j) → x_cell x ξ2 j = if j = k then e else x_cell x ξ j) : y_hup (x_H x ξ ω) (x + k) e = x_H x ξ2 ω := by
  unfold y_hup x_H
  refine Prod.ext rfl (funext fun a => ?_)
  show (if a = x + k then some (true, e) else if x_own x a then some (true, x_cell x ξ (a - x)) else ω.2 a) = (if x_own x a then some (true, x_cell x ξ2 (a - x)) else ω.2 a)
  by_cases h1 : x_own x a
  · have e1 : x + (a - x) = a := by unfold x_own at h1; omega
    rw [if_pos h1, if_pos h1, h (a - x) (by rw [e1]; exact h1)]
    by_cases h2 : a = x + k
    · rw [if_pos h2, if_pos (by omega)]
    · rw [if_neg h2, if_neg (by omega)]
  · rw [if_neg h1, if_neg h1, if_neg (by intro q; rw [q] at h1; exact h1 hk)]
theorem x_js {x j : Nat} (h : x_own x (x + j)) : j = 0 ∨ j = 1 ∨ j = 2 ∨ (3 ≤ j ∧ j < 15) ∨ j = 15 ∨ j = 16 ∨ j = 19 ∨ j = 20 := by unfold x_own at h; omega
theorem x_puto {x : Nat} {ξ ξ2 : x_S} {ω : y_Hp} (h1 : ξ2.2.1 = ξ.2.1) (h2 : ξ2.2.2.1 = ξ.2.2.1) (h3 : ξ2.2.2.2.1 = ξ.2.2.2.1) (h4 : ξ2.2.2.2.2.2 = ξ.2.2.2.2.2) : y_hup (x_H x ξ ω) x (.inr (0, x_fs x ξ2)) = x_H x ξ2 ω :=
  x_upd (k := 0) (by unfold x_own; omega) (fun j _ => by
    unfold x_cell x_r x_t x_l x_g
    rw [h1, h2, h3, h4]
    by_cases h0 : j = 0
    · rw [if_pos h0, if_pos h0]
    · rw [if_neg h0, if_neg h0, if_neg h0])
theorem x_puti {x k : Nat} {ξ : x_S} {ω : y_Hp} {v : Int32} : y_hup (x_H x ξ ω) x (.inr (0, x_fs x (x_si ξ k v))) = x_H x (x_si ξ k v) ω := x_puto rfl rfl rfl rfl
theorem x_putt {x : Nat} {ξ : x_S} {ω : y_Hp} {v : Nat} : y_hup (x_H x ξ ω) x (.inr (0, x_fs x (x_str ξ v))) = x_H x (x_str ξ v) ω := x_puto rfl rfl rfl rfl
theorem x_put1 {x : Nat} {ξ : x_S} {ω : y_Hp} {f : Nat → Option Nat} : y_hup (x_H x ξ ω) (x + 1) (.inl (5, 8, .inr (.inr (.inr (.inr f))))) = x_H x (x_sr ξ 1 f) ω :=
  x_upd (by unfold x_own; omega) (fun j hj => by
    by_cases h : 3 ≤ j ∧ j < 15
    · unfold x_cell
      rw [if_neg (by omega), if_neg (by omega), if_neg (by omega), if_pos (by omega), if_neg (by omega), if_neg (by omega), if_neg (by omega), if_neg (by omega), if_pos (by omega)]
      rfl
    · rcases x_js hj with rfl | rfl | rfl | h2 | rfl | rfl | rfl | rfl <;> first | rfl | exact (h h2).elim)
theorem x_put15 {x : Nat} {ξ : x_S} {ω : y_Hp} {f : Nat → Option Nat} : y_hup (x_H x ξ ω) (x + 15) (.inl (6, 24, .inr (.inr (.inr (.inr f))))) = x_H x (x_sr ξ 15 f) ω :=
  x_upd (by unfold x_own; omega) (fun j hj => by
    by_cases h : 3 ≤ j ∧ j < 15
    · unfold x_cell
      rw [if_neg (by omega), if_neg (by omega), if_neg (by omega), if_pos (by omega), if_neg (by omega), if_neg (by omega), if_neg (by omega), if_neg (by omega), if_pos (by omega)]
      rfl
    · rcases x_js hj with rfl | rfl | rfl | h2 | rfl | rfl | rfl | rfl <;> first | rfl | exact (h h2).elim)
theorem x_put16 {x : Nat} {ξ : x_S} {ω : y_Hp} {f : Nat → Option Nat} : y_hup (x_H x ξ ω) (x + 16) (.inl (6, 2, .inr (.inr (.inr (.inr f))))) = x_H x (x_sr ξ 16 f) ω :=
  x_upd (by unfold x_own; omega) (fun j hj => by
    by_cases h : 3 ≤ j ∧ j < 15
    · unfold x_cell
      rw [if_neg (by omega), if_neg (by omega), if_neg (by omega), if_pos (by omega), if_neg (by omega), if_neg (by omega), if_neg (by omega), if_neg (by omega), if_pos (by omega)]
      rfl
    · rcases x_js hj with rfl | rfl | rfl | h2 | rfl | rfl | rfl | rfl <;> first | rfl | exact (h h2).elim)
theorem x_put2 {x : Nat} {ξ : x_S} {ω : y_Hp} {f : Nat → Int32} : y_hup (x_H x ξ ω) (x + 2) (.inl (1, 400, .inl f)) = x_H x (x_st ξ f) ω :=
  x_upd (by unfold x_own; omega) (fun j hj => by
    by_cases h : 3 ≤ j ∧ j < 15
    · unfold x_cell
      rw [if_neg (by omega), if_neg (by omega), if_neg (by omega), if_pos (by omega), if_neg (by omega), if_neg (by omega), if_neg (by omega), if_neg (by omega), if_pos (by omega)]
      rfl
    · rcases x_js hj with rfl | rfl | rfl | h2 | rfl | rfl | rfl | rfl <;> first | rfl | exact (h h2).elim)
theorem x_put19 {x : Nat} {ξ : x_S} {ω : y_Hp} {f : Nat → Int64} : y_hup (x_H x ξ ω) (x + 19) (.inl (2, 205, .inr (.inl f))) = x_H x (x_sg ξ 19 f) ω :=
  x_upd (by unfold x_own; omega) (fun j hj => by
    by_cases h : 3 ≤ j ∧ j < 15
    · unfold x_cell
      rw [if_neg (by omega), if_neg (by omega), if_neg (by omega), if_pos (by omega), if_neg (by omega), if_neg (by omega), if_neg (by omega), if_neg (by omega), if_pos (by omega)]
      rfl
    · rcases x_js hj with rfl | rfl | rfl | h2 | rfl | rfl | rfl | rfl <;> first | rfl | exact (h h2).elim)
theorem x_put20 {x : Nat} {ξ : x_S} {ω : y_Hp} {f : Nat → Int64} : y_hup (x_H x ξ ω) (x + 20) (.inl (2, 205, .inr (.inl f))) = x_H x (x_sg ξ 20 f) ω :=
  x_upd (by unfold x_own; omega) (fun j hj => by
    by_cases h : 3 ≤ j ∧ j < 15
    · unfold x_cell
      rw [if_neg (by omega), if_neg (by omega), if_neg (by omega), if_pos (by omega), if_neg (by omega), if_neg (by omega), if_neg (by omega), if_neg (by omega), if_pos (by omega)]
      rfl
    · rcases x_js hj with rfl | rfl | rfl | h2 | rfl | rfl | rfl | rfl <;> first | rfl | exact (h h2).elim)
/-- the league of the object written -/
theorem x_lH {x : Nat} {ξ : x_S} {ω : y_Hp} {l : l_S} : l_H (x + 3) l (x_H x ξ ω) = x_H x (x_sl ξ l) ω := by
  refine Prod.ext rfl (funext fun a => ?_)
  show (if x + 3 ≤ a ∧ a < x + 3 + 12 then some (true, l_cell (x + 3) l (a - (x + 3))) else if x_own x a then some (true, x_cell x ξ (a - x)) else ω.2 a) = (if x_own x a then some (true, x_cell x (x_sl ξ l) (a - x)) else ω.2 a)
  by_cases q : x + 3 ≤ a ∧ a < x + 3 + 12
  · rw [if_pos q, if_pos (by unfold x_own; omega)]
    unfold x_cell
    rw [if_neg (by omega), if_neg (by omega), if_neg (by omega), if_pos (by omega), show a - x - 3 = a - (x + 3) by omega]
    rfl
  · rw [if_neg q]
    by_cases q2 : x_own x a
    · rw [if_pos q2, if_pos q2]
      unfold x_own at q2
      unfold x_cell
      have n3 : ¬ (a - x < 15 ∧ 3 ≤ a - x) := by omega
      by_cases a0 : a - x = 0
      · rw [if_pos a0, if_pos a0]; rfl
      · rw [if_neg a0, if_neg a0]
        by_cases a1 : a - x = 1
        · rw [if_pos a1, if_pos a1]; rfl
        · rw [if_neg a1, if_neg a1]
          by_cases a2 : a - x = 2
          · rw [if_pos a2, if_pos a2]; rfl
          · have n15 : ¬ a - x < 15 := by omega
            rw [if_neg a2, if_neg a2]
            simp only [if_neg n15]
            rfl
    · rw [if_neg q2, if_neg q2]
theorem x_lw1 {x : Nat} {ξ : x_S} {ω : y_Hp} {f : Nat → Int32} : y_hup (x_H x ξ ω) (x + 3 + 1) (.inl (0, 8, .inl f)) = x_H x (x_sl ξ (l_sa (x_l ξ) 1 f)) ω := by rw [l_put1 x_atL, x_lH]
theorem x_lw2 {x : Nat} {ξ : x_S} {ω : y_Hp} {f : Nat → Int32} : y_hup (x_H x ξ ω) (x + 3 + 2) (.inl (0, 8, .inl f)) = x_H x (x_sl ξ (l_sa (x_l ξ) 2 f)) ω := by rw [l_put2 x_atL, x_lH]
theorem x_lw3 {x : Nat} {ξ : x_S} {ω : y_Hp} {f : Nat → Int32} : y_hup (x_H x ξ ω) (x + 3 + 3) (.inl (0, 8, .inl f)) = x_H x (x_sl ξ (l_sa (x_l ξ) 3 f)) ω := by rw [l_put3 x_atL, x_lH]
theorem x_lw4 {x : Nat} {ξ : x_S} {ω : y_Hp} {f : Nat → Int32} : y_hup (x_H x ξ ω) (x + 3 + 4) (.inl (0, 8, .inl f)) = x_H x (x_sl ξ (l_sa (x_l ξ) 4 f)) ω := by rw [l_put4 x_atL, x_lH]
theorem x_lw6 {x : Nat} {ξ : x_S} {ω : y_Hp} {f : Nat → Int32} : y_hup (x_H x ξ ω) (x + 3 + 6) (.inl (0, 4, .inl f)) = x_H x (x_sl ξ (l_sa (x_l ξ) 6 f)) ω := by rw [l_put6 x_atL, x_lH]
theorem x_lw7 {x : Nat} {ξ : x_S} {ω : y_Hp} {f : Nat → Int32} : y_hup (x_H x ξ ω) (x + 3 + 7) (.inl (0, 4, .inl f)) = x_H x (x_sl ξ (l_sa (x_l ξ) 7 f)) ω := by rw [l_put7 x_atL, x_lH]
theorem x_lw8 {x : Nat} {ξ : x_S} {ω : y_Hp} {f : Nat → Int32} : y_hup (x_H x ξ ω) (x + 3 + 8) (.inl (0, 4, .inl f)) = x_H x (x_sl ξ (l_sa (x_l ξ) 8 f)) ω := by rw [l_put8 x_atL, x_lH]
theorem x_lw9 {x : Nat} {ξ : x_S} {ω : y_Hp} {f : Nat → Int32} : y_hup (x_H x ξ ω) (x + 3 + 9) (.inl (0, 4, .inl f)) = x_H x (x_sl ξ (l_sa (x_l ξ) 9 f)) ω := by rw [l_put9 x_atL, x_lH]
theorem x_lw10 {x : Nat} {ξ : x_S} {ω : y_Hp} {f : Nat → Int32} : y_hup (x_H x ξ ω) (x + 3 + 10) (.inl (0, 4, .inl f)) = x_H x (x_sl ξ (l_sa (x_l ξ) 10 f)) ω := by rw [l_put10 x_atL, x_lH]
theorem x_lw11 {x : Nat} {ξ : x_S} {ω : y_Hp} {f : Nat → Int32} : y_hup (x_H x ξ ω) (x + 3 + 11) (.inl (0, 4, .inl f)) = x_H x (x_sl ξ (l_sa (x_l ξ) 11 f)) ω := by rw [l_put11 x_atL, x_lH]
theorem x_lwi {x k : Nat} {ξ : x_S} {ω : y_Hp} {v : Int32} : y_hup (x_H x ξ ω) (x + 3) (.inr (1, l_fs (x + 3) (l_si (x_l ξ) k v))) = x_H x (x_sl ξ (l_si (x_l ξ) k v)) ω := by rw [l_puti x_atL, x_lH]
theorem y_rf_s {a : Nat} : va_rf (some a) = .ref a := rfl
theorem y_rf_n : va_rf none = .null := rfl
theorem y_cls_of {ω : y_Hp} {a ci : Nat} {fl : Bool} {fs : List Value} (h : ω.2 a = some (fl, .inr (ci, fs))) : y_cls ω a = some ci := by unfold y_cls; rw [h]
theorem y_fo1 {α : Type} {a b : α} {t : List α} : (a :: b :: t)[1]? = some b := rfl
theorem y_fl1 {α : Type} {a : α} {t : List α} : (a :: t)[0]? = some a := rfl
theorem y_fo2 {α : Type} {a b d : α} {t : List α} : (a :: b :: d :: t)[2]? = some d := rfl
theorem y_catZ {r : List Value} : y_cat (.null :: r) = 1 + y_cat r := rfl
theorem l_a_sa {l : l_S} {k j : Nat} {f : Nat → Int32} : (l_sa l k f).2.2.2 j = if j = k then f else l.2.2.2 j := rfl
theorem l_1_sa {l : l_S} {k : Nat} {f : Nat → Int32} : (l_sa l k f).1 = l.1 := rfl
theorem l_p_sa {l : l_S} {k : Nat} {f : Nat → Int32} : (l_sa l k f).2.1 = l.2.1 := rfl
theorem l_o_sa {l : l_S} {k : Nat} {f : Nat → Int32} : (l_sa l k f).2.2.1 = l.2.2.1 := rfl
theorem l_a_si {l : l_S} {k j : Nat} {v : Int32} : (l_si l k v).2.2.2 j = l.2.2.2 j := rfl
theorem l_1_si {l : l_S} {k j : Nat} {v : Int32} : (l_si l k v).1 j = if j = k then v else l.1 j := rfl
theorem l_p_si {l : l_S} {k : Nat} {v : Int32} : (l_si l k v).2.1 = l.2.1 := rfl
theorem l_o_si {l : l_S} {k : Nat} {v : Int32} : (l_si l k v).2.2.1 = l.2.2.1 := rfl
/-! new cells, side by side, from the top on -/
def n_H (L : List y_E) (ω : y_Hp) : y_Hp := (ω.1 + L.length, fun a => if ω.1 ≤ a ∧ a < ω.1 + L.length then (L[a - ω.1]?).map (fun e => (true, e)) else ω.2 a)
def n_mk (o : Option y_E) (d : Option (Bool × y_E)) : Option (Bool × y_E) := match o with
  | some e => some (true, e)
  | none => d
theorem n_mk_s {e : y_E} {d : Option (Bool × y_E)} : n_mk (some e) d = some (true, e) := rfl
theorem n_H_nil {ω : y_Hp} : n_H [] ω = ω := by
  refine Prod.ext rfl (funext fun a => ?_)
  show (if ω.1 ≤ a ∧ a < ω.1 + 0 then _ else ω.2 a) = ω.2 a
  rw [if_neg (by omega)]
theorem n_H_top {L : List y_E} {ω : y_Hp} : (n_H L ω).1 = ω.1 + L.length := rfl
theorem n_H_get {L : List y_E} {ω : y_Hp} {j : Nat} : (n_H L ω).2 (ω.1 + j) = n_mk L[j]? (ω.2 (ω.1 + j)) := by
  show (if ω.1 ≤ ω.1 + j ∧ ω.1 + j < ω.1 + L.length then (L[ω.1 + j - ω.1]?).map (fun e => (true, e)) else ω.2 (ω.1 + j)) = _
  by_cases h : j < L.length
  · rw [if_pos (by omega), Nat.add_sub_cancel_left, List.getElem?_eq_getElem h]; rfl
  · rw [if_neg (by omega), List.getElem?_eq_none (by omega)]; rfl
theorem n_H_get0 {L : List y_E} {ω : y_Hp} : (n_H L ω).2 ω.1 = n_mk L[0]? (ω.2 ω.1) := n_H_get (j := 0)
theorem n_H_off {L : List y_E} {ω : y_Hp} {a : Nat} (h : a < ω.1) : (n_H L ω).2 a = ω.2 a := if_neg (by omega)
theorem n_H_new {L : List y_E} {ω : y_Hp} {e : y_E} : y_hnew (n_H L ω) e = n_H (L ++ [e]) ω := by
  refine Prod.ext ?_ (funext fun a => ?_)
  · show ω.1 + L.length + 1 = ω.1 + (L ++ [e]).length
    rw [List.length_append]; rfl
  · show (if a = ω.1 + L.length then some (true, e) else if ω.1 ≤ a ∧ a < ω.1 + L.length then (L[a - ω.1]?).map (fun e => (true, e)) else ω.2 a) = (if ω.1 ≤ a ∧ a < ω.1 + (L ++ [e]).length then ((L ++ [e])[a - ω.1]?).map (fun e => (true, e)) else ω.2 a)
    rw [List.length_append]
    by_cases h : a = ω.1 + L.length
    · rw [if_pos h, if_pos (by simp only [List.length_cons, List.length_nil]; omega), h, Nat.add_sub_cancel_left]; simp
    · rw [if_neg h]
      by_cases h2 : ω.1 ≤ a ∧ a < ω.1 + L.length
      · rw [if_pos h2, if_pos (by omega), List.getElem?_append_left (by omega)]
      · rw [if_neg h2, if_neg (by simp only [List.length_cons, List.length_nil]; omega)]
theorem n_H_up {L : List y_E} {ω : y_Hp} {j : Nat} {e : y_E} (h : j < L.length) : y_hup (n_H L ω) (ω.1 + j) e = n_H (L.set j e) ω := by
  refine Prod.ext ?_ (funext fun a => ?_)
  · show ω.1 + L.length = ω.1 + (L.set j e).length
    rw [List.length_set]
  · show (if a = ω.1 + j then some (true, e) else if ω.1 ≤ a ∧ a < ω.1 + L.length then (L[a - ω.1]?).map (fun e => (true, e)) else ω.2 a) = (if ω.1 ≤ a ∧ a < ω.1 + (L.set j e).length then ((L.set j e)[a - ω.1]?).map (fun e => (true, e)) else ω.2 a)
    rw [List.length_set]
    by_cases h1 : a = ω.1 + j
    · rw [if_pos h1, if_pos (by omega), h1, Nat.add_sub_cancel_left, List.getElem?_set_self h]; rfl
    · rw [if_neg h1]
      by_cases h2 : ω.1 ≤ a ∧ a < ω.1 + L.length
      · rw [if_pos h2, if_pos h2, List.getElem?_set_ne (by omega)]
      · rw [if_neg h2, if_neg h2]
theorem n_H_up0 {L : List y_E} {ω : y_Hp} {e : y_E} (h : 0 < L.length) : y_hup (n_H L ω) ω.1 e = n_H (L.set 0 e) ω := n_H_up (j := 0) h
theorem n_H_cls {L : List y_E} {ω : y_Hp} {j ci : Nat} {fs : List Value} (h : L[j]? = some (.inr (ci, fs))) : y_cls (n_H L ω) (ω.1 + j) = some ci := by unfold y_cls; rw [n_H_get, h]; rfl
theorem n_H_one {ω : y_Hp} {e : y_E} : y_hnew ω e = n_H [e] ω := by
  have := n_H_new (L := []) (ω := ω) (e := e)
  rwa [n_H_nil] at this
theorem y_room_t {mc ms c s n : Nat} (h1 : c + 1 ≤ mc) (h2 : s + n ≤ ms) : y_room mc ms c s n = True := eq_true ⟨h1, h2⟩
theorem y_at2_0 {n : Nat} : y_at2 0 n = (n, .inl (fun _ => 0)) := rfl
theorem y_at2_1 {n : Nat} : y_at2 1 n = (n, .inl (fun _ => 0)) := rfl
theorem y_at2_3 {n : Nat} : y_at2 3 n = (n, .inl (fun _ => 0)) := rfl
theorem y_at2_2 {n : Nat} : y_at2 2 n = (n, .inr (.inl (fun _ => 0))) := rfl
theorem n_nth0 {α : Type} {a0 : α} {t : List α} : (a0 :: t)[0]? = some a0 := rfl
theorem n_set0 {α : Type} {a0 v : α} {t : List α} : (a0 :: t).set 0 v = v :: t := rfl
theorem n_nth1 {α : Type} {a0 a1 : α} {t : List α} : (a0 :: a1 :: t)[1]? = some a1 := rfl
theorem n_set1 {α : Type} {a0 a1 v : α} {t : List α} : (a0 :: a1 :: t).set 1 v = a0 :: v :: t := rfl
theorem n_nth2 {α : Type} {a0 a1 a2 : α} {t : List α} : (a0 :: a1 :: a2 :: t)[2]? = some a2 := rfl
theorem n_set2 {α : Type} {a0 a1 a2 v : α} {t : List α} : (a0 :: a1 :: a2 :: t).set 2 v = a0 :: a1 :: v :: t := rfl
theorem n_nth3 {α : Type} {a0 a1 a2 a3 : α} {t : List α} : (a0 :: a1 :: a2 :: a3 :: t)[3]? = some a3 := rfl
theorem n_set3 {α : Type} {a0 a1 a2 a3 v : α} {t : List α} : (a0 :: a1 :: a2 :: a3 :: t).set 3 v = a0 :: a1 :: a2 :: v :: t := rfl
theorem n_nth4 {α : Type} {a0 a1 a2 a3 a4 : α} {t : List α} : (a0 :: a1 :: a2 :: a3 :: a4 :: t)[4]? = some a4 := rfl
theorem n_set4 {α : Type} {a0 a1 a2 a3 a4 v : α} {t : List α} : (a0 :: a1 :: a2 :: a3 :: a4 :: t).set 4 v = a0 :: a1 :: a2 :: a3 :: v :: t := rfl
theorem n_nth5 {α : Type} {a0 a1 a2 a3 a4 a5 : α} {t : List α} : (a0 :: a1 :: a2 :: a3 :: a4 :: a5 :: t)[5]? = some a5 := rfl
theorem n_set5 {α : Type} {a0 a1 a2 a3 a4 a5 v : α} {t : List α} : (a0 :: a1 :: a2 :: a3 :: a4 :: a5 :: t).set 5 v = a0 :: a1 :: a2 :: a3 :: a4 :: v :: t := rfl
theorem n_nth6 {α : Type} {a0 a1 a2 a3 a4 a5 a6 : α} {t : List α} : (a0 :: a1 :: a2 :: a3 :: a4 :: a5 :: a6 :: t)[6]? = some a6 := rfl
theorem n_set6 {α : Type} {a0 a1 a2 a3 a4 a5 a6 v : α} {t : List α} : (a0 :: a1 :: a2 :: a3 :: a4 :: a5 :: a6 :: t).set 6 v = a0 :: a1 :: a2 :: a3 :: a4 :: a5 :: v :: t := rfl
theorem n_nth7 {α : Type} {a0 a1 a2 a3 a4 a5 a6 a7 : α} {t : List α} : (a0 :: a1 :: a2 :: a3 :: a4 :: a5 :: a6 :: a7 :: t)[7]? = some a7 := rfl
theorem n_set7 {α : Type} {a0 a1 a2 a3 a4 a5 a6 a7 v : α} {t : List α} : (a0 :: a1 :: a2 :: a3 :: a4 :: a5 :: a6 :: a7 :: t).set 7 v = a0 :: a1 :: a2 :: a3 :: a4 :: a5 :: a6 :: v :: t := rfl
theorem n_nth8 {α : Type} {a0 a1 a2 a3 a4 a5 a6 a7 a8 : α} {t : List α} : (a0 :: a1 :: a2 :: a3 :: a4 :: a5 :: a6 :: a7 :: a8 :: t)[8]? = some a8 := rfl
theorem n_set8 {α : Type} {a0 a1 a2 a3 a4 a5 a6 a7 a8 v : α} {t : List α} : (a0 :: a1 :: a2 :: a3 :: a4 :: a5 :: a6 :: a7 :: a8 :: t).set 8 v = a0 :: a1 :: a2 :: a3 :: a4 :: a5 :: a6 :: a7 :: v :: t := rfl
theorem n_nth9 {α : Type} {a0 a1 a2 a3 a4 a5 a6 a7 a8 a9 : α} {t : List α} : (a0 :: a1 :: a2 :: a3 :: a4 :: a5 :: a6 :: a7 :: a8 :: a9 :: t)[9]? = some a9 := rfl
theorem n_set9 {α : Type} {a0 a1 a2 a3 a4 a5 a6 a7 a8 a9 v : α} {t : List α} : (a0 :: a1 :: a2 :: a3 :: a4 :: a5 :: a6 :: a7 :: a8 :: a9 :: t).set 9 v = a0 :: a1 :: a2 :: a3 :: a4 :: a5 :: a6 :: a7 :: a8 :: v :: t := rfl
theorem n_nth10 {α : Type} {a0 a1 a2 a3 a4 a5 a6 a7 a8 a9 a10 : α} {t : List α} : (a0 :: a1 :: a2 :: a3 :: a4 :: a5 :: a6 :: a7 :: a8 :: a9 :: a10 :: t)[10]? = some a10 := rfl
theorem n_set10 {α : Type} {a0 a1 a2 a3 a4 a5 a6 a7 a8 a9 a10 v : α} {t : List α} : (a0 :: a1 :: a2 :: a3 :: a4 :: a5 :: a6 :: a7 :: a8 :: a9 :: a10 :: t).set 10 v = a0 :: a1 :: a2 :: a3 :: a4 :: a5 :: a6 :: a7 :: a8 :: a9 :: v :: t := rfl
theorem n_nth11 {α : Type} {a0 a1 a2 a3 a4 a5 a6 a7 a8 a9 a10 a11 : α} {t : List α} : (a0 :: a1 :: a2 :: a3 :: a4 :: a5 :: a6 :: a7 :: a8 :: a9 :: a10 :: a11 :: t)[11]? = some a11 := rfl
theorem n_set11 {α : Type} {a0 a1 a2 a3 a4 a5 a6 a7 a8 a9 a10 a11 v : α} {t : List α} : (a0 :: a1 :: a2 :: a3 :: a4 :: a5 :: a6 :: a7 :: a8 :: a9 :: a10 :: a11 :: t).set 11 v = a0 :: a1 :: a2 :: a3 :: a4 :: a5 :: a6 :: a7 :: a8 :: a9 :: a10 :: v :: t := rfl
theorem n_nth12 {α : Type} {a0 a1 a2 a3 a4 a5 a6 a7 a8 a9 a10 a11 a12 : α} {t : List α} : (a0 :: a1 :: a2 :: a3 :: a4 :: a5 :: a6 :: a7 :: a8 :: a9 :: a10 :: a11 :: a12 :: t)[12]? = some a12 := rfl
theorem n_set12 {α : Type} {a0 a1 a2 a3 a4 a5 a6 a7 a8 a9 a10 a11 a12 v : α} {t : List α} : (a0 :: a1 :: a2 :: a3 :: a4 :: a5 :: a6 :: a7 :: a8 :: a9 :: a10 :: a11 :: a12 :: t).set 12 v = a0 :: a1 :: a2 :: a3 :: a4 :: a5 :: a6 :: a7 :: a8 :: a9 :: a10 :: a11 :: v :: t := rfl
theorem n_nth13 {α : Type} {a0 a1 a2 a3 a4 a5 a6 a7 a8 a9 a10 a11 a12 a13 : α} {t : List α} : (a0 :: a1 :: a2 :: a3 :: a4 :: a5 :: a6 :: a7 :: a8 :: a9 :: a10 :: a11 :: a12 :: a13 :: t)[13]? = some a13 := rfl
theorem n_set13 {α : Type} {a0 a1 a2 a3 a4 a5 a6 a7 a8 a9 a10 a11 a12 a13 v : α} {t : List α} : (a0 :: a1 :: a2 :: a3 :: a4 :: a5 :: a6 :: a7 :: a8 :: a9 :: a10 :: a11 :: a12 :: a13 :: t).set 13 v = a0 :: a1 :: a2 :: a3 :: a4 :: a5 :: a6 :: a7 :: a8 :: a9 :: a10 :: a11 :: a12 :: v :: t := rfl
theorem n_nth14 {α : Type} {a0 a1 a2 a3 a4 a5 a6 a7 a8 a9 a10 a11 a12 a13 a14 : α} {t : List α} : (a0 :: a1 :: a2 :: a3 :: a4 :: a5 :: a6 :: a7 :: a8 :: a9 :: a10 :: a11 :: a12 :: a13 :: a14 :: t)[14]? = some a14 := rfl
theorem n_set14 {α : Type} {a0 a1 a2 a3 a4 a5 a6 a7 a8 a9 a10 a11 a12 a13 a14 v : α} {t : List α} : (a0 :: a1 :: a2 :: a3 :: a4 :: a5 :: a6 :: a7 :: a8 :: a9 :: a10 :: a11 :: a12 :: a13 :: a14 :: t).set 14 v = a0 :: a1 :: a2 :: a3 :: a4 :: a5 :: a6 :: a7 :: a8 :: a9 :: a10 :: a11 :: a12 :: a13 :: v :: t := rfl
theorem n_nth15 {α : Type} {a0 a1 a2 a3 a4 a5 a6 a7 a8 a9 a10 a11 a12 a13 a14 a15 : α} {t : List α} : (a0 :: a1 :: a2 :: a3 :: a4 :: a5 :: a6 :: a7 :: a8 :: a9 :: a10 :: a11 :: a12 :: a13 :: a14 :: a15 :: t)[15]? = some a15 := rfl
theorem n_set15 {α : Type} {a0 a1 a2 a3 a4 a5 a6 a7 a8 a9 a10 a11 a12 a13 a14 a15 v : α} {t : List α} : (a0 :: a1 :: a2 :: a3 :: a4 :: a5 :: a6 :: a7 :: a8 :: a9 :: a10 :: a11 :: a12 :: a13 :: a14 :: a15 :: t).set 15 v = a0 :: a1 :: a2 :: a3 :: a4 :: a5 :: a6 :: a7 :: a8 :: a9 :: a10 :: a11 :: a12 :: a13 :: a14 :: v :: t := rfl
theorem n_nth16 {α : Type} {a0 a1 a2 a3 a4 a5 a6 a7 a8 a9 a10 a11 a12 a13 a14 a15 a16 : α} {t : List α} : (a0 :: a1 :: a2 :: a3 :: a4 :: a5 :: a6 :: a7 :: a8 :: a9 :: a10 :: a11 :: a12 :: a13 :: a14 :: a15 :: a16 :: t)[16]? = some a16 := rfl
theorem n_set16 {α : Type} {a0 a1 a2 a3 a4 a5 a6 a7 a8 a9 a10 a11 a12 a13 a14 a15 a16 v : α} {t : List α} : (a0 :: a1 :: a2 :: a3 :: a4 :: a5 :: a6 :: a7 :: a8 :: a9 :: a10 :: a11 :: a12 :: a13 :: a14 :: a15 :: a16 :: t).set 16 v = a0 :: a1 :: a2 :: a3 :: a4 :: a5 :: a6 :: a7 :: a8 :: a9 :: a10 :: a11 :: a12 :: a13 :: a14 :: a15 :: v :: t := rfl
theorem n_nth17 {α : Type} {a0 a1 a2 a3 a4 a5 a6 a7 a8 a9 a10 a11 a12 a13 a14 a15 a16 a17 : α} {t : List α} : (a0 :: a1 :: a2 :: a3 :: a4 :: a5 :: a6 :: a7 :: a8 :: a9 :: a10 :: a11 :: a12 :: a13 :: a14 :: a15 :: a16 :: a17 :: t)[17]? = some a17 := rfl
theorem n_set17 {α : Type} {a0 a1 a2 a3 a4 a5 a6 a7 a8 a9 a10 a11 a12 a13 a14 a15 a16 a17 v : α} {t : List α} : (a0 :: a1 :: a2 :: a3 :: a4 :: a5 :: a6 :: a7 :: a8 :: a9 :: a10 :: a11 :: a12 :: a13 :: a14 :: a15 :: a16 :: a17 :: t).set 17 v = a0 :: a1 :: a2 :: a3 :: a4 :: a5 :: a6 :: a7 :: a8 :: a9 :: a10 :: a11 :: a12 :: a13 :: a14 :: a15 :: a16 :: v :: t := rfl
theorem n_nth18 {α : Type} {a0 a1 a2 a3 a4 a5 a6 a7 a8 a9 a10 a11 a12 a13 a14 a15 a16 a17 a18 : α} {t : List α} : (a0 :: a1 :: a2 :: a3 :: a4 :: a5 :: a6 :: a7 :: a8 :: a9 :: a10 :: a11 :: a12 :: a13 :: a14 :: a15 :: a16 :: a17 :: a18 :: t)[18]? = some a18 := rfl
theorem n_set18 {α : Type} {a0 a1 a2 a3 a4 a5 a6 a7 a8 a9 a10 a11 a12 a13 a14 a15 a16 a17 a18 v : α} {t : List α} : (a0 :: a1 :: a2 :: a3 :: a4 :: a5 :: a6 :: a7 :: a8 :: a9 :: a10 :: a11 :: a12 :: a13 :: a14 :: a15 :: a16 :: a17 :: a18 :: t).set 18 v = a0 :: a1 :: a2 :: a3 :: a4 :: a5 :: a6 :: a7 :: a8 :: a9 :: a10 :: a11 :: a12 :: a13 :: a14 :: a15 :: a16 :: a17 :: v :: t := rfl
theorem n_nth19 {α : Type} {a0 a1 a2 a3 a4 a5 a6 a7 a8 a9 a10 a11 a12 a13 a14 a15 a16 a17 a18 a19 : α} {t : List α} : (a0 :: a1 :: a2 :: a3 :: a4 :: a5 :: a6 :: a7 :: a8 :: a9 :: a10 :: a11 :: a12 :: a13 :: a14 :: a15 :: a16 :: a17 :: a18 :: a19 :: t)[19]? = some a19 := rfl
theorem n_set19 {α : Type} {a0 a1 a2 a3 a4 a5 a6 a7 a8 a9 a10 a11 a12 a13 a14 a15 a16 a17 a18 a19 v : α} {t : List α} : (a0 :: a1 :: a2 :: a3 :: a4 :: a5 :: a6 :: a7 :: a8 :: a9 :: a10 :: a11 :: a12 :: a13 :: a14 :: a15 :: a16 :: a17 :: a18 :: a19 :: t).set 19 v = a0 :: a1 :: a2 :: a3 :: a4 :: a5 :: a6 :: a7 :: a8 :: a9 :: a10 :: a11 :: a12 :: a13 :: a14 :: a15 :: a16 :: a17 :: a18 :: v :: t := rfl
theorem n_nth20 {α : Type} {a0 a1 a2 a3 a4 a5 a6 a7 a8 a9 a10 a11 a12 a13 a14 a15 a16 a17 a18 a19 a20 : α} {t : List α} : (a0 :: a1 :: a2 :: a3 :: a4 :: a5 :: a6 :: a7 :: a8 :: a9 :: a10 :: a11 :: a12 :: a13 :: a14 :: a15 :: a16 :: a17 :: a18 :: a19 :: a20 :: t)[20]? = some a20 := rfl
theorem n_set20 {α : Type} {a0 a1 a2 a3 a4 a5 a6 a7 a8 a9 a10 a11 a12 a13 a14 a15 a16 a17 a18 a19 a20 v : α} {t : List α} : (a0 :: a1 :: a2 :: a3 :: a4 :: a5 :: a6 :: a7 :: a8 :: a9 :: a10 :: a11 :: a12 :: a13 :: a14 :: a15 :: a16 :: a17 :: a18 :: a19 :: a20 :: t).set 20 v = a0 :: a1 :: a2 :: a3 :: a4 :: a5 :: a6 :: a7 :: a8 :: a9 :: a10 :: a11 :: a12 :: a13 :: a14 :: a15 :: a16 :: a17 :: a18 :: a19 :: v :: t := rfl
theorem n_nth21 {α : Type} {a0 a1 a2 a3 a4 a5 a6 a7 a8 a9 a10 a11 a12 a13 a14 a15 a16 a17 a18 a19 a20 a21 : α} {t : List α} : (a0 :: a1 :: a2 :: a3 :: a4 :: a5 :: a6 :: a7 :: a8 :: a9 :: a10 :: a11 :: a12 :: a13 :: a14 :: a15 :: a16 :: a17 :: a18 :: a19 :: a20 :: a21 :: t)[21]? = some a21 := rfl
theorem n_set21 {α : Type} {a0 a1 a2 a3 a4 a5 a6 a7 a8 a9 a10 a11 a12 a13 a14 a15 a16 a17 a18 a19 a20 a21 v : α} {t : List α} : (a0 :: a1 :: a2 :: a3 :: a4 :: a5 :: a6 :: a7 :: a8 :: a9 :: a10 :: a11 :: a12 :: a13 :: a14 :: a15 :: a16 :: a17 :: a18 :: a19 :: a20 :: a21 :: t).set 21 v = a0 :: a1 :: a2 :: a3 :: a4 :: a5 :: a6 :: a7 :: a8 :: a9 :: a10 :: a11 :: a12 :: a13 :: a14 :: a15 :: a16 :: a17 :: a18 :: a19 :: a20 :: v :: t := rfl
theorem n_g0 {ω : y_Hp} {a0 : y_E} {t : List y_E} : (n_H (a0 :: t) ω).2 ω.1 = some (true, a0) := n_H_get (j := 0)
theorem n_u0 {ω : y_Hp} {a0 e : y_E} {t : List y_E} : y_hup (n_H (a0 :: t) ω) ω.1 e = n_H (e :: t) ω := n_H_up (j := 0) (by simp only [List.length_cons]; omega)
theorem n_g1 {ω : y_Hp} {a0 a1 : y_E} {t : List y_E} : (n_H (a0 :: a1 :: t) ω).2 (ω.1 + 1) = some (true, a1) := n_H_get (j := 1)
theorem n_u1 {ω : y_Hp} {a0 a1 e : y_E} {t : List y_E} : y_hup (n_H (a0 :: a1 :: t) ω) (ω.1 + 1) e = n_H (a0 :: e :: t) ω := n_H_up (j := 1) (by simp only [List.length_cons]; omega)
theorem n_g2 {ω : y_Hp} {a0 a1 a2 : y_E} {t : List y_E} : (n_H (a0 :: a1 :: a2 :: t) ω).2 (ω.1 + 2) = some (true, a2) := n_H_get (j := 2)
theorem n_u2 {ω : y_Hp} {a0 a1 a2 e : y_E} {t : List y_E} : y_hup (n_H (a0 :: a1 :: a2 :: t) ω) (ω.1 + 2) e = n_H (a0 :: a1 :: e :: t) ω := n_H_up (j := 2) (by simp only [List.length_cons]; omega)
theorem n_g3 {ω : y_Hp} {a0 a1 a2 a3 : y_E} {t : List y_E} : (n_H (a0 :: a1 :: a2 :: a3 :: t) ω).2 (ω.1 + 3) = some (true, a3) := n_H_get (j := 3)
theorem n_u3 {ω : y_Hp} {a0 a1 a2 a3 e : y_E} {t : List y_E} : y_hup (n_H (a0 :: a1 :: a2 :: a3 :: t) ω) (ω.1 + 3) e = n_H (a0 :: a1 :: a2 :: e :: t) ω := n_H_up (j := 3) (by simp only [List.length_cons]; omega)
theorem n_g4 {ω : y_Hp} {a0 a1 a2 a3 a4 : y_E} {t : List y_E} : (n_H (a0 :: a1 :: a2 :: a3 :: a4 :: t) ω).2 (ω.1 + 4) = some (true, a4) := n_H_get (j := 4)
theorem n_u4 {ω : y_Hp} {a0 a1 a2 a3 a4 e : y_E} {t : List y_E} : y_hup (n_H (a0 :: a1 :: a2 :: a3 :: a4 :: t) ω) (ω.1 + 4) e = n_H (a0 :: a1 :: a2 :: a3 :: e :: t) ω := n_H_up (j := 4) (by simp only [List.length_cons]; omega)
theorem n_g5 {ω : y_Hp} {a0 a1 a2 a3 a4 a5 : y_E} {t : List y_E} : (n_H (a0 :: a1 :: a2 :: a3 :: a4 :: a5 :: t) ω).2 (ω.1 + 5) = some (true, a5) := n_H_get (j := 5)
theorem n_u5 {ω : y_Hp} {a0 a1 a2 a3 a4 a5 e : y_E} {t : List y_E} : y_hup (n_H (a0 :: a1 :: a2 :: a3 :: a4 :: a5 :: t) ω) (ω.1 + 5) e = n_H (a0 :: a1 :: a2 :: a3 :: a4 :: e :: t) ω := n_H_up (j := 5) (by simp only [List.length_cons]; omega)
theorem n_g6 {ω : y_Hp} {a0 a1 a2 a3 a4 a5 a6 : y_E} {t : List y_E} : (n_H (a0 :: a1 :: a2 :: a3 :: a4 :: a5 :: a6 :: t) ω).2 (ω.1 + 6) = some (true, a6) := n_H_get (j := 6)
theorem n_u6 {ω : y_Hp} {a0 a1 a2 a3 a4 a5 a6 e : y_E} {t : List y_E} : y_hup (n_H (a0 :: a1 :: a2 :: a3 :: a4 :: a5 :: a6 :: t) ω) (ω.1 + 6) e = n_H (a0 :: a1 :: a2 :: a3 :: a4 :: a5 :: e :: t) ω := n_H_up (j := 6) (by simp only [List.length_cons]; omega)
theorem n_g7 {ω : y_Hp} {a0 a1 a2 a3 a4 a5 a6 a7 : y_E} {t : List y_E} : (n_H (a0 :: a1 :: a2 :: a3 :: a4 :: a5 :: a6 :: a7 :: t) ω).2 (ω.1 + 7) = some (true, a7) := n_H_get (j := 7)
theorem n_u7 {ω : y_Hp} {a0 a1 a2 a3 a4 a5 a6 a7 e : y_E} {t : List y_E} : y_hup (n_H (a0 :: a1 :: a2 :: a3 :: a4 :: a5 :: a6 :: a7 :: t) ω) (ω.1 + 7) e = n_H (a0 :: a1 :: a2 :: a3 :: a4 :: a5 :: a6 :: e :: t) ω := n_H_up (j := 7) (by simp only [List.length_cons]; omega)
theorem n_g8 {ω : y_Hp} {a0 a1 a2 a3 a4 a5 a6 a7 a8 : y_E} {t : List y_E} : (n_H (a0 :: a1 :: a2 :: a3 :: a4 :: a5 :: a6 :: a7 :: a8 :: t) ω).2 (ω.1 + 8) = some (true, a8) := n_H_get (j := 8)
theorem n_u8 {ω : y_Hp} {a0 a1 a2 a3 a4 a5 a6 a7 a8 e : y_E} {t : List y_E} : y_hup (n_H (a0 :: a1 :: a2 :: a3 :: a4 :: a5 :: a6 :: a7 :: a8 :: t) ω) (ω.1 + 8) e = n_H (a0 :: a1 :: a2 :: a3 :: a4 :: a5 :: a6 :: a7 :: e :: t) ω := n_H_up (j := 8) (by simp only [List.length_cons]; omega)
theorem n_g9 {ω : y_Hp} {a0 a1 a2 a3 a4 a5 a6 a7 a8 a9 : y_E} {t : List y_E} : (n_H (a0 :: a1 :: a2 :: a3 :: a4 :: a5 :: a6 :: a7 :: a8 :: a9 :: t) ω).2 (ω.1 + 9) = some (true, a9) := n_H_get (j := 9)
theorem n_u9 {ω : y_Hp} {a0 a1 a2 a3 a4 a5 a6 a7 a8 a9 e : y_E} {t : List y_E} : y_hup (n_H (a0 :: a1 :: a2 :: a3 :: a4 :: a5 :: a6 :: a7 :: a8 :: a9 :: t) ω) (ω.1 + 9) e = n_H (a0 :: a1 :: a2 :: a3 :: a4 :: a5 :: a6 :: a7 :: a8 :: e :: t) ω := n_H_up (j := 9) (by simp only [List.length_cons]; omega)
theorem n_g10 {ω : y_Hp} {a0 a1 a2 a3 a4 a5 a6 a7 a8 a9 a10 : y_E} {t : List y_E} : (n_H (a0 :: a1 :: a2 :: a3 :: a4 :: a5 :: a6 :: a7 :: a8 :: a9 :: a10 :: t) ω).2 (ω.1 + 10) = some (true, a10) := n_H_get (j := 10)
theorem n_u10 {ω : y_Hp} {a0 a1 a2 a3 a4 a5 a6 a7 a8 a9 a10 e : y_E} {t : List y_E} : y_hup (n_H (a0 :: a1 :: a2 :: a3 :: a4 :: a5 :: a6 :: a7 :: a8 :: a9 :: a10 :: t) ω) (ω.1 + 10) e = n_H (a0 :: a1 :: a2 :: a3 :: a4 :: a5 :: a6 :: a7 :: a8 :: a9 :: e :: t) ω := n_H_up (j := 10) (by simp only [List.length_cons]; omega)
theorem n_g11 {ω : y_Hp} {a0 a1 a2 a3 a4 a5 a6 a7 a8 a9 a10 a11 : y_E} {t : List y_E} : (n_H (a0 :: a1 :: a2 :: a3 :: a4 :: a5 :: a6 :: a7 :: a8 :: a9 :: a10 :: a11 :: t) ω).2 (ω.1 + 11) = some (true, a11) := n_H_get (j := 11)
theorem n_u11 {ω : y_Hp} {a0 a1 a2 a3 a4 a5 a6 a7 a8 a9 a10 a11 e : y_E} {t : List y_E} : y_hup (n_H (a0 :: a1 :: a2 :: a3 :: a4 :: a5 :: a6 :: a7 :: a8 :: a9 :: a10 :: a11 :: t) ω) (ω.1 + 11) e = n_H (a0 :: a1 :: a2 :: a3 :: a4 :: a5 :: a6 :: a7 :: a8 :: a9 :: a10 :: e :: t) ω := n_H_up (j := 11) (by simp only [List.length_cons]; omega)
theorem n_g12 {ω : y_Hp} {a0 a1 a2 a3 a4 a5 a6 a7 a8 a9 a10 a11 a12 : y_E} {t : List y_E} : (n_H (a0 :: a1 :: a2 :: a3 :: a4 :: a5 :: a6 :: a7 :: a8 :: a9 :: a10 :: a11 :: a12 :: t) ω).2 (ω.1 + 12) = some (true, a12) := n_H_get (j := 12)
theorem n_u12 {ω : y_Hp} {a0 a1 a2 a3 a4 a5 a6 a7 a8 a9 a10 a11 a12 e : y_E} {t : List y_E} : y_hup (n_H (a0 :: a1 :: a2 :: a3 :: a4 :: a5 :: a6 :: a7 :: a8 :: a9 :: a10 :: a11 :: a12 :: t) ω) (ω.1 + 12) e = n_H (a0 :: a1 :: a2 :: a3 :: a4 :: a5 :: a6 :: a7 :: a8 :: a9 :: a10 :: a11 :: e :: t) ω := n_H_up (j := 12) (by simp only [List.length_cons]; omega)
theorem n_g13 {ω : y_Hp} {a0 a1 a2 a3 a4 a5 a6 a7 a8 a9 a10 a11 a12 a13 : y_E} {t : List y_E} : (n_H (a0 :: a1 :: a2 :: a3 :: a4 :: a5 :: a6 :: a7 :: a8 :: a9 :: a10 :: a11 :: a12 :: a13 :: t) ω).2 (ω.1 + 13) = some (true, a13) := n_H_get (j := 13)
theorem n_u13 {ω : y_Hp} {a0 a1 a2 a3 a4 a5 a6 a7 a8 a9 a10 a11 a12 a13 e : y_E} {t : List y_E} : y_hup (n_H (a0 :: a1 :: a2 :: a3 :: a4 :: a5 :: a6 :: a7 :: a8 :: a9 :: a10 :: a11 :: a12 :: a13 :: t) ω) (ω.1 + 13) e = n_H (a0 :: a1 :: a2 :: a3 :: a4 :: a5 :: a6 :: a7 :: a8 :: a9 :: a10 :: a11 :: a12 :: e :: t) ω := n_H_up (j := 13) (by simp only [List.length_cons]; omega)
theorem n_g14 {ω : y_Hp} {a0 a1 a2 a3 a4 a5 a6 a7 a8 a9 a10 a11 a12 a13 a14 : y_E} {t : List y_E} : (n_H (a0 :: a1 :: a2 :: a3 :: a4 :: a5 :: a6 :: a7 :: a8 :: a9 :: a10 :: a11 :: a12 :: a13 :: a14 :: t) ω).2 (ω.1 + 14) = some (true, a14) := n_H_get (j := 14)
theorem n_u14 {ω : y_Hp} {a0 a1 a2 a3 a4 a5 a6 a7 a8 a9 a10 a11 a12 a13 a14 e : y_E} {t : List y_E} : y_hup (n_H (a0 :: a1 :: a2 :: a3 :: a4 :: a5 :: a6 :: a7 :: a8 :: a9 :: a10 :: a11 :: a12 :: a13 :: a14 :: t) ω) (ω.1 + 14) e = n_H (a0 :: a1 :: a2 :: a3 :: a4 :: a5 :: a6 :: a7 :: a8 :: a9 :: a10 :: a11 :: a12 :: a13 :: e :: t) ω := n_H_up (j := 14) (by simp only [List.length_cons]; omega)
theorem n_g15 {ω : y_Hp} {a0 a1 a2 a3 a4 a5 a6 a7 a8 a9 a10 a11 a12 a13 a14 a15 : y_E} {t : List y_E} : (n_H (a0 :: a1 :: a2 :: a3 :: a4 :: a5 :: a6 :: a7 :: a8 :: a9 :: a10 :: a11 :: a12 :: a13 :: a14 :: a15 :: t) ω).2 (ω.1 + 15) = some (true, a15) := n_H_get (j := 15)
theorem n_u15 {ω : y_Hp} {a0 a1 a2 a3 a4 a5 a6 a7 a8 a9 a10 a11 a12 a13 a14 a15 e : y_E} {t : List y_E} : y_hup (n_H (a0 :: a1 :: a2 :: a3 :: a4 :: a5 :: a6 :: a7 :: a8 :: a9 :: a10 :: a11 :: a12 :: a13 :: a14 :: a15 :: t) ω) (ω.1 + 15) e = n_H (a0 :: a1 :: a2 :: a3 :: a4 :: a5 :: a6 :: a7 :: a8 :: a9 :: a10 :: a11 :: a12 :: a13 :: a14 :: e :: t) ω := n_H_up (j := 15) (by simp only [List.length_cons]; omega)
theorem n_g16 {ω : y_Hp} {a0 a1 a2 a3 a4 a5 a6 a7 a8 a9 a10 a11 a12 a13 a14 a15 a16 : y_E} {t : List y_E} : (n_H (a0 :: a1 :: a2 :: a3 :: a4 :: a5 :: a6 :: a7 :: a8 :: a9 :: a10 :: a11 :: a12 :: a13 :: a14 :: a15 :: a16 :: t) ω).2 (ω.1 + 16) = some (true, a16) := n_H_get (j := 16)
theorem n_u16 {ω : y_Hp} {a0 a1 a2 a3 a4 a5 a6 a7 a8 a9 a10 a11 a12 a13 a14 a15 a16 e : y_E} {t : List y_E} : y_hup (n_H (a0 :: a1 :: a2 :: a3 :: a4 :: a5 :: a6 :: a7 :: a8 :: a9 :: a10 :: a11 :: a12 :: a13 :: a14 :: a15 :: a16 :: t) ω) (ω.1 + 16) e = n_H (a0 :: a1 :: a2 :: a3 :: a4 :: a5 :: a6 :: a7 :: a8 :: a9 :: a10 :: a11 :: a12 :: a13 :: a14 :: a15 :: e :: t) ω := n_H_up (j := 16) (by simp only [List.length_cons]; omega)
theorem n_g17 {ω : y_Hp} {a0 a1 a2 a3 a4 a5 a6 a7 a8 a9 a10 a11 a12 a13 a14 a15 a16 a17 : y_E} {t : List y_E} : (n_H (a0 :: a1 :: a2 :: a3 :: a4 :: a5 :: a6 :: a7 :: a8 :: a9 :: a10 :: a11 :: a12 :: a13 :: a14 :: a15 :: a16 :: a17 :: t) ω).2 (ω.1 + 17) = some (true, a17) := n_H_get (j := 17)
theorem n_u17 {ω : y_Hp} {a0 a1 a2 a3 a4 a5 a6 a7 a8 a9 a10 a11 a12 a13 a14 a15 a16 a17 e : y_E} {t : List y_E} : y_hup (n_H (a0 :: a1 :: a2 :: a3 :: a4 :: a5 :: a6 :: a7 :: a8 :: a9 :: a10 :: a11 :: a12 :: a13 :: a14 :: a15 :: a16 :: a17 :: t) ω) (ω.1 + 17) e = n_H (a0 :: a1 :: a2 :: a3 :: a4 :: a5 :: a6 :: a7 :: a8 :: a9 :: a10 :: a11 :: a12 :: a13 :: a14 :: a15 :: a16 :: e :: t) ω := n_H_up (j := 17) (by simp only [List.length_cons]; omega)
theorem n_g18 {ω : y_Hp} {a0 a1 a2 a3 a4 a5 a6 a7 a8 a9 a10 a11 a12 a13 a14 a15 a16 a17 a18 : y_E} {t : List y_E} : (n_H (a0 :: a1 :: a2 :: a3 :: a4 :: a5 :: a6 :: a7 :: a8 :: a9 :: a10 :: a11 :: a12 :: a13 :: a14 :: a15 :: a16 :: a17 :: a18 :: t) ω).2 (ω.1 + 18) = some (true, a18) := n_H_get (j := 18)
theorem n_u18 {ω : y_Hp} {a0 a1 a2 a3 a4 a5 a6 a7 a8 a9 a10 a11 a12 a13 a14 a15 a16 a17 a18 e : y_E} {t : List y_E} : y_hup (n_H (a0 :: a1 :: a2 :: a3 :: a4 :: a5 :: a6 :: a7 :: a8 :: a9 :: a10 :: a11 :: a12 :: a13 :: a14 :: a15 :: a16 :: a17 :: a18 :: t) ω) (ω.1 + 18) e = n_H (a0 :: a1 :: a2 :: a3 :: a4 :: a5 :: a6 :: a7 :: a8 :: a9 :: a10 :: a11 :: a12 :: a13 :: a14 :: a15 :: a16 :: a17 :: e :: t) ω := n_H_up (j := 18) (by simp only [List.length_cons]; omega)
theorem n_g19 {ω : y_Hp} {a0 a1 a2 a3 a4 a5 a6 a7 a8 a9 a10 a11 a12 a13 a14 a15 a16 a17 a18 a19 : y_E} {t : List y_E} : (n_H (a0 :: a1 :: a2 :: a3 :: a4 :: a5 :: a6 :: a7 :: a8 :: a9 :: a10 :: a11 :: a12 :: a13 :: a14 :: a15 :: a16 :: a17 :: a18 :: a19 :: t) ω).2 (ω.1 + 19) = some (true, a19) := n_H_get (j := 19)
theorem n_u19 {ω : y_Hp} {a0 a1 a2 a3 a4 a5 a6 a7 a8 a9 a10 a11 a12 a13 a14 a15 a16 a17 a18 a19 e : y_E} {t : List y_E} : y_hup (n_H (a0 :: a1 :: a2 :: a3 :: a4 :: a5 :: a6 :: a7 :: a8 :: a9 :: a10 :: a11 :: a12 :: a13 :: a14 :: a15 :: a16 :: a17 :: a18 :: a19 :: t) ω) (ω.1 + 19) e = n_H (a0 :: a1 :: a2 :: a3 :: a4 :: a5 :: a6 :: a7 :: a8 :: a9 :: a10 :: a11 :: a12 :: a13 :: a14 :: a15 :: a16 :: a17 :: a18 :: e :: t) ω := n_H_up (j := 19) (by simp only [List.length_cons]; omega)
theorem n_g20 {ω : y_Hp} {a0 a1 a2 a3 a4 a5 a6 a7 a8 a9 a10 a11 a12 a13 a14 a15 a16 a17 a18 a19 a20 : y_E} {t : List y_E} : (n_H (a0 :: a1 :: a2 :: a3 :: a4 :: a5 :: a6 :: a7 :: a8 :: a9 :: a10 :: a11 :: a12 :: a13 :: a14 :: a15 :: a16 :: a17 :: a18 :: a19 :: a20 :: t) ω).2 (ω.1 + 20) = some (true, a20) := n_H_get (j := 20)
theorem n_u20 {ω : y_Hp} {a0 a1 a2 a3 a4 a5 a6 a7 a8 a9 a10 a11 a12 a13 a14 a15 a16 a17 a18 a19 a20 e : y_E} {t : List y_E} : y_hup (n_H (a0 :: a1 :: a2 :: a3 :: a4 :: a5 :: a6 :: a7 :: a8 :: a9 :: a10 :: a11 :: a12 :: a13 :: a14 :: a15 :: a16 :: a17 :: a18 :: a19 :: a20 :: t) ω) (ω.1 + 20) e = n_H (a0 :: a1 :: a2 :: a3 :: a4 :: a5 :: a6 :: a7 :: a8 :: a9 :: a10 :: a11 :: a12 :: a13 :: a14 :: a15 :: a16 :: a17 :: a18 :: a19 :: e :: t) ω := n_H_up (j := 20) (by simp only [List.length_cons]; omega)
theorem n_g21 {ω : y_Hp} {a0 a1 a2 a3 a4 a5 a6 a7 a8 a9 a10 a11 a12 a13 a14 a15 a16 a17 a18 a19 a20 a21 : y_E} {t : List y_E} : (n_H (a0 :: a1 :: a2 :: a3 :: a4 :: a5 :: a6 :: a7 :: a8 :: a9 :: a10 :: a11 :: a12 :: a13 :: a14 :: a15 :: a16 :: a17 :: a18 :: a19 :: a20 :: a21 :: t) ω).2 (ω.1 + 21) = some (true, a21) := n_H_get (j := 21)
theorem n_u21 {ω : y_Hp} {a0 a1 a2 a3 a4 a5 a6 a7 a8 a9 a10 a11 a12 a13 a14 a15 a16 a17 a18 a19 a20 a21 e : y_E} {t : List y_E} : y_hup (n_H (a0 :: a1 :: a2 :: a3 :: a4 :: a5 :: a6 :: a7 :: a8 :: a9 :: a10 :: a11 :: a12 :: a13 :: a14 :: a15 :: a16 :: a17 :: a18 :: a19 :: a20 :: a21 :: t) ω) (ω.1 + 21) e = n_H (a0 :: a1 :: a2 :: a3 :: a4 :: a5 :: a6 :: a7 :: a8 :: a9 :: a10 :: a11 :: a12 :: a13 :: a14 :: a15 :: a16 :: a17 :: a18 :: a19 :: a20 :: e :: t) ω := n_H_up (j := 21) (by simp only [List.length_cons]; omega)
theorem x_sl_sl {ξ : x_S} {l l2 : l_S} : x_sl (x_sl ξ l) l2 = x_sl ξ l2 := rfl
theorem x_si_si {ξ : x_S} {k : Nat} {v w : Int32} : x_si (x_si ξ k v) k w = x_si ξ k w := by
  refine Prod.ext (funext fun j => ?_) rfl
  show (if j = k then w else if j = k then v else ξ.1 j) = (if j = k then w else ξ.1 j)
  by_cases h : j = k
  · rw [if_pos h, if_pos h]
  · rw [if_neg h, if_neg h, if_neg h]
theorem x_sr_sr {ξ : x_S} {k : Nat} {v w : Nat → Option Nat} : x_sr (x_sr ξ k v) k w = x_sr ξ k w := by
  refine Prod.ext rfl (Prod.ext (funext fun j => ?_) rfl)
  show (if j = k then w else if j = k then v else ξ.2.1 j) = (if j = k then w else ξ.2.1 j)
  by_cases h : j = k
  · rw [if_pos h, if_pos h]
  · rw [if_neg h, if_neg h, if_neg h]
theorem x_sg_sg {ξ : x_S} {k : Nat} {v w : Nat → Int64} : x_sg (x_sg ξ k v) k w = x_sg ξ k w := by
  refine Prod.ext rfl (Prod.ext rfl (Prod.ext rfl (Prod.ext rfl (Prod.ext rfl (funext fun j => ?_)))))
  show (if j = k then w else if j = k then v else ξ.2.2.2.2.2 j) = (if j = k then w else ξ.2.2.2.2.2 j)
  by_cases h : j = k
  · rw [if_pos h, if_pos h]
  · rw [if_neg h, if_neg h, if_neg h]
theorem x_st_st {ξ : x_S} {v w : Nat → Int32} : x_st (x_st ξ v) w = x_st ξ w := rfl
