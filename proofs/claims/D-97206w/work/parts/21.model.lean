/-! the reference's world: one object and twelve arrays, side by side from m on; its state: int fields by their numbers, int arrays and long arrays by their places -/
abbrev m_S : Type := (Nat → Int32) × (Nat → Nat → Int32) × (Nat → Nat → Int64)
def m_i (σ : m_S) (k : Nat) : Int32 := σ.1 k
def m_a (σ : m_S) (k : Nat) : Nat → Int32 := σ.2.1 k
def m_l (σ : m_S) (k : Nat) : Nat → Int64 := σ.2.2 k
def m_si (σ : m_S) (k : Nat) (v : Int32) : m_S := (fun j => if j = k then v else σ.1 j, σ.2.1, σ.2.2)
def m_sa (σ : m_S) (k : Nat) (f : Nat → Int32) : m_S := (σ.1, fun j => if j = k then f else σ.2.1 j, σ.2.2)
def m_sl (σ : m_S) (k : Nat) (f : Nat → Int64) : m_S := (σ.1, σ.2.1, fun j => if j = k then f else σ.2.2 j)
theorem m_i_si {σ : m_S} {k j : Nat} {v : Int32} : m_i (m_si σ k v) j = if j = k then v else m_i σ j := rfl
theorem m_i_sa {σ : m_S} {k j : Nat} {f : Nat → Int32} : m_i (m_sa σ k f) j = m_i σ j := rfl
theorem m_i_sl {σ : m_S} {k j : Nat} {f : Nat → Int64} : m_i (m_sl σ k f) j = m_i σ j := rfl
theorem m_a_si {σ : m_S} {k j : Nat} {v : Int32} : m_a (m_si σ k v) j = m_a σ j := rfl
theorem m_a_sa {σ : m_S} {k j : Nat} {f : Nat → Int32} : m_a (m_sa σ k f) j = if j = k then f else m_a σ j := rfl
theorem m_a_sl {σ : m_S} {k j : Nat} {f : Nat → Int64} : m_a (m_sl σ k f) j = m_a σ j := rfl
theorem m_l_si {σ : m_S} {k j : Nat} {v : Int32} : m_l (m_si σ k v) j = m_l σ j := rfl
theorem m_l_sa {σ : m_S} {k j : Nat} {f : Nat → Int32} : m_l (m_sa σ k f) j = m_l σ j := rfl
theorem m_l_sl {σ : m_S} {k j : Nat} {f : Nat → Int64} : m_l (m_sl σ k f) j = if j = k then f else m_l σ j := rfl
def m_fs (m : Nat) (σ : m_S) : List Value := [.int (m_i σ 0), .int (m_i σ 1), .ref (m + 1), .ref (m + 2), .ref (m + 3), .ref (m + 4), .ref (m + 5), .ref (m + 6), .int (m_i σ 8), .ref (m + 7), .int (m_i σ 10), .int (m_i σ 11), .int (m_i σ 12), .int (m_i σ 13), .int (m_i σ 14), .int (m_i σ 15), .int (m_i σ 16), .int (m_i σ 17), .int (m_i σ 18), .ref (m + 8), .ref (m + 9), .ref (m + 10), .ref (m + 11), .ref (m + 12), .int (m_i σ 24)]
def m_len (k : Nat) : Nat := match k with
  | 1 => 8
  | 2 => 8
  | 3 => 320
  | 4 => 68
  | 5 => 68
  | 6 => 1632
  | 7 => 400
  | 10 => 2
  | 11 => 136
  | 12 => 16
  | _ => 205
def m_cell (m : Nat) (σ : m_S) (k : Nat) : y_E := if k = 0 then .inr (3, m_fs m σ) else if k = 8 ∨ k = 9 then .inl (2, 205, .inr (.inl (m_l σ k))) else .inl (if k = 10 then 3 else 0, m_len k, .inl (m_a σ k))
def m_H (m : Nat) (σ : m_S) (ω : y_Hp) : y_Hp := (ω.1, fun a => if m ≤ a ∧ a < m + 13 then some (true, m_cell m σ (a - m)) else ω.2 a)
theorem m_top {m : Nat} {σ : m_S} {ω : y_Hp} : (m_H m σ ω).1 = ω.1 := rfl
theorem m_at {m : Nat} {σ : m_S} {ω : y_Hp} {k : Nat} (h : k < 13) : (m_H m σ ω).2 (m + k) = some (true, m_cell m σ k) := by
  show (if m ≤ m + k ∧ m + k < m + 13 then some (true, m_cell m σ (m + k - m)) else ω.2 (m + k)) = _
  rw [if_pos (by omega), Nat.add_sub_cancel_left]
theorem m_off {m : Nat} {σ : m_S} {ω : y_Hp} {a : Nat} (h : a < m ∨ m + 13 ≤ a) : (m_H m σ ω).2 a = ω.2 a := if_neg (by omega)
theorem m_at0 {m : Nat} {σ : m_S} {ω : y_Hp} : (m_H m σ ω).2 m = some (true, .inr (3, m_fs m σ)) := m_at (k := 0) (by decide)
theorem m_cls0 {m : Nat} {σ : m_S} {ω : y_Hp} : y_cls (m_H m σ ω) m = some 3 := by unfold y_cls; rw [m_at0]
theorem m_at1 {m : Nat} {σ : m_S} {ω : y_Hp} : (m_H m σ ω).2 (m + 1) = some (true, .inl (0, 8, .inl (m_a σ 1))) := m_at (k := 1) (by decide)
theorem m_at2 {m : Nat} {σ : m_S} {ω : y_Hp} : (m_H m σ ω).2 (m + 2) = some (true, .inl (0, 8, .inl (m_a σ 2))) := m_at (k := 2) (by decide)
theorem m_at3 {m : Nat} {σ : m_S} {ω : y_Hp} : (m_H m σ ω).2 (m + 3) = some (true, .inl (0, 320, .inl (m_a σ 3))) := m_at (k := 3) (by decide)
theorem m_at4 {m : Nat} {σ : m_S} {ω : y_Hp} : (m_H m σ ω).2 (m + 4) = some (true, .inl (0, 68, .inl (m_a σ 4))) := m_at (k := 4) (by decide)
theorem m_at5 {m : Nat} {σ : m_S} {ω : y_Hp} : (m_H m σ ω).2 (m + 5) = some (true, .inl (0, 68, .inl (m_a σ 5))) := m_at (k := 5) (by decide)
theorem m_at6 {m : Nat} {σ : m_S} {ω : y_Hp} : (m_H m σ ω).2 (m + 6) = some (true, .inl (0, 1632, .inl (m_a σ 6))) := m_at (k := 6) (by decide)
theorem m_at7 {m : Nat} {σ : m_S} {ω : y_Hp} : (m_H m σ ω).2 (m + 7) = some (true, .inl (0, 400, .inl (m_a σ 7))) := m_at (k := 7) (by decide)
theorem m_at11 {m : Nat} {σ : m_S} {ω : y_Hp} : (m_H m σ ω).2 (m + 11) = some (true, .inl (0, 136, .inl (m_a σ 11))) := m_at (k := 11) (by decide)
theorem m_at12 {m : Nat} {σ : m_S} {ω : y_Hp} : (m_H m σ ω).2 (m + 12) = some (true, .inl (0, 16, .inl (m_a σ 12))) := m_at (k := 12) (by decide)
theorem m_at8 {m : Nat} {σ : m_S} {ω : y_Hp} : (m_H m σ ω).2 (m + 8) = some (true, .inl (2, 205, .inr (.inl (m_l σ 8)))) := m_at (k := 8) (by decide)
theorem m_at9 {m : Nat} {σ : m_S} {ω : y_Hp} : (m_H m σ ω).2 (m + 9) = some (true, .inl (2, 205, .inr (.inl (m_l σ 9)))) := m_at (k := 9) (by decide)
theorem m_at10 {m : Nat} {σ : m_S} {ω : y_Hp} : (m_H m σ ω).2 (m + 10) = some (true, .inl (3, 2, .inl (m_a σ 10))) := m_at (k := 10) (by decide)
theorem m_fs_len {m : Nat} {σ : m_S} : (m_fs m σ).length = 25 := rfl
theorem m_g0 {m : Nat} {σ : m_S} : (m_fs m σ)[0]? = some (.int (m_i σ 0)) := rfl
theorem m_p0 {m : Nat} {σ : m_S} {v : Int32} : (m_fs m σ).set 0 (.int v) = m_fs m (m_si σ 0 v) := rfl
theorem m_g1 {m : Nat} {σ : m_S} : (m_fs m σ)[1]? = some (.int (m_i σ 1)) := rfl
theorem m_p1 {m : Nat} {σ : m_S} {v : Int32} : (m_fs m σ).set 1 (.int v) = m_fs m (m_si σ 1 v) := rfl
theorem m_g8 {m : Nat} {σ : m_S} : (m_fs m σ)[8]? = some (.int (m_i σ 8)) := rfl
theorem m_p8 {m : Nat} {σ : m_S} {v : Int32} : (m_fs m σ).set 8 (.int v) = m_fs m (m_si σ 8 v) := rfl
theorem m_g10 {m : Nat} {σ : m_S} : (m_fs m σ)[10]? = some (.int (m_i σ 10)) := rfl
theorem m_p10 {m : Nat} {σ : m_S} {v : Int32} : (m_fs m σ).set 10 (.int v) = m_fs m (m_si σ 10 v) := rfl
theorem m_g11 {m : Nat} {σ : m_S} : (m_fs m σ)[11]? = some (.int (m_i σ 11)) := rfl
theorem m_p11 {m : Nat} {σ : m_S} {v : Int32} : (m_fs m σ).set 11 (.int v) = m_fs m (m_si σ 11 v) := rfl
theorem m_g12 {m : Nat} {σ : m_S} : (m_fs m σ)[12]? = some (.int (m_i σ 12)) := rfl
theorem m_p12 {m : Nat} {σ : m_S} {v : Int32} : (m_fs m σ).set 12 (.int v) = m_fs m (m_si σ 12 v) := rfl
theorem m_g13 {m : Nat} {σ : m_S} : (m_fs m σ)[13]? = some (.int (m_i σ 13)) := rfl
theorem m_p13 {m : Nat} {σ : m_S} {v : Int32} : (m_fs m σ).set 13 (.int v) = m_fs m (m_si σ 13 v) := rfl
theorem m_g14 {m : Nat} {σ : m_S} : (m_fs m σ)[14]? = some (.int (m_i σ 14)) := rfl
theorem m_p14 {m : Nat} {σ : m_S} {v : Int32} : (m_fs m σ).set 14 (.int v) = m_fs m (m_si σ 14 v) := rfl
theorem m_g15 {m : Nat} {σ : m_S} : (m_fs m σ)[15]? = some (.int (m_i σ 15)) := rfl
theorem m_p15 {m : Nat} {σ : m_S} {v : Int32} : (m_fs m σ).set 15 (.int v) = m_fs m (m_si σ 15 v) := rfl
theorem m_g16 {m : Nat} {σ : m_S} : (m_fs m σ)[16]? = some (.int (m_i σ 16)) := rfl
theorem m_p16 {m : Nat} {σ : m_S} {v : Int32} : (m_fs m σ).set 16 (.int v) = m_fs m (m_si σ 16 v) := rfl
theorem m_g17 {m : Nat} {σ : m_S} : (m_fs m σ)[17]? = some (.int (m_i σ 17)) := rfl
theorem m_p17 {m : Nat} {σ : m_S} {v : Int32} : (m_fs m σ).set 17 (.int v) = m_fs m (m_si σ 17 v) := rfl
theorem m_g18 {m : Nat} {σ : m_S} : (m_fs m σ)[18]? = some (.int (m_i σ 18)) := rfl
theorem m_p18 {m : Nat} {σ : m_S} {v : Int32} : (m_fs m σ).set 18 (.int v) = m_fs m (m_si σ 18 v) := rfl
theorem m_g24 {m : Nat} {σ : m_S} : (m_fs m σ)[24]? = some (.int (m_i σ 24)) := rfl
theorem m_p24 {m : Nat} {σ : m_S} {v : Int32} : (m_fs m σ).set 24 (.int v) = m_fs m (m_si σ 24 v) := rfl
theorem m_g2 {m : Nat} {σ : m_S} : (m_fs m σ)[2]? = some (.ref (m + 1)) := rfl
theorem m_g3 {m : Nat} {σ : m_S} : (m_fs m σ)[3]? = some (.ref (m + 2)) := rfl
theorem m_g4 {m : Nat} {σ : m_S} : (m_fs m σ)[4]? = some (.ref (m + 3)) := rfl
theorem m_g5 {m : Nat} {σ : m_S} : (m_fs m σ)[5]? = some (.ref (m + 4)) := rfl
theorem m_g6 {m : Nat} {σ : m_S} : (m_fs m σ)[6]? = some (.ref (m + 5)) := rfl
theorem m_g7 {m : Nat} {σ : m_S} : (m_fs m σ)[7]? = some (.ref (m + 6)) := rfl
theorem m_g9 {m : Nat} {σ : m_S} : (m_fs m σ)[9]? = some (.ref (m + 7)) := rfl
theorem m_g19 {m : Nat} {σ : m_S} : (m_fs m σ)[19]? = some (.ref (m + 8)) := rfl
theorem m_g20 {m : Nat} {σ : m_S} : (m_fs m σ)[20]? = some (.ref (m + 9)) := rfl
theorem m_g21 {m : Nat} {σ : m_S} : (m_fs m σ)[21]? = some (.ref (m + 10)) := rfl
theorem m_g22 {m : Nat} {σ : m_S} : (m_fs m σ)[22]? = some (.ref (m + 11)) := rfl
theorem m_g23 {m : Nat} {σ : m_S} : (m_fs m σ)[23]? = some (.ref (m + 12)) := rfl
theorem m_upd {m : Nat} {σ σ' : m_S} {ω : y_Hp} {k : Nat} {e : y_E} (hk : k < 13) (h : ∀ j, j < 13 → m_cell m σ' j = if j = k then e else m_cell m σ j) : y_hup (m_H m σ ω) (m + k) e = m_H m σ' ω := by
  unfold y_hup m_H
  refine Prod.ext rfl (funext fun a => ?_)
  show (if a = m + k then some (true, e) else if m ≤ a ∧ a < m + 13 then some (true, m_cell m σ (a - m)) else ω.2 a) = (if m ≤ a ∧ a < m + 13 then some (true, m_cell m σ' (a - m)) else ω.2 a)
  by_cases h1 : m ≤ a ∧ a < m + 13
  · rw [if_pos h1, if_pos h1, h (a - m) (by omega)]
    by_cases h2 : a = m + k
    · rw [if_pos h2, if_pos (by omega)]
    · rw [if_neg h2, if_neg (by omega)]
  · rw [if_neg h1, if_neg h1, if_neg (by omega)]
theorem m_cell_si {m : Nat} {σ : m_S} {k j : Nat} {v : Int32} (h : j < 13) : m_cell m (m_si σ k v) j = if j = 0 then .inr (3, m_fs m (m_si σ k v)) else m_cell m σ j := by
  unfold m_cell
  by_cases h0 : j = 0
  · rw [if_pos h0, if_pos h0]
  · rw [if_neg h0, if_neg h0, if_neg h0]; rfl
/-- an int field written -/
theorem m_puti {m : Nat} {σ : m_S} {ω : y_Hp} {k : Nat} {v : Int32} : y_hup (m_H m σ ω) m (.inr (3, m_fs m (m_si σ k v))) = m_H m (m_si σ k v) ω :=
  m_upd (k := 0) (by decide) (fun j hj => m_cell_si hj)
theorem m_put1 {m : Nat} {σ : m_S} {ω : y_Hp} {f : Nat → Int32} : y_hup (m_H m σ ω) (m + 1) (.inl (0, 8, .inl f)) = m_H m (m_sa σ 1 f) ω :=
  m_upd (by decide) (fun j hj => by
    have h : j = 0 ∨ j = 1 ∨ j = 2 ∨ j = 3 ∨ j = 4 ∨ j = 5 ∨ j = 6 ∨ j = 7 ∨ j = 8 ∨ j = 9 ∨ j = 10 ∨ j = 11 ∨ j = 12 := by omega
    rcases h with rfl | rfl | rfl | rfl | rfl | rfl | rfl | rfl | rfl | rfl | rfl | rfl | rfl <;> rfl)
theorem m_put2 {m : Nat} {σ : m_S} {ω : y_Hp} {f : Nat → Int32} : y_hup (m_H m σ ω) (m + 2) (.inl (0, 8, .inl f)) = m_H m (m_sa σ 2 f) ω :=
  m_upd (by decide) (fun j hj => by
    have h : j = 0 ∨ j = 1 ∨ j = 2 ∨ j = 3 ∨ j = 4 ∨ j = 5 ∨ j = 6 ∨ j = 7 ∨ j = 8 ∨ j = 9 ∨ j = 10 ∨ j = 11 ∨ j = 12 := by omega
    rcases h with rfl | rfl | rfl | rfl | rfl | rfl | rfl | rfl | rfl | rfl | rfl | rfl | rfl <;> rfl)
theorem m_put3 {m : Nat} {σ : m_S} {ω : y_Hp} {f : Nat → Int32} : y_hup (m_H m σ ω) (m + 3) (.inl (0, 320, .inl f)) = m_H m (m_sa σ 3 f) ω :=
  m_upd (by decide) (fun j hj => by
    have h : j = 0 ∨ j = 1 ∨ j = 2 ∨ j = 3 ∨ j = 4 ∨ j = 5 ∨ j = 6 ∨ j = 7 ∨ j = 8 ∨ j = 9 ∨ j = 10 ∨ j = 11 ∨ j = 12 := by omega
    rcases h with rfl | rfl | rfl | rfl | rfl | rfl | rfl | rfl | rfl | rfl | rfl | rfl | rfl <;> rfl)
theorem m_put4 {m : Nat} {σ : m_S} {ω : y_Hp} {f : Nat → Int32} : y_hup (m_H m σ ω) (m + 4) (.inl (0, 68, .inl f)) = m_H m (m_sa σ 4 f) ω :=
  m_upd (by decide) (fun j hj => by
    have h : j = 0 ∨ j = 1 ∨ j = 2 ∨ j = 3 ∨ j = 4 ∨ j = 5 ∨ j = 6 ∨ j = 7 ∨ j = 8 ∨ j = 9 ∨ j = 10 ∨ j = 11 ∨ j = 12 := by omega
    rcases h with rfl | rfl | rfl | rfl | rfl | rfl | rfl | rfl | rfl | rfl | rfl | rfl | rfl <;> rfl)
theorem m_put5 {m : Nat} {σ : m_S} {ω : y_Hp} {f : Nat → Int32} : y_hup (m_H m σ ω) (m + 5) (.inl (0, 68, .inl f)) = m_H m (m_sa σ 5 f) ω :=
  m_upd (by decide) (fun j hj => by
    have h : j = 0 ∨ j = 1 ∨ j = 2 ∨ j = 3 ∨ j = 4 ∨ j = 5 ∨ j = 6 ∨ j = 7 ∨ j = 8 ∨ j = 9 ∨ j = 10 ∨ j = 11 ∨ j = 12 := by omega
    rcases h with rfl | rfl | rfl | rfl | rfl | rfl | rfl | rfl | rfl | rfl | rfl | rfl | rfl <;> rfl)
theorem m_put6 {m : Nat} {σ : m_S} {ω : y_Hp} {f : Nat → Int32} : y_hup (m_H m σ ω) (m + 6) (.inl (0, 1632, .inl f)) = m_H m (m_sa σ 6 f) ω :=
  m_upd (by decide) (fun j hj => by
    have h : j = 0 ∨ j = 1 ∨ j = 2 ∨ j = 3 ∨ j = 4 ∨ j = 5 ∨ j = 6 ∨ j = 7 ∨ j = 8 ∨ j = 9 ∨ j = 10 ∨ j = 11 ∨ j = 12 := by omega
    rcases h with rfl | rfl | rfl | rfl | rfl | rfl | rfl | rfl | rfl | rfl | rfl | rfl | rfl <;> rfl)
theorem m_put7 {m : Nat} {σ : m_S} {ω : y_Hp} {f : Nat → Int32} : y_hup (m_H m σ ω) (m + 7) (.inl (0, 400, .inl f)) = m_H m (m_sa σ 7 f) ω :=
  m_upd (by decide) (fun j hj => by
    have h : j = 0 ∨ j = 1 ∨ j = 2 ∨ j = 3 ∨ j = 4 ∨ j = 5 ∨ j = 6 ∨ j = 7 ∨ j = 8 ∨ j = 9 ∨ j = 10 ∨ j = 11 ∨ j = 12 := by omega
    rcases h with rfl | rfl | rfl | rfl | rfl | rfl | rfl | rfl | rfl | rfl | rfl | rfl | rfl <;> rfl)
theorem m_put11 {m : Nat} {σ : m_S} {ω : y_Hp} {f : Nat → Int32} : y_hup (m_H m σ ω) (m + 11) (.inl (0, 136, .inl f)) = m_H m (m_sa σ 11 f) ω :=
  m_upd (by decide) (fun j hj => by
    have h : j = 0 ∨ j = 1 ∨ j = 2 ∨ j = 3 ∨ j = 4 ∨ j = 5 ∨ j = 6 ∨ j = 7 ∨ j = 8 ∨ j = 9 ∨ j = 10 ∨ j = 11 ∨ j = 12 := by omega
    rcases h with rfl | rfl | rfl | rfl | rfl | rfl | rfl | rfl | rfl | rfl | rfl | rfl | rfl <;> rfl)
theorem m_put12 {m : Nat} {σ : m_S} {ω : y_Hp} {f : Nat → Int32} : y_hup (m_H m σ ω) (m + 12) (.inl (0, 16, .inl f)) = m_H m (m_sa σ 12 f) ω :=
  m_upd (by decide) (fun j hj => by
    have h : j = 0 ∨ j = 1 ∨ j = 2 ∨ j = 3 ∨ j = 4 ∨ j = 5 ∨ j = 6 ∨ j = 7 ∨ j = 8 ∨ j = 9 ∨ j = 10 ∨ j = 11 ∨ j = 12 := by omega
    rcases h with rfl | rfl | rfl | rfl | rfl | rfl | rfl | rfl | rfl | rfl | rfl | rfl | rfl <;> rfl)
theorem m_put10 {m : Nat} {σ : m_S} {ω : y_Hp} {f : Nat → Int32} : y_hup (m_H m σ ω) (m + 10) (.inl (3, 2, .inl f)) = m_H m (m_sa σ 10 f) ω :=
  m_upd (by decide) (fun j hj => by
    have h : j = 0 ∨ j = 1 ∨ j = 2 ∨ j = 3 ∨ j = 4 ∨ j = 5 ∨ j = 6 ∨ j = 7 ∨ j = 8 ∨ j = 9 ∨ j = 10 ∨ j = 11 ∨ j = 12 := by omega
    rcases h with rfl | rfl | rfl | rfl | rfl | rfl | rfl | rfl | rfl | rfl | rfl | rfl | rfl <;> rfl)
theorem m_put8 {m : Nat} {σ : m_S} {ω : y_Hp} {f : Nat → Int64} : y_hup (m_H m σ ω) (m + 8) (.inl (2, 205, .inr (.inl f))) = m_H m (m_sl σ 8 f) ω :=
  m_upd (by decide) (fun j hj => by
    have h : j = 0 ∨ j = 1 ∨ j = 2 ∨ j = 3 ∨ j = 4 ∨ j = 5 ∨ j = 6 ∨ j = 7 ∨ j = 8 ∨ j = 9 ∨ j = 10 ∨ j = 11 ∨ j = 12 := by omega
    rcases h with rfl | rfl | rfl | rfl | rfl | rfl | rfl | rfl | rfl | rfl | rfl | rfl | rfl <;> rfl)
theorem m_put9 {m : Nat} {σ : m_S} {ω : y_Hp} {f : Nat → Int64} : y_hup (m_H m σ ω) (m + 9) (.inl (2, 205, .inr (.inl f))) = m_H m (m_sl σ 9 f) ω :=
  m_upd (by decide) (fun j hj => by
    have h : j = 0 ∨ j = 1 ∨ j = 2 ∨ j = 3 ∨ j = 4 ∨ j = 5 ∨ j = 6 ∨ j = 7 ∨ j = 8 ∨ j = 9 ∨ j = 10 ∨ j = 11 ∨ j = 12 := by omega
    rcases h with rfl | rfl | rfl | rfl | rfl | rfl | rfl | rfl | rfl | rfl | rfl | rfl | rfl <;> rfl)
