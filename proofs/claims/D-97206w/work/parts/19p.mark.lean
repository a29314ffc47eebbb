/-! super.m() that lands in an interface's default method -/
theorem y_pigeon : ∀ (n : Nat) (f : Nat → Nat), (∀ i, i ≤ n → f i < n) → ∃ i j, i < j ∧ j ≤ n ∧ f i = f j
  | 0, f, h => absurd (h 0 (Nat.le_refl 0)) (Nat.not_lt_zero _)
  | n + 1, f, h => by
    by_cases hv : ∃ i, i ≤ n ∧ f i = f (n + 1)
    · obtain ⟨i, hi, he⟩ := hv
      exact ⟨i, n + 1, by omega, Nat.le_refl _, he⟩
    · have hne : ∀ i, i ≤ n → f i ≠ f (n + 1) := fun i hi he => hv ⟨i, hi, he⟩
      obtain ⟨i, j, hij, hj, he⟩ := y_pigeon n (fun i => if f i = n then f (n + 1) else f i) (fun i hi => by
        have h1 := h i (by omega)
        have h2 := h (n + 1) (Nat.le_refl _)
        have h3 := hne i hi
        show (if f i = n then f (n + 1) else f i) < n
        split <;> omega)
      have hi2 := hne i (by omega)
      have hj2 := hne j hj
      refine ⟨i, j, hij, by omega, ?_⟩
      have he : (if f i = n then f (n + 1) else f i) = (if f j = n then f (n + 1) else f j) := he
      split at he <;> split at he <;> omega
def y_ch (vm : Vm) (c : ClassId) : Nat → Option ClassId
  | 0 => some c
  | n + 1 => (y_ch vm c n).bind fun p => vm.classes[p]?.bind (·.super)
theorem y_ch_shift {vm : Vm} {c q : ClassId} (h : vm.classes[c]?.bind (·.super) = some q) : ∀ n, y_ch vm c (n + 1) = y_ch vm q n
  | 0 => by simp [y_ch, h]
  | n + 1 => by rw [y_ch, y_ch_shift h n]; rfl
theorem y_ch_stop {vm : Vm} {c : ClassId} (h : vm.classes[c]?.bind (·.super) = none) : ∀ n, y_ch vm c (n + 1) = none
  | 0 => by simp [y_ch, h]
  | n + 1 => by rw [y_ch, y_ch_stop h n]; rfl
theorem y_look_none {vm : Vm} {name desc : String} : ∀ (N : Nat) (c : ClassId), lookupInSuperclasses vm name desc N c = none → ∀ i, i < N → ∀ p, y_ch vm c i = some p → ownMethod vm name desc p = none
  | 0, _, _, i, hi => absurd hi (Nat.not_lt_zero _)
  | N + 1, c, h, i, hi => by
    intro p hp
    unfold lookupInSuperclasses at h
    cases hk : vm.classes[c]? with
    | none =>
      cases i with
      | zero => cases hp; simp [ownMethod, hk]
      | succ i => rw [y_ch_stop (by simp [hk])] at hp; cases hp
    | some k =>
      simp only [hk, Option.bind_eq_bind, Option.bind_some] at h
      cases hf : k.findMethod name desc with
      | some j => simp [hf] at h
      | none =>
        simp only [hf] at h
        cases i with
        | zero => cases hp; simp [ownMethod, hk, hf]
        | succ i =>
          cases hs : k.super with
          | none => rw [y_ch_stop (by simp [hk, hs])] at hp; cases hp
          | some q =>
            rw [hs, Option.bind_some] at h
            rw [y_ch_shift (q := q) (by simp [hk, hs])] at hp
            exact y_look_none N q h i (by omega) p hp
theorem y_sel_ch {vm : Vm} {name desc : String} {mR m : MethodId} : ∀ (N : Nat) (c : ClassId), selectInSuperclasses vm mR name desc N c = some m → ∃ i p, i < N ∧ y_ch vm c i = some p ∧ ownMethod vm name desc p ≠ none
  | 0, _, h => by simp [selectInSuperclasses] at h
  | N + 1, c, h => by
    unfold selectInSuperclasses at h
    cases hk : vm.classes[c]? with
    | none => simp [hk] at h
    | some k =>
      simp only [hk, Option.bind_eq_bind, Option.bind_some] at h
      cases hf : k.findMethod name desc with
      | some j => exact ⟨0, c, by omega, rfl, by simp [ownMethod, hk, hf]⟩
      | none =>
        cases hs : k.super with
        | none => simp [hf, hs] at h
        | some q =>
          obtain ⟨i, p, h1, h2, h3⟩ := y_sel_ch N q (by simpa [hf, hs] using h)
          exact ⟨i + 1, p, by omega, by rw [y_ch_shift (q := q) (by simp [hk, hs])]; exact h2, h3⟩
theorem y_sup_ch {vm : Vm} : ∀ (N : Nat) (c p : ClassId), p ∈ vm.superclassesAux N c → ∃ i, 1 ≤ i ∧ i ≤ N ∧ y_ch vm c i = some p
  | 0, _, _, h => by simp [Vm.superclassesAux] at h
  | N + 1, c, p, h => by
    unfold Vm.superclassesAux at h
    cases hs : vm.classes[c]?.bind (·.super) with
    | none => simp [hs] at h
    | some q =>
      simp only [hs, List.mem_cons] at h
      rcases h with rfl | h
      · exact ⟨1, Nat.le_refl _, by omega, by rw [y_ch_shift hs]; rfl⟩
      · obtain ⟨i, h1, h2, h3⟩ := y_sup_ch N q p h
        exact ⟨i + 1, by omega, by omega, by rw [y_ch_shift hs]; exact h3⟩
theorem y_ch_le {vm : Vm} {c : ClassId} : ∀ (n : Nat) {p : ClassId}, y_ch vm c n = some p → ∀ m, m ≤ n → ∃ q, y_ch vm c m = some q ∧ (m < n → q < vm.classes.size)
  | 0, p, h, m, hm => ⟨c, by rw [show m = 0 by omega]; rfl, fun z => by omega⟩
  | n + 1, p, h, m, hm => by
    rw [y_ch] at h
    cases hq : y_ch vm c n with
    | none => rw [hq] at h; cases h
    | some q =>
      rw [hq, Option.bind_some] at h
      by_cases e : m = n + 1
      · subst e
        exact ⟨p, by rw [y_ch, hq]; exact h, fun z => by omega⟩
      · obtain ⟨q', h1, h2⟩ := y_ch_le n hq m (by omega)
        refine ⟨q', h1, fun _ => ?_⟩
        by_cases e2 : m = n
        · subst e2
          cases hq.symm.trans h1
          cases hk : vm.classes[q]? with
          | none => rw [hk] at h; cases h
          | some k => exact (Array.getElem?_eq_some_iff.mp hk).1
        · exact h2 (by omega)
theorem y_ch_add {vm : Vm} {c : ClassId} {i j : Nat} (h : y_ch vm c i = y_ch vm c j) : ∀ t, y_ch vm c (i + t) = y_ch vm c (j + t)
  | 0 => h
  | t + 1 => by
    rw [← Nat.add_assoc, ← Nat.add_assoc, y_ch, y_ch, y_ch_add h t]
theorem y_ch_fin {vm : Vm} {c p : ClassId} (h : y_ch vm c (vm.classes.size + 1) = some p) : ∃ i, i ≤ vm.classes.size ∧ y_ch vm c i = some p := by
  obtain ⟨i, j, hij, hj, he⟩ := y_pigeon vm.classes.size (fun i => (y_ch vm c i).getD 0) (fun i hi => by
    obtain ⟨q, h1, h2⟩ := y_ch_le _ h i (by omega)
    show (y_ch vm c i).getD 0 < _
    rw [h1]
    exact h2 (by omega))
  obtain ⟨q1, h1, -⟩ := y_ch_le _ h i (by omega)
  obtain ⟨q2, h2, -⟩ := y_ch_le _ h j (by omega)
  have he : y_ch vm c i = y_ch vm c j := by
    simp only [h1, h2, Option.getD_some] at he
    rw [h1, h2, he]
  refine ⟨i + (vm.classes.size + 1 - j), by omega, ?_⟩
  rw [y_ch_add he, show j + (vm.classes.size + 1 - j) = vm.classes.size + 1 by omega]
  exact h
theorem y_sup_none {vm : Vm} {name desc : String} {c : ClassId} (h : lookupInSuperclasses vm name desc (vm.classes.size + 1) c = none) : ownMethod vm name desc c = none ∧ superclassMethods vm c name desc = [] := by
  have h0 := y_look_none _ _ h
  refine ⟨h0 0 (by omega) c rfl, ?_⟩
  unfold superclassMethods
  rw [List.filterMap_eq_nil_iff]
  intro p hp
  obtain ⟨i, h1, h2, h3⟩ := y_sup_ch _ _ _ hp
  by_cases e : i = vm.classes.size + 1
  · subst e
    obtain ⟨j, h4, h5⟩ := y_ch_fin h3
    exact h0 j (by omega) p h5
  · exact h0 i (by omega) p h3
theorem y_lands {args : Array Value} {s : State} {cls : String} {x y : MethodName} {c : ClassId} {k : Class} {r0 : MethodId} {r : Method} (h : (Cond.landsInDefault cls x y).before args s = true) (hc : s.vm.findClass cls = some c) (hk : s.vm.classes[c]? = some k) (hni : k.isInterface = false) (hx : s.methodFound? x.cls x.name x.desc = some r0) (hup : s.vm.lookupUp c r.name r.desc = some r0) (hrm : s.vm.method? r0 = some r) (hst : r.isStatic = false) (hm : s.methodNamed? y = some r0) : lookupSpecial s.vm c r.name r.desc = .method r0 := by
  simp only [Cond.before, Cond.holds, Cond.value] at h
  simp only [hc, hx, hm, hrm, Option.map_some, beq_iff_eq, Option.some.injEq] at h
  split at h
  · rename_i m' hsel
    simp only [Bool.and_eq_true, decide_eq_true_eq, Bool.not_eq_true', Option.any_eq_true] at h
    obtain ⟨⟨⟨⟨rfl, mk, hmk, hi⟩, hpriv⟩, hway⟩, hnear⟩ := h
    cases hl : lookupInSuperclasses s.vm r.name r.desc (s.vm.classes.size + 1) c with
    | some q =>
      have hq : q = m' := by simpa [Vm.lookupUp, hl] using hup
      subst hq
      exact lookupSpecial_of_superclasses hk hni hl hrm hst
    | none =>
      obtain ⟨ho, ha⟩ := y_sup_none hl
      have hsn : selectInSuperclasses s.vm m' r.name r.desc (s.vm.classes.size + 1) c = none := by
        cases hs : selectInSuperclasses s.vm m' r.name r.desc (s.vm.classes.size + 1) c with
        | none => rfl
        | some z =>
          obtain ⟨i, p, h1, h2, h3⟩ := y_sel_ch _ _ hs
          exact absurd (y_look_none _ _ hl i h1 p h2) h3
      unfold selectMethod at hsel
      simp only [hrm, hpriv, hsn, if_false, Bool.false_eq_true] at hsel
      unfold lookupSpecial
      have ho' : ((s.vm.classes[c]?.bind (·.findMethod r.name r.desc)).map fun i => (⟨c, i⟩ : MethodId)) = none := ho
      simp only [ho', ha, List.filter_nil, Option.toList_none, List.append_nil, List.find?_nil]
      split at hsel
      · cases hsel
      · split at hsel
        · rename_i hbad
          simp [hmk, hi] at hbad
        · exact hsel
  · cases h
