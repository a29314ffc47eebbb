/-! fields, constants, objects to make, throws without a handler -/
section
variable {s0 : State} {b0 : Nat} {D : va_G} {dA : Nat → ClassId}
theorem y_same {args : Array Value} {s : State} {ref own name desc : String} (h : ref = own ∨ (Cond.sameField ref own name desc).before args s = true) (x : ClassId × Class × Nat × Field) (ho : s.fieldFound? own name desc = some x) : s.fieldFound? ref name desc = some x := by
  rcases h with rfl | h
  · exact ho
  · exact u_same h x ho
theorem y_get_of {own : String} {idx ci k : Nat} {ty : FieldType} {fin : Bool} {C ref : String} {T : u_T} {N : Nat} (HG : y_G s0 b0 D dA) (hc : y_cl[ci]? = some (C, T, N)) (hin : ∀ w ∈ u_ws C T N, w ∈ lw_all) (hk : k < N) (hlink : Cond.fieldLink own idx ref (T k).2.1 (T k).2.2.1 ∈ lw_all) (hsame : ref = (T k).1 ∨ Cond.sameField ref (T k).1 (T k).2.1 (T k).2.2.1 ∈ lw_all) : y_OKget s0 D own (idx, ci, k, ty, fin) := by
  intro p l e R s m args below meth c H locs cells slots Q pc ls rest a fs v hx hown hW hwk hv hd kk
  have hts := y_hts (args := args) HG hW
  obtain ⟨cell, q1, q2, q3, r, hr, q4, q5⟩ := hwk
  cases hc.symm.trans hr
  obtain ⟨hS, hfc, kC, hkC, hkind⟩ := (HG.2.1.moved hW.alike).1 ci _ hc
  obtain ⟨cf, kf, fi, f, hi, hsl⟩ := hS k hk
  refine W.getf hx rfl hown (hts _ hlink) (y_same (hsame.imp id (fun z => hts _ z)) _ hi) (u_facts hfc hkC (u_lays hts hin hk) hi).1 q1 q2 (v := v) ?_ rfl rfl hd kk
  rw [hsl, q5 k hk]
  simp [vp_V, show fs[k]? = some v from hv]
theorem y_getN_of {own : String} {idx ci k : Nat} {ty : FieldType} {fin : Bool} {C ref host : String} {T : u_T} {N : Nat} (HG : y_G s0 b0 D dA) (hc : y_cl[ci]? = some (C, T, N)) (hin : ∀ w ∈ u_ws C T N, w ∈ lw_all) (hk : k < N) (hlink : Cond.fieldLinkNest own idx ref (T k).2.1 (T k).2.2.1 host ∈ lw_tbl) (hsame : ref = (T k).1) : y_OKget s0 D own (idx, ci, k, ty, fin) := by
  intro p l e R s m args below meth c H locs cells slots Q pc ls rest a fs v hx hown hW hwk hv hd kk
  have hts := y_hts (args := args) HG hW
  obtain ⟨cell, q1, q2, q3, r, hr, q4, q5⟩ := hwk
  cases hc.symm.trans hr
  obtain ⟨hS, hfc, kC, hkC, hkind⟩ := (HG.2.1.moved hW.alike).1 ci _ hc
  obtain ⟨cf, kf, fi, f, hi, hsl⟩ := hS k hk
  refine va_Wgetf hx rfl hown (va_Nw.use rfl (va_Nw.warmF hW (va_Nw.of rfl (HG.1 _ hlink)))) (by rw [hsame]; exact hi) (u_facts hfc hkC (u_lays hts hin hk) hi).1 q1 q2 (v := v) ?_ rfl rfl hd kk
  rw [hsl, q5 k hk]
  simp [vp_V, show fs[k]? = some v from hv]
theorem y_put_of {own : String} {idx ci k : Nat} {ty : FieldType} {C ref : String} {T : u_T} {N : Nat} (ty0 : Nat → FieldType) (HG : y_G s0 b0 D dA) (hc : y_cl[ci]? = some (C, T, N)) (hin : ∀ w ∈ u_ws C T N, w ∈ lw_all) (hty : ∀ k, k < N → parseFieldDescriptor (T k).2.2.1 = some (ty0 k)) (hnm : ∀ a, a < N → ∀ b, b < N → a ≠ b → (T a).2.1 ≠ (T b).2.1) (hk : k < N) (hlink : Cond.fieldLink own idx ref (T k).2.1 (T k).2.2.1 ∈ lw_all) (hsame : ref = (T k).1 ∨ Cond.sameField ref (T k).1 (T k).2.1 (T k).2.2.1 ∈ lw_all) (hfin : (T k).2.2.2 = false) (hd0 : ty0 k = ty) : y_OKput s0 D own (idx, ci, k, ty, false) := by
  intro p l e R s m args below meth c H locs cells slots Q pc ls rest a fs v hx hown hW _ hat hl hn hfit hd kk
  have hts := y_hts (args := args) HG hW
  have hK := HG.2.1.moved hW.alike
  have hK' : va_K D y_cl [] s := ⟨hK.1, fun k q h => by cases h⟩
  have hap := va_apart (own := own) hts hin ty0 hty hnm hK' hc
  obtain ⟨r, h1, cell, q1, q2, q3, q4⟩ := hat
  cases hc.symm.trans h1
  obtain ⟨hS, hfc, kC, hkC, hkind⟩ := hK.1 ci _ hc
  obtain ⟨cf, kf, fi, f, hi, hsl⟩ := hS k hk
  have hlay := hts _ (hin _ (u_in_lay hk))
  unfold u_lay at hlay
  rw [if_neg (by rw [hfin]; decide)] at hlay
  have hst := (u_facts hfc hkC (u_lays hts hin hk) hi).1
  have h6 := u_store hfc hkC hkind hlay hi (hd0 ▸ hty k hk) hn hfit
  refine W.putK hx rfl (f := f) ⟨hown, hts _ hlink, ⟨_, _, _, y_same (hsame.imp id (fun z => hts _ z)) _ hi⟩, hst⟩ (by rw [q2]; exact h6) q1 q3 (by rw [hsl]; exact k2_hasslot (q4 k hk)) rfl rfl hd fun H' e1 e2 e3 => ?_
  rw [hsl] at e1 ⊢
  exact kk H' _ ⟨_, hc, t_OB.to (V := updV (vp_V fs) k v) ⟨_, e1, q2, q3, t_set q4 hap hk v⟩ (fun j _ => vp_updV_set hl v j)⟩ e2 e3
theorem y_putF_of {own : String} {idx ci k : Nat} {ty : FieldType} {C ref : String} {T : u_T} {N : Nat} (ty0 : Nat → FieldType) (HG : y_G s0 b0 D dA) (hc : y_cl[ci]? = some (C, T, N)) (hin : ∀ w ∈ u_ws C T N, w ∈ lw_all) (hty : ∀ k, k < N → parseFieldDescriptor (T k).2.2.1 = some (ty0 k)) (hnm : ∀ a, a < N → ∀ b, b < N → a ≠ b → (T a).2.1 ≠ (T b).2.1) (hk : k < N) (hlink : Cond.fieldLink own idx ref (T k).2.1 (T k).2.2.1 ∈ lw_all) (hsame : ref = (T k).1 ∨ Cond.sameField ref (T k).1 (T k).2.1 (T k).2.2.1 ∈ lw_all) (hfin : (T k).2.2.2 = true) (hdecl : (T k).1 = own) (hd0 : ty0 k = ty) : y_OKput s0 D own (idx, ci, k, ty, true) := by
  intro p l e R s m args below meth c H locs cells slots Q pc ls rest a fs v hx hown hW hin2 hat hl hn hfit hd kk
  have hts := y_hts (args := args) HG hW
  have hK := HG.2.1.moved hW.alike
  have hK' : va_K D y_cl [] s := ⟨hK.1, fun k q h => by cases h⟩
  have hap := va_apart (own := own) hts hin ty0 hty hnm hK' hc
  obtain ⟨r, h1, cell, q1, q2, q3, q4⟩ := hat
  cases hc.symm.trans h1
  obtain ⟨hS, hfc, kC, hkC, hkind⟩ := hK.1 ci _ hc
  obtain ⟨cf, kf, fi, f, hi, hsl⟩ := hS k hk
  have hlay := hts _ (hin _ (u_in_lay hk))
  unfold u_lay at hlay
  rw [if_pos hfin] at hlay
  have hst := (u_facts hfc hkC (u_lays hts hin hk) hi).1
  have hcf : m.cls = cf := by
    obtain ⟨_, _, c', _, _, _, -, -, hf', -, -, -, hown2, -⟩ := Cond.laysFinal_spec hlay
    have e1 : c' = cf := by have := hi.symm.trans hf'; simp at this; exact this.1.symm
    rw [hdecl] at hown2
    rw [← e1]; exact Option.some.inj (hown.symm.trans hown2)
  have h6 := u_fits hfc hkC hkind (Or.inr hlay) hi (hd0 ▸ hty k hk) hn hfit
  refine W.putFinK hx rfl hown (hts _ hlink) (y_same (hsame.imp id (fun z => hts _ z)) _ hi) hst hcf (hin2 rfl) (by rw [q2]; exact h6) q1 q3 (by rw [hsl]; exact k2_hasslot (q4 k hk)) rfl rfl hd fun H' e1 e2 e3 => ?_
  rw [hsl] at e1 ⊢
  exact kk H' _ ⟨_, hc, t_OB.to (V := updV (vp_V fs) k v) ⟨_, e1, q2, q3, t_set q4 hap hk v⟩ (fun j _ => vp_updV_set hl v j)⟩ e2 e3
theorem y_new_of {own : String} {idx ci : Nat} {vs : List Value} {C : String} {T : u_T} {N : Nat} (ty0 : Nat → FieldType) (HG : y_G s0 b0 D dA) (hc : y_cl[ci]? = some (C, T, N)) (hin : ∀ w ∈ u_ws C T N, w ∈ lw_all) (hty : ∀ k, k < N → parseFieldDescriptor (T k).2.2.1 = some (ty0 k)) (hlink : Cond.classLink own idx C ∈ lw_all) (hinst : Cond.instantiable C N ∈ lw_all) (hini : Cond.initialized C ∈ lw_all) (hn : vs.length = N) (hvs : ∀ j, j < N → defaultValue (ty0 j) = vp_V vs j) : y_OKnew s0 D own (idx, ci, vs) := by
  intro p l e R s m args below meth c H locs cells slots Q pc ls rest hx hown hW hc1 hc2 hd kk
  subst hn
  have hts := y_hts (args := args) HG hW
  have hKn := (HG.2.1.moved hW.alike).1 ci _ hc
  refine W.newcK hx rfl hown (hts _ hlink) (hts _ hinst) (hts _ hini) rfl hd hc1 hc2 hKn.2.1 rfl fun H1 kC hkC e1 z1 o1 => ?_
  exact kk H1 ⟨_, hc, (u_born ty0 hts hin hKn hkC e1 hty).to hvs⟩ z1 o1
theorem y_con_i {own : String} {idx : Nat} {v : Int32} (HG : y_G s0 b0 D dA) (h : Cond.constant own idx v ∈ lw_all) : y_OKcon s0 own (idx, .int v) := by
  intro p l e R s m args below meth c H locs cells slots Q pc ls rest i len hx hown hW _ hi hd kk
  rcases hi with ⟨-, rfl, rfl⟩ | ⟨-, rfl, rfl⟩ | ⟨h0, -⟩
  · exact lv_ldc hx rfl hown (y_hts HG hW _ h) hd kk
  · exact lv_ldcw hx rfl hown (y_hts HG hW _ h) hd kk
  · cases h0
theorem y_con_l {own : String} {idx : Nat} {v : Int64} (HG : y_G s0 b0 D dA) (h : Cond.constantLong own idx v ∈ lw_all) : y_OKcon s0 own (idx, .long v) := by
  intro p l e R s m args below meth c H locs cells slots Q pc ls rest i len hx hown hW _ hi hd kk
  rcases hi with ⟨h0, -⟩ | ⟨h0, -⟩ | ⟨-, rfl, rfl⟩
  · cases h0
  · cases h0
  · exact lv_ldc2 hx rfl hown (y_hts HG hW _ h) hd kk
/-- no handler: the throw leaves the method -/
theorem y_thr_none {M : y_Md} (hh : y_hh M = []) : y_OKthr s0 D dA M := by
  intro mc ms Qp Q0 P p l e R s m args below meth c H locs ca sa c0 d0 ce sl pc a ls lv st ω X hfr hlo hmc hms hca hsa hR hl hP hQ h
  rw [hh] at h
  obtain ⟨hx, -, -, -, hlk, -, hW, -, -, hex⟩ := X
  rw [hh] at hex
  intro T hT XX
  obtain ⟨h1, h2, h3, h4, h5⟩ := XX.leaveThrown a (g := F0 m pc ls st) rfl rfl rfl (by
    intro x hx
    have : c.exceptionTable.toList = [] := List.map_eq_nil_iff.mp hex
    rw [this] at hx
    cases hx) hlk
  refine ⟨_, h1, .threw a, h2, h3, ω, ca, sa, ce, sl, hQ _ _ _ _ h, ⟨State.WarmedH.trans hW h4, ?_⟩, hca, hsa, locs, ⟨h4, h5⟩, hR.2.2⟩
  show y_R s0 D dA ω T.heap []
  rw [hT]
  exact ⟨hR.1, hR.2.1, fun q z => by cases z⟩
theorem y_tst_of {own : String} {idx ci : Nat} {C nm : String} {T : u_T} {N : Nat} (HG : y_G s0 b0 D dA) (hc : y_cl[ci]? = some (C, T, N)) (hlink : Cond.classLink own idx nm ∈ lw_all) (hcs : Cond.castable C nm ∈ lw_tbl) : y_OKtst s0 own (idx, ci, 1) := by
  intro _ p l e R s m args below meth c H locs cells slots Q pc ls rest a r hx hown hW hr hrc
  cases hc.symm.trans hr
  have hca : va_Nw (.castable C nm) s := va_Nw.warmC hW (va_Nw.of rfl (HG.1 _ hcs))
  have hl := y_hts (args := args) HG hW _ hlink
  exact ⟨fun hd kk => va_castY hx rfl hown hl hca hrc hd kk, fun hd kk => va_instY hx rfl hown hl hca hrc hd kk⟩
theorem y_tst_self {own : String} {idx ci : Nat} {C : String} {T : u_T} {N : Nat} (HG : y_G s0 b0 D dA) (hc : y_cl[ci]? = some (C, T, N)) (hlink : Cond.classLink own idx C ∈ lw_all) : y_OKtst s0 own (idx, ci, 1) := by
  intro _ p l e R s m args below meth c H locs cells slots Q pc ls rest a r hx hown hW hr hrc
  cases hc.symm.trans hr
  have hl := y_hts (args := args) HG hW _ hlink
  have hK := ((HG.2.1.moved hW.alike).1 ci _ hc).2
  exact ⟨fun hd kk => va_castS hx rfl hown hl hK hrc hd kk, fun hd kk => va_instS hx rfl hown hl hK hrc hd kk⟩
theorem y_ane_of {own : String} {idx t : Nat} {C : String} (HG : y_G s0 b0 D dA) (ht : t < 8) (hC : y_ty t = .object C) (hlink : Cond.classLink own idx C ∈ lw_all) (hov : Cond.arrayOver (.object C) ∈ lw_tbl) : y_OKane s0 D dA own (idx, t) := by
  refine ⟨ht, ?_⟩
  intro p l e R s m args below meth c H locs cells slots Q pc ls rest n hx hown hW hn hb hc1 hc2 hd kk
  have hts := y_hts (args := args) HG hW
  have hA := ((HG.2.1.moved hW.alike).2 t ht).2
  rw [hC] at hA
  obtain ⟨kA0, comp0, g1, g2, g3, g4⟩ := hA
  refine W.anew hx rfl hown (hts _ hlink) (va_AO.use (va_AO.moved hW.alike (va_AO.of (HG.1 _ hov)))) rfl hd rfl hn hb hc1 hc2 fun cA kA comp f1 f2 f3 f4 => ?_
  have hcA : cA = dA t := Option.some.inj (f1.symm.trans g4)
  subst hcA
  refine kk _ ?_ ?_ ?_
  · show (H.push _)[H.size]? = some (vp_cell _ _)
    rw [vp_cell_q, Array.getElem?_push_size]
    exact congrArg some (arrV_new _ _ _)
  · rw [Array.size_push]
  · intro q hq
    rw [Array.getElem?_push, if_neg (Nat.ne_of_lt hq)]
end
/-- no cast fails here -/
theorem y_cce_none {s0 : State} {D : va_G} {dA : Nat → ClassId} {M : y_Md} (h : ((y_pool M).2.2.2.2.1.all fun e => !(e.2.2 == 0)) = true) : y_OKcce s0 D dA M := by
  intro idx ci hft
  have h1 := List.all_eq_true.mp h _ (y_ft_mem hft)
  simp at h1
theorem y_tsa_none {s0 : State} {D : va_G} {dA : Nat → ClassId} {own : String} {t : Nat × Nat × Nat} (h : t.2.1 < 100) : y_OKtsa s0 D dA own t := fun _ k hk => by omega
