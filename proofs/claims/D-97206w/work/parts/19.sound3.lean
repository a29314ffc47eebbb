section
variable {s0 : State} {b0 : Nat} {D : va_G} {dA : Nat → ClassId}
theorem y_tgt {pc : Nat} {off : Int} (h : 0 ≤ (pc : Int) + off) : (pc : Int) + off = ((y_to pc off : Nat) : Int) := by
  unfold y_to; omega
/-- a call -/
theorem y_snd_go {M : y_Md} {mc ms : Nat} {Qp : y_Po} {P : y_St → Prop} {Q0 : y_Po} {k : y_Ke} {pc len : Nat} {lv : y_Lv} {st : List Value} {ω : y_Hp} {ca sa c0 d0 ce sl : Nat} {i : Instr} (hG : y_Good s0 D dA M) (hk : k ∈ (y_pool M).2.2.2.1) (hP : ∀ y, P y → y_J s0 D dA M mc ms Qp y) (hQ : ∀ o ω c s, Q0 o ω c s → Qp o ω c s)
    {p : Program} {l : Launch} {e : Env} {R : Room} {s : State} {m : MethodId} {args : Array Value} {below : List Frame} {meth : Method} {c : Code} {H : Heap} {locs : List Loc} {ls : Array Slot} (X : y_X s0 p s m meth c M) (hfr : y_fr M ≤ R.frames) (hlo : y_lo M ≤ R.locals) (hmc : R.cells + c0 = mc) (hms : R.slots + d0 = ms) (hca : ce + c0 = ca ∧ ca ≤ mc) (hsa : sl + d0 = sa ∧ sa ≤ ms) (hR : y_R s0 D dA ω H locs) (hl : lv_has ls (y_nL M) lv)
    (hi : k.2.1 = 4 ∧ i = .invokevirtual k.1 ∧ len = 3 ∨ k.2.1 = 0 ∧ i = .invokestatic k.1 ∧ len = 3 ∨ k.2.1 = 2 ∧ i = .invokespecial k.1 ∧ len = 3 ∨ (k.2.1 = 1 ∧ i = .invokevirtual k.1 ∧ len = 3 ∨ k.2.1 = 3 ∧ (∃ ct, i = .invokeinterface k.1 ct) ∧ len = 5) ∧ ∃ a av', (st.take k.2.2.2.1).reverse = .ref a :: av' ∧ y_cls ω a = some k.2.2.1)
    (hd : decode c.code pc = .ok (i, len)) (h : y_go M mc ms k len pc lv st ω ca sa P Q0) : W p l e R s m args below meth c H locs ce sl (y_MQ s0 D dA below Qp s mc ms c0 d0) (F0 m pc ls st) := by
  obtain ⟨h1, h2, h5, h6, h7⟩ := h
  have hst : st = ((st.take k.2.2.2.1).reverse).reverse ++ st.drop k.2.2.2.1 := by rw [List.reverse_reverse, List.take_append_drop]
  have hX := X
  obtain ⟨hx, hb, hn, -, -, hown, hW, hsz, -⟩ := X
  have hlen : (st.take k.2.2.2.1).reverse.length = k.2.2.2.1 := by rw [List.length_reverse, List.length_take]; omega
  rw [hst]
  refine hG.2.2.2.1 k hk p l e R s m args below meth c H locs ce sl _ pc ls _ _ ω _ i len mc ms ca sa c0 d0 hx (by rw [hn]; exact hl.1) hown hW hsz hR (Nat.le_trans h5 hfr) (Nat.le_trans h6 hlo) hlen h2 ⟨hmc, hms⟩ hca hsa hi hd h7 ?_ ?_
  · intro v ω' H' locs' c' s' ce' sl' hq h3 h4 hR'
    exact hP _ hq p l e R s m args below meth c H' locs' ls c0 d0 ce' sl' hX hfr hlo hmc hms h3 h4 hR' hl
  · intro x ω' H' locs' c' s' ce' sl' hq h3 h4 hR'
    exact hG.2.2.2.2.2.2.2.1 mc ms Qp Q0 P p l e R s m args below meth c H' locs' _ _ c0 d0 ce' sl' pc x ls lv _ ω' hX hfr hlo hmc hms h3 h4 hR' hl hP hQ hq
theorem y_snd_call {M : y_Md} {mc ms md idx : Nat} {Qp : y_Po} {P : y_St → Prop} {Q0 : y_Po} {pc len : Nat} {lv : y_Lv} {st : List Value} {ω : y_Hp} {ca sa c0 d0 ce sl : Nat} {i : Instr} (hG : y_Good s0 D dA M) (hP : ∀ y, P y → y_J s0 D dA M mc ms Qp y) (hQ : ∀ o ω c s, Q0 o ω c s → Qp o ω c s)
    {p : Program} {l : Launch} {e : Env} {R : Room} {s : State} {m : MethodId} {args : Array Value} {below : List Frame} {meth : Method} {c : Code} {H : Heap} {locs : List Loc} {ls : Array Slot} (X : y_X s0 p s m meth c M) (hfr : y_fr M ≤ R.frames) (hlo : y_lo M ≤ R.locals) (hmc : R.cells + c0 = mc) (hms : R.slots + d0 = ms) (hca : ce + c0 = ca ∧ ca ≤ mc) (hsa : sl + d0 = sa ∧ sa ≤ ms) (hR : y_R s0 D dA ω H locs) (hl : lv_has ls (y_nL M) lv)
    (hi : md = 0 ∧ i = .invokestatic idx ∧ len = 3 ∨ md = 2 ∧ i = .invokespecial idx ∧ len = 3 ∨ md = 1 ∧ i = .invokevirtual idx ∧ len = 3 ∨ md = 3 ∧ (∃ ct, i = .invokeinterface idx ct) ∧ len = 5)
    (hd : decode c.code pc = .ok (i, len)) (h : y_call M mc ms md idx len pc lv st ω ca sa P Q0) : W p l e R s m args below meth c H locs ce sl (y_MQ s0 D dA below Qp s mc ms c0 d0) (F0 m pc ls st) := by
  unfold y_call at h
  split at h
  · exact h.elim
  · rename_i k hk
    obtain ⟨hk1, hk2⟩ := y_fk_mem hk
    obtain ⟨hmd, h⟩ := h
    split at h
    · rename_i hm
      refine y_snd_go hG hk1 hP hQ X hfr hlo hmc hms hca hsa hR hl ?_ hd h
      rw [hk2]
      rcases hmd with hmd | ⟨h4, hmd⟩
      · rw [hmd]
        rcases hi with hi | hi | hi | hi
        · exact Or.inr (Or.inl hi)
        · exact Or.inr (Or.inr (Or.inl hi))
        · rw [hmd] at hm; omega
        · rw [hmd] at hm; omega
      · rcases hi with ⟨hi, -⟩ | ⟨hi, -⟩ | ⟨hi, hi2⟩ | ⟨hi, -⟩
        · omega
        · omega
        · exact Or.inl ⟨h4, hi2⟩
        · omega
    · rename_i hm
      split at h
      · rename_i a ha
        split at h
        · exact h.elim
        · rename_i ci hci
          split at h
          · exact h.elim
          · rename_i k' hk'
            obtain ⟨g1, g2, g3⟩ := y_fkc_mem hk'
            obtain ⟨e1, e2, hpos, h⟩ := h
            refine y_snd_go hG g1 hP hQ X hfr hlo hmc hms hca hsa hR hl ?_ hd h
            rw [g2, e1, g3]
            refine Or.inr (Or.inr (Or.inr ⟨?_, a, ((st.take (k'.2.2.2.1 - 1)).reverse), ?_, hci⟩))
            · rcases hi with ⟨hi, -⟩ | ⟨hi, -⟩ | hi | hi
              · omega
              · omega
              · exact Or.inl hi
              · exact Or.inr hi
            · rw [← e2] at ha
              have e3 : k'.2.2.2.1 = (k'.2.2.2.1 - 1) + 1 := by omega
              rw [e3, List.take_add_one, ha]
              simp
      · exact h.elim
set_option maxHeartbeats 4000000 in
set_option maxRecDepth 100000 in
theorem y_sound {M : y_Md} {mc ms : Nat} {Qp : y_Po} (HG : y_G s0 b0 D dA) (HT : y_OKtak s0 b0) (HA : ∀ t, t < 4 → Cond.arrayClass (y_ty t) ∈ lw_all) (hG : y_Good s0 D dA M) : ∀ x, y_x1 M mc ms (y_J s0 D dA M mc ms Qp) Qp x → y_J s0 D dA M mc ms Qp x := by
  rintro ⟨pc, lv, st, ω, ca, sa⟩ ⟨P, Q0, h, hP, hQ⟩
  intro p l e R s m args below meth c H locs ls c0 d0 ce sl X hfr hlo hmc hms hca hsa hR hl
  have K : ∀ (pc' : Nat) (lv' : y_Lv) (st' : List Value) (ω' : y_Hp) (c' s' : Nat) (H' : Heap) (locs' : List Loc) (ls' : Array Slot) {ce' sl' : Nat}, P (pc', lv', st', ω', c', s') → ce' + c0 = c' ∧ c' ≤ mc → sl' + d0 = s' ∧ s' ≤ ms → y_R s0 D dA ω' H' locs' → lv_has ls' (y_nL M) lv' → W p l e R s m args below meth c H' locs' ce' sl' (y_MQ s0 D dA below Qp s mc ms c0 d0) (F0 m pc' ls' st') :=
    fun pc' lv' st' ω' c' s' H' locs' ls' ce' sl' hp h1 h2 hR' hl' => hP _ hp p l e R s m args below meth c H' locs' ls' c0 d0 ce' sl' X hfr hlo hmc hms h1 h2 hR' hl'
  have X0 := X
  obtain ⟨hx, hb, hn, hr, hlk, hown, hW, hsz, hini, hexc⟩ := X
  show W p l e R s m args below meth c H locs ce sl (y_MQ s0 D dA below Qp s mc ms c0 d0) (F0 m pc ls st)
  replace hca : ce + c0 = ca ∧ ca ≤ mc := hca
  replace hsa : sl + d0 = sa ∧ sa ≤ ms := hsa
  unfold y_xI at h
  split at h
  · rename_i il hd
    obtain ⟨i, len⟩ := il
    replace hd : decode c.code pc = .ok (i, len) := by rw [hb]; exact hd
    replace h : y_xJ M mc ms i len pc lv st ω ca sa P Q0 := h
    cases i <;> (try (exact False.elim h))
    case iconst n => obtain ⟨rfl, h⟩ := h; exact lv_iconst hx rfl hd rfl (K _ _ _ _ _ _ _ _ _ h hca hsa hR hl)
    case bipush n => obtain ⟨rfl, h⟩ := h; exact lv_bipush hx rfl hd rfl (K _ _ _ _ _ _ _ _ _ h hca hsa hR hl)
    case sipush n => obtain ⟨rfl, h⟩ := h; exact lv_sipush hx rfl hd rfl (K _ _ _ _ _ _ _ _ _ h hca hsa hR hl)
    case lconst n => obtain ⟨rfl, h⟩ := h; exact lv_lconst hx rfl hd rfl (K _ _ _ _ _ _ _ _ _ h hca hsa hR hl)
    case aconst_null => obtain ⟨rfl, h⟩ := h; exact lv_null hx rfl hd (K _ _ _ _ _ _ _ _ _ h hca hsa hR hl)
    case iload_n k =>
      obtain ⟨rfl, h⟩ := h
      simp only [y_ld] at h
      split at h
      · rename_i v hv; exact y_W_iload hx (Or.inl ⟨k, rfl, rfl, rfl⟩) hd (y_lv_at hl hv) h.1 (K _ _ _ _ _ _ _ _ _ h.2 hca hsa hR hl)
      · exact h.elim
    case iload k =>
      obtain ⟨rfl, h⟩ := h
      simp only [y_ld] at h
      split at h
      · rename_i v hv; exact y_W_iload hx (Or.inr ⟨rfl, rfl⟩) hd (y_lv_at hl hv) h.1 (K _ _ _ _ _ _ _ _ _ h.2 hca hsa hR hl)
      · exact h.elim
    case lload_n k =>
      obtain ⟨rfl, h⟩ := h
      simp only [y_ld] at h
      split at h
      · rename_i v hv; exact y_W_lload hx (Or.inl ⟨k, rfl, rfl, rfl⟩) hd (y_lv_at hl hv) h.1 (K _ _ _ _ _ _ _ _ _ h.2 hca hsa hR hl)
      · exact h.elim
    case lload k =>
      obtain ⟨rfl, h⟩ := h
      simp only [y_ld] at h
      split at h
      · rename_i v hv; exact y_W_lload hx (Or.inr ⟨rfl, rfl⟩) hd (y_lv_at hl hv) h.1 (K _ _ _ _ _ _ _ _ _ h.2 hca hsa hR hl)
      · exact h.elim
    case aload_n k =>
      obtain ⟨rfl, h⟩ := h
      simp only [y_ld] at h
      split at h
      · rename_i v hv; exact y_W_aload hx (Or.inl ⟨k, rfl, rfl, rfl⟩) hd (y_lv_at hl hv) h.1 (K _ _ _ _ _ _ _ _ _ h.2 hca hsa hR hl)
      · exact h.elim
    case aload k =>
      obtain ⟨rfl, h⟩ := h
      simp only [y_ld] at h
      split at h
      · rename_i v hv; exact y_W_aload hx (Or.inr ⟨rfl, rfl⟩) hd (y_lv_at hl hv) h.1 (K _ _ _ _ _ _ _ _ _ h.2 hca hsa hR hl)
      · exact h.elim
    case istore_n k =>
      obtain ⟨rfl, hn, h⟩ := h
      split at h
      · exact lv_istore_n hx rfl hd rfl hl hn rfl (fun ls' hl' => K _ _ _ _ _ _ _ _ _ h hca hsa hR hl')
      · exact h.elim
    case istore k =>
      obtain ⟨rfl, hn, h⟩ := h
      split at h
      · exact lv_istore hx rfl hd hl hn rfl (fun ls' hl' => K _ _ _ _ _ _ _ _ _ h hca hsa hR hl')
      · exact h.elim
    case lstore_n k =>
      obtain ⟨rfl, hn, h⟩ := h
      split at h
      · exact lv_lstore_n hx rfl hd rfl hl hn rfl (fun ls' hl' => K _ _ _ _ _ _ _ _ _ h hca hsa hR hl')
      · exact h.elim
    case lstore k =>
      obtain ⟨rfl, hn, h⟩ := h
      split at h
      · exact lv_lstore hx rfl hd hl hn rfl (fun ls' hl' => K _ _ _ _ _ _ _ _ _ h hca hsa hR hl')
      · exact h.elim
    case astore_n k =>
      obtain ⟨rfl, hn, h⟩ := h
      split at h
      · exact y_W_astore hx (Or.inl ⟨k, rfl, rfl, rfl⟩) hd hl hn h.1 (fun ls' hl' => K _ _ _ _ _ _ _ _ _ h.2 hca hsa hR hl')
      · exact h.elim
    case astore k =>
      obtain ⟨rfl, hn, h⟩ := h
      split at h
      · exact y_W_astore hx (Or.inr ⟨rfl, rfl⟩) hd hl hn h.1 (fun ls' hl' => K _ _ _ _ _ _ _ _ _ h.2 hca hsa hR hl')
      · exact h.elim
    case iinc k n =>
      obtain ⟨rfl, hn, h⟩ := h
      split at h
      · rename_i x hv
        obtain ⟨j, hj⟩ := y_mem_idx (y_lget_mem hv)
        exact lv_iinc hx rfl hd hl hj rfl hn rfl (fun ls' hl' => K _ _ _ _ _ _ _ _ _ h hca hsa hR hl')
      · exact h.elim
    case iadd =>
      obtain ⟨rfl, h⟩ := h
      split at h
      · exact lv_iadd hx rfl hd (K _ _ _ _ _ _ _ _ _ h hca hsa hR hl)
      · exact h.elim
    case isub =>
      obtain ⟨rfl, h⟩ := h
      split at h
      · exact lv_isub hx rfl hd (K _ _ _ _ _ _ _ _ _ h hca hsa hR hl)
      · exact h.elim
    case imul =>
      obtain ⟨rfl, h⟩ := h
      split at h
      · exact lv_imul hx rfl hd (K _ _ _ _ _ _ _ _ _ h hca hsa hR hl)
      · exact h.elim
    case iand =>
      obtain ⟨rfl, h⟩ := h
      split at h
      · exact lv_iand hx rfl hd (K _ _ _ _ _ _ _ _ _ h hca hsa hR hl)
      · exact h.elim
    case ior =>
      obtain ⟨rfl, h⟩ := h
      split at h
      · exact lv_ior hx rfl hd (K _ _ _ _ _ _ _ _ _ h hca hsa hR hl)
      · exact h.elim
    case ixor =>
      obtain ⟨rfl, h⟩ := h
      split at h
      · exact lv_ixor hx rfl hd (K _ _ _ _ _ _ _ _ _ h hca hsa hR hl)
      · exact h.elim
    case ishl =>
      obtain ⟨rfl, h⟩ := h
      split at h
      · exact lv_ishl hx rfl hd (K _ _ _ _ _ _ _ _ _ h hca hsa hR hl)
      · exact h.elim
    case ishr =>
      obtain ⟨rfl, h⟩ := h
      split at h
      · exact lv_ishr hx rfl hd (K _ _ _ _ _ _ _ _ _ h hca hsa hR hl)
      · exact h.elim
    case ineg =>
      obtain ⟨rfl, h⟩ := h
      split at h
      · exact lv_ineg hx rfl hd (K _ _ _ _ _ _ _ _ _ h hca hsa hR hl)
      · exact h.elim
    case ladd =>
      obtain ⟨rfl, h⟩ := h
      split at h
      · exact lv_ladd hx rfl hd (K _ _ _ _ _ _ _ _ _ h hca hsa hR hl)
      · exact h.elim
    case lsub =>
      obtain ⟨rfl, h⟩ := h
      split at h
      · exact lv_lsub hx rfl hd (K _ _ _ _ _ _ _ _ _ h hca hsa hR hl)
      · exact h.elim
    case lmul =>
      obtain ⟨rfl, h⟩ := h
      split at h
      · exact lv_lmul hx rfl hd (K _ _ _ _ _ _ _ _ _ h hca hsa hR hl)
      · exact h.elim
    case land =>
      obtain ⟨rfl, h⟩ := h
      split at h
      · exact lv_land hx rfl hd (K _ _ _ _ _ _ _ _ _ h hca hsa hR hl)
      · exact h.elim
    case lor =>
      obtain ⟨rfl, h⟩ := h
      split at h
      · exact lv_lor hx rfl hd (K _ _ _ _ _ _ _ _ _ h hca hsa hR hl)
      · exact h.elim
    case idiv =>
      obtain ⟨rfl, h⟩ := h
      split at h
      · exact lv_idiv hx rfl hd h.1 (K _ _ _ _ _ _ _ _ _ h.2 hca hsa hR hl)
      · exact h.elim
    case ldiv =>
      obtain ⟨rfl, h⟩ := h
      split at h
      · exact lv_ldiv hx rfl hd h.1 (K _ _ _ _ _ _ _ _ _ h.2 hca hsa hR hl)
      · exact h.elim
    case iushr =>
      obtain ⟨rfl, h⟩ := h
      split at h
      · exact lv_iushr hx rfl hd rfl (K _ _ _ _ _ _ _ _ _ h hca hsa hR hl)
      · exact h.elim
    case lshl =>
      obtain ⟨rfl, h⟩ := h
      split at h
      · exact lv_lshl hx rfl hd rfl (K _ _ _ _ _ _ _ _ _ h hca hsa hR hl)
      · exact h.elim
    case lshr =>
      obtain ⟨rfl, h⟩ := h
      split at h
      · exact lv_lshr hx rfl hd rfl (K _ _ _ _ _ _ _ _ _ h hca hsa hR hl)
      · exact h.elim
    case lushr =>
      obtain ⟨rfl, h⟩ := h
      split at h
      · exact lv_lushr hx rfl hd rfl (K _ _ _ _ _ _ _ _ _ h hca hsa hR hl)
      · exact h.elim
    case i2l =>
      obtain ⟨rfl, h⟩ := h
      split at h
      · exact lv_i2l hx rfl hd rfl (K _ _ _ _ _ _ _ _ _ h hca hsa hR hl)
      · exact h.elim
    case l2i =>
      obtain ⟨rfl, h⟩ := h
      split at h
      · exact lv_l2i hx rfl hd rfl (K _ _ _ _ _ _ _ _ _ h hca hsa hR hl)
      · exact h.elim
    case i2b =>
      obtain ⟨rfl, h⟩ := h
      split at h
      · exact lv_i2b hx rfl hd rfl (K _ _ _ _ _ _ _ _ _ h hca hsa hR hl)
      · exact h.elim
    case i2s =>
      obtain ⟨rfl, h⟩ := h
      split at h
      · exact lv_i2s hx rfl hd rfl (K _ _ _ _ _ _ _ _ _ h hca hsa hR hl)
      · exact h.elim
    case i2c =>
      obtain ⟨rfl, h⟩ := h
      split at h
      · exact lv_i2c hx rfl hd rfl (K _ _ _ _ _ _ _ _ _ h hca hsa hR hl)
      · exact h.elim
    case lcmp =>
      obtain ⟨rfl, h⟩ := h
      split at h
      · exact W.lcmp hx rfl hd (K _ _ _ _ _ _ _ _ _ h hca hsa hR hl)
      · exact h.elim
    case dup =>
      obtain ⟨rfl, h⟩ := h
      split at h
      · exact lv_dup hx rfl hd h.1 (K _ _ _ _ _ _ _ _ _ h.2 hca hsa hR hl)
      · exact h.elim
    case pop =>
      obtain ⟨rfl, h⟩ := h
      split at h
      · exact lv_pop hx rfl hd h.1 (K _ _ _ _ _ _ _ _ _ h.2 hca hsa hR hl)
      · exact h.elim
    case dup_x1 =>
      obtain ⟨rfl, h⟩ := h
      split at h
      · exact lv_dup_x1 hx rfl hd h.1 h.2.1 (K _ _ _ _ _ _ _ _ _ h.2.2 hca hsa hR hl)
      · exact h.elim
    case dup2 =>
      obtain ⟨rfl, h⟩ := h
      split at h
      · exact lv_dup2_11 hx rfl hd h.1 h.2.1 (K _ _ _ _ _ _ _ _ _ h.2.2 hca hsa hR hl)
      · exact h.elim
    case ifCond cn off =>
      obtain ⟨rfl, h⟩ := h
      split at h
      · obtain ⟨h0, h1, h2⟩ := h
        have ht := y_tgt h0
        cases cn
        case eq => exact lv_if_eq hx rfl hd ht (fun q => K _ _ _ _ _ _ _ _ _ (h1 q) hca hsa hR hl) (fun q => K _ _ _ _ _ _ _ _ _ (h2 q) hca hsa hR hl)
        case lt => exact lv_if_lt hx rfl hd ht (fun q => K _ _ _ _ _ _ _ _ _ (h1 q) hca hsa hR hl) (fun q => K _ _ _ _ _ _ _ _ _ (h2 q) hca hsa hR hl)
        case ge => exact lv_if_ge hx rfl hd ht (fun q => K _ _ _ _ _ _ _ _ _ (h1 q) hca hsa hR hl) (fun q => K _ _ _ _ _ _ _ _ _ (h2 q) hca hsa hR hl)
        case gt => exact lv_if_gt hx rfl hd ht (fun q => K _ _ _ _ _ _ _ _ _ (h1 q) hca hsa hR hl) (fun q => K _ _ _ _ _ _ _ _ _ (h2 q) hca hsa hR hl)
        case le => exact lv_if_le hx rfl hd ht (fun q => K _ _ _ _ _ _ _ _ _ (h1 q) hca hsa hR hl) (fun q => K _ _ _ _ _ _ _ _ _ (h2 q) hca hsa hR hl)
        case ne => exact lv_if_ne hx rfl hd ht (fun q => K _ _ _ _ _ _ _ _ _ (h1 q) hca hsa hR hl) (fun q => K _ _ _ _ _ _ _ _ _ (h2 (fun z => z q)) hca hsa hR hl)
      · exact h.elim
    case if_icmp cn off =>
      obtain ⟨rfl, h⟩ := h
      split at h
      · obtain ⟨h0, h1, h2⟩ := h
        have ht := y_tgt h0
        cases cn
        case eq => exact lv_icmp_eq hx rfl hd ht (fun q => K _ _ _ _ _ _ _ _ _ (h1 q) hca hsa hR hl) (fun q => K _ _ _ _ _ _ _ _ _ (h2 q) hca hsa hR hl)
        case lt => exact lv_icmp_lt hx rfl hd ht (fun q => K _ _ _ _ _ _ _ _ _ (h1 q) hca hsa hR hl) (fun q => K _ _ _ _ _ _ _ _ _ (h2 q) hca hsa hR hl)
        case ge => exact lv_icmp_ge hx rfl hd ht (fun q => K _ _ _ _ _ _ _ _ _ (h1 q) hca hsa hR hl) (fun q => K _ _ _ _ _ _ _ _ _ (h2 q) hca hsa hR hl)
        case gt => exact lv_icmp_gt hx rfl hd ht (fun q => K _ _ _ _ _ _ _ _ _ (h1 q) hca hsa hR hl) (fun q => K _ _ _ _ _ _ _ _ _ (h2 q) hca hsa hR hl)
        case le => exact lv_icmp_le hx rfl hd ht (fun q => K _ _ _ _ _ _ _ _ _ (h1 q) hca hsa hR hl) (fun q => K _ _ _ _ _ _ _ _ _ (h2 q) hca hsa hR hl)
        case ne => exact lv_icmp_ne hx rfl hd ht (fun q => K _ _ _ _ _ _ _ _ _ (h1 q) hca hsa hR hl) (fun q => K _ _ _ _ _ _ _ _ _ (h2 (fun z => z q)) hca hsa hR hl)
      · exact h.elim
    case if_acmp cn off =>
      obtain ⟨rfl, h⟩ := h
      split at h
      · obtain ⟨hv, hw, h0, h1, h2⟩ := h
        cases cn with
        | eq => exact y_W_acmpE hx hd (y_tgt h0) hv hw (fun q => K _ _ _ _ _ _ _ _ _ (h1 q) hca hsa hR hl) (fun q => K _ _ _ _ _ _ _ _ _ (h2 q) hca hsa hR hl)
        | ne => exact y_W_acmpN hx hd (y_tgt h0) hv hw (fun q => K _ _ _ _ _ _ _ _ _ (h1 q) hca hsa hR hl) (fun q => K _ _ _ _ _ _ _ _ _ (h2 (fun z => z q)) hca hsa hR hl)
      · exact h.elim
    case ifnull off =>
      obtain ⟨rfl, h⟩ := h
      split at h
      · exact lv_ifnullN hx rfl hd (y_tgt h.1) (K _ _ _ _ _ _ _ _ _ h.2 hca hsa hR hl)
      · exact lv_ifnull hx rfl hd (K _ _ _ _ _ _ _ _ _ h hca hsa hR hl)
      · exact h.elim
    case ifnonnull off =>
      obtain ⟨rfl, h⟩ := h
      split at h
      · exact lv_ifnonnullN hx rfl hd (K _ _ _ _ _ _ _ _ _ h hca hsa hR hl)
      · exact lv_ifnonnull hx rfl hd (y_tgt h.1) (K _ _ _ _ _ _ _ _ _ h.2 hca hsa hR hl)
      · exact h.elim
    case goto off =>
      obtain ⟨rfl, h0, h⟩ := h
      split at h
      · obtain ⟨lv', h1, h2⟩ := h
        exact lv_goto hx rfl hd (y_tgt h0) (K _ _ _ _ _ _ _ _ _ h2 hca hsa hR (y_lv_sub hl h1))
      · exact lv_goto hx rfl hd (y_tgt h0) (K _ _ _ _ _ _ _ _ _ h hca hsa hR hl)
    case tableswitch d lo hi offs =>
      simp only [y_xJ] at h
      split at h
      · rename_i x r
        obtain ⟨h1, h2⟩ := h
        by_cases hz : x.toInt < lo ∨ hi < x.toInt
        · exact lv_tableOut hx rfl hd hz (y_tgt (h1 hz).1) (K _ _ _ _ _ _ _ _ _ (h1 hz).2 hca hsa hR hl)
        · have h3 := h2 hz
          split at h3
          · rename_i o ho
            exact lv_tableIn hx rfl hd (fun q => hz (Or.inl q)) (fun q => hz (Or.inr q)) ho (y_tgt h3.1) (K _ _ _ _ _ _ _ _ _ h3.2 hca hsa hR hl)
          · exact h3.elim
      · exact h.elim
    case ldc idx =>
      obtain ⟨rfl, h⟩ := h
      split at h
      · rename_i v hv; exact hG.2.2.1 _ (y_fc_mem hv) p l e R s m args below meth c H locs ce sl _ pc ls st _ _ hx hown hW hR.2.1 (Or.inl ⟨h.1, rfl, rfl⟩) hd (K _ _ _ _ _ _ _ _ _ h.2 hca hsa hR hl)
      · exact h.elim
    case ldc_w idx =>
      obtain ⟨rfl, h⟩ := h
      split at h
      · rename_i v hv; exact hG.2.2.1 _ (y_fc_mem hv) p l e R s m args below meth c H locs ce sl _ pc ls st _ _ hx hown hW hR.2.1 (Or.inr (Or.inl ⟨h.1, rfl, rfl⟩)) hd (K _ _ _ _ _ _ _ _ _ h.2 hca hsa hR hl)
      · exact h.elim
    case ldc2_w idx =>
      obtain ⟨rfl, h⟩ := h
      split at h
      · rename_i v hv; exact hG.2.2.1 _ (y_fc_mem hv) p l e R s m args below meth c H locs ce sl _ pc ls st _ _ hx hown hW hR.2.1 (Or.inr (Or.inr ⟨h.1, rfl, rfl⟩)) hd (K _ _ _ _ _ _ _ _ _ h.2 hca hsa hR hl)
      · exact h.elim
    case getstatic idx =>
      obtain ⟨rfl, h⟩ := h
      split at h
      · rename_i v hv; exact hG.2.2.2.2.2.2.1 _ (y_fs_mem hv) p l e R s m args below meth c H locs ce sl _ pc ls st hx hown hW hR.2.1 hd (K _ _ _ _ _ _ _ _ _ h hca hsa hR hl)
      · exact h.elim
    case getfield idx =>
      obtain ⟨rfl, h⟩ := h
      split at h
      · split at h
        · rename_i fl o ho
          split at h
          · rename_i f hf
            split at h
            · rename_i v hv
              exact (hG.1 _ (y_ff_mem hf)).1 p l e R s m args below meth c H locs ce sl _ pc ls _ _ o.2 v hx hown hW (y_wk_of HG hW hR ho) hv hd (K _ _ _ _ _ _ _ _ _ h hca hsa hR hl)
            · exact h.elim
          · exact h.elim
        · exact h.elim
      · exact h.elim
    case putfield idx =>
      obtain ⟨rfl, h⟩ := h
      split at h
      · split at h
        · rename_i o ho
          split at h
          · rename_i f hf
            obtain ⟨h1, h2, h3, h4, h5⟩ := h
            refine (hG.1 _ (y_ff_mem hf)).2 h1 p l e R s m args below meth c H locs ce sl _ pc ls _ _ o.2 _ hx hown hW (fun q => hini (h1 q)) ((hR.1.2.2 _ _ _ ho).1 rfl).2.2 h2 h3 h4 hd (fun H' i e1 z oq => ?_)
            exact K _ _ _ _ _ _ _ _ _ h5 hca hsa (y_R_up hR ho trivial e1 z oq) hl
          · exact h.elim
        · exact h.elim
      · exact h.elim
    case iaload =>
      obtain ⟨rfl, h⟩ := h
      split at h
      · split at h
        · rename_i fl t n f ho
          exact y_W_rI hx (y_wk_of HG hW hR ho) h.1 h.2.1 hd (K _ _ _ _ _ _ _ _ _ h.2.2 hca hsa hR hl)
        · exact h.elim
      · exact h.elim
    case baload =>
      obtain ⟨rfl, h⟩ := h
      split at h
      · split at h
        · rename_i fl t n f ho
          exact y_W_rB hx (y_wk_of HG hW hR ho) h.1 h.2.1 hd (K _ _ _ _ _ _ _ _ _ h.2.2 hca hsa hR hl)
        · exact h.elim
      · exact h.elim
    case laload =>
      obtain ⟨rfl, h⟩ := h
      split at h
      · split at h
        · rename_i fl t n f ho
          exact y_W_rL hx (y_wk_of HG hW hR ho) h.1 h.2.1 hd (K _ _ _ _ _ _ _ _ _ h.2.2 hca hsa hR hl)
        · exact h.elim
      · exact h.elim
    case aaload =>
      obtain ⟨rfl, h⟩ := h
      split at h
      · split at h
        · rename_i fl t n f ho
          exact y_W_rA hx (y_wk_of HG hW hR ho) h.1 h.2.1 hd (K _ _ _ _ _ _ _ _ _ h.2.2 hca hsa hR hl)
        · exact h.elim
      · exact h.elim
    case iastore =>
      obtain ⟨rfl, h⟩ := h
      split at h
      · split at h
        · rename_i t n f ho
          exact y_W_wI hx HG hW hR ho h.1 h.2.1 hd (fun H' locs' hR' => K _ _ _ _ _ _ _ _ _ h.2.2 hca hsa hR' hl)
        · exact h.elim
      · exact h.elim
    case bastore =>
      obtain ⟨rfl, h⟩ := h
      split at h
      · split at h
        · rename_i t n f ho
          exact y_W_wB hx HG hW hR ho h.1 h.2.1 hd (fun H' locs' hR' => K _ _ _ _ _ _ _ _ _ h.2.2 hca hsa hR' hl)
        · exact h.elim
      · exact h.elim
    case lastore =>
      obtain ⟨rfl, h⟩ := h
      split at h
      · split at h
        · rename_i t n f ho
          exact y_W_wL hx HG hW hR ho h.1 h.2.1 hd (fun H' locs' hR' => K _ _ _ _ _ _ _ _ _ h.2.2 hca hsa hR' hl)
        · exact h.elim
      · exact h.elim
    case aastore =>
      obtain ⟨rfl, h⟩ := h
      split at h
      · split at h
        · rename_i t n f ho
          obtain ⟨h1, h2, h⟩ := h
          split at h
          · exact y_W_wAN hx HG hW hR ho h1 h2 hd (fun H' locs' hR' => K _ _ _ _ _ _ _ _ _ h hca hsa hR' hl)
          · split at h
            · rename_i ci hci
              exact y_W_wA hx HG HT hW hR ho h1 h2 hci h.1 hd (fun H' locs' hR' => K _ _ _ _ _ _ _ _ _ h.2 hca hsa hR' hl)
            · exact h.elim
          · exact h.elim
        · exact h.elim
      · exact h.elim
    case arraylength =>
      obtain ⟨rfl, h⟩ := h
      split at h
      · split at h
        · rename_i fl q ho
          exact y_W_al hx (y_wk_of HG hW hR ho) hd (K _ _ _ _ _ _ _ _ _ h.2 hca hsa hR hl)
        · exact h.elim
      · exact h.elim
    case newarray ty =>
      obtain ⟨rfl, h⟩ := h
      split at h
      · split at h
        · rename_i t ht
          obtain ⟨h1, h2, h3, h4, h5⟩ := h
          exact y_W_newa hx HG HA hW hR ht h1 h2 (by have := hca.1; omega) (by have := hsa.1; omega) hd (fun H' hR' => K _ _ _ _ _ _ _ _ _ h5 ⟨by have := hca.1; omega, h3⟩ ⟨by have := hsa.1; omega, h4⟩ hR' hl)
        · exact h.elim
      · exact h.elim
    case anewarray idx =>
      obtain ⟨rfl, h⟩ := h
      split at h
      · split at h
        · rename_i t ht
          obtain ⟨h1, h2, h3, h4, h5⟩ := h
          have hg := hG.2.2.2.2.2.1 _ (y_fa_mem ht)
          refine hg.2 p l e R s m args below meth c H locs ce sl _ pc ls _ _ hx hown hW h1 h2 (by have := hca.1; omega) (by have := hsa.1; omega) hd (fun H' e1 z oq => ?_)
          have hsz' : H.size = ω.1 := hR.1.1
          rw [hsz']
          exact K _ _ _ _ _ _ H' locs ls h5 ⟨by have := hca.1; omega, h3⟩ ⟨by have := hsa.1; omega, h4⟩ (y_R_new hR hg.1 e1 z oq) hl
        · exact h.elim
      · exact h.elim
    case new idx =>
      obtain ⟨rfl, h⟩ := h
      split at h
      · rename_i o ho
        obtain ⟨h3, h4, h5⟩ := h
        refine hG.2.1 _ (y_fn_mem ho) p l e R s m args below meth c H locs ce sl _ pc ls _ hx hown hW (by have := hca.1; omega) (by have := hsa.1; show sl + o.2.length ≤ R.slots; omega) hd (fun H' e1 z oq => ?_)
        have hsz' : H.size = ω.1 := hR.1.1
        rw [hsz']
        exact K _ _ _ _ _ _ H' locs ls h5 ⟨by have := hca.1; omega, h3⟩ ⟨by have := hsa.1; show sl + o.2.length + d0 = sa + o.2.length; omega, h4⟩ (y_R_new hR trivial e1 z oq) hl
      · exact h.elim
    case checkcast idx =>
      obtain ⟨rfl, h⟩ := h
      split at h
      · exact lv_castN hx rfl hd (K _ _ _ _ _ _ _ _ _ h hca hsa hR hl)
      · rename_i aa rr
        split at h
        · rename_i fl o ho
          have hci : y_cls ω aa = some o.1 := by unfold y_cls; rw [ho]
          split at h
          · rename_i hft
            obtain ⟨r', hr'⟩ := y_cls_cl HG hW hR hci
            exact ((hG.2.2.2.2.1 _ (y_ft_mem hft)).1 rfl p l e R s m args below meth c H locs ce sl _ pc ls _ _ r' hx hown hW hr' (y_recv HG hW hR hci hr')).1 hd (K _ _ _ _ _ _ _ _ _ h hca hsa hR hl)
          · rename_i hft
            exact hG.2.2.2.2.2.2.2.2 _ _ hft mc ms Qp Q0 P p l e R s m args below meth c H locs ca sa c0 d0 ce sl pc _ ls lv _ ω X0 hfr hlo hmc hms hca hsa hR hl hP hQ hd hci h
          · exact h.elim
        · rename_i q ho
          exact (hG.2.2.2.2.1 _ (y_ft_mem h.1)).2 rfl q.1 rfl p l e R s m args below meth c H locs ce sl _ pc ls _ _ q.2 ω hx hown hW (HG.2.1.moved hW.alike) hR ho hd (K _ _ _ _ _ _ _ _ _ h.2 hca hsa hR hl)
        · exact h.elim
      · exact h.elim
    case instanceof idx =>
      obtain ⟨rfl, h⟩ := h
      split at h
      · exact lv_instN hx rfl hd (K _ _ _ _ _ _ _ _ _ h hca hsa hR hl)
      · split at h
        · rename_i ci hci
          obtain ⟨r', hr'⟩ := y_cls_cl HG hW hR hci
          exact ((hG.2.2.2.2.1 _ (y_ft_mem h.1)).1 rfl p l e R s m args below meth c H locs ce sl _ pc ls _ _ r' hx hown hW hr' (y_recv HG hW hR hci hr')).2 hd (K _ _ _ _ _ _ _ _ _ h.2 hca hsa hR hl)
        · exact h.elim
      · exact h.elim
    case invokevirtual idx => obtain ⟨rfl, h⟩ := h; exact y_snd_call hG hP hQ X0 hfr hlo hmc hms hca hsa hR hl (Or.inr (Or.inr (Or.inl ⟨rfl, rfl, rfl⟩))) hd h
    case invokespecial idx => obtain ⟨rfl, h⟩ := h; exact y_snd_call hG hP hQ X0 hfr hlo hmc hms hca hsa hR hl (Or.inr (Or.inl ⟨rfl, rfl, rfl⟩)) hd h
    case invokestatic idx => obtain ⟨rfl, h⟩ := h; exact y_snd_call hG hP hQ X0 hfr hlo hmc hms hca hsa hR hl (Or.inl ⟨rfl, rfl, rfl⟩) hd h
    case invokeinterface idx ct => obtain ⟨rfl, h⟩ := h; exact y_snd_call hG hP hQ X0 hfr hlo hmc hms hca hsa hR hl (Or.inr (Or.inr (Or.inr ⟨rfl, ⟨ct, rfl⟩, rfl⟩))) hd h
    case ireturn =>
      obtain ⟨rfl, h⟩ := h
      split at h
      · split at h
        · rename_i ty ht
          exact y_W_ret X0 hR hca hsa hd (Or.inl ⟨_, ty, rfl, rfl, rfl, ht, h.1⟩) (hQ _ _ _ _ h.2)
        · exact h.elim
      · exact h.elim
    case lreturn =>
      obtain ⟨rfl, h⟩ := h
      split at h
      · exact y_W_ret X0 hR hca hsa hd (Or.inr (Or.inl ⟨_, rfl, rfl, rfl, h.1⟩)) (hQ _ _ _ _ h.2)
      · exact h.elim
    case areturn =>
      obtain ⟨rfl, h⟩ := h
      split at h
      · obtain ⟨h1, h⟩ := h
        split at h
        · rename_i n ht
          exact y_W_ret X0 hR hca hsa hd (Or.inr (Or.inr (Or.inl ⟨_, _, rfl, rfl, h1, rfl, ht, Or.inl ⟨n, rfl⟩⟩))) (hQ _ _ _ _ h)
        · rename_i n ht
          exact y_W_ret X0 hR hca hsa hd (Or.inr (Or.inr (Or.inl ⟨_, _, rfl, rfl, h1, rfl, ht, Or.inr ⟨n, rfl⟩⟩))) (hQ _ _ _ _ h)
        · exact h.elim
      · exact h.elim
    case return_ =>
      obtain ⟨rfl, rfl, h1, h⟩ := h
      exact y_W_ret X0 hR hca hsa hd (Or.inr (Or.inr (Or.inr ⟨rfl, rfl, rfl, h1⟩))) (hQ _ _ _ _ h)
    case athrow =>
      obtain ⟨rfl, h⟩ := h
      split at h
      · rename_i a r
        have hT := hG.2.2.2.2.2.2.2.1 mc ms Qp Q0 P p l e R s m args below meth c H locs ca sa c0 d0 ce sl pc a ls lv r ω X0 hfr hlo hmc hms hca hsa hR hl hP hQ h
        intro T hT1 XX
        obtain ⟨t, a1, b1⟩ := hT T hT1 XX
        refine ⟨t, ?_, b1⟩
        exact y_athrow XX hx hd a1
      · exact h.elim
  · exact h.elim
end
