section PU
variable {G : GM} {M : Mt} {d : Nat} {p : Program} {e : Env} {R : Room} {s : State} {m : MethodId} {args : Array Value} {below : List Frame} {meth : Method} {c : Code} {H : Heap} {locs : List Loc} {cells slots : Nat} {Q : State → Prop} {la : Array Slot} {pc len : Nat} {ls st ls' st' : List AV} {i : Instr}
theorem pu_bin {la : Array Slot} {r : List AV} {x y : Int} {v : Int32} {z : Int} (hL : Lok G (mtL M) ls la) (hS : Sok ((0, y) :: (0, x) :: r)) (hz : in32 z) (hv : v = Int32.ofInt z)
    (row : W p (gl G) e R s m args below meth c H locs cells slots Q (F0 m (pc + 1) la (.int v :: r.map (cv G))) → W p (gl G) e R s m args below meth c H locs cells slots Q (F0 m pc la (.int (Int32.ofInt y) :: .int (Int32.ofInt x) :: r.map (cv G))))
    (k : ∀ la' : Array Slot, Lok G (mtL M) ls la' → Sok ((0, z) :: r) → W p (gl G) e R s m args below meth c H locs cells slots Q (F0 m (pc + 1) la' (((0, z) :: r).map (cv G)))) :
    W p (gl G) e R s m args below meth c H locs cells slots Q (F0 m pc la (((0, y) :: (0, x) :: r).map (cv G))) := by
  subst hv
  exact row (k la hL (hS.tl.tl.ci hz))
set_option maxHeartbeats 4000000 in
theorem pu_ok (C : Cx G M d p R s m meth c) (hL : Lok G (mtL M) ls la) (hS : Sok st) (hm : (pc, i, len) ∈ mtI M) (hlen : len = ilen i) (h : pu i ls st = some (ls', st'))
    (hn : ∀ n, (i = .iconst n ∨ i = .bipush n ∨ i = .sipush n) → (-32768 ≤ n ∧ n ≤ 32767) ∧ (i = .bipush n → -128 ≤ n ∧ n ≤ 127))
    (k : ∀ la' : Array Slot, Lok G (mtL M) ls' la' → Sok st' → W p (gl G) e R s m args below meth c H locs cells slots Q (F0 m (pc + len) la' (st'.map (cv G)))) :
    W p (gl G) e R s m args below meth c H locs cells slots Q (F0 m pc la (st.map (cv G))) := by
  have hx := C.exec
  have hb := C.bytes
  have hdg : decode (mtB M) pc = .ok (i, len) := C.ok (pc, i, len) hm
  subst hlen
  have hnl : ∀ j, j < ls.length → j < mtL M := fun j hj => Nat.lt_of_lt_of_le hj hL.2.2.1
  have ldI : ∀ {j : Nat} {v : AV}, ls[j]? = some v → v.1 = 0 → la[j]? = some (.val (.int (Int32.ofInt v.2))) := fun h1 h2 => by
    rw [(hL.2.2.2 _ _ h1 (by rw [h2]; decide)).1, cv_int h2]
  have ldL : ∀ {j : Nat} {v : AV}, ls[j]? = some v → v.1 = 2 → la[j]? = some (.val (.long (Int64.ofInt v.2))) := fun h1 h2 => by
    rw [(hL.2.2.2 _ _ h1 (by rw [h2]; decide)).1, cv_long h2]
  have ldA : ∀ {j : Nat} {v : AV}, ls[j]? = some v → v.1 = 1 → la[j]? = some (.val (rf G v.2)) := fun h1 h2 => by
    rw [(hL.2.2.2 _ _ h1 (by rw [h2]; decide)).1, cv_ref h2]
  cases i with
  | iconst n =>
    cases h
    obtain ⟨⟨h1, h2⟩, -⟩ := hn n (Or.inl rfl)
    exact lv_iconst hx hb hdg rfl (k la hL (hS.ci ⟨by omega, by omega⟩))
  | bipush n =>
    cases h
    obtain ⟨h1, h2⟩ := (hn n (Or.inr (Or.inl rfl))).2 rfl
    refine lv_bipush hx hb hdg (v := Int32.ofInt n) ?_ (k la hL (hS.ci ⟨by omega, by omega⟩))
    apply Int32.toInt_inj.mp
    rw [Int8.toInt_toInt32, Int8.toInt_ofInt, i32_toInt (by omega) (by omega)]
    apply Int.bmod_eq_of_le <;> simp [Int8.size] <;> omega
  | sipush n =>
    cases h
    obtain ⟨⟨h1, h2⟩, -⟩ := hn n (Or.inr (Or.inr rfl))
    refine lv_sipush hx hb hdg (v := Int32.ofInt n) ?_ (k la hL (hS.ci ⟨by omega, by omega⟩))
    apply Int32.toInt_inj.mp
    rw [Int16.toInt_toInt32, Int16.toInt_ofInt, i32_toInt (by omega) (by omega)]
    apply Int.bmod_eq_of_le <;> simp [Int16.size] <;> omega
  | lconst n =>
    cases h
    have h2 : (n : Nat) < 2 := n.2
    exact lv_lconst hx hb hdg (v := Int64.ofInt ((n : Nat) : Int)) rfl (k la hL (hS.cl ⟨by omega, by omega⟩))
  | aconst_null =>
    cases h
    exact lv_null hx hb hdg (k la hL (hS.cr (by decide)))
  | iload n =>
    obtain ⟨v, h1, h2, rfl, rfl⟩ := ldi_spec h
    have := k la hL (hS.cons (by rw [h2]; decide) (hL.2.2.2 _ _ h1 (by rw [h2]; decide)).2)
    rw [List.map_cons, cv_int h2] at this
    exact lv_iload hx hb hdg (ldI h1 h2) this
  | iload_n n =>
    obtain ⟨v, h1, h2, rfl, rfl⟩ := ldi_spec h
    have := k la hL (hS.cons (by rw [h2]; decide) (hL.2.2.2 _ _ h1 (by rw [h2]; decide)).2)
    rw [List.map_cons, cv_int h2] at this
    exact lv_iload_n hx hb hdg rfl (ldI h1 h2) this
  | lload n =>
    obtain ⟨v, h1, h2, rfl, rfl⟩ := ldi_spec h
    have := k la hL (hS.cons (by rw [h2]; decide) (hL.2.2.2 _ _ h1 (by rw [h2]; decide)).2)
    rw [List.map_cons, cv_long h2] at this
    exact lv_lload hx hb hdg (ldL h1 h2) this
  | lload_n n =>
    obtain ⟨v, h1, h2, rfl, rfl⟩ := ldi_spec h
    have := k la hL (hS.cons (by rw [h2]; decide) (hL.2.2.2 _ _ h1 (by rw [h2]; decide)).2)
    rw [List.map_cons, cv_long h2] at this
    exact lv_lload_n hx hb hdg rfl (ldL h1 h2) this
  | aload n =>
    obtain ⟨v, h1, h2, rfl, rfl⟩ := ldi_spec h
    have := k la hL (hS.cons (by rw [h2]; decide) (hL.2.2.2 _ _ h1 (by rw [h2]; decide)).2)
    rw [List.map_cons, cv_ref h2] at this
    have hl := ldA h1 h2
    unfold rf at hl this
    split at hl
    · rename_i h0; rw [if_pos h0] at this; exact lv_aloadN hx hb hdg hl this
    · rename_i h0; rw [if_neg h0] at this; exact lv_aload hx hb hdg hl this
  | aload_n n =>
    obtain ⟨v, h1, h2, rfl, rfl⟩ := ldi_spec h
    have := k la hL (hS.cons (by rw [h2]; decide) (hL.2.2.2 _ _ h1 (by rw [h2]; decide)).2)
    rw [List.map_cons, cv_ref h2] at this
    have hl := ldA h1 h2
    unfold rf at hl this
    split at hl
    · rename_i h0; rw [if_pos h0] at this; exact lv_aload_nN hx hb hdg rfl hl this
    · rename_i h0; rw [if_neg h0] at this; exact lv_aload_n hx hb hdg rfl hl this
  | istore n =>
    obtain ⟨v, rfl, h2, rfl, h3, h4⟩ := sti_spec h
    rw [List.map_cons, cv_int h2]
    exact lv_istore hx hb hdg hL.has (hnl _ h3) rfl fun la' hl' => k la' (hL.st1 h3 h4 hS.hd (by rw [cv_int h2]; exact hl')) hS.tl
  | istore_n n =>
    obtain ⟨v, rfl, h2, rfl, h3, h4⟩ := sti_spec h
    rw [List.map_cons, cv_int h2]
    exact lv_istore_n hx hb hdg rfl hL.has (hnl _ h3) rfl fun la' hl' => k la' (hL.st1 h3 h4 hS.hd (by rw [cv_int h2]; exact hl')) hS.tl
  | astore n =>
    obtain ⟨v, rfl, h2, rfl, h3, h4⟩ := sti_spec h
    rw [List.map_cons, cv_ref h2]
    by_cases h0 : v.2 = 0
    · rw [show rf G v.2 = .null by unfold rf; rw [if_pos h0]]
      exact lv_astoreN hx hb hdg hL.has (hnl _ h3) rfl fun la' hl' => k la' (hL.st1 h3 h4 hS.hd (by rw [cv_ref h2, show rf G v.2 = .null by unfold rf; rw [if_pos h0]]; exact hl')) hS.tl
    · rw [show rf G v.2 = .ref (ad G v.2) by unfold rf; rw [if_neg h0]]
      exact lv_astore hx hb hdg hL.has (hnl _ h3) rfl fun la' hl' => k la' (hL.st1 h3 h4 hS.hd (by rw [cv_ref h2, show rf G v.2 = .ref (ad G v.2) by unfold rf; rw [if_neg h0]]; exact hl')) hS.tl
  | astore_n n =>
    obtain ⟨v, rfl, h2, rfl, h3, h4⟩ := sti_spec h
    rw [List.map_cons, cv_ref h2]
    by_cases h0 : v.2 = 0
    · rw [show rf G v.2 = .null by unfold rf; rw [if_pos h0]]
      exact lv_astore_nN hx hb hdg rfl hL.has (hnl _ h3) rfl fun la' hl' => k la' (hL.st1 h3 h4 hS.hd (by rw [cv_ref h2, show rf G v.2 = .null by unfold rf; rw [if_pos h0]]; exact hl')) hS.tl
    · rw [show rf G v.2 = .ref (ad G v.2) by unfold rf; rw [if_neg h0]]
      exact lv_astore_n hx hb hdg rfl hL.has (hnl _ h3) rfl fun la' hl' => k la' (hL.st1 h3 h4 hS.hd (by rw [cv_ref h2, show rf G v.2 = .ref (ad G v.2) by unfold rf; rw [if_neg h0]]; exact hl')) hS.tl
  | lstore n =>
    obtain ⟨v, rfl, h2, rfl, h3, h4⟩ := stl_spec h
    rw [List.map_cons, cv_long h2]
    exact lv_lstore hx hb hdg hL.has (hnl _ h3) rfl fun la' hl' => k la' (hL.st2 h3 h4 hS.hd (by rw [cv_long h2]; exact hl')) hS.tl
  | lstore_n n =>
    obtain ⟨v, rfl, h2, rfl, h3, h4⟩ := stl_spec h
    rw [List.map_cons, cv_long h2]
    exact lv_lstore_n hx hb hdg rfl hL.has (hnl _ h3) rfl fun la' hl' => k la' (hL.st2 h3 h4 hS.hd (by rw [cv_long h2]; exact hl')) hS.tl
  | iinc n q =>
    unfold pu at h
    dsimp only at h
    cases hv : ls[n]? with
    | none => rw [hv] at h; cases h
    | some v =>
      rw [hv] at h; dsimp only at h
      split at h
      · rename_i h2
        cases h1 : st1 ls n (0, wr (v.2 + q)) with
        | none => rw [h1] at h; cases h
        | some l =>
          rw [h1] at h; cases h
          obtain ⟨rfl, h3, h4⟩ := st1_spec h1
          obtain ⟨kk, hkk⟩ := List.mem_iff_getElem?.mp (alist_mem (G := G) (q := (n, cv G v)).mpr ⟨v, hv, by rw [h2]; decide, rfl⟩)
          rw [cv_int h2] at hkk
          exact lv_iinc hx hb hdg hL.has hkk rfl (hnl _ h3) rfl fun la' hl' => k la' (hL.st1 h3 h4 (show in32 _ from wr_in _) (by
            rw [← Int32.ofInt_add] at hl'; show lv_has la' _ ((n, Value.int (Int32.ofInt (wr (v.2 + q)))) :: _); rw [of_wr]; exact hl')) hS
      · cases h
  | iadd =>
    unfold pu at h; dsimp only at h; split at h
    · cases h; exact pu_bin hL hS (wr_in _) (of_add _ _) (lv_iadd hx hb hdg) k
    · cases h
  | isub =>
    unfold pu at h; dsimp only at h; split at h
    · cases h; exact pu_bin hL hS (wr_in _) (of_sub _ _) (lv_isub hx hb hdg) k
    · cases h
  | imul =>
    unfold pu at h; dsimp only at h; split at h
    · cases h; exact pu_bin hL hS (wr_in _) (of_mul _ _) (lv_imul hx hb hdg) k
    · cases h
  | iand =>
    unfold pu at h; dsimp only at h; split at h
    · cases h; exact pu_bin hL hS (in32_toInt _) (ofI _).symm (lv_iand hx hb hdg) k
    · cases h
  | ior =>
    unfold pu at h; dsimp only at h; split at h
    · cases h; exact pu_bin hL hS (in32_toInt _) (ofI _).symm (lv_ior hx hb hdg) k
    · cases h
  | ishl =>
    unfold pu at h; dsimp only at h; split at h
    · cases h; exact pu_bin hL hS (in32_toInt _) (ofI _).symm (lv_ishl hx hb hdg) k
    · cases h
  | ishr =>
    unfold pu at h; dsimp only at h; split at h
    · cases h; exact pu_bin hL hS (in32_toInt _) (ofI _).symm (lv_ishr hx hb hdg) k
    · cases h
  | iushr =>
    unfold pu at h; dsimp only at h; split at h
    · cases h; exact pu_bin hL hS (in32_toInt _) (ofI _).symm (lv_iushr hx hb hdg rfl) k
    · cases h
  | ineg =>
    unfold pu at h; dsimp only at h; split at h
    · cases h
      have := k la hL (hS.tl.ci (wr_in _))
      rw [List.map_cons, cv_int rfl, show ((0, wr _) : AV).2 = wr _ from rfl, ← of_neg] at this
      exact lv_ineg hx hb hdg this
    · cases h
  | i2c =>
    unfold pu at h; dsimp only at h; split at h
    · cases h
      have := k la hL (hS.tl.ci (in32_toInt _))
      rw [List.map_cons, cv_int rfl, ofI] at this
      exact lv_i2c hx hb hdg rfl this
    · cases h
  | i2b =>
    unfold pu at h; dsimp only at h; split at h
    · cases h
      have := k la hL (hS.tl.ci (in32_toInt _))
      rw [List.map_cons, cv_int rfl, ofI] at this
      exact lv_i2b hx hb hdg rfl this
    · cases h
  | i2l =>
    unfold pu at h; dsimp only at h; split at h
    · cases h
      have h1 : in32 _ := hS.hd
      exact lv_i2l hx hb hdg (i2l_of h1) (k la hL (hS.tl.cl ⟨by have := h1.1; omega, by have := h1.2; omega⟩))
    · cases h
  | l2i =>
    unfold pu at h; dsimp only at h; split at h
    · cases h
      exact lv_l2i hx hb hdg (l2i_of hS.hd) (k la hL (hS.tl.ci (wr_in _)))
    · cases h
  | lmul =>
    unfold pu at h; dsimp only at h; split at h
    · cases h
      have := k la hL (hS.tl.tl.cl (wrL_in _))
      rw [List.map_cons, cv_long rfl, show ((2, wrL _) : AV).2 = wrL _ from rfl, ← of_mulL] at this
      exact lv_lmul hx hb hdg this
    · cases h
  | lneg =>
    unfold pu at h; dsimp only at h; split at h
    · cases h
      have := k la hL (hS.tl.cl (wrL_in _))
      rw [List.map_cons, cv_long rfl, show ((2, wrL _) : AV).2 = wrL _ from rfl, ← of_negL] at this
      exact lv_lneg hx hb hdg this
    · cases h
  | lcmp =>
    unfold pu at h; dsimp only at h; split at h
    · cases h
      have := k la hL (hS.tl.tl.ci (cmpL_in _ _))
      rw [List.map_cons, cv_int rfl, show ((0, cmpL _ _) : AV).2 = cmpL _ _ from rfl, ← cmpL_of hS.tl.hd hS.hd] at this
      exact W.lcmp hx hb hdg this
    · cases h
  | dup =>
    unfold pu at h; dsimp only at h; split at h
    · split at h
      · cases h
      · rename_i h2; cases h; exact lv_dup hx hb hdg (cat1 h2) (k la hL (hS.cons hS.h9 hS.hd))
    · cases h
  | pop =>
    unfold pu at h; dsimp only at h; split at h
    · split at h
      · cases h
      · rename_i h2; cases h; exact lv_pop hx hb hdg (cat1 h2) (k la hL hS.tl)
    · cases h
  | dup_x1 =>
    unfold pu at h; dsimp only at h; split at h
    · split at h
      · cases h
      · rename_i h2; split at h
        · cases h
        · rename_i h3; cases h; exact lv_dup_x1 hx hb hdg (cat1 h2) (cat1 h3) (k la hL (((hS.tl.tl.cons hS.h9 hS.hd).cons hS.tl.h9 hS.tl.hd).cons hS.h9 hS.hd))
    · cases h
  | dup2 =>
    unfold pu at h; dsimp only at h; split at h
    · split at h
      · cases h
      · rename_i h2; split at h
        · cases h
        · rename_i h3; cases h; exact lv_dup2_11 hx hb hdg (cat1 h2) (cat1 h3) (k la hL ((hS.cons hS.tl.h9 hS.tl.hd).cons hS.h9 hS.hd))
    · cases h
  | _ => cases h
end PU
