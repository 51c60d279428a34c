/-! walks (made by gen_w.py) -/
set_option maxRecDepth 100000 in
set_option maxHeartbeats 4000000 in
theorem wX14_init {G : GM} {d : Nat} {P : Nat → Int → SM → Prop} {m : SM} {a0 : Int} (K : KI m) (hd : 12 ≤ d) 
    (H : (a0 ≠ 0) ∧ (P 0 0 m)) :
    WV G mX14_init 0 [(1, a0)] [] m d P := by
  refine v_run 0 1 (pc' := 1) (ls' := [(1, a0)]) (st' := [(1, a0)]) rfl ?_
  obtain ⟨z1, H⟩ := H
  refine v_obj (j := 1) rfl rfl rfl rfl z1 (by omega) (by simp) ?_
  exact v_vret (j := 2) rfl rfl H

set_option maxRecDepth 100000 in
set_option maxHeartbeats 4000000 in
theorem wX15_init {G : GM} {d : Nat} {P : Nat → Int → SM → Prop} {m : SM} {a0 : Int} (K : KI m) (hd : 12 ≤ d) 
    (H : (a0 ≠ 0) ∧ (P 0 0 m)) :
    WV G mX15_init 0 [(1, a0)] [] m d P := by
  refine v_run 0 1 (pc' := 1) (ls' := [(1, a0)]) (st' := [(1, a0)]) rfl ?_
  obtain ⟨z1, H⟩ := H
  refine v_obj (j := 1) rfl rfl rfl rfl z1 (by omega) (by simp) ?_
  exact v_vret (j := 2) rfl rfl H

set_option maxRecDepth 100000 in
set_option maxHeartbeats 4000000 in
theorem wX16_init {G : GM} {d : Nat} {P : Nat → Int → SM → Prop} {m : SM} {a0 a1 a2 a3 a4 : Int} (K : KI m) (hd : 12 ≤ d) 
    (H : (a0 ≠ 0) ∧ ((m a0 (-1) = 19) ∧ (0 ≤ a1 ∧ a1 ≤ 65535) ∧ (∀ m4, m4 = up m a0 0 a1 → Ok m m4 → (∀ m9, m9 = up m4 a0 1 a2 → Ok m4 m9 → (∀ m14, m14 = up m9 a0 2 a3 → Ok m9 m14 → (∀ m19, m19 = up m14 a0 3 a4 → Ok m14 m19 → (P 0 0 m19))))))) :
    WV G mX16_init 0 [(1, a0), (0, a1), (1, a2), (1, a3), (1, a4)] [] m d P := by
  refine v_run 0 1 (pc' := 1) (ls' := [(1, a0), (0, a1), (1, a2), (1, a3), (1, a4)]) (st' := [(1, a0)]) rfl ?_
  obtain ⟨z1, H⟩ := H
  refine vj_rec (j := 1) rfl rfl rfl rfl z1 (by omega) (by simp) ?_
  refine v_run 2 2 (pc' := 6) (ls' := [(1, a0), (0, a1), (1, a2), (1, a3), (1, a4)]) (st' := [(0, a1), (1, a0)]) rfl ?_
  obtain ⟨t2, r3, H⟩ := H
  refine v_putf (j := 4) (c := 18) (f := 0) rfl rfl rfl rfl (by decide +kernel) rfl rfl rfl rfl (t2) r3 (fun m4 e5 => ?_)
  have O6 : Ok m m4 := Ok.wf e5 (t2) (by decide) (by decide)
  have K7 := O6.2.1 K
  have t8 := Ok.tag O6 (t2) (by decide)
  replace H := H m4 e5 O6
  refine v_run 5 2 (pc' := 11) (ls' := [(1, a0), (0, a1), (1, a2), (1, a3), (1, a4)]) (st' := [(1, a2), (1, a0)]) rfl ?_
  refine v_putf (j := 7) (c := 18) (f := 1) rfl rfl rfl rfl (by decide +kernel) rfl rfl rfl rfl (t8) trivial (fun m9 e10 => ?_)
  have O11 : Ok m4 m9 := Ok.wf e10 (t8) (by decide) (by decide)
  have K12 := O11.2.1 K7
  have t13 := Ok.tag O11 (t8) (by decide)
  replace H := H m9 e10 O11
  refine v_run 8 2 (pc' := 16) (ls' := [(1, a0), (0, a1), (1, a2), (1, a3), (1, a4)]) (st' := [(1, a3), (1, a0)]) rfl ?_
  refine v_putf (j := 10) (c := 18) (f := 2) rfl rfl rfl rfl (by decide +kernel) rfl rfl rfl rfl (t13) trivial (fun m14 e15 => ?_)
  have O16 : Ok m9 m14 := Ok.wf e15 (t13) (by decide) (by decide)
  have K17 := O16.2.1 K12
  have t18 := Ok.tag O16 (t13) (by decide)
  replace H := H m14 e15 O16
  refine v_run 11 2 (pc' := 22) (ls' := [(1, a0), (0, a1), (1, a2), (1, a3), (1, a4)]) (st' := [(1, a4), (1, a0)]) rfl ?_
  refine v_putf (j := 13) (c := 18) (f := 3) rfl rfl rfl rfl (by decide +kernel) rfl rfl rfl rfl (t18) trivial (fun m19 e20 => ?_)
  have O21 : Ok m14 m19 := Ok.wf e20 (t18) (by decide) (by decide)
  have K22 := O21.2.1 K17
  have t23 := Ok.tag O21 (t18) (by decide)
  replace H := H m19 e20 O21
  exact v_vret (j := 14) rfl rfl H

set_option maxRecDepth 100000 in
set_option maxHeartbeats 4000000 in
theorem wX3_append {G : GM} {d : Nat} {P : Nat → Int → SM → Prop} {m : SM} {a0 a1 a2 : Int} (K : KI m) (hd : 12 ≤ d) 
    (H : (m a0 (-1) = 3) ∧ ((m (m a0 1) (-1) = 4) ∧ (((m a0 4) ≠ (m (m a0 1) (-2)) → (WV G mX3_append 29 [(1, a0), (1, a1), (1, a2), (9, 0), (9, 0)] [] m d P)) ∧ ((m a0 4) = (m (m a0 1) (-2)) → ((m 0 0 ≤ 1203200) ∧ (m 0 1 + 2 ≤ 5491882) ∧ (Bs m → ∀ m5, m5 = al m 16 0 2 → Ok m m5 → (((m 0 0) ≠ 0) ∧ (WV G mX14_init 0 [(1, (m 0 0))] [] m5 (d - 1) (fun k v13 m14 => k = 0 ∧ Ok m5 m14 ∧ ((elOK m14 (m 0 0)) ∧ (m14 (m a0 1) (-2) < 100000) ∧ (m14 0 0 ≤ 1203200) ∧ (m14 0 1 + 2 * m14 (m a0 1) (-2) + 20 ≤ 5491882) ∧ (∀ m19, Radd m14 (m a0 1) (m 0 0) m19 → Ok m14 m19 → (WV G mX3_append 29 [(1, a0), (1, a1), (1, a2), (9, 0), (9, 0)] [] m19 d P)))))))))))) :
    WV G mX3_append 0 [(1, a0), (1, a1), (1, a2), (9, 0), (9, 0)] [] m d P := by
  refine v_run 0 1 (pc' := 1) (ls' := [(1, a0), (1, a1), (1, a2), (9, 0), (9, 0)]) (st' := [(1, a0)]) rfl ?_
  obtain ⟨t1, H⟩ := H
  refine v_getf (j := 1) (c := 2) (f := 4) rfl rfl rfl rfl rfl rfl rfl rfl (t1) ?_
  refine v_run 2 1 (pc' := 5) (ls' := [(1, a0), (1, a1), (1, a2), (9, 0), (9, 0)]) (st' := [(1, a0), (0, (m a0 4))]) rfl ?_
  refine v_getf (j := 3) (c := 2) (f := 1) rfl rfl rfl rfl rfl rfl rfl rfl (t1) ?_
  obtain ⟨t2, H⟩ := H
  refine vj_size (j := 4) rfl rfl rfl rfl (t2) (by omega) (by simp) ?_
  refine v_icmpne (j := 5) rfl rfl rfl (fun q => ?_) (fun q => ?_)
  · replace H := H.1 q
    exact H
  · replace H := H.2 q
    refine v_run 6 1 (pc' := 15) (ls' := [(1, a0), (1, a1), (1, a2), (9, 0), (9, 0)]) (st' := [(1, a0)]) rfl ?_
    refine v_getf (j := 7) (c := 2) (f := 1) rfl rfl rfl rfl rfl rfl rfl rfl (t1) ?_
    obtain ⟨r3, r4, H⟩ := H
    refine v_new (j := 8) (c := 15) rfl rfl rfl rfl rfl rfl rfl r3 r4 (fun B m5 e6 => ?_)
    have O7 : Ok m m5 := Ok.nw B e6
    have K8 := O7.2.1 K
    have t9 := Ok.tag O7 (t1) (by decide)
    have t10 := Ok.tag O7 (t2) (by decide)
    replace H := H B m5 e6 O7
    have t11 := al_tag B e6
    refine v_run 9 1 (pc' := 22) (ls' := [(1, a0), (1, a1), (1, a2), (9, 0), (9, 0)]) (st' := [(1, (m 0 0)), (1, (m 0 0)), (1, (m a0 1))]) rfl ?_
    obtain ⟨z12, H⟩ := H
    refine v_callI (j := 10) (M' := mX14_init) (as := []) (st := [(1, (m 0 0)), (1, (m a0 1))]) rfl rfl rfl rfl rfl (Nat.le_of_ble_eq_true rfl) (Nat.le_of_ble_eq_true rfl) (by omega) z12 (kv0 (st' := fun v => [(1, (m 0 0)), (1, (m a0 1))]) rfl (fun _ => rfl)) (H.mono (fun k v13 m14 H => ⟨H.1, ?_⟩))
    have K15 := H.2.1.2.1 K8
    have t16 := Ok.tag H.2.1 (t9) (by decide)
    have t17 := Ok.tag H.2.1 (t10) (by decide)
    have t18 := Ok.tag H.2.1 (t11) (by decide)
    replace H := H.2.2
    obtain ⟨v21, i22, r23, r24, H⟩ := H
    refine vj_add (j := 11) rfl rfl rfl rfl (t17) (by omega) (by simp) v21 i22 r23 r24 (fun m19 e20 => ?_)
    have O25 : Ok m14 m19 := e20.1.ok (t17) (by decide)
    have K26 := O25.2.1 K15
    have t27 := Ok.tag O25 (t16) (by decide)
    replace H := H m19 e20 O25
    refine v_run 12 1 (pc' := 29) (ls' := [(1, a0), (1, a1), (1, a2), (9, 0), (9, 0)]) (st' := []) rfl ?_
    exact H

set_option maxRecDepth 100000 in
set_option maxHeartbeats 4000000 in
theorem wX3_append_29 {G : GM} {d : Nat} {P : Nat → Int → SM → Prop} {m : SM} {a0 a1 a2 : Int} (K : KI m) (hd : 12 ≤ d) 
    (H : (m a0 (-1) = 3) ∧ (∀ m2, m2 = up m a0 4 (wr ((m a0 4) + 1)) → Ok m m2 → ((m2 (m a0 1) (-1) = 4) ∧ (0 ≤ (m a0 4)) ∧ ((m a0 4) < m2 (m a0 1) (-2)) ∧ (((m2 (m a0 1) (m a0 4)) = 0 ∨ m2 (m2 (m a0 1) (m a0 4)) (-1) = 16) ∧ ((m2 (m2 (m a0 1) (m a0 4)) (-1) = 16) ∧ (∀ m12, m12 = up m2 (m2 (m a0 1) (m a0 4)) 0 a2 → Ok m2 m12 → (∀ m18, m18 = up m12 (m2 (m a0 1) (m a0 4)) 1 0 → Ok m12 m18 → (WV G mX3_append 64 [(9, 0), (1, a1), (9, 0), (1, (m2 (m a0 1) (m a0 4))), (1, a1)] [] m18 d P)))))))) :
    WV G mX3_append 29 [(1, a0), (1, a1), (1, a2), (9, 0), (9, 0)] [] m d P := by
  refine v_run 13 1 (pc' := 30) (ls' := [(1, a0), (1, a1), (1, a2), (9, 0), (9, 0)]) (st' := [(1, a0)]) rfl ?_
  obtain ⟨t1, H⟩ := H
  refine v_getf (j := 14) (c := 2) (f := 1) rfl rfl rfl rfl rfl rfl rfl rfl (t1) ?_
  refine v_run 15 2 (pc' := 35) (ls' := [(1, a0), (1, a1), (1, a2), (9, 0), (9, 0)]) (st' := [(1, a0), (1, a0), (1, (m a0 1))]) rfl ?_
  refine v_getf (j := 17) (c := 2) (f := 4) rfl rfl rfl rfl rfl rfl rfl rfl (t1) ?_
  refine v_run 18 3 (pc' := 41) (ls' := [(1, a0), (1, a1), (1, a2), (9, 0), (9, 0)]) (st' := [(0, (wr ((m a0 4) + 1))), (1, a0), (0, (m a0 4)), (1, (m a0 1))]) rfl ?_
  refine v_putf (j := 21) (c := 2) (f := 4) rfl rfl rfl rfl (by decide +kernel) rfl rfl rfl rfl (t1) trivial (fun m2 e3 => ?_)
  have O4 : Ok m m2 := Ok.wf e3 (t1) (by decide) (by decide)
  have K5 := O4.2.1 K
  have t6 := Ok.tag O4 (t1) (by decide)
  replace H := H m2 e3 O4
  obtain ⟨t7, i8, i9, H⟩ := H
  refine vj_get (j := 22) rfl rfl rfl rfl (t7) (by omega) (by simp) i8 i9 ?_
  obtain ⟨c10, H⟩ := H
  refine v_cast (j := 23) (c := 15) rfl rfl rfl rfl rfl (c10) ?_
  refine v_run 24 3 (pc' := 53) (ls' := [(1, a0), (1, a1), (1, a2), (1, (m2 (m a0 1) (m a0 4))), (9, 0)]) (st' := [(1, a2), (1, (m2 (m a0 1) (m a0 4)))]) rfl ?_
  obtain ⟨t11, H⟩ := H
  refine v_putf (j := 27) (c := 15) (f := 0) rfl rfl rfl rfl (by decide +kernel) rfl rfl rfl rfl (t11) trivial (fun m12 e13 => ?_)
  have O14 : Ok m2 m12 := Ok.wf e13 (t11) (by decide) (by decide)
  have K15 := O14.2.1 K5
  have t16 := Ok.tag O14 (t6) (by decide)
  have t17 := Ok.tag O14 (t11) (by decide)
  replace H := H m12 e13 O14
  refine v_run 28 2 (pc' := 58) (ls' := [(1, a0), (1, a1), (1, a2), (1, (m2 (m a0 1) (m a0 4))), (9, 0)]) (st' := [(1, 0), (1, (m2 (m a0 1) (m a0 4)))]) rfl ?_
  refine v_putf (j := 30) (c := 15) (f := 1) rfl rfl rfl rfl (by decide +kernel) rfl rfl rfl rfl (t17) trivial (fun m18 e19 => ?_)
  have O20 : Ok m12 m18 := Ok.wf e19 (t17) (by decide) (by decide)
  have K21 := O20.2.1 K15
  have t22 := Ok.tag O20 (t16) (by decide)
  have t23 := Ok.tag O20 (t17) (by decide)
  replace H := H m18 e19 O20
  refine v_run 31 2 (pc' := 64) (ls' := [(1, a0), (1, a1), (1, a2), (1, (m2 (m a0 1) (m a0 4))), (1, a1)]) (st' := []) rfl ?_
  refine v_drp [false, true, false, true, true] ?_
  exact H

set_option maxRecDepth 100000 in
set_option maxHeartbeats 4000000 in
theorem wX3_append_64 {G : GM} {d : Nat} {P : Nat → Int → SM → Prop} {m : SM} {a1 a3 a4 : Int} (K : KI m) (hd : 12 ≤ d) 
    (H : (a4 = 0 → ((a4 = 0 → ((a1 ≠ 0 → (P 0 a1 m)) ∧ (a1 = 0 → (P 0 a3 m)))) ∧ (a4 ≠ 0 → ((m a4 (-1) = 16) ∧ (∀ m2, m2 = up m a4 1 a3 → Ok m m2 → ((a1 ≠ 0 → (P 0 a1 m2)) ∧ (a1 = 0 → (P 0 a3 m2)))))))) ∧ (a4 ≠ 0 → ((m a4 (-1) = 16) ∧ (((m a4 1) = 0 → ((a4 = 0 → ((a1 ≠ 0 → (P 0 a1 m)) ∧ (a1 = 0 → (P 0 a3 m)))) ∧ (a4 ≠ 0 → (∀ m8, m8 = up m a4 1 a3 → Ok m m8 → ((a1 ≠ 0 → (P 0 a1 m8)) ∧ (a1 = 0 → (P 0 a3 m8))))))) ∧ ((m a4 1) ≠ 0 → (WV G mX3_append 64 [(9, 0), (1, a1), (9, 0), (1, a3), (1, (m a4 1))] [] m d P)))))) :
    WV G mX3_append 64 [(9, 0), (1, a1), (9, 0), (1, a3), (1, a4)] [] m d P := by
  refine v_run 33 1 (pc' := 66) (ls' := [(9, 0), (1, a1), (9, 0), (1, a3), (1, a4)]) (st' := [(1, a4)]) rfl ?_
  refine v_null (j := 34) rfl rfl rfl (fun q => ?_) (fun q => ?_)
  · replace H := H.1 q
    refine v_run 42 1 (pc' := 89) (ls' := [(9, 0), (1, a1), (9, 0), (1, a3), (1, a4)]) (st' := [(1, a4)]) rfl ?_
    refine v_null (j := 43) rfl rfl rfl (fun q => ?_) (fun q => ?_)
    · replace H := H.1 q
      refine v_run 47 1 (pc' := 99) (ls' := [(9, 0), (1, a1), (9, 0), (1, a3), (1, a4)]) (st' := [(1, a1)]) rfl ?_
      refine v_nonnull (j := 48) rfl rfl rfl (fun q => ?_) (fun q => ?_)
      · replace H := H.1 q
        refine v_run 51 1 (pc' := 107) (ls' := [(9, 0), (1, a1), (9, 0), (1, a3), (1, a4)]) (st' := [(1, a1)]) rfl ?_
        exact v_aret (j := 52) rfl rfl rfl H
      · replace H := H.2 q
        refine v_run 49 1 (pc' := 103) (ls' := [(9, 0), (1, a1), (9, 0), (1, a3), (1, a4)]) (st' := [(1, a3)]) rfl ?_
        refine v_goto (j := 50) (tgt := 107) rfl rfl ?_
        exact v_aret (j := 52) rfl rfl rfl H
    · replace H := H.2 q
      refine v_run 44 2 (pc' := 95) (ls' := [(9, 0), (1, a1), (9, 0), (1, a3), (1, a4)]) (st' := [(1, a3), (1, a4)]) rfl ?_
      obtain ⟨t1, H⟩ := H
      refine v_putf (j := 46) (c := 15) (f := 1) rfl rfl rfl rfl (by decide +kernel) rfl rfl rfl rfl (t1) trivial (fun m2 e3 => ?_)
      have O4 : Ok m m2 := Ok.wf e3 (t1) (by decide) (by decide)
      have K5 := O4.2.1 K
      have t6 := Ok.tag O4 (t1) (by decide)
      replace H := H m2 e3 O4
      refine v_run 47 1 (pc' := 99) (ls' := [(9, 0), (1, a1), (9, 0), (1, a3), (1, a4)]) (st' := [(1, a1)]) rfl ?_
      refine v_nonnull (j := 48) rfl rfl rfl (fun q => ?_) (fun q => ?_)
      · replace H := H.1 q
        refine v_run 51 1 (pc' := 107) (ls' := [(9, 0), (1, a1), (9, 0), (1, a3), (1, a4)]) (st' := [(1, a1)]) rfl ?_
        exact v_aret (j := 52) rfl rfl rfl H
      · replace H := H.2 q
        refine v_run 49 1 (pc' := 103) (ls' := [(9, 0), (1, a1), (9, 0), (1, a3), (1, a4)]) (st' := [(1, a3)]) rfl ?_
        refine v_goto (j := 50) (tgt := 107) rfl rfl ?_
        exact v_aret (j := 52) rfl rfl rfl H
  · replace H := H.2 q
    refine v_run 35 1 (pc' := 71) (ls' := [(9, 0), (1, a1), (9, 0), (1, a3), (1, a4)]) (st' := [(1, a4)]) rfl ?_
    obtain ⟨t7, H⟩ := H
    refine v_getf (j := 36) (c := 15) (f := 1) rfl rfl rfl rfl rfl rfl rfl rfl (t7) ?_
    refine v_null (j := 37) rfl rfl rfl (fun q => ?_) (fun q => ?_)
    · replace H := H.1 q
      refine v_run 42 1 (pc' := 89) (ls' := [(9, 0), (1, a1), (9, 0), (1, a3), (1, a4)]) (st' := [(1, a4)]) rfl ?_
      refine v_null (j := 43) rfl rfl rfl (fun q => ?_) (fun q => ?_)
      · replace H := H.1 q
        refine v_run 47 1 (pc' := 99) (ls' := [(9, 0), (1, a1), (9, 0), (1, a3), (1, a4)]) (st' := [(1, a1)]) rfl ?_
        refine v_nonnull (j := 48) rfl rfl rfl (fun q => ?_) (fun q => ?_)
        · replace H := H.1 q
          refine v_run 51 1 (pc' := 107) (ls' := [(9, 0), (1, a1), (9, 0), (1, a3), (1, a4)]) (st' := [(1, a1)]) rfl ?_
          exact v_aret (j := 52) rfl rfl rfl H
        · replace H := H.2 q
          refine v_run 49 1 (pc' := 103) (ls' := [(9, 0), (1, a1), (9, 0), (1, a3), (1, a4)]) (st' := [(1, a3)]) rfl ?_
          refine v_goto (j := 50) (tgt := 107) rfl rfl ?_
          exact v_aret (j := 52) rfl rfl rfl H
      · replace H := H.2 q
        refine v_run 44 2 (pc' := 95) (ls' := [(9, 0), (1, a1), (9, 0), (1, a3), (1, a4)]) (st' := [(1, a3), (1, a4)]) rfl ?_
        refine v_putf (j := 46) (c := 15) (f := 1) rfl rfl rfl rfl (by decide +kernel) rfl rfl rfl rfl (t7) trivial (fun m8 e9 => ?_)
        have O10 : Ok m m8 := Ok.wf e9 (t7) (by decide) (by decide)
        have K11 := O10.2.1 K
        have t12 := Ok.tag O10 (t7) (by decide)
        replace H := H m8 e9 O10
        refine v_run 47 1 (pc' := 99) (ls' := [(9, 0), (1, a1), (9, 0), (1, a3), (1, a4)]) (st' := [(1, a1)]) rfl ?_
        refine v_nonnull (j := 48) rfl rfl rfl (fun q => ?_) (fun q => ?_)
        · replace H := H.1 q
          refine v_run 51 1 (pc' := 107) (ls' := [(9, 0), (1, a1), (9, 0), (1, a3), (1, a4)]) (st' := [(1, a1)]) rfl ?_
          exact v_aret (j := 52) rfl rfl rfl H
        · replace H := H.2 q
          refine v_run 49 1 (pc' := 103) (ls' := [(9, 0), (1, a1), (9, 0), (1, a3), (1, a4)]) (st' := [(1, a3)]) rfl ?_
          refine v_goto (j := 50) (tgt := 107) rfl rfl ?_
          exact v_aret (j := 52) rfl rfl rfl H
    · replace H := H.2 q
      refine v_run 38 1 (pc' := 79) (ls' := [(9, 0), (1, a1), (9, 0), (1, a3), (1, a4)]) (st' := [(1, a4)]) rfl ?_
      refine v_getf (j := 39) (c := 15) (f := 1) rfl rfl rfl rfl rfl rfl rfl rfl (t7) ?_
      refine v_run 40 1 (pc' := 84) (ls' := [(9, 0), (1, a1), (9, 0), (1, a3), (1, (m a4 1))]) (st' := []) rfl ?_
      refine v_goto (j := 41) (tgt := 64) rfl rfl ?_
      exact H

set_option maxRecDepth 100000 in
set_option maxHeartbeats 4000000 in
theorem wX3_bind {G : GM} {d : Nat} {P : Nat → Int → SM → Prop} {m : SM} {a0 a1 a2 a3 : Int} (K : KI m) (hd : 12 ≤ d) 
    (H : (m a0 (-1) = 3) ∧ ((m (m a0 2) (-1) = 4) ∧ (((m a0 5) ≠ (m (m a0 2) (-2)) → (WV G mX3_bind 29 [(1, a0), (0, a1), (1, a2), (1, a3), (9, 0)] [] m d P)) ∧ ((m a0 5) = (m (m a0 2) (-2)) → ((m 0 0 ≤ 1203200) ∧ (m 0 1 + 3 ≤ 5491882) ∧ (Bs m → ∀ m5, m5 = al m 17 0 3 → Ok m m5 → (((m 0 0) ≠ 0) ∧ (WV G mX15_init 0 [(1, (m 0 0))] [] m5 (d - 1) (fun k v13 m14 => k = 0 ∧ Ok m5 m14 ∧ ((elOK m14 (m 0 0)) ∧ (m14 (m a0 2) (-2) < 100000) ∧ (m14 0 0 ≤ 1203200) ∧ (m14 0 1 + 2 * m14 (m a0 2) (-2) + 20 ≤ 5491882) ∧ (∀ m19, Radd m14 (m a0 2) (m 0 0) m19 → Ok m14 m19 → (WV G mX3_bind 29 [(1, a0), (0, a1), (1, a2), (1, a3), (9, 0)] [] m19 d P)))))))))))) :
    WV G mX3_bind 0 [(1, a0), (0, a1), (1, a2), (1, a3), (9, 0)] [] m d P := by
  refine v_run 0 1 (pc' := 1) (ls' := [(1, a0), (0, a1), (1, a2), (1, a3), (9, 0)]) (st' := [(1, a0)]) rfl ?_
  obtain ⟨t1, H⟩ := H
  refine v_getf (j := 1) (c := 2) (f := 5) rfl rfl rfl rfl rfl rfl rfl rfl (t1) ?_
  refine v_run 2 1 (pc' := 5) (ls' := [(1, a0), (0, a1), (1, a2), (1, a3), (9, 0)]) (st' := [(1, a0), (0, (m a0 5))]) rfl ?_
  refine v_getf (j := 3) (c := 2) (f := 2) rfl rfl rfl rfl rfl rfl rfl rfl (t1) ?_
  obtain ⟨t2, H⟩ := H
  refine vj_size (j := 4) rfl rfl rfl rfl (t2) (by omega) (by simp) ?_
  refine v_icmpne (j := 5) rfl rfl rfl (fun q => ?_) (fun q => ?_)
  · replace H := H.1 q
    exact H
  · replace H := H.2 q
    refine v_run 6 1 (pc' := 15) (ls' := [(1, a0), (0, a1), (1, a2), (1, a3), (9, 0)]) (st' := [(1, a0)]) rfl ?_
    refine v_getf (j := 7) (c := 2) (f := 2) rfl rfl rfl rfl rfl rfl rfl rfl (t1) ?_
    obtain ⟨r3, r4, H⟩ := H
    refine v_new (j := 8) (c := 16) rfl rfl rfl rfl rfl rfl rfl r3 r4 (fun B m5 e6 => ?_)
    have O7 : Ok m m5 := Ok.nw B e6
    have K8 := O7.2.1 K
    have t9 := Ok.tag O7 (t1) (by decide)
    have t10 := Ok.tag O7 (t2) (by decide)
    replace H := H B m5 e6 O7
    have t11 := al_tag B e6
    refine v_run 9 1 (pc' := 22) (ls' := [(1, a0), (0, a1), (1, a2), (1, a3), (9, 0)]) (st' := [(1, (m 0 0)), (1, (m 0 0)), (1, (m a0 2))]) rfl ?_
    obtain ⟨z12, H⟩ := H
    refine v_callI (j := 10) (M' := mX15_init) (as := []) (st := [(1, (m 0 0)), (1, (m a0 2))]) rfl rfl rfl rfl rfl (Nat.le_of_ble_eq_true rfl) (Nat.le_of_ble_eq_true rfl) (by omega) z12 (kv0 (st' := fun v => [(1, (m 0 0)), (1, (m a0 2))]) rfl (fun _ => rfl)) (H.mono (fun k v13 m14 H => ⟨H.1, ?_⟩))
    have K15 := H.2.1.2.1 K8
    have t16 := Ok.tag H.2.1 (t9) (by decide)
    have t17 := Ok.tag H.2.1 (t10) (by decide)
    have t18 := Ok.tag H.2.1 (t11) (by decide)
    replace H := H.2.2
    obtain ⟨v21, i22, r23, r24, H⟩ := H
    refine vj_add (j := 11) rfl rfl rfl rfl (t17) (by omega) (by simp) v21 i22 r23 r24 (fun m19 e20 => ?_)
    have O25 : Ok m14 m19 := e20.1.ok (t17) (by decide)
    have K26 := O25.2.1 K15
    have t27 := Ok.tag O25 (t16) (by decide)
    replace H := H m19 e20 O25
    refine v_run 12 1 (pc' := 29) (ls' := [(1, a0), (0, a1), (1, a2), (1, a3), (9, 0)]) (st' := []) rfl ?_
    exact H

set_option maxRecDepth 100000 in
set_option maxHeartbeats 4000000 in
theorem wX3_bind_29 {G : GM} {d : Nat} {P : Nat → Int → SM → Prop} {m : SM} {a0 a1 a2 a3 : Int} (K : KI m) (hd : 12 ≤ d) 
    (H : (m a0 (-1) = 3) ∧ (∀ m2, m2 = up m a0 5 (wr ((m a0 5) + 1)) → Ok m m2 → ((m2 (m a0 2) (-1) = 4) ∧ (0 ≤ (m a0 5)) ∧ ((m a0 5) < m2 (m a0 2) (-2)) ∧ (((m2 (m a0 2) (m a0 5)) = 0 ∨ m2 (m2 (m a0 2) (m a0 5)) (-1) = 17) ∧ ((m2 (m2 (m a0 2) (m a0 5)) (-1) = 17) ∧ (0 ≤ a1 ∧ a1 ≤ 65535) ∧ (∀ m13, m13 = up m2 (m2 (m a0 2) (m a0 5)) 0 a1 → Ok m2 m13 → (∀ m19, m19 = up m13 (m2 (m a0 2) (m a0 5)) 1 a2 → Ok m13 m19 → (∀ m25, m25 = up m19 (m2 (m a0 2) (m a0 5)) 2 a3 → Ok m19 m25 → (P 0 (m2 (m a0 2) (m a0 5)) m25))))))))) :
    WV G mX3_bind 29 [(1, a0), (0, a1), (1, a2), (1, a3), (9, 0)] [] m d P := by
  refine v_run 13 1 (pc' := 30) (ls' := [(1, a0), (0, a1), (1, a2), (1, a3), (9, 0)]) (st' := [(1, a0)]) rfl ?_
  obtain ⟨t1, H⟩ := H
  refine v_getf (j := 14) (c := 2) (f := 2) rfl rfl rfl rfl rfl rfl rfl rfl (t1) ?_
  refine v_run 15 2 (pc' := 35) (ls' := [(1, a0), (0, a1), (1, a2), (1, a3), (9, 0)]) (st' := [(1, a0), (1, a0), (1, (m a0 2))]) rfl ?_
  refine v_getf (j := 17) (c := 2) (f := 5) rfl rfl rfl rfl rfl rfl rfl rfl (t1) ?_
  refine v_run 18 3 (pc' := 41) (ls' := [(1, a0), (0, a1), (1, a2), (1, a3), (9, 0)]) (st' := [(0, (wr ((m a0 5) + 1))), (1, a0), (0, (m a0 5)), (1, (m a0 2))]) rfl ?_
  refine v_putf (j := 21) (c := 2) (f := 5) rfl rfl rfl rfl (by decide +kernel) rfl rfl rfl rfl (t1) trivial (fun m2 e3 => ?_)
  have O4 : Ok m m2 := Ok.wf e3 (t1) (by decide) (by decide)
  have K5 := O4.2.1 K
  have t6 := Ok.tag O4 (t1) (by decide)
  replace H := H m2 e3 O4
  obtain ⟨t7, i8, i9, H⟩ := H
  refine vj_get (j := 22) rfl rfl rfl rfl (t7) (by omega) (by simp) i8 i9 ?_
  obtain ⟨c10, H⟩ := H
  refine v_cast (j := 23) (c := 16) rfl rfl rfl rfl rfl (c10) ?_
  refine v_run 24 3 (pc' := 55) (ls' := [(1, a0), (0, a1), (1, a2), (1, a3), (1, (m2 (m a0 2) (m a0 5)))]) (st' := [(0, a1), (1, (m2 (m a0 2) (m a0 5)))]) rfl ?_
  obtain ⟨t11, r12, H⟩ := H
  refine v_putf (j := 27) (c := 16) (f := 0) rfl rfl rfl rfl (by decide +kernel) rfl rfl rfl rfl (t11) r12 (fun m13 e14 => ?_)
  have O15 : Ok m2 m13 := Ok.wf e14 (t11) (by decide) (by decide)
  have K16 := O15.2.1 K5
  have t17 := Ok.tag O15 (t6) (by decide)
  have t18 := Ok.tag O15 (t11) (by decide)
  replace H := H m13 e14 O15
  refine v_run 28 2 (pc' := 61) (ls' := [(1, a0), (0, a1), (1, a2), (1, a3), (1, (m2 (m a0 2) (m a0 5)))]) (st' := [(1, a2), (1, (m2 (m a0 2) (m a0 5)))]) rfl ?_
  refine v_putf (j := 30) (c := 16) (f := 1) rfl rfl rfl rfl (by decide +kernel) rfl rfl rfl rfl (t18) trivial (fun m19 e20 => ?_)
  have O21 : Ok m13 m19 := Ok.wf e20 (t18) (by decide) (by decide)
  have K22 := O21.2.1 K16
  have t23 := Ok.tag O21 (t17) (by decide)
  have t24 := Ok.tag O21 (t18) (by decide)
  replace H := H m19 e20 O21
  refine v_run 31 2 (pc' := 67) (ls' := [(1, a0), (0, a1), (1, a2), (1, a3), (1, (m2 (m a0 2) (m a0 5)))]) (st' := [(1, a3), (1, (m2 (m a0 2) (m a0 5)))]) rfl ?_
  refine v_putf (j := 33) (c := 16) (f := 2) rfl rfl rfl rfl (by decide +kernel) rfl rfl rfl rfl (t24) trivial (fun m25 e26 => ?_)
  have O27 : Ok m19 m25 := Ok.wf e26 (t24) (by decide) (by decide)
  have K28 := O27.2.1 K22
  have t29 := Ok.tag O27 (t23) (by decide)
  have t30 := Ok.tag O27 (t24) (by decide)
  replace H := H m25 e26 O27
  refine v_run 34 1 (pc' := 72) (ls' := [(1, a0), (0, a1), (1, a2), (1, a3), (1, (m2 (m a0 2) (m a0 5)))]) (st' := [(1, (m2 (m a0 2) (m a0 5)))]) rfl ?_
  exact v_aret (j := 35) rfl rfl rfl H

set_option maxRecDepth 100000 in
set_option maxHeartbeats 4000000 in
theorem wX3_clear {G : GM} {d : Nat} {P : Nat → Int → SM → Prop} {m : SM} {a0 : Int} (K : KI m) (hd : 12 ≤ d) 
    (H : (m a0 (-1) = 3) ∧ (∀ m2, m2 = up m a0 3 0 → Ok m m2 → (∀ m7, m7 = up m2 a0 4 0 → Ok m2 m7 → (∀ m12, m12 = up m7 a0 5 0 → Ok m7 m12 → (P 0 0 m12))))) :
    WV G mX3_clear 0 [(1, a0)] [] m d P := by
  refine v_run 0 2 (pc' := 2) (ls' := [(1, a0)]) (st' := [(0, 0), (1, a0)]) rfl ?_
  obtain ⟨t1, H⟩ := H
  refine v_putf (j := 2) (c := 2) (f := 3) rfl rfl rfl rfl (by decide +kernel) rfl rfl rfl rfl (t1) trivial (fun m2 e3 => ?_)
  have O4 : Ok m m2 := Ok.wf e3 (t1) (by decide) (by decide)
  have K5 := O4.2.1 K
  have t6 := Ok.tag O4 (t1) (by decide)
  replace H := H m2 e3 O4
  refine v_run 3 2 (pc' := 7) (ls' := [(1, a0)]) (st' := [(0, 0), (1, a0)]) rfl ?_
  refine v_putf (j := 5) (c := 2) (f := 4) rfl rfl rfl rfl (by decide +kernel) rfl rfl rfl rfl (t6) trivial (fun m7 e8 => ?_)
  have O9 : Ok m2 m7 := Ok.wf e8 (t6) (by decide) (by decide)
  have K10 := O9.2.1 K5
  have t11 := Ok.tag O9 (t6) (by decide)
  replace H := H m7 e8 O9
  refine v_run 6 2 (pc' := 12) (ls' := [(1, a0)]) (st' := [(0, 0), (1, a0)]) rfl ?_
  refine v_putf (j := 8) (c := 2) (f := 5) rfl rfl rfl rfl (by decide +kernel) rfl rfl rfl rfl (t11) trivial (fun m12 e13 => ?_)
  have O14 : Ok m7 m12 := Ok.wf e13 (t11) (by decide) (by decide)
  have K15 := O14.2.1 K10
  have t16 := Ok.tag O14 (t11) (by decide)
  replace H := H m12 e13 O14
  exact v_vret (j := 9) rfl rfl H

set_option maxRecDepth 100000 in
set_option maxHeartbeats 4000000 in
theorem wX3_made {G : GM} {d : Nat} {P : Nat → Int → SM → Prop} {m : SM} {a0 a1 a2 : Int} (K : KI m) (hd : 12 ≤ d) 
    (H : (m a0 (-1) = 3) ∧ (WV G mX3_make 0 [(1, a0), (1, (-19)), (0, 0), (9, 0)] [] m (d - 1) (fun k v2 m3 => k = 0 ∧ Ok m m3 ∧ ((m3 v2 (-1) = 11) ∧ (0 ≤ a1 ∧ a1 ≤ 65535) ∧ (∀ m8, m8 = up m3 v2 2 a1 → Ok m3 m8 → (∀ m14, m14 = up m8 v2 3 a2 → Ok m8 m14 → (P 0 v2 m14))))))) :
    WV G mX3_made 0 [(1, a0), (0, a1), (1, a2), (9, 0)] [] m d P := by
  refine v_run 0 1 (pc' := 1) (ls' := [(1, a0), (0, a1), (1, a2), (9, 0)]) (st' := [(1, a0)]) rfl ?_
  refine v_gets (j := 1) (g := 1) (v := (-19)) rfl rfl rfl rfl ?_
  refine v_run 2 1 (pc' := 5) (ls' := [(1, a0), (0, a1), (1, a2), (9, 0)]) (st' := [(0, 0), (1, (-19)), (1, a0)]) rfl ?_
  obtain ⟨t1, H⟩ := H
  refine v_callV (j := 3) (M' := mX3_make) (as := [(1, (-19)), (0, 0)]) (st := []) rfl rfl rfl rfl rfl (Nat.le_of_ble_eq_true rfl) (Nat.le_of_ble_eq_true rfl) (by omega) (by decide) (t1) (kv0 (st' := fun v => [(1, v)]) rfl (fun _ => rfl)) (H.mono (fun k v2 m3 H => ⟨H.1, ?_⟩))
  have K4 := H.2.1.2.1 K
  have t5 := Ok.tag H.2.1 (t1) (by decide)
  replace H := H.2.2
  refine v_run 4 3 (pc' := 11) (ls' := [(1, a0), (0, a1), (1, a2), (1, v2)]) (st' := [(0, a1), (1, v2)]) rfl ?_
  obtain ⟨t6, r7, H⟩ := H
  refine v_putf (j := 7) (c := 10) (f := 2) rfl rfl rfl rfl (by decide +kernel) rfl rfl rfl rfl (t6) r7 (fun m8 e9 => ?_)
  have O10 : Ok m3 m8 := Ok.wf e9 (t6) (by decide) (by decide)
  have K11 := O10.2.1 K4
  have t12 := Ok.tag O10 (t5) (by decide)
  have t13 := Ok.tag O10 (t6) (by decide)
  replace H := H m8 e9 O10
  refine v_run 8 2 (pc' := 16) (ls' := [(1, a0), (0, a1), (1, a2), (1, v2)]) (st' := [(1, a2), (1, v2)]) rfl ?_
  refine v_putf (j := 10) (c := 10) (f := 3) rfl rfl rfl rfl (by decide +kernel) rfl rfl rfl rfl (t13) trivial (fun m14 e15 => ?_)
  have O16 : Ok m8 m14 := Ok.wf e15 (t13) (by decide) (by decide)
  have K17 := O16.2.1 K11
  have t18 := Ok.tag O16 (t12) (by decide)
  have t19 := Ok.tag O16 (t13) (by decide)
  replace H := H m14 e15 O16
  refine v_run 11 1 (pc' := 20) (ls' := [(1, a0), (0, a1), (1, a2), (1, v2)]) (st' := [(1, v2)]) rfl ?_
  exact v_aret (j := 12) rfl rfl rfl H

set_option maxRecDepth 100000 in
set_option maxHeartbeats 4000000 in
theorem wX3_make {G : GM} {d : Nat} {P : Nat → Int → SM → Prop} {m : SM} {a0 a1 a2 : Int} (K : KI m) (hd : 12 ≤ d) 
    (H : (m a0 (-1) = 3) ∧ ((m (m a0 0) (-1) = 4) ∧ (((m a0 3) ≠ (m (m a0 0) (-2)) → (WV G mX3_make 29 [(1, a0), (1, a1), (0, a2), (9, 0)] [] m d P)) ∧ ((m a0 3) = (m (m a0 0) (-2)) → ((m 0 0 ≤ 1203200) ∧ (m 0 1 + 5 ≤ 5491882) ∧ (Bs m → ∀ m5, m5 = al m 11 0 5 → Ok m m5 → (((m 0 0) ≠ 0) ∧ (WV G mX9_init 0 [(1, (m 0 0))] [] m5 (d - 1) (fun k v13 m14 => k = 0 ∧ Ok m5 m14 ∧ ((elOK m14 (m 0 0)) ∧ (m14 (m a0 0) (-2) < 100000) ∧ (m14 0 0 ≤ 1203200) ∧ (m14 0 1 + 2 * m14 (m a0 0) (-2) + 20 ≤ 5491882) ∧ (∀ m19, Radd m14 (m a0 0) (m 0 0) m19 → Ok m14 m19 → (WV G mX3_make 29 [(1, a0), (1, a1), (0, a2), (9, 0)] [] m19 d P)))))))))))) :
    WV G mX3_make 0 [(1, a0), (1, a1), (0, a2), (9, 0)] [] m d P := by
  refine v_run 0 1 (pc' := 1) (ls' := [(1, a0), (1, a1), (0, a2), (9, 0)]) (st' := [(1, a0)]) rfl ?_
  obtain ⟨t1, H⟩ := H
  refine v_getf (j := 1) (c := 2) (f := 3) rfl rfl rfl rfl rfl rfl rfl rfl (t1) ?_
  refine v_run 2 1 (pc' := 5) (ls' := [(1, a0), (1, a1), (0, a2), (9, 0)]) (st' := [(1, a0), (0, (m a0 3))]) rfl ?_
  refine v_getf (j := 3) (c := 2) (f := 0) rfl rfl rfl rfl rfl rfl rfl rfl (t1) ?_
  obtain ⟨t2, H⟩ := H
  refine vj_size (j := 4) rfl rfl rfl rfl (t2) (by omega) (by simp) ?_
  refine v_icmpne (j := 5) rfl rfl rfl (fun q => ?_) (fun q => ?_)
  · replace H := H.1 q
    exact H
  · replace H := H.2 q
    refine v_run 6 1 (pc' := 15) (ls' := [(1, a0), (1, a1), (0, a2), (9, 0)]) (st' := [(1, a0)]) rfl ?_
    refine v_getf (j := 7) (c := 2) (f := 0) rfl rfl rfl rfl rfl rfl rfl rfl (t1) ?_
    obtain ⟨r3, r4, H⟩ := H
    refine v_new (j := 8) (c := 10) rfl rfl rfl rfl rfl rfl rfl r3 r4 (fun B m5 e6 => ?_)
    have O7 : Ok m m5 := Ok.nw B e6
    have K8 := O7.2.1 K
    have t9 := Ok.tag O7 (t1) (by decide)
    have t10 := Ok.tag O7 (t2) (by decide)
    replace H := H B m5 e6 O7
    have t11 := al_tag B e6
    refine v_run 9 1 (pc' := 22) (ls' := [(1, a0), (1, a1), (0, a2), (9, 0)]) (st' := [(1, (m 0 0)), (1, (m 0 0)), (1, (m a0 0))]) rfl ?_
    obtain ⟨z12, H⟩ := H
    refine v_callI (j := 10) (M' := mX9_init) (as := []) (st := [(1, (m 0 0)), (1, (m a0 0))]) rfl rfl rfl rfl rfl (Nat.le_of_ble_eq_true rfl) (Nat.le_of_ble_eq_true rfl) (by omega) z12 (kv0 (st' := fun v => [(1, (m 0 0)), (1, (m a0 0))]) rfl (fun _ => rfl)) (H.mono (fun k v13 m14 H => ⟨H.1, ?_⟩))
    have K15 := H.2.1.2.1 K8
    have t16 := Ok.tag H.2.1 (t9) (by decide)
    have t17 := Ok.tag H.2.1 (t10) (by decide)
    have t18 := Ok.tag H.2.1 (t11) (by decide)
    replace H := H.2.2
    obtain ⟨v21, i22, r23, r24, H⟩ := H
    refine vj_add (j := 11) rfl rfl rfl rfl (t17) (by omega) (by simp) v21 i22 r23 r24 (fun m19 e20 => ?_)
    have O25 : Ok m14 m19 := e20.1.ok (t17) (by decide)
    have K26 := O25.2.1 K15
    have t27 := Ok.tag O25 (t16) (by decide)
    replace H := H m19 e20 O25
    refine v_run 12 1 (pc' := 29) (ls' := [(1, a0), (1, a1), (0, a2), (9, 0)]) (st' := []) rfl ?_
    exact H

set_option maxRecDepth 100000 in
set_option maxHeartbeats 4000000 in
theorem wX3_make_29 {G : GM} {d : Nat} {P : Nat → Int → SM → Prop} {m : SM} {a0 a1 a2 : Int} (K : KI m) (hd : 12 ≤ d) 
    (H : (m a0 (-1) = 3) ∧ (∀ m2, m2 = up m a0 3 (wr ((m a0 3) + 1)) → Ok m m2 → ((m2 (m a0 0) (-1) = 4) ∧ (0 ≤ (m a0 3)) ∧ ((m a0 3) < m2 (m a0 0) (-2)) ∧ (((m2 (m a0 0) (m a0 3)) = 0 ∨ m2 (m2 (m a0 0) (m a0 3)) (-1) = 11) ∧ ((m2 (m2 (m a0 0) (m a0 3)) (-1) = 11) ∧ (∀ m12, m12 = up m2 (m2 (m a0 0) (m a0 3)) 0 a1 → Ok m2 m12 → (∀ m18, m18 = up m12 (m2 (m a0 0) (m a0 3)) 1 a2 → Ok m12 m18 → (∀ m24, m24 = up m18 (m2 (m a0 0) (m a0 3)) 3 0 → Ok m18 m24 → (∀ m30, m30 = up m24 (m2 (m a0 0) (m a0 3)) 4 0 → Ok m24 m30 → (P 0 (m2 (m a0 0) (m a0 3)) m30)))))))))) :
    WV G mX3_make 29 [(1, a0), (1, a1), (0, a2), (9, 0)] [] m d P := by
  refine v_run 13 1 (pc' := 30) (ls' := [(1, a0), (1, a1), (0, a2), (9, 0)]) (st' := [(1, a0)]) rfl ?_
  obtain ⟨t1, H⟩ := H
  refine v_getf (j := 14) (c := 2) (f := 0) rfl rfl rfl rfl rfl rfl rfl rfl (t1) ?_
  refine v_run 15 2 (pc' := 35) (ls' := [(1, a0), (1, a1), (0, a2), (9, 0)]) (st' := [(1, a0), (1, a0), (1, (m a0 0))]) rfl ?_
  refine v_getf (j := 17) (c := 2) (f := 3) rfl rfl rfl rfl rfl rfl rfl rfl (t1) ?_
  refine v_run 18 3 (pc' := 41) (ls' := [(1, a0), (1, a1), (0, a2), (9, 0)]) (st' := [(0, (wr ((m a0 3) + 1))), (1, a0), (0, (m a0 3)), (1, (m a0 0))]) rfl ?_
  refine v_putf (j := 21) (c := 2) (f := 3) rfl rfl rfl rfl (by decide +kernel) rfl rfl rfl rfl (t1) trivial (fun m2 e3 => ?_)
  have O4 : Ok m m2 := Ok.wf e3 (t1) (by decide) (by decide)
  have K5 := O4.2.1 K
  have t6 := Ok.tag O4 (t1) (by decide)
  replace H := H m2 e3 O4
  obtain ⟨t7, i8, i9, H⟩ := H
  refine vj_get (j := 22) rfl rfl rfl rfl (t7) (by omega) (by simp) i8 i9 ?_
  obtain ⟨c10, H⟩ := H
  refine v_cast (j := 23) (c := 10) rfl rfl rfl rfl rfl (c10) ?_
  refine v_run 24 3 (pc' := 53) (ls' := [(1, a0), (1, a1), (0, a2), (1, (m2 (m a0 0) (m a0 3)))]) (st' := [(1, a1), (1, (m2 (m a0 0) (m a0 3)))]) rfl ?_
  obtain ⟨t11, H⟩ := H
  refine v_putf (j := 27) (c := 10) (f := 0) rfl rfl rfl rfl (by decide +kernel) rfl rfl rfl rfl (t11) trivial (fun m12 e13 => ?_)
  have O14 : Ok m2 m12 := Ok.wf e13 (t11) (by decide) (by decide)
  have K15 := O14.2.1 K5
  have t16 := Ok.tag O14 (t6) (by decide)
  have t17 := Ok.tag O14 (t11) (by decide)
  replace H := H m12 e13 O14
  refine v_run 28 2 (pc' := 58) (ls' := [(1, a0), (1, a1), (0, a2), (1, (m2 (m a0 0) (m a0 3)))]) (st' := [(0, a2), (1, (m2 (m a0 0) (m a0 3)))]) rfl ?_
  refine v_putf (j := 30) (c := 10) (f := 1) rfl rfl rfl rfl (by decide +kernel) rfl rfl rfl rfl (t17) trivial (fun m18 e19 => ?_)
  have O20 : Ok m12 m18 := Ok.wf e19 (t17) (by decide) (by decide)
  have K21 := O20.2.1 K15
  have t22 := Ok.tag O20 (t16) (by decide)
  have t23 := Ok.tag O20 (t17) (by decide)
  replace H := H m18 e19 O20
  refine v_run 31 2 (pc' := 63) (ls' := [(1, a0), (1, a1), (0, a2), (1, (m2 (m a0 0) (m a0 3)))]) (st' := [(1, 0), (1, (m2 (m a0 0) (m a0 3)))]) rfl ?_
  refine v_putf (j := 33) (c := 10) (f := 3) rfl rfl rfl rfl (by decide +kernel) rfl rfl rfl rfl (t23) trivial (fun m24 e25 => ?_)
  have O26 : Ok m18 m24 := Ok.wf e25 (t23) (by decide) (by decide)
  have K27 := O26.2.1 K21
  have t28 := Ok.tag O26 (t22) (by decide)
  have t29 := Ok.tag O26 (t23) (by decide)
  replace H := H m24 e25 O26
  refine v_run 34 2 (pc' := 68) (ls' := [(1, a0), (1, a1), (0, a2), (1, (m2 (m a0 0) (m a0 3)))]) (st' := [(1, 0), (1, (m2 (m a0 0) (m a0 3)))]) rfl ?_
  refine v_putf (j := 36) (c := 10) (f := 4) rfl rfl rfl rfl (by decide +kernel) rfl rfl rfl rfl (t29) trivial (fun m30 e31 => ?_)
  have O32 : Ok m24 m30 := Ok.wf e31 (t29) (by decide) (by decide)
  have K33 := O32.2.1 K27
  have t34 := Ok.tag O32 (t28) (by decide)
  have t35 := Ok.tag O32 (t29) (by decide)
  replace H := H m30 e31 O32
  refine v_run 37 1 (pc' := 72) (ls' := [(1, a0), (1, a1), (0, a2), (1, (m2 (m a0 0) (m a0 3)))]) (st' := [(1, (m2 (m a0 0) (m a0 3)))]) rfl ?_
  exact v_aret (j := 38) rfl rfl rfl H

set_option maxRecDepth 100000 in
set_option maxHeartbeats 4000000 in
theorem wX9_seen {G : GM} {d : Nat} {P : Nat → Int → SM → Prop} {m : SM} {a0 : Int} (K : KI m) (hd : 12 ≤ d) 
    (H : WV G mX9_seen 2 [(9, 0), (1, a0)] [] m d P) :
    WV G mX9_seen 0 [(1, a0), (9, 0)] [] m d P := by
  refine v_run 0 2 (pc' := 2) (ls' := [(1, a0), (1, a0)]) (st' := []) rfl ?_
  refine v_drp [false, true] ?_
  exact H

set_option maxRecDepth 100000 in
set_option maxHeartbeats 4000000 in
theorem wX9_seen_2 {G : GM} {d : Nat} {P : Nat → Int → SM → Prop} {m : SM} {a1 : Int} (K : KI m) (hd : 12 ≤ d) 
    (H : (m a1 (-1) = 11) ∧ (((m a1 4) = 0 → (P 0 a1 m)) ∧ ((m a1 4) ≠ 0 → (WV G mX9_seen 2 [(9, 0), (1, (m a1 4))] [] m d P)))) :
    WV G mX9_seen 2 [(9, 0), (1, a1)] [] m d P := by
  refine v_run 2 1 (pc' := 3) (ls' := [(9, 0), (1, a1)]) (st' := [(1, a1)]) rfl ?_
  obtain ⟨t1, H⟩ := H
  refine v_getf (j := 3) (c := 10) (f := 4) rfl rfl rfl rfl rfl rfl rfl rfl (t1) ?_
  refine v_null (j := 4) rfl rfl rfl (fun q => ?_) (fun q => ?_)
  · replace H := H.1 q
    refine v_run 9 1 (pc' := 18) (ls' := [(9, 0), (1, a1)]) (st' := [(1, a1)]) rfl ?_
    exact v_aret (j := 10) rfl rfl rfl H
  · replace H := H.2 q
    refine v_run 5 1 (pc' := 10) (ls' := [(9, 0), (1, a1)]) (st' := [(1, a1)]) rfl ?_
    refine v_getf (j := 6) (c := 10) (f := 4) rfl rfl rfl rfl rfl rfl rfl rfl (t1) ?_
    refine v_run 7 1 (pc' := 14) (ls' := [(9, 0), (1, (m a1 4))]) (st' := []) rfl ?_
    refine v_goto (j := 8) (tgt := 2) rfl rfl ?_
    exact H

set_option maxRecDepth 100000 in
set_option maxHeartbeats 4000000 in
theorem wX9_is {G : GM} {d : Nat} {P : Nat → Int → SM → Prop} {m : SM} {a0 a1 : Int} (K : KI m) (hd : 12 ≤ d) 
    (H : (m a0 (-1) = 11) ∧ (((m a0 0) ≠ a1 → (P 0 0 m)) ∧ ((m a0 0) = a1 → (P 0 1 m)))) :
    WV G mX9_is 0 [(1, a0), (1, a1)] [] m d P := by
  refine v_run 0 1 (pc' := 1) (ls' := [(1, a0), (1, a1)]) (st' := [(1, a0)]) rfl ?_
  obtain ⟨t1, H⟩ := H
  refine v_getf (j := 1) (c := 10) (f := 0) rfl rfl rfl rfl rfl rfl rfl rfl (t1) ?_
  refine v_run 2 1 (pc' := 5) (ls' := [(1, a0), (1, a1)]) (st' := [(1, a1), (1, (m a0 0))]) rfl ?_
  refine v_ane (j := 3) rfl rfl rfl (fun q => ?_) (fun q => ?_)
  · replace H := H.1 q
    refine v_run 6 1 (pc' := 13) (ls' := [(1, a0), (1, a1)]) (st' := [(0, 0)]) rfl ?_
    exact v_iret (j := 7) rfl rfl rfl (Or.inl rfl) H
  · replace H := H.2 q
    refine v_run 4 1 (pc' := 9) (ls' := [(1, a0), (1, a1)]) (st' := [(0, 1)]) rfl ?_
    refine v_goto (j := 5) (tgt := 13) rfl rfl ?_
    exact v_iret (j := 7) rfl rfl rfl (Or.inr rfl) H

set_option maxRecDepth 100000 in
set_option maxHeartbeats 4000000 in
theorem wX7_begin {G : GM} {d : Nat} {P : Nat → Int → SM → Prop} {m : SM} {a0 a1 : Int} (K : KI m) (hd : 12 ≤ d) 
    (H : (m a0 (-1) = 9) ∧ ((m (m a0 0) (-1) = 4) ∧ (∀ m3, Rclr m (m a0 0) 0 m3 → Ok m m3 → ((m3 (m3 a0 0) (-1) = 4) ∧ (elOK m3 a1) ∧ (m3 (m3 a0 0) (-2) < 100000) ∧ (m3 0 0 ≤ 1203200) ∧ (m3 0 1 + 2 * m3 (m3 a0 0) (-2) + 20 ≤ 5491882) ∧ (∀ m9, Radd m3 (m3 a0 0) a1 m9 → Ok m3 m9 → (P 0 0 m9)))))) :
    WV G mX7_begin 0 [(1, a0), (1, a1)] [] m d P := by
  refine v_run 0 1 (pc' := 1) (ls' := [(1, a0), (1, a1)]) (st' := [(1, a0)]) rfl ?_
  obtain ⟨t1, H⟩ := H
  refine v_getf (j := 1) (c := 8) (f := 0) rfl rfl rfl rfl rfl rfl rfl rfl (t1) ?_
  obtain ⟨t2, H⟩ := H
  refine vj_clear (j := 2) rfl rfl rfl rfl (t2) (by omega) (by simp)  (fun m3 e4 => ?_)
  have O5 : Ok m m3 := e4.1.ok (t2) (by decide)
  have K6 := O5.2.1 K
  have t7 := Ok.tag O5 (t1) (by decide)
  replace H := H m3 e4 O5
  refine v_run 3 1 (pc' := 8) (ls' := [(1, a0), (1, a1)]) (st' := [(1, a0)]) rfl ?_
  refine v_getf (j := 4) (c := 8) (f := 0) rfl rfl rfl rfl rfl rfl rfl rfl (t7) ?_
  refine v_run 5 1 (pc' := 12) (ls' := [(1, a0), (1, a1)]) (st' := [(1, a1), (1, (m3 a0 0))]) rfl ?_
  obtain ⟨t8, v11, i12, r13, r14, H⟩ := H
  refine vj_add (j := 6) rfl rfl rfl rfl (t8) (by omega) (by simp) v11 i12 r13 r14 (fun m9 e10 => ?_)
  have O15 : Ok m3 m9 := e10.1.ok (t8) (by decide)
  have K16 := O15.2.1 K6
  have t17 := Ok.tag O15 (t7) (by decide)
  replace H := H m9 e10 O15
  refine v_run 7 1 (pc' := 16) (ls' := [(1, a0), (1, a1)]) (st' := []) rfl ?_
  exact v_vret (j := 8) rfl rfl H

set_option maxRecDepth 100000 in
set_option maxHeartbeats 4000000 in
theorem wX7_level {G : GM} {d : Nat} {P : Nat → Int → SM → Prop} {m : SM} {a0 a1 a2 : Int} (K : KI m) (hd : 12 ≤ d) 
    (H : (m a1 (-1) = 11) ∧ ((m a2 (-1) = 11) ∧ (((m a1 0) ≠ (m a2 0) → (P 0 0 m)) ∧ ((m a1 0) = (m a2 0) → ((¬ ((m a1 0) = (-17)) → (WV G mX7_level 26 [(1, a0), (1, a1), (1, a2)] [] m d P)) ∧ ((m a1 0) = (-17) → ((a1 ≠ a2 → (P 0 0 m)) ∧ (a1 = a2 → (WV G mX7_level 26 [(1, a0), (1, a1), (1, a2)] [] m d P))))))))) :
    WV G mX7_level 0 [(1, a0), (1, a1), (1, a2)] [] m d P := by
  refine v_run 0 1 (pc' := 1) (ls' := [(1, a0), (1, a1), (1, a2)]) (st' := [(1, a1)]) rfl ?_
  obtain ⟨t1, H⟩ := H
  refine v_getf (j := 1) (c := 10) (f := 0) rfl rfl rfl rfl rfl rfl rfl rfl (t1) ?_
  refine v_run 2 1 (pc' := 5) (ls' := [(1, a0), (1, a1), (1, a2)]) (st' := [(1, a2), (1, (m a1 0))]) rfl ?_
  obtain ⟨t2, H⟩ := H
  refine v_getf (j := 3) (c := 10) (f := 0) rfl rfl rfl rfl rfl rfl rfl rfl (t2) ?_
  refine v_ane (j := 4) rfl rfl rfl (fun q => ?_) (fun q => ?_)
  · replace H := H.1 q
    refine v_run 30 1 (pc' := 69) (ls' := [(1, a0), (1, a1), (1, a2)]) (st' := [(0, 0)]) rfl ?_
    exact v_iret (j := 31) rfl rfl rfl (Or.inl rfl) H
  · replace H := H.2 q
    refine v_run 5 1 (pc' := 12) (ls' := [(1, a0), (1, a1), (1, a2)]) (st' := [(1, a1)]) rfl ?_
    refine v_gets (j := 6) (g := 1) (v := (-17)) rfl rfl rfl rfl ?_
    refine v_callV (j := 7) (M' := mX9_is) (as := [(1, (-17))]) (st := []) rfl rfl rfl rfl rfl (Nat.le_of_ble_eq_true rfl) (Nat.le_of_ble_eq_true rfl) (by omega) (by decide) (t1) (kv0 (st' := fun v => [(0, v)]) rfl (fun _ => rfl)) (ipX9_is (t1) ⟨rfl, ?_⟩)
    refine v_ifeq (j := 8) rfl rfl rfl (fun q => ?_) (fun q => ?_)
    · replace H := H.1 (ite0 q)
      exact H
    · replace H := H.2 (ite1 q)
      refine v_run 9 2 (pc' := 23) (ls' := [(1, a0), (1, a1), (1, a2)]) (st' := [(1, a2), (1, a1)]) rfl ?_
      refine v_ane (j := 11) rfl rfl rfl (fun q => ?_) (fun q => ?_)
      · replace H := H.1 q
        refine v_run 30 1 (pc' := 69) (ls' := [(1, a0), (1, a1), (1, a2)]) (st' := [(0, 0)]) rfl ?_
        exact v_iret (j := 31) rfl rfl rfl (Or.inl rfl) H
      · replace H := H.2 q
        exact H

set_option maxRecDepth 100000 in
set_option maxHeartbeats 4000000 in
theorem wX7_level_26 {G : GM} {d : Nat} {P : Nat → Int → SM → Prop} {m : SM} {a0 a1 a2 : Int} (K : KI m) (hd : 12 ≤ d) 
    (H : (m a1 (-1) = 11) ∧ ((¬ ((m a1 0) = (-14)) → (WV G mX7_level 47 [(1, a0), (1, a1), (1, a2)] [] m d P)) ∧ ((m a1 0) = (-14) → ((m a2 (-1) = 11) ∧ (((m a1 1) ≠ (m a2 1) → (P 0 0 m)) ∧ ((m a1 1) = (m a2 1) → (WV G mX7_level 47 [(1, a0), (1, a1), (1, a2)] [] m d P))))))) :
    WV G mX7_level 26 [(1, a0), (1, a1), (1, a2)] [] m d P := by
  refine v_run 12 1 (pc' := 27) (ls' := [(1, a0), (1, a1), (1, a2)]) (st' := [(1, a1)]) rfl ?_
  refine v_gets (j := 13) (g := 1) (v := (-14)) rfl rfl rfl rfl ?_
  obtain ⟨t1, H⟩ := H
  refine v_callV (j := 14) (M' := mX9_is) (as := [(1, (-14))]) (st := []) rfl rfl rfl rfl rfl (Nat.le_of_ble_eq_true rfl) (Nat.le_of_ble_eq_true rfl) (by omega) (by decide) (t1) (kv0 (st' := fun v => [(0, v)]) rfl (fun _ => rfl)) (ipX9_is (t1) ⟨rfl, ?_⟩)
  refine v_ifeq (j := 15) rfl rfl rfl (fun q => ?_) (fun q => ?_)
  · replace H := H.1 (ite0 q)
    exact H
  · replace H := H.2 (ite1 q)
    refine v_run 16 1 (pc' := 37) (ls' := [(1, a0), (1, a1), (1, a2)]) (st' := [(1, a1)]) rfl ?_
    refine v_getf (j := 17) (c := 10) (f := 1) rfl rfl rfl rfl rfl rfl rfl rfl (t1) ?_
    refine v_run 18 1 (pc' := 41) (ls' := [(1, a0), (1, a1), (1, a2)]) (st' := [(1, a2), (0, (m a1 1))]) rfl ?_
    obtain ⟨t2, H⟩ := H
    refine v_getf (j := 19) (c := 10) (f := 1) rfl rfl rfl rfl rfl rfl rfl rfl (t2) ?_
    refine v_icmpne (j := 20) rfl rfl rfl (fun q => ?_) (fun q => ?_)
    · replace H := H.1 q
      refine v_run 30 1 (pc' := 69) (ls' := [(1, a0), (1, a1), (1, a2)]) (st' := [(0, 0)]) rfl ?_
      exact v_iret (j := 31) rfl rfl rfl (Or.inl rfl) H
    · replace H := H.2 q
      exact H

set_option maxRecDepth 100000 in
set_option maxHeartbeats 4000000 in
theorem wX7_level_47 {G : GM} {d : Nat} {P : Nat → Int → SM → Prop} {m : SM} {a0 a1 a2 : Int} (K : KI m) (hd : 12 ≤ d) 
    (H : (m a1 (-1) = 11) ∧ ((¬ ((m a1 0) = (-19)) → (WV G mX7_level 70 [(1, a0), (1, a1), (1, a2)] [] m d P)) ∧ ((m a1 0) = (-19) → ((m a2 (-1) = 11) ∧ (((m a1 2) = (m a2 2) → (WV G mX7_level 70 [(1, a0), (1, a1), (1, a2)] [] m d P)) ∧ ((m a1 2) ≠ (m a2 2) → (P 0 0 m))))))) :
    WV G mX7_level 47 [(1, a0), (1, a1), (1, a2)] [] m d P := by
  refine v_run 21 1 (pc' := 48) (ls' := [(1, a0), (1, a1), (1, a2)]) (st' := [(1, a1)]) rfl ?_
  refine v_gets (j := 22) (g := 1) (v := (-19)) rfl rfl rfl rfl ?_
  obtain ⟨t1, H⟩ := H
  refine v_callV (j := 23) (M' := mX9_is) (as := [(1, (-19))]) (st := []) rfl rfl rfl rfl rfl (Nat.le_of_ble_eq_true rfl) (Nat.le_of_ble_eq_true rfl) (by omega) (by decide) (t1) (kv0 (st' := fun v => [(0, v)]) rfl (fun _ => rfl)) (ipX9_is (t1) ⟨rfl, ?_⟩)
  refine v_ifeq (j := 24) rfl rfl rfl (fun q => ?_) (fun q => ?_)
  · replace H := H.1 (ite0 q)
    exact H
  · replace H := H.2 (ite1 q)
    refine v_run 25 1 (pc' := 58) (ls' := [(1, a0), (1, a1), (1, a2)]) (st' := [(1, a1)]) rfl ?_
    refine v_getf (j := 26) (c := 10) (f := 2) rfl rfl rfl rfl rfl rfl rfl rfl (t1) ?_
    refine v_run 27 1 (pc' := 62) (ls' := [(1, a0), (1, a1), (1, a2)]) (st' := [(1, a2), (0, (m a1 2))]) rfl ?_
    obtain ⟨t2, H⟩ := H
    refine v_getf (j := 28) (c := 10) (f := 2) rfl rfl rfl rfl rfl rfl rfl rfl (t2) ?_
    refine v_icmpeq (j := 29) rfl rfl rfl (fun q => ?_) (fun q => ?_)
    · replace H := H.1 q
      exact H
    · replace H := H.2 q
      refine v_run 30 1 (pc' := 69) (ls' := [(1, a0), (1, a1), (1, a2)]) (st' := [(0, 0)]) rfl ?_
      exact v_iret (j := 31) rfl rfl rfl (Or.inl rfl) H

set_option maxRecDepth 100000 in
set_option maxHeartbeats 4000000 in
theorem wX7_level_70 {G : GM} {d : Nat} {P : Nat → Int → SM → Prop} {m : SM} {a0 a1 a2 : Int} (K : KI m) (hd : 12 ≤ d) 
    (H : (m a0 (-1) = 9) ∧ (WV G mX7_push 0 [(1, (m a0 0)), (1, a1), (9, 0), (9, 0), (9, 0), (9, 0)] [] m (d - 1) (fun k v2 m3 => k = 0 ∧ Ok m m3 ∧ (WV G mX7_push 0 [(1, (m3 a0 1)), (1, a2), (9, 0), (9, 0), (9, 0), (9, 0)] [] m3 (d - 1) (fun k v6 m7 => k = 0 ∧ Ok m3 m7 ∧ ((m7 (m7 a0 0) (-1) = 4) ∧ ((m7 (m7 a0 1) (-1) = 4) ∧ (((m7 (m7 a0 0) (-2)) ≠ (m7 (m7 a0 1) (-2)) → (P 0 0 m7)) ∧ ((m7 (m7 a0 0) (-2)) = (m7 (m7 a0 1) (-2)) → (P 0 1 m7)))))))))) :
    WV G mX7_level 70 [(1, a0), (1, a1), (1, a2)] [] m d P := by
  refine v_run 32 1 (pc' := 71) (ls' := [(1, a0), (1, a1), (1, a2)]) (st' := [(1, a0)]) rfl ?_
  obtain ⟨t1, H⟩ := H
  refine v_getf (j := 33) (c := 8) (f := 0) rfl rfl rfl rfl rfl rfl rfl rfl (t1) ?_
  refine v_run 34 1 (pc' := 75) (ls' := [(1, a0), (1, a1), (1, a2)]) (st' := [(1, a1), (1, (m a0 0))]) rfl ?_
  refine v_callS (j := 35) (M' := mX7_push) (as := [(1, (m a0 0)), (1, a1)]) (st := []) rfl rfl rfl rfl rfl (Nat.le_of_ble_eq_true rfl) (Nat.le_of_ble_eq_true rfl) (by omega) (kv0 (st' := fun v => []) rfl (fun _ => rfl)) (H.mono (fun k v2 m3 H => ⟨H.1, ?_⟩))
  have K4 := H.2.1.2.1 K
  have t5 := Ok.tag H.2.1 (t1) (by decide)
  replace H := H.2.2
  refine v_run 36 1 (pc' := 79) (ls' := [(1, a0), (1, a1), (1, a2)]) (st' := [(1, a0)]) rfl ?_
  refine v_getf (j := 37) (c := 8) (f := 1) rfl rfl rfl rfl rfl rfl rfl rfl (t5) ?_
  refine v_run 38 1 (pc' := 83) (ls' := [(1, a0), (1, a1), (1, a2)]) (st' := [(1, a2), (1, (m3 a0 1))]) rfl ?_
  refine v_callS (j := 39) (M' := mX7_push) (as := [(1, (m3 a0 1)), (1, a2)]) (st := []) rfl rfl rfl rfl rfl (Nat.le_of_ble_eq_true rfl) (Nat.le_of_ble_eq_true rfl) (by omega) (kv0 (st' := fun v => []) rfl (fun _ => rfl)) (H.mono (fun k v6 m7 H => ⟨H.1, ?_⟩))
  have K8 := H.2.1.2.1 K4
  have t9 := Ok.tag H.2.1 (t5) (by decide)
  replace H := H.2.2
  refine v_run 40 1 (pc' := 87) (ls' := [(1, a0), (1, a1), (1, a2)]) (st' := [(1, a0)]) rfl ?_
  refine v_getf (j := 41) (c := 8) (f := 0) rfl rfl rfl rfl rfl rfl rfl rfl (t9) ?_
  obtain ⟨t10, H⟩ := H
  refine vj_size (j := 42) rfl rfl rfl rfl (t10) (by omega) (by simp) ?_
  refine v_run 43 1 (pc' := 94) (ls' := [(1, a0), (1, a1), (1, a2)]) (st' := [(1, a0), (0, (m7 (m7 a0 0) (-2)))]) rfl ?_
  refine v_getf (j := 44) (c := 8) (f := 1) rfl rfl rfl rfl rfl rfl rfl rfl (t9) ?_
  obtain ⟨t11, H⟩ := H
  refine vj_size (j := 45) rfl rfl rfl rfl (t11) (by omega) (by simp) ?_
  refine v_icmpne (j := 46) rfl rfl rfl (fun q => ?_) (fun q => ?_)
  · replace H := H.1 q
    refine v_run 49 1 (pc' := 108) (ls' := [(1, a0), (1, a1), (1, a2)]) (st' := [(0, 0)]) rfl ?_
    exact v_iret (j := 50) rfl rfl rfl (Or.inl rfl) H
  · replace H := H.2 q
    refine v_run 47 1 (pc' := 104) (ls' := [(1, a0), (1, a1), (1, a2)]) (st' := [(0, 1)]) rfl ?_
    refine v_goto (j := 48) (tgt := 108) rfl rfl ?_
    exact v_iret (j := 50) rfl rfl rfl (Or.inr rfl) H

set_option maxRecDepth 100000 in
set_option maxHeartbeats 4000000 in
theorem wX7_lies {G : GM} {d : Nat} {P : Nat → Int → SM → Prop} {m : SM} {a0 a1 a2 : Int} (K : KI m) (hd : 12 ≤ d) 
    (H : (m a0 (-1) = 9) ∧ (WV G mX7_begin 0 [(1, a0), (1, a2)] [] m (d - 1) (fun k v2 m3 => k = 0 ∧ Ok m m3 ∧ (WV G mX7_lies 7 [(1, a0), (1, a1), (9, 0), (0, 0), (9, 0)] [] m3 d P)))) :
    WV G mX7_lies 0 [(1, a0), (1, a1), (1, a2), (9, 0), (9, 0)] [] m d P := by
  refine v_run 0 2 (pc' := 2) (ls' := [(1, a0), (1, a1), (1, a2), (9, 0), (9, 0)]) (st' := [(1, a2), (1, a0)]) rfl ?_
  obtain ⟨t1, H⟩ := H
  refine v_callV (j := 2) (M' := mX7_begin) (as := [(1, a2)]) (st := []) rfl rfl rfl rfl rfl (Nat.le_of_ble_eq_true rfl) (Nat.le_of_ble_eq_true rfl) (by omega) (by decide) (t1) (kv0 (st' := fun v => []) rfl (fun _ => rfl)) (H.mono (fun k v2 m3 H => ⟨H.1, ?_⟩))
  have K4 := H.2.1.2.1 K
  have t5 := Ok.tag H.2.1 (t1) (by decide)
  replace H := H.2.2
  refine v_run 3 2 (pc' := 7) (ls' := [(1, a0), (1, a1), (1, a2), (0, 0), (9, 0)]) (st' := []) rfl ?_
  refine v_drp [true, true, false, true, false] ?_
  exact H

set_option maxRecDepth 100000 in
set_option maxHeartbeats 4000000 in
theorem wX7_lies_7 {G : GM} {d : Nat} {P : Nat → Int → SM → Prop} {m : SM} {a0 a1 a3 : Int} (K : KI m) (hd : 12 ≤ d) 
    (H : (m a0 (-1) = 9) ∧ ((m (m a0 0) (-1) = 4) ∧ ((m (m a0 0) (-2) = 0 → ((a3 = 0 ∨ a3 = 1) ∧ (P 0 a3 m))) ∧ (¬ (m (m a0 0) (-2) = 0) → ((a3 ≠ (0 : Int) → ((a3 = 0 ∨ a3 = 1) ∧ (P 0 a3 m))) ∧ (a3 = (0 : Int) → (WV G mX7_pop 0 [(1, (m a0 0))] [] m (d - 1) (fun k v5 m6 => k = 0 ∧ Ok m m6 ∧ ((a1 ≠ 0 → (WV G mX7_push 0 [(1, (m6 a0 0)), (1, v5), (9, 0), (9, 0), (9, 0), (9, 0)] [] m6 (d - 1) (fun k v9 m10 => k = 0 ∧ Ok m6 m10 ∧ (WV G mX7_lies 7 [(1, a0), (1, a1), (9, 0), (0, (if v5 ≠ a1 then 0 else 1)), (9, 0)] [] m10 d P)))) ∧ (a1 = 0 → ((m6 v5 (-1) = 11) ∧ (WV G mX7_push 0 [(1, (m6 a0 0)), (1, v5), (9, 0), (9, 0), (9, 0), (9, 0)] [] m6 (d - 1) (fun k v15 m16 => k = 0 ∧ Ok m6 m16 ∧ (WV G mX7_lies 7 [(1, a0), (1, a1), (9, 0), (0, (if (m6 v5 0) = (-18) then 1 else 0)), (9, 0)] [] m16 d P)))))))))))))) :
    WV G mX7_lies 7 [(1, a0), (1, a1), (9, 0), (0, a3), (9, 0)] [] m d P := by
  refine v_run 5 1 (pc' := 8) (ls' := [(1, a0), (1, a1), (9, 0), (0, a3), (9, 0)]) (st' := [(1, a0)]) rfl ?_
  obtain ⟨t1, H⟩ := H
  refine v_getf (j := 6) (c := 8) (f := 0) rfl rfl rfl rfl rfl rfl rfl rfl (t1) ?_
  obtain ⟨t2, H⟩ := H
  refine vj_isEmpty (j := 7) rfl rfl rfl rfl (t2) (by omega) (by simp) ?_
  refine v_ifne (j := 8) rfl rfl rfl (fun q => ?_) (fun q => ?_)
  · replace H := H.1 (ite1 q)
    refine v_run 33 1 (pc' := 70) (ls' := [(1, a0), (1, a1), (9, 0), (0, a3), (9, 0)]) (st' := [(0, a3)]) rfl ?_
    obtain ⟨r3, H⟩ := H
    exact v_iret (j := 34) rfl rfl rfl r3 H
  · replace H := H.2 (ite0 q)
    refine v_run 9 1 (pc' := 18) (ls' := [(1, a0), (1, a1), (9, 0), (0, a3), (9, 0)]) (st' := [(0, a3)]) rfl ?_
    refine v_ifne (j := 10) rfl rfl rfl (fun q => ?_) (fun q => ?_)
    · replace H := H.1 q
      refine v_run 33 1 (pc' := 70) (ls' := [(1, a0), (1, a1), (9, 0), (0, a3), (9, 0)]) (st' := [(0, a3)]) rfl ?_
      obtain ⟨r4, H⟩ := H
      exact v_iret (j := 34) rfl rfl rfl r4 H
    · replace H := H.2 q
      refine v_run 11 1 (pc' := 22) (ls' := [(1, a0), (1, a1), (9, 0), (0, a3), (9, 0)]) (st' := [(1, a0)]) rfl ?_
      refine v_getf (j := 12) (c := 8) (f := 0) rfl rfl rfl rfl rfl rfl rfl rfl (t1) ?_
      refine v_callS (j := 13) (M' := mX7_pop) (as := [(1, (m a0 0))]) (st := []) rfl rfl rfl rfl rfl (Nat.le_of_ble_eq_true rfl) (Nat.le_of_ble_eq_true rfl) (by omega) (kv0 (st' := fun v => [(1, v)]) rfl (fun _ => rfl)) (H.mono (fun k v5 m6 H => ⟨H.1, ?_⟩))
      have K7 := H.2.1.2.1 K
      have t8 := Ok.tag H.2.1 (t1) (by decide)
      replace H := H.2.2
      refine v_run 14 2 (pc' := 31) (ls' := [(1, a0), (1, a1), (9, 0), (0, a3), (1, v5)]) (st' := [(1, a1)]) rfl ?_
      refine v_nonnull (j := 16) rfl rfl rfl (fun q => ?_) (fun q => ?_)
      · replace H := H.1 q
        refine v_run 21 2 (pc' := 48) (ls' := [(1, a0), (1, a1), (9, 0), (0, a3), (1, v5)]) (st' := [(1, a1), (1, v5)]) rfl ?_
        have J13 : WV G mX7_lies 56 [(1, a0), (1, a1), (9, 0), (0, a3), (1, v5)] [(0, (if v5 ≠ a1 then 0 else 1))] m6 d P := by
          refine v_run 27 2 (pc' := 58) (ls' := [(1, a0), (1, a1), (9, 0), (0, (if v5 ≠ a1 then 0 else 1)), (1, v5)]) (st' := [(1, a0)]) rfl ?_
          refine v_getf (j := 29) (c := 8) (f := 0) rfl rfl rfl rfl rfl rfl rfl rfl (t8) ?_
          refine v_run 30 1 (pc' := 63) (ls' := [(1, a0), (1, a1), (9, 0), (0, (if v5 ≠ a1 then 0 else 1)), (1, v5)]) (st' := [(1, v5), (1, (m6 a0 0))]) rfl ?_
          refine v_callS (j := 31) (M' := mX7_push) (as := [(1, (m6 a0 0)), (1, v5)]) (st := []) rfl rfl rfl rfl rfl (Nat.le_of_ble_eq_true rfl) (Nat.le_of_ble_eq_true rfl) (by omega) (kv0 (st' := fun v => []) rfl (fun _ => rfl)) (H.mono (fun k v9 m10 H => ⟨H.1, ?_⟩))
          have K11 := H.2.1.2.1 K7
          have t12 := Ok.tag H.2.1 (t8) (by decide)
          replace H := H.2.2
          refine v_goto (j := 32) (tgt := 7) rfl rfl ?_
          refine v_drp [true, true, false, true, false] ?_
          exact H
        refine v_ane (j := 23) rfl rfl rfl (fun q => ?_) (fun q => ?_)
        · rw [show ((if v5 ≠ a1 then 0 else 1) : Int) = 0 from if_pos q] at J13
          refine v_run 26 1 (pc' := 56) (ls' := [(1, a0), (1, a1), (9, 0), (0, a3), (1, v5)]) (st' := [(0, 0)]) rfl ?_
          exact J13
        · rw [show ((if v5 ≠ a1 then 0 else 1) : Int) = 1 from if_neg (fun z => z q)] at J13
          refine v_run 24 1 (pc' := 52) (ls' := [(1, a0), (1, a1), (9, 0), (0, a3), (1, v5)]) (st' := [(0, 1)]) rfl ?_
          refine v_goto (j := 25) (tgt := 56) rfl rfl ?_
          exact J13
      · replace H := H.2 q
        refine v_run 17 1 (pc' := 36) (ls' := [(1, a0), (1, a1), (9, 0), (0, a3), (1, v5)]) (st' := [(1, v5)]) rfl ?_
        refine v_gets (j := 18) (g := 1) (v := (-18)) rfl rfl rfl rfl ?_
        obtain ⟨t14, H⟩ := H
        refine v_callV (j := 19) (M' := mX9_is) (as := [(1, (-18))]) (st := []) rfl rfl rfl rfl rfl (Nat.le_of_ble_eq_true rfl) (Nat.le_of_ble_eq_true rfl) (by omega) (by decide) (t14) (kv0 (st' := fun v => [(0, v)]) rfl (fun _ => rfl)) (ipX9_is (t14) ⟨rfl, ?_⟩)
        refine v_goto (j := 20) (tgt := 56) rfl rfl ?_
        refine v_run 27 2 (pc' := 58) (ls' := [(1, a0), (1, a1), (9, 0), (0, (if (m6 v5 0) = (-18) then 1 else 0)), (1, v5)]) (st' := [(1, a0)]) rfl ?_
        refine v_getf (j := 29) (c := 8) (f := 0) rfl rfl rfl rfl rfl rfl rfl rfl (t8) ?_
        refine v_run 30 1 (pc' := 63) (ls' := [(1, a0), (1, a1), (9, 0), (0, (if (m6 v5 0) = (-18) then 1 else 0)), (1, v5)]) (st' := [(1, v5), (1, (m6 a0 0))]) rfl ?_
        refine v_callS (j := 31) (M' := mX7_push) (as := [(1, (m6 a0 0)), (1, v5)]) (st := []) rfl rfl rfl rfl rfl (Nat.le_of_ble_eq_true rfl) (Nat.le_of_ble_eq_true rfl) (by omega) (kv0 (st' := fun v => []) rfl (fun _ => rfl)) (H.mono (fun k v15 m16 H => ⟨H.1, ?_⟩))
        have K17 := H.2.1.2.1 K7
        have t18 := Ok.tag H.2.1 (t8) (by decide)
        have t19 := Ok.tag H.2.1 (t14) (by decide)
        replace H := H.2.2
        refine v_goto (j := 32) (tgt := 7) rfl rfl ?_
        refine v_drp [true, true, false, true, false] ?_
        exact H

set_option maxRecDepth 100000 in
set_option maxHeartbeats 4000000 in
theorem wX7_nodes {G : GM} {d : Nat} {P : Nat → Int → SM → Prop} {m : SM} {a0 a1 a2 : Int} (K : KI m) (hd : 12 ≤ d) 
    (H : (m a0 (-1) = 9) ∧ (WV G mX7_begin 0 [(1, a0), (1, a1)] [] m (d - 1) (fun k v2 m3 => k = 0 ∧ Ok m m3 ∧ (WV G mX7_nodes 7 [(1, a0), (9, 0), (0, a2), (0, 0)] [] m3 d P)))) :
    WV G mX7_nodes 0 [(1, a0), (1, a1), (0, a2), (9, 0)] [] m d P := by
  refine v_run 0 2 (pc' := 2) (ls' := [(1, a0), (1, a1), (0, a2), (9, 0)]) (st' := [(1, a1), (1, a0)]) rfl ?_
  obtain ⟨t1, H⟩ := H
  refine v_callV (j := 2) (M' := mX7_begin) (as := [(1, a1)]) (st := []) rfl rfl rfl rfl rfl (Nat.le_of_ble_eq_true rfl) (Nat.le_of_ble_eq_true rfl) (by omega) (by decide) (t1) (kv0 (st' := fun v => []) rfl (fun _ => rfl)) (H.mono (fun k v2 m3 H => ⟨H.1, ?_⟩))
  have K4 := H.2.1.2.1 K
  have t5 := Ok.tag H.2.1 (t1) (by decide)
  replace H := H.2.2
  refine v_run 3 2 (pc' := 7) (ls' := [(1, a0), (1, a1), (0, a2), (0, 0)]) (st' := []) rfl ?_
  refine v_drp [true, false, true, true] ?_
  exact H

set_option maxRecDepth 100000 in
set_option maxHeartbeats 4000000 in
theorem wX7_nodes_7 {G : GM} {d : Nat} {P : Nat → Int → SM → Prop} {m : SM} {a0 a2 a3 : Int} (K : KI m) (hd : 12 ≤ d) 
    (H : (m a0 (-1) = 9) ∧ ((m (m a0 0) (-1) = 4) ∧ ((m (m a0 0) (-2) = 0 → (P 0 a3 m)) ∧ (¬ (m (m a0 0) (-2) = 0) → ((a2 < a3 → (P 0 a3 m)) ∧ (a3 ≤ a2 → (WV G mX7_pop 0 [(1, (m a0 0))] [] m (d - 1) (fun k v3 m4 => k = 0 ∧ Ok m m4 ∧ (WV G mX7_push 0 [(1, (m a0 0)), (1, v3), (9, 0), (9, 0), (9, 0), (9, 0)] [] m4 (d - 1) (fun k v8 m9 => k = 0 ∧ Ok m4 m9 ∧ (WV G mX7_nodes 7 [(1, a0), (9, 0), (0, a2), (0, (wr (a3 + 1)))] [] m9 d P))))))))))) :
    WV G mX7_nodes 7 [(1, a0), (9, 0), (0, a2), (0, a3)] [] m d P := by
  refine v_run 5 1 (pc' := 8) (ls' := [(1, a0), (9, 0), (0, a2), (0, a3)]) (st' := [(1, a0)]) rfl ?_
  obtain ⟨t1, H⟩ := H
  refine v_getf (j := 6) (c := 8) (f := 0) rfl rfl rfl rfl rfl rfl rfl rfl (t1) ?_
  obtain ⟨t2, H⟩ := H
  refine vj_isEmpty (j := 7) rfl rfl rfl rfl (t2) (by omega) (by simp) ?_
  refine v_ifne (j := 8) rfl rfl rfl (fun q => ?_) (fun q => ?_)
  · replace H := H.1 (ite1 q)
    refine v_run 20 1 (pc' := 43) (ls' := [(1, a0), (9, 0), (0, a2), (0, a3)]) (st' := [(0, a3)]) rfl ?_
    exact v_iret (j := 21) rfl rfl rfl trivial H
  · replace H := H.2 (ite0 q)
    refine v_run 9 2 (pc' := 19) (ls' := [(1, a0), (9, 0), (0, a2), (0, a3)]) (st' := [(0, a2), (0, a3)]) rfl ?_
    refine v_icmpgt (j := 11) rfl rfl rfl (fun q => ?_) (fun q => ?_)
    · replace H := H.1 q
      refine v_run 20 1 (pc' := 43) (ls' := [(1, a0), (9, 0), (0, a2), (0, a3)]) (st' := [(0, a3)]) rfl ?_
      exact v_iret (j := 21) rfl rfl rfl trivial H
    · replace H := H.2 q
      refine v_run 12 1 (pc' := 23) (ls' := [(1, a0), (9, 0), (0, a2), (0, a3)]) (st' := [(1, a0)]) rfl ?_
      refine v_getf (j := 13) (c := 8) (f := 0) rfl rfl rfl rfl rfl rfl rfl rfl (t1) ?_
      refine v_run 14 1 (pc' := 27) (ls' := [(1, a0), (9, 0), (0, a2), (0, a3)]) (st' := [(1, a0), (1, (m a0 0))]) rfl ?_
      refine v_getf (j := 15) (c := 8) (f := 0) rfl rfl rfl rfl rfl rfl rfl rfl (t1) ?_
      refine v_callS (j := 16) (M' := mX7_pop) (as := [(1, (m a0 0))]) (st := [(1, (m a0 0))]) rfl rfl rfl rfl rfl (Nat.le_of_ble_eq_true rfl) (Nat.le_of_ble_eq_true rfl) (by omega) (kv0 (st' := fun v => [(1, v), (1, (m a0 0))]) rfl (fun _ => rfl)) (H.mono (fun k v3 m4 H => ⟨H.1, ?_⟩))
      have K5 := H.2.1.2.1 K
      have t6 := Ok.tag H.2.1 (t1) (by decide)
      have t7 := Ok.tag H.2.1 (t2) (by decide)
      replace H := H.2.2
      refine v_callS (j := 17) (M' := mX7_push) (as := [(1, (m a0 0)), (1, v3)]) (st := []) rfl rfl rfl rfl rfl (Nat.le_of_ble_eq_true rfl) (Nat.le_of_ble_eq_true rfl) (by omega) (kv0 (st' := fun v => []) rfl (fun _ => rfl)) (H.mono (fun k v8 m9 H => ⟨H.1, ?_⟩))
      have K10 := H.2.1.2.1 K5
      have t11 := Ok.tag H.2.1 (t6) (by decide)
      replace H := H.2.2
      refine v_run 18 1 (pc' := 39) (ls' := [(1, a0), (9, 0), (0, a2), (0, (wr (a3 + 1)))]) (st' := []) rfl ?_
      refine v_goto (j := 19) (tgt := 7) rfl rfl ?_
      exact H

set_option maxRecDepth 100000 in
set_option maxHeartbeats 4000000 in
theorem wX7_pair {G : GM} {d : Nat} {P : Nat → Int → SM → Prop} {m : SM} {a0 a1 a2 : Int} (K : KI m) (hd : 12 ≤ d) 
    (H : (m a0 (-1) = 9) ∧ (WV G mX7_begin 0 [(1, a0), (1, a1)] [] m (d - 1) (fun k v2 m3 => k = 0 ∧ Ok m m3 ∧ ((m3 (m3 a0 1) (-1) = 4) ∧ (∀ m7, Rclr m3 (m3 a0 1) 0 m7 → Ok m3 m7 → ((m7 (m7 a0 1) (-1) = 4) ∧ (elOK m7 a2) ∧ (m7 (m7 a0 1) (-2) < 100000) ∧ (m7 0 0 ≤ 1203200) ∧ (m7 0 1 + 2 * m7 (m7 a0 1) (-2) + 20 ≤ 5491882) ∧ (∀ m13, Radd m7 (m7 a0 1) a2 m13 → Ok m7 m13 → (P 0 0 m13)))))))) :
    WV G mX7_pair 0 [(1, a0), (1, a1), (1, a2)] [] m d P := by
  refine v_run 0 2 (pc' := 2) (ls' := [(1, a0), (1, a1), (1, a2)]) (st' := [(1, a1), (1, a0)]) rfl ?_
  obtain ⟨t1, H⟩ := H
  refine v_callV (j := 2) (M' := mX7_begin) (as := [(1, a1)]) (st := []) rfl rfl rfl rfl rfl (Nat.le_of_ble_eq_true rfl) (Nat.le_of_ble_eq_true rfl) (by omega) (by decide) (t1) (kv0 (st' := fun v => []) rfl (fun _ => rfl)) (H.mono (fun k v2 m3 H => ⟨H.1, ?_⟩))
  have K4 := H.2.1.2.1 K
  have t5 := Ok.tag H.2.1 (t1) (by decide)
  replace H := H.2.2
  refine v_run 3 1 (pc' := 6) (ls' := [(1, a0), (1, a1), (1, a2)]) (st' := [(1, a0)]) rfl ?_
  refine v_getf (j := 4) (c := 8) (f := 1) rfl rfl rfl rfl rfl rfl rfl rfl (t5) ?_
  obtain ⟨t6, H⟩ := H
  refine vj_clear (j := 5) rfl rfl rfl rfl (t6) (by omega) (by simp)  (fun m7 e8 => ?_)
  have O9 : Ok m3 m7 := e8.1.ok (t6) (by decide)
  have K10 := O9.2.1 K4
  have t11 := Ok.tag O9 (t5) (by decide)
  replace H := H m7 e8 O9
  refine v_run 6 1 (pc' := 13) (ls' := [(1, a0), (1, a1), (1, a2)]) (st' := [(1, a0)]) rfl ?_
  refine v_getf (j := 7) (c := 8) (f := 1) rfl rfl rfl rfl rfl rfl rfl rfl (t11) ?_
  refine v_run 8 1 (pc' := 17) (ls' := [(1, a0), (1, a1), (1, a2)]) (st' := [(1, a2), (1, (m7 a0 1))]) rfl ?_
  obtain ⟨t12, v15, i16, r17, r18, H⟩ := H
  refine vj_add (j := 9) rfl rfl rfl rfl (t12) (by omega) (by simp) v15 i16 r17 r18 (fun m13 e14 => ?_)
  have O19 : Ok m7 m13 := e14.1.ok (t12) (by decide)
  have K20 := O19.2.1 K10
  have t21 := Ok.tag O19 (t11) (by decide)
  replace H := H m13 e14 O19
  refine v_run 10 1 (pc' := 21) (ls' := [(1, a0), (1, a1), (1, a2)]) (st' := []) rfl ?_
  exact v_vret (j := 11) rfl rfl H

set_option maxRecDepth 100000 in
set_option maxHeartbeats 4000000 in
theorem wX7_pop {G : GM} {d : Nat} {P : Nat → Int → SM → Prop} {m : SM} {a0 : Int} (K : KI m) (hd : 12 ≤ d) 
    (H : (m a0 (-1) = 4) ∧ ((0 ≤ (wr ((m a0 (-2)) - 1))) ∧ ((wr ((m a0 (-2)) - 1)) = m a0 (-2) - 1) ∧ (∀ m2, Rrem m a0 m2 → Ok m m2 → (((m a0 (wr ((m a0 (-2)) - 1))) = 0 ∨ m2 (m a0 (wr ((m a0 (-2)) - 1))) (-1) = 11) ∧ ((m2 (m a0 (wr ((m a0 (-2)) - 1))) (-1) = 11) ∧ (WV G mX9_seen 0 [(1, (m a0 (wr ((m a0 (-2)) - 1)))), (9, 0)] [] m2 (d - 1) (fun k v11 m12 => k = 0 ∧ Ok m2 m12 ∧ (P 0 v11 m12)))))))) :
    WV G mX7_pop 0 [(1, a0)] [] m d P := by
  refine v_run 0 2 (pc' := 2) (ls' := [(1, a0)]) (st' := [(1, a0), (1, a0)]) rfl ?_
  obtain ⟨t1, H⟩ := H
  refine vj_size (j := 2) rfl rfl rfl rfl (t1) (by omega) (by simp) ?_
  refine v_run 3 2 (pc' := 7) (ls' := [(1, a0)]) (st' := [(0, (wr ((m a0 (-2)) - 1))), (1, a0)]) rfl ?_
  obtain ⟨i4, i5, H⟩ := H
  refine vj_remove (j := 5) rfl rfl rfl rfl (t1) (by omega) (by simp) i4 i5 (fun m2 e3 => ?_)
  have O6 : Ok m m2 := e3.1.ok (t1) (by decide)
  have K7 := O6.2.1 K
  have t8 := Ok.tag O6 (t1) (by decide)
  replace H := H m2 e3 O6
  obtain ⟨c9, H⟩ := H
  refine v_cast (j := 6) (c := 10) rfl rfl rfl rfl rfl (c9) ?_
  obtain ⟨t10, H⟩ := H
  refine v_callV (j := 7) (M' := mX9_seen) (as := []) (st := []) rfl rfl rfl rfl rfl (Nat.le_of_ble_eq_true rfl) (Nat.le_of_ble_eq_true rfl) (by omega) (by decide) (t10) (kv0 (st' := fun v => [(1, v)]) rfl (fun _ => rfl)) (H.mono (fun k v11 m12 H => ⟨H.1, ?_⟩))
  have K13 := H.2.1.2.1 K7
  have t14 := Ok.tag H.2.1 (t8) (by decide)
  replace H := H.2.2
  exact v_aret (j := 8) rfl rfl rfl H

set_option maxRecDepth 100000 in
set_option maxHeartbeats 4000000 in
theorem wX7_push {G : GM} {d : Nat} {P : Nat → Int → SM → Prop} {m : SM} {a0 a1 : Int} (K : KI m) (hd : 12 ≤ d) 
    (H : (m a0 (-1) = 4) ∧ ((m a1 (-1) = 11) ∧ (WV G mX7_push 10 [(1, a0), (9, 0), (0, (m a0 (-2))), (1, (m a1 3)), (9, 0), (9, 0)] [] m d P))) :
    WV G mX7_push 0 [(1, a0), (1, a1), (9, 0), (9, 0), (9, 0), (9, 0)] [] m d P := by
  refine v_run 0 1 (pc' := 1) (ls' := [(1, a0), (1, a1), (9, 0), (9, 0), (9, 0), (9, 0)]) (st' := [(1, a0)]) rfl ?_
  obtain ⟨t1, H⟩ := H
  refine vj_size (j := 1) rfl rfl rfl rfl (t1) (by omega) (by simp) ?_
  refine v_run 2 2 (pc' := 6) (ls' := [(1, a0), (1, a1), (0, (m a0 (-2))), (9, 0), (9, 0), (9, 0)]) (st' := [(1, a1)]) rfl ?_
  obtain ⟨t2, H⟩ := H
  refine v_getf (j := 4) (c := 10) (f := 3) rfl rfl rfl rfl rfl rfl rfl rfl (t2) ?_
  refine v_run 5 1 (pc' := 10) (ls' := [(1, a0), (1, a1), (0, (m a0 (-2))), (1, (m a1 3)), (9, 0), (9, 0)]) (st' := []) rfl ?_
  refine v_drp [true, false, true, true, false, false] ?_
  exact H

set_option maxRecDepth 100000 in
set_option maxHeartbeats 4000000 in
theorem wX7_push_10 {G : GM} {d : Nat} {P : Nat → Int → SM → Prop} {m : SM} {a0 a2 a3 : Int} (K : KI m) (hd : 12 ≤ d) 
    (H : (a3 = 0 → ((m a0 (-1) = 4) ∧ (WV G mX7_push 41 [(1, a0), (9, 0), (9, 0), (0, a2), (0, (wr ((m a0 (-2)) - 1))), (9, 0)] [] m d P))) ∧ (a3 ≠ 0 → ((m a3 (-1) = 16) ∧ ((m a0 (-1) = 4) ∧ (elOK m (m a3 0)) ∧ (m a0 (-2) < 100000) ∧ (m 0 0 ≤ 1203200) ∧ (m 0 1 + 2 * m a0 (-2) + 20 ≤ 5491882) ∧ (∀ m4, Radd m a0 (m a3 0) m4 → Ok m m4 → (WV G mX7_push 10 [(1, a0), (9, 0), (0, a2), (1, (m4 a3 1)), (9, 0), (9, 0)] [] m4 d P)))))) :
    WV G mX7_push 10 [(1, a0), (9, 0), (0, a2), (1, a3), (9, 0), (9, 0)] [] m d P := by
  refine v_run 6 1 (pc' := 11) (ls' := [(1, a0), (9, 0), (0, a2), (1, a3), (9, 0), (9, 0)]) (st' := [(1, a3)]) rfl ?_
  refine v_null (j := 7) rfl rfl rfl (fun q => ?_) (fun q => ?_)
  · replace H := H.1 q
    refine v_run 17 3 (pc' := 34) (ls' := [(1, a0), (9, 0), (0, a2), (0, a2), (9, 0), (9, 0)]) (st' := [(1, a0)]) rfl ?_
    obtain ⟨t1, H⟩ := H
    refine vj_size (j := 20) rfl rfl rfl rfl (t1) (by omega) (by simp) ?_
    refine v_run 21 3 (pc' := 41) (ls' := [(1, a0), (9, 0), (0, a2), (0, a2), (0, (wr ((m a0 (-2)) - 1))), (9, 0)]) (st' := []) rfl ?_
    refine v_drp [true, false, false, true, true, false] ?_
    exact H
  · replace H := H.2 q
    refine v_run 8 2 (pc' := 16) (ls' := [(1, a0), (9, 0), (0, a2), (1, a3), (9, 0), (9, 0)]) (st' := [(1, a3), (1, a0)]) rfl ?_
    obtain ⟨t2, H⟩ := H
    refine v_getf (j := 10) (c := 15) (f := 0) rfl rfl rfl rfl rfl rfl rfl rfl (t2) ?_
    obtain ⟨t3, v6, i7, r8, r9, H⟩ := H
    refine vj_add (j := 11) rfl rfl rfl rfl (t3) (by omega) (by simp) v6 i7 r8 r9 (fun m4 e5 => ?_)
    have O10 : Ok m m4 := e5.1.ok (t3) (by decide)
    have K11 := O10.2.1 K
    have t12 := Ok.tag O10 (t2) (by decide)
    have t13 := Ok.tag O10 (t3) (by decide)
    replace H := H m4 e5 O10
    refine v_run 12 2 (pc' := 24) (ls' := [(1, a0), (9, 0), (0, a2), (1, a3), (9, 0), (9, 0)]) (st' := [(1, a3)]) rfl ?_
    refine v_getf (j := 14) (c := 15) (f := 1) rfl rfl rfl rfl rfl rfl rfl rfl (t12) ?_
    refine v_run 15 1 (pc' := 28) (ls' := [(1, a0), (9, 0), (0, a2), (1, (m4 a3 1)), (9, 0), (9, 0)]) (st' := []) rfl ?_
    refine v_goto (j := 16) (tgt := 10) rfl rfl ?_
    exact H

set_option maxRecDepth 100000 in
set_option maxHeartbeats 4000000 in
theorem wX7_push_41 {G : GM} {d : Nat} {P : Nat → Int → SM → Prop} {m : SM} {a0 a3 a4 : Int} (K : KI m) (hd : 12 ≤ d) 
    (H : (a4 ≤ a3 → (P 0 0 m)) ∧ (a3 < a4 → ((m a0 (-1) = 4) ∧ (0 ≤ a3) ∧ (a3 < m a0 (-2)) ∧ (((m a0 a3) = 0 ∨ m (m a0 a3) (-1) = 11) ∧ ((0 ≤ a4) ∧ (a4 < m a0 (-2)) ∧ (((m a0 a4) = 0 ∨ m (m a0 a4) (-1) = 11) ∧ ((0 ≤ a3) ∧ (a3 < m a0 (-2)) ∧ (elOK m (m a0 a4)) ∧ (∀ m8, Rset m a0 a3 (m a0 a4) m8 → Ok m m8 → ((0 ≤ a4) ∧ (a4 < m8 a0 (-2)) ∧ (elOK m8 (m a0 a3)) ∧ (∀ m16, Rset m8 a0 a4 (m a0 a3) m16 → Ok m8 m16 → (WV G mX7_push 41 [(1, a0), (9, 0), (9, 0), (0, (wr (a3 + 1))), (0, (wr (a4 + (-1)))), (9, 0)] [] m16 d P))))))))))) :
    WV G mX7_push 41 [(1, a0), (9, 0), (9, 0), (0, a3), (0, a4), (9, 0)] [] m d P := by
  refine v_run 24 2 (pc' := 44) (ls' := [(1, a0), (9, 0), (9, 0), (0, a3), (0, a4), (9, 0)]) (st' := [(0, a4), (0, a3)]) rfl ?_
  refine v_icmpge (j := 26) rfl rfl rfl (fun q => ?_) (fun q => ?_)
  · replace H := H.1 q
    exact v_vret (j := 48) rfl rfl H
  · replace H := H.2 q
    refine v_run 27 2 (pc' := 49) (ls' := [(1, a0), (9, 0), (9, 0), (0, a3), (0, a4), (9, 0)]) (st' := [(0, a3), (1, a0)]) rfl ?_
    obtain ⟨t1, i2, i3, H⟩ := H
    refine vj_get (j := 29) rfl rfl rfl rfl (t1) (by omega) (by simp) i2 i3 ?_
    obtain ⟨c4, H⟩ := H
    refine v_cast (j := 30) (c := 10) rfl rfl rfl rfl rfl (c4) ?_
    refine v_run 31 6 (pc' := 65) (ls' := [(1, a0), (9, 0), (9, 0), (0, (wr (a3 + 1))), (0, a4), (1, (m a0 a3))]) (st' := [(0, a4), (1, a0), (0, a3), (1, a0)]) rfl ?_
    obtain ⟨i5, i6, H⟩ := H
    refine vj_get (j := 37) rfl rfl rfl rfl (t1) (by omega) (by simp) i5 i6 ?_
    obtain ⟨c7, H⟩ := H
    refine v_cast (j := 38) (c := 10) rfl rfl rfl rfl rfl (c7) ?_
    obtain ⟨i10, i11, v12, H⟩ := H
    refine vj_set (j := 39) rfl rfl rfl rfl (t1) (by omega) (by simp) i10 i11 v12 (fun m8 e9 => ?_)
    have O13 : Ok m m8 := e9.1.ok (t1) (by decide)
    have K14 := O13.2.1 K
    have t15 := Ok.tag O13 (t1) (by decide)
    replace H := H m8 e9 O13
    refine v_run 40 5 (pc' := 83) (ls' := [(1, a0), (9, 0), (9, 0), (0, (wr (a3 + 1))), (0, (wr (a4 + (-1)))), (1, (m a0 a3))]) (st' := [(1, (m a0 a3)), (0, a4), (1, a0)]) rfl ?_
    obtain ⟨i18, i19, v20, H⟩ := H
    refine vj_set (j := 45) rfl rfl rfl rfl (t15) (by omega) (by simp) i18 i19 v20 (fun m16 e17 => ?_)
    have O21 : Ok m8 m16 := e17.1.ok (t15) (by decide)
    have K22 := O21.2.1 K14
    have t23 := Ok.tag O21 (t15) (by decide)
    replace H := H m16 e17 O21
    refine v_run 46 1 (pc' := 87) (ls' := [(1, a0), (9, 0), (9, 0), (0, (wr (a3 + 1))), (0, (wr (a4 + (-1)))), (1, (m a0 a3))]) (st' := []) rfl ?_
    refine v_goto (j := 47) (tgt := 41) rfl rfl ?_
    refine v_drp [true, false, false, true, true, false] ?_
    exact H

set_option maxRecDepth 100000 in
set_option maxHeartbeats 4000000 in
theorem wX7_same {G : GM} {d : Nat} {P : Nat → Int → SM → Prop} {m : SM} {a0 a1 a2 : Int} (K : KI m) (hd : 12 ≤ d) 
    (H : (m a0 (-1) = 9) ∧ (WV G mX7_pair 0 [(1, a0), (1, a1), (1, a2)] [] m (d - 1) (fun k v2 m3 => k = 0 ∧ Ok m m3 ∧ (WV G mX7_same 11 [(1, a0), (9, 0), (9, 0), (0, 1), (0, 0), (9, 0), (9, 0)] [] m3 d P)))) :
    WV G mX7_same 0 [(1, a0), (1, a1), (1, a2), (9, 0), (9, 0), (9, 0), (9, 0)] [] m d P := by
  refine v_run 0 3 (pc' := 3) (ls' := [(1, a0), (1, a1), (1, a2), (9, 0), (9, 0), (9, 0), (9, 0)]) (st' := [(1, a2), (1, a1), (1, a0)]) rfl ?_
  obtain ⟨t1, H⟩ := H
  refine v_callV (j := 3) (M' := mX7_pair) (as := [(1, a1), (1, a2)]) (st := []) rfl rfl rfl rfl rfl (Nat.le_of_ble_eq_true rfl) (Nat.le_of_ble_eq_true rfl) (by omega) (by decide) (t1) (kv0 (st' := fun v => []) rfl (fun _ => rfl)) (H.mono (fun k v2 m3 H => ⟨H.1, ?_⟩))
  have K4 := H.2.1.2.1 K
  have t5 := Ok.tag H.2.1 (t1) (by decide)
  replace H := H.2.2
  refine v_run 4 4 (pc' := 11) (ls' := [(1, a0), (1, a1), (1, a2), (0, 1), (0, 0), (9, 0), (9, 0)]) (st' := []) rfl ?_
  refine v_drp [true, false, false, true, true, false, false] ?_
  exact H

set_option maxRecDepth 100000 in
set_option maxHeartbeats 4000000 in
theorem wX7_same_11 {G : GM} {d : Nat} {P : Nat → Int → SM → Prop} {m : SM} {a0 a3 a4 : Int} (K : KI m) (hd : 12 ≤ d) 
    (H : (m a0 (-1) = 9) ∧ ((m (m a0 0) (-1) = 4) ∧ ((m (m a0 0) (-2) = 0 → ((a3 = 0 ∨ a3 = 1) ∧ (P 0 a3 m))) ∧ (¬ (m (m a0 0) (-2) = 0) → ((a3 = (0 : Int) → ((a3 = 0 ∨ a3 = 1) ∧ (P 0 a3 m))) ∧ (a3 ≠ (0 : Int) → (WV G mX7_pop 0 [(1, (m a0 0))] [] m (d - 1) (fun k v5 m6 => k = 0 ∧ Ok m m6 ∧ (WV G mX7_pop 0 [(1, (m6 a0 1))] [] m6 (d - 1) (fun k v9 m10 => k = 0 ∧ Ok m6 m10 ∧ ((a4 = (1000 : Int) → ((m10 0 0 ≤ 1203200) ∧ (m10 0 1 + 6 ≤ 5491882) ∧ (∀ m15, m15 = al m10 18 0 6 → Ok m10 m15 → P 1 (m10 0 0) m15))) ∧ (a4 ≠ (1000 : Int) → ((m10 v5 (-1) = 11) ∧ (((m10 v5 0) = (-18) → ((m10 0 0 ≤ 1203200) ∧ (m10 0 1 + 6 ≤ 5491882) ∧ (∀ m20, m20 = al m10 18 0 6 → Ok m10 m20 → P 1 (m10 0 0) m20))) ∧ (¬ ((m10 v5 0) = (-18)) → ((m10 v9 (-1) = 11) ∧ ((¬ ((m10 v9 0) = (-18)) → (WV G mX7_level 0 [(1, a0), (1, v5), (1, v9)] [] m10 (d - 1) (fun k v23 m24 => k = 0 ∧ Ok m10 m24 ∧ (WV G mX7_same 11 [(1, a0), (9, 0), (9, 0), (0, v23), (0, (wr (a4 + 1))), (9, 0), (9, 0)] [] m24 d P)))) ∧ ((m10 v9 0) = (-18) → ((m10 0 0 ≤ 1203200) ∧ (m10 0 1 + 6 ≤ 5491882) ∧ (∀ m31, m31 = al m10 18 0 6 → Ok m10 m31 → P 1 (m10 0 0) m31)))))))))))))))))))) :
    WV G mX7_same 11 [(1, a0), (9, 0), (9, 0), (0, a3), (0, a4), (9, 0), (9, 0)] [] m d P := by
  refine v_run 8 1 (pc' := 12) (ls' := [(1, a0), (9, 0), (9, 0), (0, a3), (0, a4), (9, 0), (9, 0)]) (st' := [(1, a0)]) rfl ?_
  obtain ⟨t1, H⟩ := H
  refine v_getf (j := 9) (c := 8) (f := 0) rfl rfl rfl rfl rfl rfl rfl rfl (t1) ?_
  obtain ⟨t2, H⟩ := H
  refine vj_isEmpty (j := 10) rfl rfl rfl rfl (t2) (by omega) (by simp) ?_
  refine v_ifne (j := 11) rfl rfl rfl (fun q => ?_) (fun q => ?_)
  · replace H := H.1 (ite1 q)
    refine v_run 44 1 (pc' := 97) (ls' := [(1, a0), (9, 0), (9, 0), (0, a3), (0, a4), (9, 0), (9, 0)]) (st' := [(0, a3)]) rfl ?_
    obtain ⟨r3, H⟩ := H
    exact v_iret (j := 45) rfl rfl rfl r3 H
  · replace H := H.2 (ite0 q)
    refine v_run 12 1 (pc' := 22) (ls' := [(1, a0), (9, 0), (9, 0), (0, a3), (0, a4), (9, 0), (9, 0)]) (st' := [(0, a3)]) rfl ?_
    refine v_ifeq (j := 13) rfl rfl rfl (fun q => ?_) (fun q => ?_)
    · replace H := H.1 q
      refine v_run 44 1 (pc' := 97) (ls' := [(1, a0), (9, 0), (9, 0), (0, a3), (0, a4), (9, 0), (9, 0)]) (st' := [(0, a3)]) rfl ?_
      obtain ⟨r4, H⟩ := H
      exact v_iret (j := 45) rfl rfl rfl r4 H
    · replace H := H.2 q
      refine v_run 14 1 (pc' := 26) (ls' := [(1, a0), (9, 0), (9, 0), (0, a3), (0, a4), (9, 0), (9, 0)]) (st' := [(1, a0)]) rfl ?_
      refine v_getf (j := 15) (c := 8) (f := 0) rfl rfl rfl rfl rfl rfl rfl rfl (t1) ?_
      refine v_callS (j := 16) (M' := mX7_pop) (as := [(1, (m a0 0))]) (st := []) rfl rfl rfl rfl rfl (Nat.le_of_ble_eq_true rfl) (Nat.le_of_ble_eq_true rfl) (by omega) (kv0 (st' := fun v => [(1, v)]) rfl (fun _ => rfl)) (H.mono (fun k v5 m6 H => ⟨H.1, ?_⟩))
      have K7 := H.2.1.2.1 K
      have t8 := Ok.tag H.2.1 (t1) (by decide)
      replace H := H.2.2
      refine v_run 17 2 (pc' := 35) (ls' := [(1, a0), (9, 0), (9, 0), (0, a3), (0, a4), (1, v5), (9, 0)]) (st' := [(1, a0)]) rfl ?_
      refine v_getf (j := 19) (c := 8) (f := 1) rfl rfl rfl rfl rfl rfl rfl rfl (t8) ?_
      refine v_callS (j := 20) (M' := mX7_pop) (as := [(1, (m6 a0 1))]) (st := []) rfl rfl rfl rfl rfl (Nat.le_of_ble_eq_true rfl) (Nat.le_of_ble_eq_true rfl) (by omega) (kv0 (st' := fun v => [(1, v)]) rfl (fun _ => rfl)) (H.mono (fun k v9 m10 H => ⟨H.1, ?_⟩))
      have K11 := H.2.1.2.1 K7
      have t12 := Ok.tag H.2.1 (t8) (by decide)
      replace H := H.2.2
      refine v_run 21 3 (pc' := 48) (ls' := [(1, a0), (9, 0), (9, 0), (0, a3), (0, a4), (1, v5), (1, v9)]) (st' := [(0, 1000), (0, a4)]) rfl ?_
      refine v_icmpeq (j := 24) rfl rfl rfl (fun q => ?_) (fun q => ?_)
      · replace H := H.1 q
        obtain ⟨r13, r14, H⟩ := H
        refine v_throw (j := 33) (j1 := 34) (j2 := 35) (j3 := 36) (c := 17) (ic := 114) rfl rfl rfl rfl rfl rfl rfl (by decide) rfl rfl rfl (by omega) (by simp) r13 r14 (fun B m15 e16 => ?_)
        exact H m15 e16 (Ok.nw B e16)
      · replace H := H.2 q
        refine v_run 25 1 (pc' := 53) (ls' := [(1, a0), (9, 0), (9, 0), (0, a3), (0, a4), (1, v5), (1, v9)]) (st' := [(1, v5)]) rfl ?_
        refine v_gets (j := 26) (g := 1) (v := (-18)) rfl rfl rfl rfl ?_
        obtain ⟨t17, H⟩ := H
        refine v_callV (j := 27) (M' := mX9_is) (as := [(1, (-18))]) (st := []) rfl rfl rfl rfl rfl (Nat.le_of_ble_eq_true rfl) (Nat.le_of_ble_eq_true rfl) (by omega) (by decide) (t17) (kv0 (st' := fun v => [(0, v)]) rfl (fun _ => rfl)) (ipX9_is (t17) ⟨rfl, ?_⟩)
        refine v_ifne (j := 28) rfl rfl rfl (fun q => ?_) (fun q => ?_)
        · replace H := H.1 (ite1 q)
          obtain ⟨r18, r19, H⟩ := H
          refine v_throw (j := 33) (j1 := 34) (j2 := 35) (j3 := 36) (c := 17) (ic := 114) rfl rfl rfl rfl rfl rfl rfl (by decide) rfl rfl rfl (by omega) (by simp) r18 r19 (fun B m20 e21 => ?_)
          exact H m20 e21 (Ok.nw B e21)
        · replace H := H.2 (ite0 q)
          refine v_run 29 1 (pc' := 64) (ls' := [(1, a0), (9, 0), (9, 0), (0, a3), (0, a4), (1, v5), (1, v9)]) (st' := [(1, v9)]) rfl ?_
          refine v_gets (j := 30) (g := 1) (v := (-18)) rfl rfl rfl rfl ?_
          obtain ⟨t22, H⟩ := H
          refine v_callV (j := 31) (M' := mX9_is) (as := [(1, (-18))]) (st := []) rfl rfl rfl rfl rfl (Nat.le_of_ble_eq_true rfl) (Nat.le_of_ble_eq_true rfl) (by omega) (by decide) (t22) (kv0 (st' := fun v => [(0, v)]) rfl (fun _ => rfl)) (ipX9_is (t22) ⟨rfl, ?_⟩)
          refine v_ifeq (j := 32) rfl rfl rfl (fun q => ?_) (fun q => ?_)
          · replace H := H.1 (ite0 q)
            refine v_run 37 3 (pc' := 86) (ls' := [(1, a0), (9, 0), (9, 0), (0, a3), (0, a4), (1, v5), (1, v9)]) (st' := [(1, v9), (1, v5), (1, a0)]) rfl ?_
            refine v_callV (j := 40) (M' := mX7_level) (as := [(1, v5), (1, v9)]) (st := []) rfl rfl rfl rfl rfl (Nat.le_of_ble_eq_true rfl) (Nat.le_of_ble_eq_true rfl) (by omega) (by decide) (t12) (kv0 (st' := fun v => [(0, v)]) rfl (fun _ => rfl)) (H.mono (fun k v23 m24 H => ⟨H.1, ?_⟩))
            have K25 := H.2.1.2.1 K11
            have t26 := Ok.tag H.2.1 (t12) (by decide)
            have t27 := Ok.tag H.2.1 (t17) (by decide)
            have t28 := Ok.tag H.2.1 (t22) (by decide)
            replace H := H.2.2
            refine v_run 41 2 (pc' := 93) (ls' := [(1, a0), (9, 0), (9, 0), (0, v23), (0, (wr (a4 + 1))), (1, v5), (1, v9)]) (st' := []) rfl ?_
            refine v_goto (j := 43) (tgt := 11) rfl rfl ?_
            refine v_drp [true, false, false, true, true, false, false] ?_
            exact H
          · replace H := H.2 (ite1 q)
            obtain ⟨r29, r30, H⟩ := H
            refine v_throw (j := 33) (j1 := 34) (j2 := 35) (j3 := 36) (c := 17) (ic := 114) rfl rfl rfl rfl rfl rfl rfl (by decide) rfl rfl rfl (by omega) (by simp) r29 r30 (fun B m31 e32 => ?_)
            exact H m31 e32 (Ok.nw B e32)

set_option maxRecDepth 100000 in
set_option maxHeartbeats 4000000 in
theorem wX7_unite {G : GM} {d : Nat} {P : Nat → Int → SM → Prop} {m : SM} {a0 a1 a2 a3 : Int} (K : KI m) (hd : 12 ≤ d) 
    (H : (m a0 (-1) = 9) ∧ (WV G mX7_pair 0 [(1, a0), (1, a2), (1, a3)] [] m (d - 1) (fun k v2 m3 => k = 0 ∧ Ok m m3 ∧ (WV G mX7_unite 12 [(1, a0), (1, a1), (9, 0), (9, 0), (0, 1), (0, 0), (9, 0), (9, 0), (9, 0), (9, 0)] [] m3 d P)))) :
    WV G mX7_unite 0 [(1, a0), (1, a1), (1, a2), (1, a3), (9, 0), (9, 0), (9, 0), (9, 0), (9, 0), (9, 0)] [] m d P := by
  refine v_run 0 3 (pc' := 3) (ls' := [(1, a0), (1, a1), (1, a2), (1, a3), (9, 0), (9, 0), (9, 0), (9, 0), (9, 0), (9, 0)]) (st' := [(1, a3), (1, a2), (1, a0)]) rfl ?_
  obtain ⟨t1, H⟩ := H
  refine v_callV (j := 3) (M' := mX7_pair) (as := [(1, a2), (1, a3)]) (st := []) rfl rfl rfl rfl rfl (Nat.le_of_ble_eq_true rfl) (Nat.le_of_ble_eq_true rfl) (by omega) (by decide) (t1) (kv0 (st' := fun v => []) rfl (fun _ => rfl)) (H.mono (fun k v2 m3 H => ⟨H.1, ?_⟩))
  have K4 := H.2.1.2.1 K
  have t5 := Ok.tag H.2.1 (t1) (by decide)
  replace H := H.2.2
  refine v_run 4 4 (pc' := 12) (ls' := [(1, a0), (1, a1), (1, a2), (1, a3), (0, 1), (0, 0), (9, 0), (9, 0), (9, 0), (9, 0)]) (st' := []) rfl ?_
  refine v_drp [true, true, false, false, true, true, false, false, false, false] ?_
  exact H

set_option maxRecDepth 100000 in
set_option maxHeartbeats 4000000 in
theorem wX7_unite_12 {G : GM} {d : Nat} {P : Nat → Int → SM → Prop} {m : SM} {a0 a1 a4 a5 : Int} (K : KI m) (hd : 12 ≤ d) 
    (H : (m a0 (-1) = 9) ∧ ((m (m a0 0) (-1) = 4) ∧ ((m (m a0 0) (-2) = 0 → ((a4 = 0 ∨ a4 = 1) ∧ (P 0 a4 m))) ∧ (¬ (m (m a0 0) (-2) = 0) → ((a4 = (0 : Int) → ((a4 = 0 ∨ a4 = 1) ∧ (P 0 a4 m))) ∧ (a4 ≠ (0 : Int) → (WV G mX7_pop 0 [(1, (m a0 0))] [] m (d - 1) (fun k v5 m6 => k = 0 ∧ Ok m m6 ∧ (WV G mX7_pop 0 [(1, (m6 a0 1))] [] m6 (d - 1) (fun k v9 m10 => k = 0 ∧ Ok m6 m10 ∧ ((v5 ≠ v9 → (WV G mX7_unite 74 [(1, a0), (1, a1), (9, 0), (9, 0), (9, 0), (0, a5), (1, v5), (1, v9), (9, 0), (9, 0)] [] m10 d P)) ∧ (v5 = v9 → ((m10 v5 (-1) = 11) ∧ ((¬ ((m10 v5 0) = (-18)) → (WV G mX7_unite 74 [(1, a0), (1, a1), (9, 0), (9, 0), (9, 0), (0, a5), (1, v5), (1, v9), (9, 0), (9, 0)] [] m10 d P)) ∧ ((m10 v5 0) = (-18) → (((1000 : Int) ≤ a5 → (WV G mX7_unite 74 [(1, a0), (1, a1), (9, 0), (9, 0), (9, 0), (0, a5), (1, v5), (1, v9), (9, 0), (9, 0)] [] m10 d P)) ∧ (a5 < (1000 : Int) → (WV G mX7_unite 12 [(1, a0), (1, a1), (9, 0), (9, 0), (0, a4), (0, (wr (a5 + 1))), (9, 0), (9, 0), (9, 0), (9, 0)] [] m10 d P)))))))))))))))))) :
    WV G mX7_unite 12 [(1, a0), (1, a1), (9, 0), (9, 0), (0, a4), (0, a5), (9, 0), (9, 0), (9, 0), (9, 0)] [] m d P := by
  refine v_run 8 1 (pc' := 13) (ls' := [(1, a0), (1, a1), (9, 0), (9, 0), (0, a4), (0, a5), (9, 0), (9, 0), (9, 0), (9, 0)]) (st' := [(1, a0)]) rfl ?_
  obtain ⟨t1, H⟩ := H
  refine v_getf (j := 9) (c := 8) (f := 0) rfl rfl rfl rfl rfl rfl rfl rfl (t1) ?_
  obtain ⟨t2, H⟩ := H
  refine vj_isEmpty (j := 10) rfl rfl rfl rfl (t2) (by omega) (by simp) ?_
  refine v_ifne (j := 11) rfl rfl rfl (fun q => ?_) (fun q => ?_)
  · replace H := H.1 (ite1 q)
    refine v_run 87 1 (pc' := 205) (ls' := [(1, a0), (1, a1), (9, 0), (9, 0), (0, a4), (0, a5), (9, 0), (9, 0), (9, 0), (9, 0)]) (st' := [(0, a4)]) rfl ?_
    obtain ⟨r3, H⟩ := H
    exact v_iret (j := 88) rfl rfl rfl r3 H
  · replace H := H.2 (ite0 q)
    refine v_run 12 1 (pc' := 24) (ls' := [(1, a0), (1, a1), (9, 0), (9, 0), (0, a4), (0, a5), (9, 0), (9, 0), (9, 0), (9, 0)]) (st' := [(0, a4)]) rfl ?_
    refine v_ifeq (j := 13) rfl rfl rfl (fun q => ?_) (fun q => ?_)
    · replace H := H.1 q
      refine v_run 87 1 (pc' := 205) (ls' := [(1, a0), (1, a1), (9, 0), (9, 0), (0, a4), (0, a5), (9, 0), (9, 0), (9, 0), (9, 0)]) (st' := [(0, a4)]) rfl ?_
      obtain ⟨r4, H⟩ := H
      exact v_iret (j := 88) rfl rfl rfl r4 H
    · replace H := H.2 q
      refine v_run 14 1 (pc' := 28) (ls' := [(1, a0), (1, a1), (9, 0), (9, 0), (0, a4), (0, a5), (9, 0), (9, 0), (9, 0), (9, 0)]) (st' := [(1, a0)]) rfl ?_
      refine v_getf (j := 15) (c := 8) (f := 0) rfl rfl rfl rfl rfl rfl rfl rfl (t1) ?_
      refine v_callS (j := 16) (M' := mX7_pop) (as := [(1, (m a0 0))]) (st := []) rfl rfl rfl rfl rfl (Nat.le_of_ble_eq_true rfl) (Nat.le_of_ble_eq_true rfl) (by omega) (kv0 (st' := fun v => [(1, v)]) rfl (fun _ => rfl)) (H.mono (fun k v5 m6 H => ⟨H.1, ?_⟩))
      have K7 := H.2.1.2.1 K
      have t8 := Ok.tag H.2.1 (t1) (by decide)
      replace H := H.2.2
      refine v_run 17 2 (pc' := 37) (ls' := [(1, a0), (1, a1), (9, 0), (9, 0), (0, a4), (0, a5), (1, v5), (9, 0), (9, 0), (9, 0)]) (st' := [(1, a0)]) rfl ?_
      refine v_getf (j := 19) (c := 8) (f := 1) rfl rfl rfl rfl rfl rfl rfl rfl (t8) ?_
      refine v_callS (j := 20) (M' := mX7_pop) (as := [(1, (m6 a0 1))]) (st := []) rfl rfl rfl rfl rfl (Nat.le_of_ble_eq_true rfl) (Nat.le_of_ble_eq_true rfl) (by omega) (kv0 (st' := fun v => [(1, v)]) rfl (fun _ => rfl)) (H.mono (fun k v9 m10 H => ⟨H.1, ?_⟩))
      have K11 := H.2.1.2.1 K7
      have t12 := Ok.tag H.2.1 (t8) (by decide)
      replace H := H.2.2
      refine v_run 21 3 (pc' := 49) (ls' := [(1, a0), (1, a1), (9, 0), (9, 0), (0, a4), (0, a5), (1, v5), (1, v9), (9, 0), (9, 0)]) (st' := [(1, v9), (1, v5)]) rfl ?_
      refine v_ane (j := 24) rfl rfl rfl (fun q => ?_) (fun q => ?_)
      · replace H := H.1 q
        refine v_drp [true, true, false, false, false, true, true, true, false, false] ?_
        exact H
      · replace H := H.2 q
        refine v_run 25 1 (pc' := 54) (ls' := [(1, a0), (1, a1), (9, 0), (9, 0), (0, a4), (0, a5), (1, v5), (1, v9), (9, 0), (9, 0)]) (st' := [(1, v5)]) rfl ?_
        refine v_gets (j := 26) (g := 1) (v := (-18)) rfl rfl rfl rfl ?_
        obtain ⟨t13, H⟩ := H
        refine v_callV (j := 27) (M' := mX9_is) (as := [(1, (-18))]) (st := []) rfl rfl rfl rfl rfl (Nat.le_of_ble_eq_true rfl) (Nat.le_of_ble_eq_true rfl) (by omega) (by decide) (t13) (kv0 (st' := fun v => [(0, v)]) rfl (fun _ => rfl)) (ipX9_is (t13) ⟨rfl, ?_⟩)
        refine v_ifeq (j := 28) rfl rfl rfl (fun q => ?_) (fun q => ?_)
        · replace H := H.1 (ite0 q)
          refine v_drp [true, true, false, false, false, true, true, true, false, false] ?_
          exact H
        · replace H := H.2 (ite1 q)
          refine v_run 29 2 (pc' := 68) (ls' := [(1, a0), (1, a1), (9, 0), (9, 0), (0, a4), (0, a5), (1, v5), (1, v9), (9, 0), (9, 0)]) (st' := [(0, 1000), (0, a5)]) rfl ?_
          refine v_icmpge (j := 31) rfl rfl rfl (fun q => ?_) (fun q => ?_)
          · replace H := H.1 q
            refine v_drp [true, true, false, false, false, true, true, true, false, false] ?_
            exact H
          · replace H := H.2 q
            refine v_goto (j := 32) (tgt := 197) rfl rfl ?_
            refine v_run 85 1 (pc' := 200) (ls' := [(1, a0), (1, a1), (9, 0), (9, 0), (0, a4), (0, (wr (a5 + 1))), (1, v5), (1, v9), (9, 0), (9, 0)]) (st' := []) rfl ?_
            refine v_goto (j := 86) (tgt := 12) rfl rfl ?_
            refine v_drp [true, true, false, false, true, true, false, false, false, false] ?_
            exact H

set_option maxRecDepth 100000 in
set_option maxHeartbeats 4000000 in
theorem wX7_unite_74 {G : GM} {d : Nat} {P : Nat → Int → SM → Prop} {m : SM} {a0 a1 a5 a6 a7 : Int} (K : KI m) (hd : 12 ≤ d) 
    (H : (m a6 (-1) = 11) ∧ ((a5 ≠ (1000 : Int) → ((m (if (m a6 0) = (-18) then a6 else a7) (-1) = 11) ∧ ((((if (m (if (m a6 0) = (-18) then a6 else a7) 0) = (-18) then 1 else 0) : Int) ≠ 0 → ((m a1 (-1) = 9) ∧ (WV G mX7_nodes 0 [(1, a1), (1, (if (m a6 0) = (-18) then a7 else a6)), (0, 200), (9, 0)] [] m (d - 1) (fun k v4 m5 => k = 0 ∧ Ok m m5 ∧ (((200 : Int) < v4 → (WV G mX7_unite 12 [(1, a0), (1, a1), (9, 0), (9, 0), (0, 0), (0, (wr (a5 + 1))), (9, 0), (9, 0), (9, 0), (9, 0)] [] m5 d P)) ∧ (v4 ≤ (200 : Int) → (WV G mX7_lies 0 [(1, a1), (1, (if (m a6 0) = (-18) then a6 else a7)), (1, (if (m a6 0) = (-18) then a7 else a6)), (9, 0), (9, 0)] [] m5 (d - 1) (fun k v10 m11 => k = 0 ∧ Ok m5 m11 ∧ ((((if v10 ≠ (0 : Int) then 0 else 1) : Int) = 0 → (WV G mX7_unite 12 [(1, a0), (1, a1), (9, 0), (9, 0), (0, (if v10 ≠ (0 : Int) then 0 else 1)), (0, (wr (a5 + 1))), (9, 0), (9, 0), (9, 0), (9, 0)] [] m11 d P)) ∧ (((if v10 ≠ (0 : Int) then 0 else 1) : Int) ≠ 0 → (∀ m16, m16 = up m11 (if (m a6 0) = (-18) then a6 else a7) 4 (if (m a6 0) = (-18) then a7 else a6) → Ok m11 m16 → (WV G mX7_unite 12 [(1, a0), (1, a1), (9, 0), (9, 0), (0, (if v10 ≠ (0 : Int) then 0 else 1)), (0, (wr (a5 + 1))), (9, 0), (9, 0), (9, 0), (9, 0)] [] m16 d P)))))))))))) ∧ (((if (m (if (m a6 0) = (-18) then a6 else a7) 0) = (-18) then 1 else 0) : Int) = 0 → ((m a0 (-1) = 9) ∧ (WV G mX7_level 0 [(1, a0), (1, a6), (1, a7)] [] m (d - 1) (fun k v25 m26 => k = 0 ∧ Ok m m26 ∧ (WV G mX7_unite 12 [(1, a0), (1, a1), (9, 0), (9, 0), (0, v25), (0, (wr (a5 + 1))), (9, 0), (9, 0), (9, 0), (9, 0)] [] m26 d P)))))))) ∧ (a5 = (1000 : Int) → (WV G mX7_unite 12 [(1, a0), (1, a1), (9, 0), (9, 0), (0, 0), (0, (wr (a5 + 1))), (9, 0), (9, 0), (9, 0), (9, 0)] [] m d P)))) :
    WV G mX7_unite 74 [(1, a0), (1, a1), (9, 0), (9, 0), (9, 0), (0, a5), (1, a6), (1, a7), (9, 0), (9, 0)] [] m d P := by
  refine v_run 33 1 (pc' := 76) (ls' := [(1, a0), (1, a1), (9, 0), (9, 0), (9, 0), (0, a5), (1, a6), (1, a7), (9, 0), (9, 0)]) (st' := [(1, a6)]) rfl ?_
  refine v_gets (j := 34) (g := 1) (v := (-18)) rfl rfl rfl rfl ?_
  obtain ⟨t1, H⟩ := H
  refine v_callV (j := 35) (M' := mX9_is) (as := [(1, (-18))]) (st := []) rfl rfl rfl rfl rfl (Nat.le_of_ble_eq_true rfl) (Nat.le_of_ble_eq_true rfl) (by omega) (by decide) (t1) (kv0 (st' := fun v => [(0, v)]) rfl (fun _ => rfl)) (ipX9_is (t1) ⟨rfl, ?_⟩)
  have J32 : WV G mX7_unite 92 [(1, a0), (1, a1), (9, 0), (9, 0), (9, 0), (0, a5), (1, a6), (1, a7), (9, 0), (9, 0)] [(1, (if (m a6 0) = (-18) then a6 else a7))] m d P := by
    refine v_run 40 2 (pc' := 96) (ls' := [(1, a0), (1, a1), (9, 0), (9, 0), (9, 0), (0, a5), (1, a6), (1, a7), (1, (if (m a6 0) = (-18) then a6 else a7)), (9, 0)]) (st' := [(1, a6)]) rfl ?_
    refine v_gets (j := 42) (g := 1) (v := (-18)) rfl rfl rfl rfl ?_
    refine v_callV (j := 43) (M' := mX9_is) (as := [(1, (-18))]) (st := []) rfl rfl rfl rfl rfl (Nat.le_of_ble_eq_true rfl) (Nat.le_of_ble_eq_true rfl) (by omega) (by decide) (t1) (kv0 (st' := fun v => [(0, v)]) rfl (fun _ => rfl)) (ipX9_is (t1) ⟨rfl, ?_⟩)
    have J31 : WV G mX7_unite 112 [(1, a0), (1, a1), (9, 0), (9, 0), (9, 0), (0, a5), (1, a6), (1, a7), (1, (if (m a6 0) = (-18) then a6 else a7)), (9, 0)] [(1, (if (m a6 0) = (-18) then a7 else a6))] m d P := by
      refine v_run 48 3 (pc' := 119) (ls' := [(1, a0), (1, a1), (9, 0), (9, 0), (9, 0), (0, a5), (1, a6), (1, a7), (1, (if (m a6 0) = (-18) then a6 else a7)), (1, (if (m a6 0) = (-18) then a7 else a6))]) (st' := [(0, 1000), (0, a5)]) rfl ?_
      refine v_icmpne (j := 51) rfl rfl rfl (fun q => ?_) (fun q => ?_)
      · replace H := H.1 q
        refine v_run 55 1 (pc' := 130) (ls' := [(1, a0), (1, a1), (9, 0), (9, 0), (9, 0), (0, a5), (1, a6), (1, a7), (1, (if (m a6 0) = (-18) then a6 else a7)), (1, (if (m a6 0) = (-18) then a7 else a6))]) (st' := [(1, (if (m a6 0) = (-18) then a6 else a7))]) rfl ?_
        refine v_gets (j := 56) (g := 1) (v := (-18)) rfl rfl rfl rfl ?_
        obtain ⟨t2, H⟩ := H
        refine v_callV (j := 57) (M' := mX9_is) (as := [(1, (-18))]) (st := []) rfl rfl rfl rfl rfl (Nat.le_of_ble_eq_true rfl) (Nat.le_of_ble_eq_true rfl) (by omega) (by decide) (t2) (kv0 (st' := fun v => [(0, v)]) rfl (fun _ => rfl)) (ipX9_is (t2) ⟨rfl, ?_⟩)
        refine v_ifne (j := 58) rfl rfl rfl (fun q => ?_) (fun q => ?_)
        · replace H := H.1 q
          refine v_run 65 3 (pc' := 158) (ls' := [(1, a0), (1, a1), (9, 0), (9, 0), (9, 0), (0, a5), (1, a6), (1, a7), (1, (if (m a6 0) = (-18) then a6 else a7)), (1, (if (m a6 0) = (-18) then a7 else a6))]) (st' := [(0, 200), (1, (if (m a6 0) = (-18) then a7 else a6)), (1, a1)]) rfl ?_
          obtain ⟨t3, H⟩ := H
          refine v_callV (j := 68) (M' := mX7_nodes) (as := [(1, (if (m a6 0) = (-18) then a7 else a6)), (0, 200)]) (st := []) rfl rfl rfl rfl rfl (Nat.le_of_ble_eq_true rfl) (Nat.le_of_ble_eq_true rfl) (by omega) (by decide) (t3) (kv0 (st' := fun v => [(0, v)]) rfl (fun _ => rfl)) (H.mono (fun k v4 m5 H => ⟨H.1, ?_⟩))
          have K6 := H.2.1.2.1 K
          have t7 := Ok.tag H.2.1 (t1) (by decide)
          have t8 := Ok.tag H.2.1 (t2) (by decide)
          have t9 := Ok.tag H.2.1 (t3) (by decide)
          replace H := H.2.2
          refine v_run 69 1 (pc' := 164) (ls' := [(1, a0), (1, a1), (9, 0), (9, 0), (9, 0), (0, a5), (1, a6), (1, a7), (1, (if (m a6 0) = (-18) then a6 else a7)), (1, (if (m a6 0) = (-18) then a7 else a6))]) (st' := [(0, 200), (0, v4)]) rfl ?_
          refine v_icmpgt (j := 70) rfl rfl rfl (fun q => ?_) (fun q => ?_)
          · replace H := H.1 q
            refine v_run 78 3 (pc' := 187) (ls' := [(1, a0), (1, a1), (9, 0), (9, 0), (0, 0), (0, a5), (1, a6), (1, a7), (1, (if (m a6 0) = (-18) then a6 else a7)), (1, (if (m a6 0) = (-18) then a7 else a6))]) (st' := [(0, 0)]) rfl ?_
            refine v_ifeq (j := 81) rfl rfl rfl (fun q => ?_) (fun q => absurd q (by decide))
            refine v_run 85 1 (pc' := 200) (ls' := [(1, a0), (1, a1), (9, 0), (9, 0), (0, 0), (0, (wr (a5 + 1))), (1, a6), (1, a7), (1, (if (m a6 0) = (-18) then a6 else a7)), (1, (if (m a6 0) = (-18) then a7 else a6))]) (st' := []) rfl ?_
            refine v_goto (j := 86) (tgt := 12) rfl rfl ?_
            refine v_drp [true, true, false, false, true, true, false, false, false, false] ?_
            exact H
          · replace H := H.2 q
            refine v_run 71 3 (pc' := 172) (ls' := [(1, a0), (1, a1), (9, 0), (9, 0), (9, 0), (0, a5), (1, a6), (1, a7), (1, (if (m a6 0) = (-18) then a6 else a7)), (1, (if (m a6 0) = (-18) then a7 else a6))]) (st' := [(1, (if (m a6 0) = (-18) then a7 else a6)), (1, (if (m a6 0) = (-18) then a6 else a7)), (1, a1)]) rfl ?_
            refine v_callV (j := 74) (M' := mX7_lies) (as := [(1, (if (m a6 0) = (-18) then a6 else a7)), (1, (if (m a6 0) = (-18) then a7 else a6))]) (st := []) rfl rfl rfl rfl rfl (Nat.le_of_ble_eq_true rfl) (Nat.le_of_ble_eq_true rfl) (by omega) (by decide) (t9) (kv0 (st' := fun v => [(0, v)]) rfl (fun _ => rfl)) (H.mono (fun k v10 m11 H => ⟨H.1, ?_⟩))
            have K12 := H.2.1.2.1 K6
            have t13 := Ok.tag H.2.1 (t7) (by decide)
            have t14 := Ok.tag H.2.1 (t8) (by decide)
            have t15 := Ok.tag H.2.1 (t9) (by decide)
            replace H := H.2.2
            have J23 : WV G mX7_unite 183 [(1, a0), (1, a1), (9, 0), (9, 0), (9, 0), (0, a5), (1, a6), (1, a7), (1, (if (m a6 0) = (-18) then a6 else a7)), (1, (if (m a6 0) = (-18) then a7 else a6))] [(0, (if v10 ≠ (0 : Int) then 0 else 1))] m11 d P := by
              refine v_run 79 2 (pc' := 187) (ls' := [(1, a0), (1, a1), (9, 0), (9, 0), (0, (if v10 ≠ (0 : Int) then 0 else 1)), (0, a5), (1, a6), (1, a7), (1, (if (m a6 0) = (-18) then a6 else a7)), (1, (if (m a6 0) = (-18) then a7 else a6))]) (st' := [(0, (if v10 ≠ (0 : Int) then 0 else 1))]) rfl ?_
              refine v_ifeq (j := 81) rfl rfl rfl (fun q => ?_) (fun q => ?_)
              · replace H := H.1 q
                refine v_run 85 1 (pc' := 200) (ls' := [(1, a0), (1, a1), (9, 0), (9, 0), (0, (if v10 ≠ (0 : Int) then 0 else 1)), (0, (wr (a5 + 1))), (1, a6), (1, a7), (1, (if (m a6 0) = (-18) then a6 else a7)), (1, (if (m a6 0) = (-18) then a7 else a6))]) (st' := []) rfl ?_
                refine v_goto (j := 86) (tgt := 12) rfl rfl ?_
                refine v_drp [true, true, false, false, true, true, false, false, false, false] ?_
                exact H
              · replace H := H.2 q
                refine v_run 82 2 (pc' := 194) (ls' := [(1, a0), (1, a1), (9, 0), (9, 0), (0, (if v10 ≠ (0 : Int) then 0 else 1)), (0, a5), (1, a6), (1, a7), (1, (if (m a6 0) = (-18) then a6 else a7)), (1, (if (m a6 0) = (-18) then a7 else a6))]) (st' := [(1, (if (m a6 0) = (-18) then a7 else a6)), (1, (if (m a6 0) = (-18) then a6 else a7))]) rfl ?_
                refine v_putf (j := 84) (c := 10) (f := 4) rfl rfl rfl rfl (by decide +kernel) rfl rfl rfl rfl (t14) trivial (fun m16 e17 => ?_)
                have O18 : Ok m11 m16 := Ok.wf e17 (t14) (by decide) (by decide)
                have K19 := O18.2.1 K12
                have t20 := Ok.tag O18 (t13) (by decide)
                have t21 := Ok.tag O18 (t14) (by decide)
                have t22 := Ok.tag O18 (t15) (by decide)
                replace H := H m16 e17 O18
                refine v_run 85 1 (pc' := 200) (ls' := [(1, a0), (1, a1), (9, 0), (9, 0), (0, (if v10 ≠ (0 : Int) then 0 else 1)), (0, (wr (a5 + 1))), (1, a6), (1, a7), (1, (if (m a6 0) = (-18) then a6 else a7)), (1, (if (m a6 0) = (-18) then a7 else a6))]) (st' := []) rfl ?_
                refine v_goto (j := 86) (tgt := 12) rfl rfl ?_
                refine v_drp [true, true, false, false, true, true, false, false, false, false] ?_
                exact H
            refine v_ifne (j := 75) rfl rfl rfl (fun q => ?_) (fun q => ?_)
            · rw [show ((if v10 ≠ (0 : Int) then 0 else 1) : Int) = 0 from if_pos q] at J23
              refine v_run 78 1 (pc' := 183) (ls' := [(1, a0), (1, a1), (9, 0), (9, 0), (9, 0), (0, a5), (1, a6), (1, a7), (1, (if (m a6 0) = (-18) then a6 else a7)), (1, (if (m a6 0) = (-18) then a7 else a6))]) (st' := [(0, 0)]) rfl ?_
              exact J23
            · rw [show ((if v10 ≠ (0 : Int) then 0 else 1) : Int) = 1 from if_neg (fun z => z q)] at J23
              refine v_run 76 1 (pc' := 179) (ls' := [(1, a0), (1, a1), (9, 0), (9, 0), (9, 0), (0, a5), (1, a6), (1, a7), (1, (if (m a6 0) = (-18) then a6 else a7)), (1, (if (m a6 0) = (-18) then a7 else a6))]) (st' := [(0, 1)]) rfl ?_
              refine v_goto (j := 77) (tgt := 183) rfl rfl ?_
              exact J23
        · replace H := H.2 q
          refine v_run 59 3 (pc' := 144) (ls' := [(1, a0), (1, a1), (9, 0), (9, 0), (9, 0), (0, a5), (1, a6), (1, a7), (1, (if (m a6 0) = (-18) then a6 else a7)), (1, (if (m a6 0) = (-18) then a7 else a6))]) (st' := [(1, a7), (1, a6), (1, a0)]) rfl ?_
          obtain ⟨t24, H⟩ := H
          refine v_callV (j := 62) (M' := mX7_level) (as := [(1, a6), (1, a7)]) (st := []) rfl rfl rfl rfl rfl (Nat.le_of_ble_eq_true rfl) (Nat.le_of_ble_eq_true rfl) (by omega) (by decide) (t24) (kv0 (st' := fun v => [(0, v)]) rfl (fun _ => rfl)) (H.mono (fun k v25 m26 H => ⟨H.1, ?_⟩))
          have K27 := H.2.1.2.1 K
          have t28 := Ok.tag H.2.1 (t1) (by decide)
          have t29 := Ok.tag H.2.1 (t2) (by decide)
          have t30 := Ok.tag H.2.1 (t24) (by decide)
          replace H := H.2.2
          refine v_run 63 1 (pc' := 149) (ls' := [(1, a0), (1, a1), (9, 0), (9, 0), (0, v25), (0, a5), (1, a6), (1, a7), (1, (if (m a6 0) = (-18) then a6 else a7)), (1, (if (m a6 0) = (-18) then a7 else a6))]) (st' := []) rfl ?_
          refine v_goto (j := 64) (tgt := 197) rfl rfl ?_
          refine v_run 85 1 (pc' := 200) (ls' := [(1, a0), (1, a1), (9, 0), (9, 0), (0, v25), (0, (wr (a5 + 1))), (1, a6), (1, a7), (1, (if (m a6 0) = (-18) then a6 else a7)), (1, (if (m a6 0) = (-18) then a7 else a6))]) (st' := []) rfl ?_
          refine v_goto (j := 86) (tgt := 12) rfl rfl ?_
          refine v_drp [true, true, false, false, true, true, false, false, false, false] ?_
          exact H
      · replace H := H.2 q
        refine v_run 52 2 (pc' := 125) (ls' := [(1, a0), (1, a1), (9, 0), (9, 0), (0, 0), (0, a5), (1, a6), (1, a7), (1, (if (m a6 0) = (-18) then a6 else a7)), (1, (if (m a6 0) = (-18) then a7 else a6))]) (st' := []) rfl ?_
        refine v_goto (j := 54) (tgt := 197) rfl rfl ?_
        refine v_run 85 1 (pc' := 200) (ls' := [(1, a0), (1, a1), (9, 0), (9, 0), (0, 0), (0, (wr (a5 + 1))), (1, a6), (1, a7), (1, (if (m a6 0) = (-18) then a6 else a7)), (1, (if (m a6 0) = (-18) then a7 else a6))]) (st' := []) rfl ?_
        refine v_goto (j := 86) (tgt := 12) rfl rfl ?_
        refine v_drp [true, true, false, false, true, true, false, false, false, false] ?_
        exact H
    refine v_ifeq (j := 44) rfl rfl rfl (fun q => ?_) (fun q => ?_)
    · rw [show ((if (m a6 0) = (-18) then a7 else a6) : Int) = a6 from if_neg (ite0 q)] at J31
      refine v_run 47 1 (pc' := 112) (ls' := [(1, a0), (1, a1), (9, 0), (9, 0), (9, 0), (0, a5), (1, a6), (1, a7), (1, (if (m a6 0) = (-18) then a6 else a7)), (9, 0)]) (st' := [(1, a6)]) rfl ?_
      exact J31
    · rw [show ((if (m a6 0) = (-18) then a7 else a6) : Int) = a7 from if_pos (ite1 q)] at J31
      refine v_run 45 1 (pc' := 107) (ls' := [(1, a0), (1, a1), (9, 0), (9, 0), (9, 0), (0, a5), (1, a6), (1, a7), (1, (if (m a6 0) = (-18) then a6 else a7)), (9, 0)]) (st' := [(1, a7)]) rfl ?_
      refine v_goto (j := 46) (tgt := 112) rfl rfl ?_
      exact J31
  refine v_ifeq (j := 36) rfl rfl rfl (fun q => ?_) (fun q => ?_)
  · rw [show ((if (m a6 0) = (-18) then a6 else a7) : Int) = a7 from if_neg (ite0 q)] at J32
    refine v_run 39 1 (pc' := 92) (ls' := [(1, a0), (1, a1), (9, 0), (9, 0), (9, 0), (0, a5), (1, a6), (1, a7), (9, 0), (9, 0)]) (st' := [(1, a7)]) rfl ?_
    exact J32
  · rw [show ((if (m a6 0) = (-18) then a6 else a7) : Int) = a6 from if_pos (ite1 q)] at J32
    refine v_run 37 1 (pc' := 87) (ls' := [(1, a0), (1, a1), (9, 0), (9, 0), (9, 0), (0, a5), (1, a6), (1, a7), (9, 0), (9, 0)]) (st' := [(1, a6)]) rfl ?_
    refine v_goto (j := 38) (tgt := 92) rfl rfl ?_
    exact J32

set_option maxRecDepth 100000 in
set_option maxHeartbeats 4000000 in
theorem wX2_constant {G : GM} {d : Nat} {P : Nat → Int → SM → Prop} {m : SM} {a1 : Int} (K : KI m) (hd : 12 ≤ d) 
    (H : WV G mX2_meaning 0 [(1, 2), (0, a1)] [] m (d - 1) (fun k v1 m2 => k = 0 ∧ Ok m m2 ∧ ((v1 = 0 ∨ m2 v1 (-1) = 21 ∨ m2 v1 (-1) = 22) ∧ ((¬ (m2 v1 (-1) = 21) → (P 0 0 m2)) ∧ (m2 v1 (-1) = 21 → ((v1 = 0 ∨ m2 v1 (-1) = 21) ∧ (P 0 v1 m2))))))) :
    WV G mX2_constant 0 [(1, 2), (0, a1), (9, 0)] [] m d P := by
  refine v_run 0 2 (pc' := 2) (ls' := [(1, 2), (0, a1), (9, 0)]) (st' := [(0, a1), (1, 2)]) rfl ?_
  refine v_callV (j := 2) (M' := mX2_meaning) (as := [(0, a1)]) (st := []) rfl rfl rfl rfl rfl (Nat.le_of_ble_eq_true rfl) (Nat.le_of_ble_eq_true rfl) (by omega) (by decide) (K2_t K) (kv0 (st' := fun v => [(1, v)]) rfl (fun _ => rfl)) (H.mono (fun k v1 m2 H => ⟨H.1, ?_⟩))
  have K3 := H.2.1.2.1 K
  replace H := H.2.2
  refine v_run 3 2 (pc' := 7) (ls' := [(1, 2), (0, a1), (1, v1)]) (st' := [(1, v1)]) rfl ?_
  obtain ⟨c4, H⟩ := H
  refine v_inst (j := 5) (c := 20) (o := 21) rfl rfl rfl rfl (by decide) rfl rfl c4 ?_
  refine v_ifeq (j := 6) rfl rfl rfl (fun q => ?_) (fun q => ?_)
  · replace H := H.1 (ite0 q)
    refine v_run 10 1 (pc' := 21) (ls' := [(1, 2), (0, a1), (1, v1)]) (st' := [(1, 0)]) rfl ?_
    exact v_aret (j := 11) rfl rfl rfl H
  · replace H := H.2 (ite1 q)
    refine v_run 7 1 (pc' := 14) (ls' := [(1, 2), (0, a1), (1, v1)]) (st' := [(1, v1)]) rfl ?_
    obtain ⟨c5, H⟩ := H
    refine v_cast (j := 8) (c := 20) rfl rfl rfl rfl rfl (c5) ?_
    refine v_goto (j := 9) (tgt := 21) rfl rfl ?_
    exact v_aret (j := 11) rfl rfl rfl H

set_option maxRecDepth 100000 in
set_option maxHeartbeats 4000000 in
theorem wX2_meaning {G : GM} {d : Nat} {P : Nat → Int → SM → Prop} {m : SM} {a1 : Int} (K : KI m) (hd : 12 ≤ d) 
    (H : (a1 < (65 : Int) → (P 0 0 m)) ∧ ((65 : Int) ≤ a1 → ((a1 ≤ (90 : Int) → ((0 ≤ (wr (a1 - 65))) ∧ ((wr (a1 - 65)) < 26) ∧ (P 0 (m 7 (wr (a1 - 65))) m))) ∧ ((90 : Int) < a1 → (P 0 0 m))))) :
    WV G mX2_meaning 0 [(1, 2), (0, a1)] [] m d P := by
  refine v_run 0 2 (pc' := 3) (ls' := [(1, 2), (0, a1)]) (st' := [(0, 65), (0, a1)]) rfl ?_
  refine v_icmplt (j := 2) rfl rfl rfl (fun q => ?_) (fun q => ?_)
  · replace H := H.1 q
    refine v_run 6 1 (pc' := 13) (ls' := [(1, 2), (0, a1)]) (st' := [(1, 0)]) rfl ?_
    refine v_goto (j := 7) (tgt := 25) rfl rfl ?_
    exact v_aret (j := 14) rfl rfl rfl H
  · replace H := H.2 q
    refine v_run 3 2 (pc' := 9) (ls' := [(1, 2), (0, a1)]) (st' := [(0, 90), (0, a1)]) rfl ?_
    refine v_icmple (j := 5) rfl rfl rfl (fun q => ?_) (fun q => ?_)
    · replace H := H.1 q
      refine v_run 8 1 (pc' := 17) (ls' := [(1, 2), (0, a1)]) (st' := [(1, 2)]) rfl ?_
      refine v_getK (j := 9) (c := 1) (f := 1) rfl rfl rfl rfl rfl rfl rfl rfl (K2_t K) (K2_1 K) ?_
      refine v_run 10 3 (pc' := 24) (ls' := [(1, 2), (0, a1)]) (st' := [(0, (wr (a1 - 65))), (1, 7)]) rfl ?_
      obtain ⟨i1, i2, H⟩ := H
      refine v_ald (j := 13) (t := 5) rfl rfl rfl rfl rfl rfl (K7_t K) i1 (by rw [K7_l K]; exact i2) ?_
      exact v_aret (j := 14) rfl rfl rfl H
    · replace H := H.2 q
      refine v_run 6 1 (pc' := 13) (ls' := [(1, 2), (0, a1)]) (st' := [(1, 0)]) rfl ?_
      refine v_goto (j := 7) (tgt := 25) rfl rfl ?_
      exact v_aret (j := 14) rfl rfl rfl H

set_option maxRecDepth 100000 in
set_option maxHeartbeats 4000000 in
theorem wX2_programOf {G : GM} {d : Nat} {P : Nat → Int → SM → Prop} {m : SM} {a1 : Int} (K : KI m) (hd : 12 ≤ d) 
    (H : WV G mX2_meaning 0 [(1, 2), (0, a1)] [] m (d - 1) (fun k v1 m2 => k = 0 ∧ Ok m m2 ∧ ((v1 = 0 ∨ m2 v1 (-1) = 22 ∨ m2 v1 (-1) = 21) ∧ ((¬ (m2 v1 (-1) = 22) → (P 0 0 m2)) ∧ (m2 v1 (-1) = 22 → ((v1 = 0 ∨ m2 v1 (-1) = 22) ∧ (P 0 v1 m2))))))) :
    WV G mX2_programOf 0 [(1, 2), (0, a1), (9, 0)] [] m d P := by
  refine v_run 0 2 (pc' := 2) (ls' := [(1, 2), (0, a1), (9, 0)]) (st' := [(0, a1), (1, 2)]) rfl ?_
  refine v_callV (j := 2) (M' := mX2_meaning) (as := [(0, a1)]) (st := []) rfl rfl rfl rfl rfl (Nat.le_of_ble_eq_true rfl) (Nat.le_of_ble_eq_true rfl) (by omega) (by decide) (K2_t K) (kv0 (st' := fun v => [(1, v)]) rfl (fun _ => rfl)) (H.mono (fun k v1 m2 H => ⟨H.1, ?_⟩))
  have K3 := H.2.1.2.1 K
  replace H := H.2.2
  refine v_run 3 2 (pc' := 7) (ls' := [(1, 2), (0, a1), (1, v1)]) (st' := [(1, v1)]) rfl ?_
  obtain ⟨c4, H⟩ := H
  refine v_inst (j := 5) (c := 21) (o := 20) rfl rfl rfl rfl (by decide) rfl rfl c4 ?_
  refine v_ifeq (j := 6) rfl rfl rfl (fun q => ?_) (fun q => ?_)
  · replace H := H.1 (ite0 q)
    refine v_run 10 1 (pc' := 21) (ls' := [(1, 2), (0, a1), (1, v1)]) (st' := [(1, 0)]) rfl ?_
    exact v_aret (j := 11) rfl rfl rfl H
  · replace H := H.2 (ite1 q)
    refine v_run 7 1 (pc' := 14) (ls' := [(1, 2), (0, a1), (1, v1)]) (st' := [(1, v1)]) rfl ?_
    obtain ⟨c5, H⟩ := H
    refine v_cast (j := 8) (c := 21) rfl rfl rfl rfl rfl (c5) ?_
    refine v_goto (j := 9) (tgt := 21) rfl rfl ?_
    exact v_aret (j := 11) rfl rfl rfl H
