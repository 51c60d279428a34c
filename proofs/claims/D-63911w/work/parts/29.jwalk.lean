/-! L2: the walks of the JDK's members (made by vcgen.py) -/
set_option maxRecDepth 100000 in
set_option maxHeartbeats 4000000 in
theorem wJ0_init {G : GM} {d : Nat} {P : Nat → Int → SM → Prop} {h : SM} {a0 : Int} (hd : 1 ≤ d) 
    (H : (a0 ≠ 0) ∧ (P 0 0 h)) :
    WP G mJ0_init 0 [(1, a0)] [] h d P := by
  refine r_run 0 1 (pc' := 1) (ls' := [(1, a0)]) (st' := [(1, a0)]) rfl ?_
  obtain ⟨z1, H⟩ := H
  refine r_obj (j := 1) rfl rfl rfl rfl z1 (by omega) (by simp) ?_
  exact r_vret (j := 2) rfl rfl H

set_option maxRecDepth 100000 in
set_option maxHeartbeats 4000000 in
theorem wJ10_checkLength {G : GM} {d : Nat} {P : Nat → Int → SM → Prop} {h : SM} {a0 a1 : Int} (hd : 1 ≤ d) 
    (H : (a0 ≤ a1 → (P 0 0 h)) ∧ (a1 < a0 → ((h 0 0 ≤ 1203200) ∧ (h 0 1 + 6 ≤ 5491882) ∧ (∀ h3, h3 = al h 12 0 6 → ((h3 0 0 ≤ 1203200) ∧ (h3 0 1 + 4 ≤ 5491882) ∧ (∀ h7, h7 = al h3 6 0 4 → (((h3 0 0) ≠ 0) ∧ (WP G mJ4_init 0 [(1, (h3 0 0))] [] h7 (d - 1) (fun k v10 h11 => k = 0 ∧ ((h11 (h3 0 0) (-1) = 6) ∧ (WP G mJ4_append_3 0 [(1, (h3 0 0)), (0, a0)] [] h11 (d - 1) (fun k v13 h14 => k = 0 ∧ (False))))))))))))) :
    WP G mJ10_checkLength 0 [(0, a0), (0, a1)] [] h d P := by
  refine r_run 0 2 (pc' := 2) (ls' := [(0, a0), (0, a1)]) (st' := [(0, a0), (0, a1)]) rfl ?_
  refine r_icmpge (j := 2) rfl rfl rfl (fun q => ?_) (fun q => ?_)
  · replace H := H.1 q
    exact r_vret (j := 17) rfl rfl H
  · replace H := H.2 q
    obtain ⟨r1, r2, H⟩ := H
    refine r_new (j := 3) (c := 11) rfl rfl rfl rfl rfl rfl r1 r2 (fun h3 e4 => ?_)
    replace H := H h3 e4
    refine r_run 4 1 (pc' := 9) (ls' := [(0, a0), (0, a1)]) (st' := [(1, (h 0 0)), (1, (h 0 0))]) rfl ?_
    obtain ⟨r5, r6, H⟩ := H
    refine r_new (j := 5) (c := 5) rfl rfl rfl rfl rfl rfl r5 r6 (fun h7 e8 => ?_)
    replace H := H h7 e8
    refine r_run 6 1 (pc' := 13) (ls' := [(0, a0), (0, a1)]) (st' := [(1, (h3 0 0)), (1, (h3 0 0)), (1, (h 0 0)), (1, (h 0 0))]) rfl ?_
    obtain ⟨z9, H⟩ := H
    refine r_callI (j := 7) (M' := mJ4_init) (as := []) (st := [(1, (h3 0 0)), (1, (h 0 0)), (1, (h 0 0))]) rfl rfl rfl rfl rfl (Nat.le_of_ble_eq_true rfl) (Nat.le_of_ble_eq_true rfl) (by omega) z9 (kk0 (st' := fun v => [(1, (h3 0 0)), (1, (h 0 0)), (1, (h 0 0))]) rfl (fun _ => rfl)) (H.mono (fun k v10 h11 H => ⟨H.1, ?_⟩))
    replace H := H.2
    refine r_run 8 1 (pc' := 17) (ls' := [(0, a0), (0, a1)]) (st' := [(0, a0), (1, (h3 0 0)), (1, (h 0 0)), (1, (h 0 0))]) rfl ?_
    obtain ⟨t12, H⟩ := H
    refine r_callV (j := 9) (M' := mJ4_append_3) (as := [(0, a0)]) (st := [(1, (h 0 0)), (1, (h 0 0))]) rfl rfl rfl rfl rfl (Nat.le_of_ble_eq_true rfl) (Nat.le_of_ble_eq_true rfl) (by omega) (t12) (kk0 (st' := fun v => [(1, v), (1, (h 0 0)), (1, (h 0 0))]) rfl (fun _ => rfl)) (H.mono (fun k v13 h14 H => ⟨H.1, ?_⟩))
    replace H := H.2
    exact H.elim

set_option maxRecDepth 100000 in
set_option maxHeartbeats 4000000 in
theorem wJ10_copyOf {G : GM} {d : Nat} {P : Nat → Int → SM → Prop} {h : SM} {a0 a1 : Int} (hd : 1 ≤ d) 
    (H : (h a0 (-1) = 102) ∧ ((a1 ≠ (h a0 (-2)) → ((0 ≤ a1) ∧ (h 0 0 ≤ 1203200) ∧ (h 0 1 + a1 ≤ 5491882) ∧ (∀ h5, h5 = al h 102 a1 a1 → ((h5 a0 (-1) = 102) ∧ ((h5 (h 0 0) (-1) = 102) ∧ (0 < (h 0 0)) ∧ (0 ≤ (0 : Int)) ∧ (0 ≤ (0 : Int)) ∧ (0 ≤ ((if a1 < (h5 a0 (-2)) then a1 else (h5 a0 (-2))) : Int)) ∧ (0 + (if a1 < (h5 a0 (-2)) then a1 else (h5 a0 (-2))) ≤ h5 a0 (-2)) ∧ (0 + (if a1 < (h5 a0 (-2)) then a1 else (h5 a0 (-2))) ≤ h5 (h 0 0) (-2)) ∧ (∀ h16, h16 = cpM h5 a0 0 (h 0 0) 0 (if a1 < (h5 a0 (-2)) then a1 else (h5 a0 (-2))) → (P 0 (h 0 0) h16))))))) ∧ (a1 = (h a0 (-2)) → (False)))) :
    WP G mJ10_copyOf 0 [(1, a0), (0, a1), (9, 0)] [] h d P := by
  refine r_run 0 2 (pc' := 2) (ls' := [(1, a0), (0, a1), (9, 0)]) (st' := [(1, a0), (0, a1)]) rfl ?_
  obtain ⟨t1, H⟩ := H
  refine r_alen (j := 2) (t := 2) rfl rfl rfl rfl (t1) ?_
  refine r_icmpne (j := 3) rfl rfl rfl (fun q => ?_) (fun q => ?_)
  · replace H := H.1 q
    refine r_run 8 1 (pc' := 15) (ls' := [(1, a0), (0, a1), (9, 0)]) (st' := [(0, a1)]) rfl ?_
    obtain ⟨r4, r2, r3, H⟩ := H
    refine r_newB (j := 9) rfl rfl r4 r2 r3 (fun h5 e6 => ?_)
    replace H := H h5 e6
    refine r_run 10 6 (pc' := 23) (ls' := [(1, a0), (0, a1), (1, (h 0 0))]) (st' := [(1, a0), (0, 0), (1, (h 0 0)), (0, 0), (1, a0)]) rfl ?_
    obtain ⟨t7, H⟩ := H
    refine r_alen (j := 16) (t := 2) rfl rfl rfl rfl (t7) ?_
    refine r_run 17 1 (pc' := 25) (ls' := [(1, a0), (0, a1), (1, (h 0 0))]) (st' := [(0, a1), (0, (h5 a0 (-2))), (0, 0), (1, (h 0 0)), (0, 0), (1, a0)]) rfl ?_
    refine r_min (j := 18) rfl rfl rfl rfl (by omega) (by simp) ?_
    obtain ⟨t8, y9, y10, y11, y12, y13, y14, H⟩ := H
    refine r_copy (j := 19) rfl rfl rfl rfl (by omega) (by simp) (t := 2) rfl rfl y9 (t7) (t8) y10 y11 y12 y13 y14 (fun q => by omega) (fun h16 e17 => ?_)
    replace H := H h16 e17
    refine r_run 20 1 (pc' := 32) (ls' := [(1, a0), (0, a1), (1, (h 0 0))]) (st' := [(1, (h 0 0))]) rfl ?_
    exact r_aret (j := 21) rfl rfl rfl H
  · replace H := H.2 q
    refine r_run 4 1 (pc' := 7) (ls' := [(1, a0), (0, a1), (9, 0)]) (st' := [(1, a0)]) rfl ?_
    exact H.elim

set_option maxRecDepth 100000 in
set_option maxHeartbeats 4000000 in
theorem wJ10_copyOfRange {G : GM} {d : Nat} {P : Nat → Int → SM → Prop} {h : SM} {a0 a1 a2 : Int} (hd : 1 ≤ d) 
    (H : (a1 ≠ (0 : Int) → (WP G mJ10_copyOfRangeByte 0 [(1, a0), (0, a1), (0, a2), (9, 0), (9, 0)] [] h (d - 1) (fun k v1 h2 => k = 0 ∧ (P 0 v1 h2)))) ∧ (a1 = (0 : Int) → ((h a0 (-1) = 102) ∧ ((a2 = (h a0 (-2)) → (False)) ∧ (a2 ≠ (h a0 (-2)) → (WP G mJ10_copyOfRangeByte 0 [(1, a0), (0, a1), (0, a2), (9, 0), (9, 0)] [] h (d - 1) (fun k v4 h5 => k = 0 ∧ (P 0 v4 h5)))))))) :
    WP G mJ10_copyOfRange 0 [(1, a0), (0, a1), (0, a2)] [] h d P := by
  refine r_run 0 1 (pc' := 1) (ls' := [(1, a0), (0, a1), (0, a2)]) (st' := [(0, a1)]) rfl ?_
  refine r_ifne (j := 1) rfl rfl rfl (fun q => ?_) (fun q => ?_)
  · replace H := H.1 q
    refine r_run 6 3 (pc' := 13) (ls' := [(1, a0), (0, a1), (0, a2)]) (st' := [(0, a2), (0, a1), (1, a0)]) rfl ?_
    refine r_callS (j := 9) (M' := mJ10_copyOfRangeByte) (as := [(1, a0), (0, a1), (0, a2)]) (st := []) rfl rfl rfl rfl rfl (Nat.le_of_ble_eq_true rfl) (Nat.le_of_ble_eq_true rfl) (by omega) (kk0 (st' := fun v => [(1, v)]) rfl (fun _ => rfl)) (H.mono (fun k v1 h2 H => ⟨H.1, ?_⟩))
    replace H := H.2
    exact r_aret (j := 10) rfl rfl rfl H
  · replace H := H.2 q
    refine r_run 2 2 (pc' := 6) (ls' := [(1, a0), (0, a1), (0, a2)]) (st' := [(1, a0), (0, a2)]) rfl ?_
    obtain ⟨t3, H⟩ := H
    refine r_alen (j := 4) (t := 2) rfl rfl rfl rfl (t3) ?_
    refine r_icmpeq (j := 5) rfl rfl rfl (fun q => ?_) (fun q => ?_)
    · replace H := H.1 q
      refine r_run 11 1 (pc' := 18) (ls' := [(1, a0), (0, a1), (0, a2)]) (st' := [(1, a0)]) rfl ?_
      exact H.elim
    · replace H := H.2 q
      refine r_run 6 3 (pc' := 13) (ls' := [(1, a0), (0, a1), (0, a2)]) (st' := [(0, a2), (0, a1), (1, a0)]) rfl ?_
      refine r_callS (j := 9) (M' := mJ10_copyOfRangeByte) (as := [(1, a0), (0, a1), (0, a2)]) (st := []) rfl rfl rfl rfl rfl (Nat.le_of_ble_eq_true rfl) (Nat.le_of_ble_eq_true rfl) (by omega) (kk0 (st' := fun v => [(1, v)]) rfl (fun _ => rfl)) (H.mono (fun k v4 h5 H => ⟨H.1, ?_⟩))
      replace H := H.2
      exact r_aret (j := 10) rfl rfl rfl H

set_option maxRecDepth 100000 in
set_option maxHeartbeats 4000000 in
theorem wJ10_copyOfRangeByte {G : GM} {d : Nat} {P : Nat → Int → SM → Prop} {h : SM} {a0 a1 a2 : Int} (hd : 1 ≤ d) 
    (H : WP G mJ10_checkLength 0 [(0, a1), (0, a2)] [] h (d - 1) (fun k v1 h2 => k = 0 ∧ ((0 ≤ (wr (a2 - a1))) ∧ (h2 0 0 ≤ 1203200) ∧ (h2 0 1 + (wr (a2 - a1)) ≤ 5491882) ∧ (∀ h6, h6 = al h2 102 (wr (a2 - a1)) (wr (a2 - a1)) → ((h6 a0 (-1) = 102) ∧ ((h6 (h2 0 0) (-1) = 102) ∧ (0 < (h2 0 0)) ∧ (0 ≤ a1) ∧ (0 ≤ (0 : Int)) ∧ (0 ≤ ((if (wr (a2 - a1)) < (wr ((h6 a0 (-2)) - a1)) then (wr (a2 - a1)) else (wr ((h6 a0 (-2)) - a1))) : Int)) ∧ (a1 + (if (wr (a2 - a1)) < (wr ((h6 a0 (-2)) - a1)) then (wr (a2 - a1)) else (wr ((h6 a0 (-2)) - a1))) ≤ h6 a0 (-2)) ∧ (0 + (if (wr (a2 - a1)) < (wr ((h6 a0 (-2)) - a1)) then (wr (a2 - a1)) else (wr ((h6 a0 (-2)) - a1))) ≤ h6 (h2 0 0) (-2)) ∧ (∀ h17, h17 = cpM h6 a0 a1 (h2 0 0) 0 (if (wr (a2 - a1)) < (wr ((h6 a0 (-2)) - a1)) then (wr (a2 - a1)) else (wr ((h6 a0 (-2)) - a1))) → (P 0 (h2 0 0) h17)))))))) :
    WP G mJ10_copyOfRangeByte 0 [(1, a0), (0, a1), (0, a2), (9, 0), (9, 0)] [] h d P := by
  refine r_run 0 2 (pc' := 2) (ls' := [(1, a0), (0, a1), (0, a2), (9, 0), (9, 0)]) (st' := [(0, a2), (0, a1)]) rfl ?_
  refine r_callS (j := 2) (M' := mJ10_checkLength) (as := [(0, a1), (0, a2)]) (st := []) rfl rfl rfl rfl rfl (Nat.le_of_ble_eq_true rfl) (Nat.le_of_ble_eq_true rfl) (by omega) (kk0 (st' := fun v => []) rfl (fun _ => rfl)) (H.mono (fun k v1 h2 H => ⟨H.1, ?_⟩))
  replace H := H.2
  refine r_run 3 5 (pc' := 10) (ls' := [(1, a0), (0, a1), (0, a2), (0, (wr (a2 - a1))), (9, 0)]) (st' := [(0, (wr (a2 - a1)))]) rfl ?_
  obtain ⟨r5, r3, r4, H⟩ := H
  refine r_newB (j := 8) rfl rfl r5 r3 r4 (fun h6 e7 => ?_)
  replace H := H h6 e7
  refine r_run 9 6 (pc' := 20) (ls' := [(1, a0), (0, a1), (0, a2), (0, (wr (a2 - a1))), (1, (h2 0 0))]) (st' := [(1, a0), (0, 0), (1, (h2 0 0)), (0, a1), (1, a0)]) rfl ?_
  obtain ⟨t8, H⟩ := H
  refine r_alen (j := 15) (t := 2) rfl rfl rfl rfl (t8) ?_
  refine r_run 16 3 (pc' := 24) (ls' := [(1, a0), (0, a1), (0, a2), (0, (wr (a2 - a1))), (1, (h2 0 0))]) (st' := [(0, (wr (a2 - a1))), (0, (wr ((h6 a0 (-2)) - a1))), (0, 0), (1, (h2 0 0)), (0, a1), (1, a0)]) rfl ?_
  refine r_min (j := 19) rfl rfl rfl rfl (by omega) (by simp) ?_
  obtain ⟨t9, y10, y11, y12, y13, y14, y15, H⟩ := H
  refine r_copy (j := 20) rfl rfl rfl rfl (by omega) (by simp) (t := 2) rfl rfl y10 (t8) (t9) y11 y12 y13 y14 y15 (fun q => by omega) (fun h17 e18 => ?_)
  replace H := H h17 e18
  refine r_run 21 1 (pc' := 32) (ls' := [(1, a0), (0, a1), (0, a2), (0, (wr (a2 - a1))), (1, (h2 0 0))]) (st' := [(1, (h2 0 0))]) rfl ?_
  exact r_aret (j := 22) rfl rfl rfl H

set_option maxRecDepth 100000 in
set_option maxHeartbeats 4000000 in
theorem wJ10_copyOf_2 {G : GM} {d : Nat} {P : Nat → Int → SM → Prop} {h : SM} {a0 a1 : Int} (hd : 1 ≤ d) 
    (H : (h a0 (-1) = 104) ∧ (0 < a0) ∧ (WP G mJ10_copyOf_3 0 [(1, a0), (0, a1), (1, (-26)), (9, 0)] [] h (d - 1) (fun k v3 h4 => k = 0 ∧ (P 0 v3 h4)))) :
    WP G mJ10_copyOf_2 0 [(1, a0), (0, a1)] [] h d P := by
  refine r_run 0 3 (pc' := 3) (ls' := [(1, a0), (0, a1)]) (st' := [(1, a0), (0, a1), (1, a0)]) rfl ?_
  obtain ⟨t1, x2, H⟩ := H
  refine r_getC (j := 3) rfl rfl rfl rfl (by omega) (by simp) x2 (t1) ?_
  refine r_callS (j := 4) (M' := mJ10_copyOf_3) (as := [(1, a0), (0, a1), (1, (-26))]) (st := []) rfl rfl rfl rfl rfl (Nat.le_of_ble_eq_true rfl) (Nat.le_of_ble_eq_true rfl) (by omega) (kk0 (st' := fun v => [(1, v)]) rfl (fun _ => rfl)) (H.mono (fun k v3 h4 H => ⟨H.1, ?_⟩))
  replace H := H.2
  exact r_aret (j := 5) rfl rfl rfl H

set_option maxRecDepth 100000 in
set_option maxHeartbeats 4000000 in
theorem wJ10_copyOf_3 {G : GM} {d : Nat} {P : Nat → Int → SM → Prop} {h : SM} {a0 a1 a2 : Int} (hd : 1 ≤ d) 
    (H : (a2 ≠ (-26) → (False)) ∧ (a2 = (-26) → ((0 ≤ a1) ∧ (h 0 0 ≤ 1203200) ∧ (h 0 1 + a1 ≤ 5491882) ∧ (∀ h4, h4 = al h 104 a1 a1 → ((h4 a0 (-1) = 104) ∧ ((h4 (h 0 0) (-1) = 104) ∧ (0 < (h 0 0)) ∧ (0 ≤ (0 : Int)) ∧ (0 ≤ (0 : Int)) ∧ (0 ≤ ((if a1 < (h4 a0 (-2)) then a1 else (h4 a0 (-2))) : Int)) ∧ (0 + (if a1 < (h4 a0 (-2)) then a1 else (h4 a0 (-2))) ≤ h4 a0 (-2)) ∧ (0 + (if a1 < (h4 a0 (-2)) then a1 else (h4 a0 (-2))) ≤ h4 (h 0 0) (-2)) ∧ (∀ i, 0 ≤ i → i < 0 + (if a1 < (h4 a0 (-2)) then a1 else (h4 a0 (-2))) → elOK h4 (h4 a0 i)) ∧ (∀ h15, h15 = cpM h4 a0 0 (h 0 0) 0 (if a1 < (h4 a0 (-2)) then a1 else (h4 a0 (-2))) → (P 0 (h 0 0) h15)))))))) :
    WP G mJ10_copyOf_3 0 [(1, a0), (0, a1), (1, a2), (9, 0)] [] h d P := by
  refine r_run 0 1 (pc' := 1) (ls' := [(1, a0), (0, a1), (1, a2), (9, 0)]) (st' := [(1, a2)]) rfl ?_
  refine r_ldc (j := 1) (g := 1) (v := (-26)) rfl rfl rfl (by decide) rfl ?_
  refine r_ane (j := 2) rfl rfl rfl (fun q => ?_) (fun q => ?_)
  · replace H := H.1 q
    refine r_run 6 1 (pc' := 14) (ls' := [(1, a0), (0, a1), (1, a2), (9, 0)]) (st' := [(1, a2)]) rfl ?_
    exact H.elim
  · replace H := H.2 q
    refine r_run 3 1 (pc' := 7) (ls' := [(1, a0), (0, a1), (1, a2), (9, 0)]) (st' := [(0, a1)]) rfl ?_
    obtain ⟨r3, r1, r2, H⟩ := H
    refine r_anew (j := 4) rfl rfl (t := 4) rfl rfl rfl r3 r1 r2 (fun h4 e5 => ?_)
    replace H := H h4 e5
    refine r_goto (j := 5) (tgt := 24) rfl rfl ?_
    refine r_run 11 6 (pc' := 30) (ls' := [(1, a0), (0, a1), (1, a2), (1, (h 0 0))]) (st' := [(1, a0), (0, 0), (1, (h 0 0)), (0, 0), (1, a0)]) rfl ?_
    obtain ⟨t6, H⟩ := H
    refine r_alen (j := 17) (t := 4) rfl rfl rfl rfl (t6) ?_
    refine r_run 18 1 (pc' := 32) (ls' := [(1, a0), (0, a1), (1, a2), (1, (h 0 0))]) (st' := [(0, a1), (0, (h4 a0 (-2))), (0, 0), (1, (h 0 0)), (0, 0), (1, a0)]) rfl ?_
    refine r_min (j := 19) rfl rfl rfl rfl (by omega) (by simp) ?_
    obtain ⟨t7, y8, y9, y10, y11, y12, y13, y14, H⟩ := H
    refine r_copy (j := 20) rfl rfl rfl rfl (by omega) (by simp) (t := 4) rfl rfl y8 (t6) (t7) y9 y10 y11 y12 y13 (fun _ => y14) (fun h15 e16 => ?_)
    replace H := H h15 e16
    refine r_run 21 1 (pc' := 39) (ls' := [(1, a0), (0, a1), (1, a2), (1, (h 0 0))]) (st' := [(1, (h 0 0))]) rfl ?_
    exact r_aret (j := 22) rfl rfl rfl H

set_option maxRecDepth 100000 in
set_option maxHeartbeats 4000000 in
theorem wJ11_canEncode {G : GM} {d : Nat} {P : Nat → Int → SM → Prop} {h : SM} {a0 : Int} (hd : 1 ≤ d) 
    (H : ((255 : Int) < a0 → (P 0 0 h)) ∧ (a0 ≤ (255 : Int) → (P 0 1 h))) :
    WP G mJ11_canEncode 0 [(0, a0)] [] h d P := by
  refine r_run 0 2 (pc' := 4) (ls' := [(0, a0)]) (st' := [(0, 255), (0, a0)]) rfl ?_
  refine r_icmpgt (j := 2) rfl rfl rfl (fun q => ?_) (fun q => ?_)
  · replace H := H.1 q
    refine r_run 5 1 (pc' := 12) (ls' := [(0, a0)]) (st' := [(0, 0)]) rfl ?_
    exact r_iret (j := 6) rfl rfl rfl (Or.inl rfl) H
  · replace H := H.2 q
    refine r_run 3 1 (pc' := 8) (ls' := [(0, a0)]) (st' := [(0, 1)]) rfl ?_
    refine r_goto (j := 4) (tgt := 12) rfl rfl ?_
    exact r_iret (j := 6) rfl rfl rfl (Or.inr rfl) H

set_option maxRecDepth 100000 in
set_option maxHeartbeats 4000000 in
theorem wJ11_charAt {G : GM} {d : Nat} {P : Nat → Int → SM → Prop} {h : SM} {a0 a1 : Int} (hd : 1 ≤ d) 
    (H : (h a0 (-1) = 102) ∧ (WP G mJ5_checkIndex 0 [(0, a1), (0, (h a0 (-2)))] [] h (d - 1) (fun k v2 h3 => k = 0 ∧ ((h3 a0 (-1) = 102) ∧ (0 ≤ a1) ∧ (a1 < h3 a0 (-2)) ∧ ((0 ≤ (c16 (bAnd (h3 a0 a1) 255)) ∧ (c16 (bAnd (h3 a0 a1) 255)) ≤ 65535) ∧ (P 0 (c16 (bAnd (h3 a0 a1) 255)) h3)))))) :
    WP G mJ11_charAt 0 [(1, a0), (0, a1)] [] h d P := by
  refine r_run 0 2 (pc' := 2) (ls' := [(1, a0), (0, a1)]) (st' := [(1, a0), (0, a1)]) rfl ?_
  obtain ⟨t1, H⟩ := H
  refine r_alen (j := 2) (t := 2) rfl rfl rfl rfl (t1) ?_
  refine r_callS (j := 3) (M' := mJ5_checkIndex) (as := [(0, a1), (0, (h a0 (-2)))]) (st := []) rfl rfl rfl rfl rfl (Nat.le_of_ble_eq_true rfl) (Nat.le_of_ble_eq_true rfl) (by omega) (kk0 (st' := fun v => []) rfl (fun _ => rfl)) (H.mono (fun k v2 h3 H => ⟨H.1, ?_⟩))
  replace H := H.2
  refine r_run 4 2 (pc' := 8) (ls' := [(1, a0), (0, a1)]) (st' := [(0, a1), (1, a0)]) rfl ?_
  obtain ⟨t4, i5, i6, H⟩ := H
  refine r_ald (j := 6) (t := 2) rfl rfl rfl rfl rfl (t4) i5 i6 ?_
  refine r_run 7 3 (pc' := 14) (ls' := [(1, a0), (0, a1)]) (st' := [(0, (c16 (bAnd (h3 a0 a1) 255)))]) rfl ?_
  obtain ⟨r7, H⟩ := H
  exact r_iret (j := 10) rfl rfl rfl r7 H

set_option maxRecDepth 100000 in
set_option maxHeartbeats 4000000 in
theorem wJ12_checkIndex {G : GM} {d : Nat} {P : Nat → Int → SM → Prop} {h : SM} {a0 a1 a2 : Int} (hd : 1 ≤ d) 
    (H : (a0 < (0 : Int) → (False)) ∧ ((0 : Int) ≤ a0 → ((a0 < a1 → (P 0 a0 h)) ∧ (a1 ≤ a0 → (False))))) :
    WP G mJ12_checkIndex 0 [(0, a0), (0, a1), (1, a2)] [] h d P := by
  refine r_run 0 1 (pc' := 1) (ls' := [(0, a0), (0, a1), (1, a2)]) (st' := [(0, a0)]) rfl ?_
  refine r_iflt (j := 1) rfl rfl rfl (fun q => ?_) (fun q => ?_)
  · replace H := H.1 q
    refine r_run 5 3 (pc' := 12) (ls' := [(0, a0), (0, a1), (1, a2)]) (st' := [(0, a1), (0, a0), (1, a2)]) rfl ?_
    exact H.elim
  · replace H := H.2 q
    refine r_run 2 2 (pc' := 6) (ls' := [(0, a0), (0, a1), (1, a2)]) (st' := [(0, a1), (0, a0)]) rfl ?_
    refine r_icmplt (j := 4) rfl rfl rfl (fun q => ?_) (fun q => ?_)
    · replace H := H.1 q
      refine r_run 10 1 (pc' := 17) (ls' := [(0, a0), (0, a1), (1, a2)]) (st' := [(0, a0)]) rfl ?_
      exact r_iret (j := 11) rfl rfl rfl trivial H
    · replace H := H.2 q
      refine r_run 5 3 (pc' := 12) (ls' := [(0, a0), (0, a1), (1, a2)]) (st' := [(0, a1), (0, a0), (1, a2)]) rfl ?_
      exact H.elim

set_option maxRecDepth 100000 in
set_option maxHeartbeats 4000000 in
theorem wJ17_getChars {G : GM} {d : Nat} {P : Nat → Int → SM → Prop} {h : SM} {a0 a1 a2 : Int} (hd : 1 ≤ d) 
    (H : (((if 0 ≤ a0 then 0 else 1) : Int) ≠ 0 → (WP G mJ17_getChars 22 [(0, a0), (9, 0), (1, a2), (9, 0), (9, 0), (0, a1), (0, (if 0 ≤ a0 then 0 else 1))] [] h d P)) ∧ (((if 0 ≤ a0 then 0 else 1) : Int) = 0 → (WP G mJ17_getChars 22 [(0, (wr (-a0))), (9, 0), (1, a2), (9, 0), (9, 0), (0, a1), (0, (if 0 ≤ a0 then 0 else 1))] [] h d P))) :
    WP G mJ17_getChars 0 [(0, a0), (0, a1), (1, a2), (9, 0), (9, 0), (9, 0), (9, 0)] [] h d P := by
  refine r_run 0 3 (pc' := 4) (ls' := [(0, a0), (0, a1), (1, a2), (9, 0), (9, 0), (0, a1), (9, 0)]) (st' := [(0, a0)]) rfl ?_
  have J1 : WP G mJ17_getChars 12 [(0, a0), (0, a1), (1, a2), (9, 0), (9, 0), (0, a1), (9, 0)] [(0, (if 0 ≤ a0 then 0 else 1))] h d P := by
    refine r_run 7 2 (pc' := 16) (ls' := [(0, a0), (0, a1), (1, a2), (9, 0), (9, 0), (0, a1), (0, (if 0 ≤ a0 then 0 else 1))]) (st' := [(0, (if 0 ≤ a0 then 0 else 1))]) rfl ?_
    refine r_ifne (j := 9) rfl rfl rfl (fun q => ?_) (fun q => ?_)
    · replace H := H.1 q
      refine r_drp [true, false, true, false, false, true, true] ?_
      exact H
    · replace H := H.2 q
      refine r_run 10 3 (pc' := 22) (ls' := [(0, (wr (-a0))), (0, a1), (1, a2), (9, 0), (9, 0), (0, a1), (0, (if 0 ≤ a0 then 0 else 1))]) (st' := []) rfl ?_
      refine r_drp [true, false, true, false, false, true, true] ?_
      exact H
  refine r_ifge (j := 3) rfl rfl rfl (fun q => ?_) (fun q => ?_)
  · rw [if_pos q] at J1
    refine r_run 6 1 (pc' := 12) (ls' := [(0, a0), (0, a1), (1, a2), (9, 0), (9, 0), (0, a1), (9, 0)]) (st' := [(0, 0)]) rfl ?_
    exact J1
  · rw [if_neg (Int.not_le.mpr q)] at J1
    refine r_run 4 1 (pc' := 8) (ls' := [(0, a0), (0, a1), (1, a2), (9, 0), (9, 0), (0, a1), (9, 0)]) (st' := [(0, 1)]) rfl ?_
    refine r_goto (j := 5) (tgt := 12) rfl rfl ?_
    exact J1

set_option maxRecDepth 100000 in
set_option maxHeartbeats 4000000 in
theorem wJ17_getChars_22 {G : GM} {d : Nat} {P : Nat → Int → SM → Prop} {h : SM} {a0 a2 a5 a6 : Int} (hd : 1 ≤ d) 
    (H : (((-100) : Int) < a0 → ((h (-22) (-1) = 102) ∧ (0 ≤ (wr (-a0))) ∧ ((wr (-a0)) < h (-22) (-2)) ∧ ((h a2 (-1) = 102) ∧ (0 ≤ (wr (a5 + (-1)))) ∧ ((wr (a5 + (-1))) < h a2 (-2)) ∧ (0 < a2) ∧ (-128 ≤ (h (-22) (wr (-a0))) ∧ (h (-22) (wr (-a0))) ≤ 127) ∧ (∀ h9, h9 = up h a2 (wr (a5 + (-1))) (h (-22) (wr (-a0))) → ((((-9) : Int) ≤ a0 → ((a6 = (0 : Int) → (P 0 (wr (a5 + (-1))) h9)) ∧ (a6 ≠ (0 : Int) → ((h9 a2 (-1) = 102) ∧ (0 ≤ (wr ((wr (a5 + (-1))) + (-1)))) ∧ ((wr ((wr (a5 + (-1))) + (-1))) < h9 a2 (-2)) ∧ (0 < a2) ∧ (-128 ≤ (45 : Int) ∧ (45 : Int) ≤ 127) ∧ (∀ h16, h16 = up h9 a2 (wr ((wr (a5 + (-1))) + (-1))) 45 → (P 0 (wr ((wr (a5 + (-1))) + (-1))) h16)))))) ∧ (a0 < ((-9) : Int) → ((h9 (-21) (-1) = 102) ∧ (0 ≤ (wr (-a0))) ∧ ((wr (-a0)) < h9 (-21) (-2)) ∧ ((h9 a2 (-1) = 102) ∧ (0 ≤ (wr ((wr (a5 + (-1))) + (-1)))) ∧ ((wr ((wr (a5 + (-1))) + (-1))) < h9 a2 (-2)) ∧ (0 < a2) ∧ (-128 ≤ (h9 (-21) (wr (-a0))) ∧ (h9 (-21) (wr (-a0))) ≤ 127) ∧ (∀ h26, h26 = up h9 a2 (wr ((wr (a5 + (-1))) + (-1))) (h9 (-21) (wr (-a0))) → ((a6 = (0 : Int) → (P 0 (wr ((wr (a5 + (-1))) + (-1))) h26)) ∧ (a6 ≠ (0 : Int) → ((h26 a2 (-1) = 102) ∧ (0 ≤ (wr ((wr ((wr (a5 + (-1))) + (-1))) + (-1)))) ∧ ((wr ((wr ((wr (a5 + (-1))) + (-1))) + (-1))) < h26 a2 (-2)) ∧ (0 < a2) ∧ (-128 ≤ (45 : Int) ∧ (45 : Int) ≤ 127) ∧ (∀ h33, h33 = up h26 a2 (wr ((wr ((wr (a5 + (-1))) + (-1))) + (-1))) 45 → (P 0 (wr ((wr ((wr (a5 + (-1))) + (-1))) + (-1))) h33)))))))))))))) ∧ (a0 ≤ ((-100) : Int) → ((h (-22) (-1) = 102) ∧ (0 ≤ (wr ((wr ((wr (a0.tdiv 100)) * 100)) - a0))) ∧ ((wr ((wr ((wr (a0.tdiv 100)) * 100)) - a0)) < h (-22) (-2)) ∧ ((h a2 (-1) = 102) ∧ (0 ≤ (wr (a5 + (-1)))) ∧ ((wr (a5 + (-1))) < h a2 (-2)) ∧ (0 < a2) ∧ (-128 ≤ (h (-22) (wr ((wr ((wr (a0.tdiv 100)) * 100)) - a0))) ∧ (h (-22) (wr ((wr ((wr (a0.tdiv 100)) * 100)) - a0))) ≤ 127) ∧ (∀ h43, h43 = up h a2 (wr (a5 + (-1))) (h (-22) (wr ((wr ((wr (a0.tdiv 100)) * 100)) - a0))) → ((h43 (-21) (-1) = 102) ∧ (0 ≤ (wr ((wr ((wr (a0.tdiv 100)) * 100)) - a0))) ∧ ((wr ((wr ((wr (a0.tdiv 100)) * 100)) - a0)) < h43 (-21) (-2)) ∧ ((h43 a2 (-1) = 102) ∧ (0 ≤ (wr ((wr (a5 + (-1))) + (-1)))) ∧ ((wr ((wr (a5 + (-1))) + (-1))) < h43 a2 (-2)) ∧ (0 < a2) ∧ (-128 ≤ (h43 (-21) (wr ((wr ((wr (a0.tdiv 100)) * 100)) - a0))) ∧ (h43 (-21) (wr ((wr ((wr (a0.tdiv 100)) * 100)) - a0))) ≤ 127) ∧ (∀ h53, h53 = up h43 a2 (wr ((wr (a5 + (-1))) + (-1))) (h43 (-21) (wr ((wr ((wr (a0.tdiv 100)) * 100)) - a0))) → (WP G mJ17_getChars 22 [(0, (wr (a0.tdiv 100))), (9, 0), (1, a2), (9, 0), (9, 0), (0, (wr ((wr (a5 + (-1))) + (-1)))), (0, a6)] [] h53 d P))))))))) :
    WP G mJ17_getChars 22 [(0, a0), (9, 0), (1, a2), (9, 0), (9, 0), (0, a5), (0, a6)] [] h d P := by
  refine r_run 13 2 (pc' := 25) (ls' := [(0, a0), (9, 0), (1, a2), (9, 0), (9, 0), (0, a5), (0, a6)]) (st' := [(0, (-100)), (0, a0)]) rfl ?_
  refine r_icmpgt (j := 15) rfl rfl rfl (fun q => ?_) (fun q => ?_)
  · replace H := H.1 q
    refine r_run 43 3 (pc' := 78) (ls' := [(0, a0), (9, 0), (1, a2), (9, 0), (9, 0), (0, (wr (a5 + (-1)))), (0, a6)]) (st' := [(0, (wr (a5 + (-1)))), (1, a2)]) rfl ?_
    refine r_gets (j := 46) (g := 1) (v := (-22)) rfl rfl rfl rfl ?_
    refine r_run 47 2 (pc' := 83) (ls' := [(0, a0), (9, 0), (1, a2), (9, 0), (9, 0), (0, (wr (a5 + (-1)))), (0, a6)]) (st' := [(0, (wr (-a0))), (1, (-22)), (0, (wr (a5 + (-1)))), (1, a2)]) rfl ?_
    obtain ⟨t1, i2, i3, H⟩ := H
    refine r_ald (j := 49) (t := 2) rfl rfl rfl rfl rfl (t1) i2 i3 ?_
    obtain ⟨t4, i5, i6, x7, r8, H⟩ := H
    refine r_ast (j := 50) (t := 2) rfl rfl rfl rfl rfl (by decide) x7 (t4) i5 i6 r8 (fun h9 e10 => ?_)
    replace H := H h9 e10
    refine r_run 51 2 (pc' := 88) (ls' := [(0, a0), (9, 0), (1, a2), (9, 0), (9, 0), (0, (wr (a5 + (-1)))), (0, a6)]) (st' := [(0, (-9)), (0, a0)]) rfl ?_
    refine r_icmpge (j := 53) rfl rfl rfl (fun q => ?_) (fun q => ?_)
    · replace H := H.1 q
      refine r_run 62 1 (pc' := 106) (ls' := [(0, a0), (9, 0), (1, a2), (9, 0), (9, 0), (0, (wr (a5 + (-1)))), (0, a6)]) (st' := [(0, a6)]) rfl ?_
      refine r_ifeq (j := 63) rfl rfl rfl (fun q => ?_) (fun q => ?_)
      · replace H := H.1 q
        refine r_run 69 1 (pc' := 120) (ls' := [(0, a0), (9, 0), (1, a2), (9, 0), (9, 0), (0, (wr (a5 + (-1)))), (0, a6)]) (st' := [(0, (wr (a5 + (-1))))]) rfl ?_
        exact r_iret (j := 70) rfl rfl rfl trivial H
      · replace H := H.2 q
        refine r_run 64 4 (pc' := 117) (ls' := [(0, a0), (9, 0), (1, a2), (9, 0), (9, 0), (0, (wr ((wr (a5 + (-1))) + (-1)))), (0, a6)]) (st' := [(0, 45), (0, (wr ((wr (a5 + (-1))) + (-1)))), (1, a2)]) rfl ?_
        obtain ⟨t11, i12, i13, x14, r15, H⟩ := H
        refine r_ast (j := 68) (t := 2) rfl rfl rfl rfl rfl (by decide) x14 (t11) i12 i13 r15 (fun h16 e17 => ?_)
        replace H := H h16 e17
        refine r_run 69 1 (pc' := 120) (ls' := [(0, a0), (9, 0), (1, a2), (9, 0), (9, 0), (0, (wr ((wr (a5 + (-1))) + (-1)))), (0, a6)]) (st' := [(0, (wr ((wr (a5 + (-1))) + (-1))))]) rfl ?_
        exact r_iret (j := 70) rfl rfl rfl trivial H
    · replace H := H.2 q
      refine r_run 54 3 (pc' := 97) (ls' := [(0, a0), (9, 0), (1, a2), (9, 0), (9, 0), (0, (wr ((wr (a5 + (-1))) + (-1)))), (0, a6)]) (st' := [(0, (wr ((wr (a5 + (-1))) + (-1)))), (1, a2)]) rfl ?_
      refine r_gets (j := 57) (g := 1) (v := (-21)) rfl rfl rfl rfl ?_
      refine r_run 58 2 (pc' := 102) (ls' := [(0, a0), (9, 0), (1, a2), (9, 0), (9, 0), (0, (wr ((wr (a5 + (-1))) + (-1)))), (0, a6)]) (st' := [(0, (wr (-a0))), (1, (-21)), (0, (wr ((wr (a5 + (-1))) + (-1)))), (1, a2)]) rfl ?_
      obtain ⟨t18, i19, i20, H⟩ := H
      refine r_ald (j := 60) (t := 2) rfl rfl rfl rfl rfl (t18) i19 i20 ?_
      obtain ⟨t21, i22, i23, x24, r25, H⟩ := H
      refine r_ast (j := 61) (t := 2) rfl rfl rfl rfl rfl (by decide) x24 (t21) i22 i23 r25 (fun h26 e27 => ?_)
      replace H := H h26 e27
      refine r_run 62 1 (pc' := 106) (ls' := [(0, a0), (9, 0), (1, a2), (9, 0), (9, 0), (0, (wr ((wr (a5 + (-1))) + (-1)))), (0, a6)]) (st' := [(0, a6)]) rfl ?_
      refine r_ifeq (j := 63) rfl rfl rfl (fun q => ?_) (fun q => ?_)
      · replace H := H.1 q
        refine r_run 69 1 (pc' := 120) (ls' := [(0, a0), (9, 0), (1, a2), (9, 0), (9, 0), (0, (wr ((wr (a5 + (-1))) + (-1)))), (0, a6)]) (st' := [(0, (wr ((wr (a5 + (-1))) + (-1))))]) rfl ?_
        exact r_iret (j := 70) rfl rfl rfl trivial H
      · replace H := H.2 q
        refine r_run 64 4 (pc' := 117) (ls' := [(0, a0), (9, 0), (1, a2), (9, 0), (9, 0), (0, (wr ((wr ((wr (a5 + (-1))) + (-1))) + (-1)))), (0, a6)]) (st' := [(0, 45), (0, (wr ((wr ((wr (a5 + (-1))) + (-1))) + (-1)))), (1, a2)]) rfl ?_
        obtain ⟨t28, i29, i30, x31, r32, H⟩ := H
        refine r_ast (j := 68) (t := 2) rfl rfl rfl rfl rfl (by decide) x31 (t28) i29 i30 r32 (fun h33 e34 => ?_)
        replace H := H h33 e34
        refine r_run 69 1 (pc' := 120) (ls' := [(0, a0), (9, 0), (1, a2), (9, 0), (9, 0), (0, (wr ((wr ((wr (a5 + (-1))) + (-1))) + (-1)))), (0, a6)]) (st' := [(0, (wr ((wr ((wr (a5 + (-1))) + (-1))) + (-1))))]) rfl ?_
        exact r_iret (j := 70) rfl rfl rfl trivial H
  · replace H := H.2 q
    refine r_run 16 2 (pc' := 31) (ls' := [(0, a0), (9, 0), (1, a2), (9, 0), (9, 0), (0, a5), (0, a6)]) (st' := [(0, 100), (0, a0)]) rfl ?_
    refine r_idiv (j := 18) rfl rfl (by decide) ?_
    refine r_run 19 12 (pc' := 49) (ls' := [(0, (wr (a0.tdiv 100))), (9, 0), (1, a2), (0, (wr (a0.tdiv 100))), (0, (wr ((wr ((wr (a0.tdiv 100)) * 100)) - a0))), (0, (wr (a5 + (-1)))), (0, a6)]) (st' := [(0, (wr (a5 + (-1)))), (1, a2)]) rfl ?_
    refine r_gets (j := 31) (g := 1) (v := (-22)) rfl rfl rfl rfl ?_
    refine r_run 32 1 (pc' := 54) (ls' := [(0, (wr (a0.tdiv 100))), (9, 0), (1, a2), (0, (wr (a0.tdiv 100))), (0, (wr ((wr ((wr (a0.tdiv 100)) * 100)) - a0))), (0, (wr (a5 + (-1)))), (0, a6)]) (st' := [(0, (wr ((wr ((wr (a0.tdiv 100)) * 100)) - a0))), (1, (-22)), (0, (wr (a5 + (-1)))), (1, a2)]) rfl ?_
    obtain ⟨t35, i36, i37, H⟩ := H
    refine r_ald (j := 33) (t := 2) rfl rfl rfl rfl rfl (t35) i36 i37 ?_
    obtain ⟨t38, i39, i40, x41, r42, H⟩ := H
    refine r_ast (j := 34) (t := 2) rfl rfl rfl rfl rfl (by decide) x41 (t38) i39 i40 r42 (fun h43 e44 => ?_)
    replace H := H h43 e44
    refine r_run 35 3 (pc' := 62) (ls' := [(0, (wr (a0.tdiv 100))), (9, 0), (1, a2), (0, (wr (a0.tdiv 100))), (0, (wr ((wr ((wr (a0.tdiv 100)) * 100)) - a0))), (0, (wr ((wr (a5 + (-1))) + (-1)))), (0, a6)]) (st' := [(0, (wr ((wr (a5 + (-1))) + (-1)))), (1, a2)]) rfl ?_
    refine r_gets (j := 38) (g := 1) (v := (-21)) rfl rfl rfl rfl ?_
    refine r_run 39 1 (pc' := 67) (ls' := [(0, (wr (a0.tdiv 100))), (9, 0), (1, a2), (0, (wr (a0.tdiv 100))), (0, (wr ((wr ((wr (a0.tdiv 100)) * 100)) - a0))), (0, (wr ((wr (a5 + (-1))) + (-1)))), (0, a6)]) (st' := [(0, (wr ((wr ((wr (a0.tdiv 100)) * 100)) - a0))), (1, (-21)), (0, (wr ((wr (a5 + (-1))) + (-1)))), (1, a2)]) rfl ?_
    obtain ⟨t45, i46, i47, H⟩ := H
    refine r_ald (j := 40) (t := 2) rfl rfl rfl rfl rfl (t45) i46 i47 ?_
    obtain ⟨t48, i49, i50, x51, r52, H⟩ := H
    refine r_ast (j := 41) (t := 2) rfl rfl rfl rfl rfl (by decide) x51 (t48) i49 i50 r52 (fun h53 e54 => ?_)
    replace H := H h53 e54
    refine r_goto (j := 42) (tgt := 22) rfl rfl ?_
    refine r_drp [true, false, true, false, false, true, true] ?_
    exact H

set_option maxRecDepth 100000 in
set_option maxHeartbeats 4000000 in
theorem wJ17_stringSize {G : GM} {d : Nat} {P : Nat → Int → SM → Prop} {h : SM} {a0 : Int} (hd : 1 ≤ d) 
    (H : (a0 < (0 : Int) → (WP G mJ17_stringSize 16 [(0, a0), (0, 1), (0, (-10)), (0, 1)] [] h d P)) ∧ ((0 : Int) ≤ a0 → (WP G mJ17_stringSize 16 [(0, (wr (-a0))), (0, 0), (0, (-10)), (0, 1)] [] h d P))) :
    WP G mJ17_stringSize 0 [(0, a0), (9, 0), (9, 0), (9, 0)] [] h d P := by
  refine r_run 0 3 (pc' := 3) (ls' := [(0, a0), (0, 1), (9, 0), (9, 0)]) (st' := [(0, a0)]) rfl ?_
  refine r_iflt (j := 3) rfl rfl rfl (fun q => ?_) (fun q => ?_)
  · replace H := H.1 q
    refine r_run 9 4 (pc' := 16) (ls' := [(0, a0), (0, 1), (0, (-10)), (0, 1)]) (st' := []) rfl ?_
    exact H
  · replace H := H.2 q
    refine r_run 4 9 (pc' := 16) (ls' := [(0, (wr (-a0))), (0, 0), (0, (-10)), (0, 1)]) (st' := []) rfl ?_
    exact H

set_option maxRecDepth 100000 in
set_option maxHeartbeats 4000000 in
theorem wJ17_stringSize_16 {G : GM} {d : Nat} {P : Nat → Int → SM → Prop} {h : SM} {a0 a1 a2 a3 : Int} (hd : 1 ≤ d) 
    (H : ((10 : Int) ≤ a3 → (P 0 (wr (10 + a1)) h)) ∧ (a3 < (10 : Int) → ((a0 ≤ a2 → (WP G mJ17_stringSize 16 [(0, a0), (0, a1), (0, (wr (10 * a2))), (0, (wr (a3 + 1)))] [] h d P)) ∧ (a2 < a0 → (P 0 (wr (a3 + a1)) h))))) :
    WP G mJ17_stringSize 16 [(0, a0), (0, a1), (0, a2), (0, a3)] [] h d P := by
  refine r_run 13 2 (pc' := 19) (ls' := [(0, a0), (0, a1), (0, a2), (0, a3)]) (st' := [(0, 10), (0, a3)]) rfl ?_
  refine r_icmpge (j := 15) rfl rfl rfl (fun q => ?_) (fun q => ?_)
  · replace H := H.1 q
    refine r_run 29 3 (pc' := 46) (ls' := [(0, a0), (0, a1), (0, a2), (0, a3)]) (st' := [(0, (wr (10 + a1)))]) rfl ?_
    exact r_iret (j := 32) rfl rfl rfl trivial H
  · replace H := H.2 q
    refine r_run 16 2 (pc' := 24) (ls' := [(0, a0), (0, a1), (0, a2), (0, a3)]) (st' := [(0, a2), (0, a0)]) rfl ?_
    refine r_icmple (j := 18) rfl rfl rfl (fun q => ?_) (fun q => ?_)
    · replace H := H.1 q
      refine r_run 23 5 (pc' := 39) (ls' := [(0, a0), (0, a1), (0, (wr (10 * a2))), (0, (wr (a3 + 1)))]) (st' := []) rfl ?_
      refine r_goto (j := 28) (tgt := 16) rfl rfl ?_
      exact H
    · replace H := H.2 q
      refine r_run 19 3 (pc' := 30) (ls' := [(0, a0), (0, a1), (0, a2), (0, a3)]) (st' := [(0, (wr (a3 + a1)))]) rfl ?_
      exact r_iret (j := 22) rfl rfl rfl trivial H

set_option maxRecDepth 100000 in
set_option maxHeartbeats 4000000 in
theorem wJ1_init {G : GM} {d : Nat} {P : Nat → Int → SM → Prop} {h : SM} {a0 : Int} (hd : 1 ≤ d) 
    (H : (a0 ≠ 0) ∧ (WP G mJ0_init 0 [(1, a0)] [] h (d - 1) (fun k v2 h3 => k = 0 ∧ ((h3 a0 (-1) = 4) ∧ (0 < a0) ∧ (∀ h6, h6 = up h3 a0 0 0 → (P 0 0 h6)))))) :
    WP G mJ1_init 0 [(1, a0)] [] h d P := by
  refine r_run 0 1 (pc' := 1) (ls' := [(1, a0)]) (st' := [(1, a0)]) rfl ?_
  obtain ⟨z1, H⟩ := H
  refine r_callI (j := 1) (M' := mJ0_init) (as := []) (st := []) rfl rfl rfl rfl rfl (Nat.le_of_ble_eq_true rfl) (Nat.le_of_ble_eq_true rfl) (by omega) z1 (kk0 (st' := fun v => []) rfl (fun _ => rfl)) (H.mono (fun k v2 h3 H => ⟨H.1, ?_⟩))
  replace H := H.2
  refine r_run 2 2 (pc' := 6) (ls' := [(1, a0)]) (st' := [(0, 0), (1, a0)]) rfl ?_
  obtain ⟨t4, x5, H⟩ := H
  refine r_putf (j := 4) (c := 3) (f := 0) rfl rfl rfl (by decide +kernel) rfl rfl rfl rfl x5 (t4) trivial (fun h6 e7 => ?_)
  replace H := H h6 e7
  exact r_vret (j := 5) rfl rfl H

set_option maxRecDepth 100000 in
set_option maxHeartbeats 4000000 in
theorem wJ20_checkIndex {G : GM} {d : Nat} {P : Nat → Int → SM → Prop} {h : SM} {a0 a1 : Int} (hd : 1 ≤ d) 
    (H : WP G mJ12_checkIndex 0 [(0, a0), (0, a1), (1, 0)] [] h (d - 1) (fun k v1 h2 => k = 0 ∧ (P 0 v1 h2))) :
    WP G mJ20_checkIndex 0 [(0, a0), (0, a1)] [] h d P := by
  refine r_run 0 3 (pc' := 3) (ls' := [(0, a0), (0, a1)]) (st' := [(1, 0), (0, a1), (0, a0)]) rfl ?_
  refine r_callS (j := 3) (M' := mJ12_checkIndex) (as := [(0, a0), (0, a1), (1, 0)]) (st := []) rfl rfl rfl rfl rfl (Nat.le_of_ble_eq_true rfl) (Nat.le_of_ble_eq_true rfl) (by omega) (kk0 (st' := fun v => [(0, v)]) rfl (fun _ => rfl)) (H.mono (fun k v1 h2 H => ⟨H.1, ?_⟩))
  replace H := H.2
  exact r_iret (j := 4) rfl rfl rfl trivial H

set_option maxRecDepth 100000 in
set_option maxHeartbeats 4000000 in
theorem wJ2_add {G : GM} {d : Nat} {P : Nat → Int → SM → Prop} {h : SM} {a0 a1 : Int} (hd : 1 ≤ d) 
    (H : (h a0 (-1) = 4) ∧ ((0 < a0) ∧ (∀ h3, h3 = up h a0 0 (wr ((h a0 0) + 1)) → ((h3 a0 (-1) = 4) ∧ (WP G mJ2_add_2 0 [(1, a0), (1, a1), (1, (h3 a0 1)), (0, (h3 a0 2))] [] h3 (d - 1) (fun k v6 h7 => k = 0 ∧ (P 0 1 h7))))))) :
    WP G mJ2_add 0 [(1, a0), (1, a1)] [] h d P := by
  refine r_run 0 2 (pc' := 2) (ls' := [(1, a0), (1, a1)]) (st' := [(1, a0), (1, a0)]) rfl ?_
  obtain ⟨t1, H⟩ := H
  refine r_getf (j := 2) (c := 3) (f := 0) rfl rfl rfl rfl rfl rfl rfl (t1) ?_
  refine r_run 3 2 (pc' := 7) (ls' := [(1, a0), (1, a1)]) (st' := [(0, (wr ((h a0 0) + 1))), (1, a0)]) rfl ?_
  obtain ⟨x2, H⟩ := H
  refine r_putf (j := 5) (c := 3) (f := 0) rfl rfl rfl (by decide +kernel) rfl rfl rfl rfl x2 (t1) trivial (fun h3 e4 => ?_)
  replace H := H h3 e4
  refine r_run 6 3 (pc' := 13) (ls' := [(1, a0), (1, a1)]) (st' := [(1, a0), (1, a1), (1, a0)]) rfl ?_
  obtain ⟨t5, H⟩ := H
  refine r_getf (j := 9) (c := 3) (f := 1) rfl rfl rfl rfl rfl rfl rfl (t5) ?_
  refine r_run 10 1 (pc' := 17) (ls' := [(1, a0), (1, a1)]) (st' := [(1, a0), (1, (h3 a0 1)), (1, a1), (1, a0)]) rfl ?_
  refine r_getf (j := 11) (c := 3) (f := 2) rfl rfl rfl rfl rfl rfl rfl (t5) ?_
  refine r_callV (j := 12) (M' := mJ2_add_2) (as := [(1, a1), (1, (h3 a0 1)), (0, (h3 a0 2))]) (st := []) rfl rfl rfl rfl rfl (Nat.le_of_ble_eq_true rfl) (Nat.le_of_ble_eq_true rfl) (by omega) (t5) (kk0 (st' := fun v => []) rfl (fun _ => rfl)) (H.mono (fun k v6 h7 H => ⟨H.1, ?_⟩))
  replace H := H.2
  refine r_run 13 1 (pc' := 24) (ls' := [(1, a0), (1, a1)]) (st' := [(0, 1)]) rfl ?_
  exact r_iret (j := 14) rfl rfl rfl (Or.inr rfl) H

set_option maxRecDepth 100000 in
set_option maxHeartbeats 4000000 in
theorem wJ2_add_2 {G : GM} {d : Nat} {P : Nat → Int → SM → Prop} {h : SM} {a0 a1 a2 a3 : Int} (hd : 1 ≤ d) 
    (H : (h a2 (-1) = 104) ∧ ((a3 ≠ (h a2 (-2)) → ((0 ≤ a3) ∧ (a3 < h a2 (-2)) ∧ (0 < a2) ∧ (elOK h a1) ∧ (∀ h5, h5 = up h a2 a3 a1 → ((h5 a0 (-1) = 4) ∧ (0 < a0) ∧ (∀ h10, h10 = up h5 a0 2 (wr (a3 + 1)) → (P 0 0 h10)))))) ∧ (a3 = (h a2 (-2)) → ((h a0 (-1) = 4) ∧ (WP G mJ2_grow 0 [(1, a0)] [] h (d - 1) (fun k v13 h14 => k = 0 ∧ ((h14 v13 (-1) = 104) ∧ (0 ≤ a3) ∧ (a3 < h14 v13 (-2)) ∧ (0 < v13) ∧ (elOK h14 a1) ∧ (∀ h19, h19 = up h14 v13 a3 a1 → ((h19 a0 (-1) = 4) ∧ (0 < a0) ∧ (∀ h24, h24 = up h19 a0 2 (wr (a3 + 1)) → (P 0 0 h24))))))))))) :
    WP G mJ2_add_2 0 [(1, a0), (1, a1), (1, a2), (0, a3)] [] h d P := by
  refine r_run 0 2 (pc' := 2) (ls' := [(1, a0), (1, a1), (1, a2), (0, a3)]) (st' := [(1, a2), (0, a3)]) rfl ?_
  obtain ⟨t1, H⟩ := H
  refine r_alen (j := 2) (t := 4) rfl rfl rfl rfl (t1) ?_
  refine r_icmpne (j := 3) rfl rfl rfl (fun q => ?_) (fun q => ?_)
  · replace H := H.1 q
    refine r_run 7 3 (pc' := 14) (ls' := [(1, a0), (1, a1), (1, a2), (0, a3)]) (st' := [(1, a1), (0, a3), (1, a2)]) rfl ?_
    obtain ⟨i2, i3, x4, v7, H⟩ := H
    refine r_astA (j := 10) (t := 4) rfl rfl rfl rfl rfl x4 (t1) i2 i3 v7 (fun h5 e6 => ?_)
    replace H := H h5 e6
    refine r_run 11 4 (pc' := 19) (ls' := [(1, a0), (1, a1), (1, a2), (0, a3)]) (st' := [(0, (wr (a3 + 1))), (1, a0)]) rfl ?_
    obtain ⟨t8, x9, H⟩ := H
    refine r_putf (j := 15) (c := 3) (f := 2) rfl rfl rfl (by decide +kernel) rfl rfl rfl rfl x9 (t8) trivial (fun h10 e11 => ?_)
    replace H := H h10 e11
    exact r_vret (j := 16) rfl rfl H
  · replace H := H.2 q
    refine r_run 4 1 (pc' := 7) (ls' := [(1, a0), (1, a1), (1, a2), (0, a3)]) (st' := [(1, a0)]) rfl ?_
    obtain ⟨t12, H⟩ := H
    refine r_callV (j := 5) (M' := mJ2_grow) (as := []) (st := []) rfl rfl rfl rfl rfl (Nat.le_of_ble_eq_true rfl) (Nat.le_of_ble_eq_true rfl) (by omega) (t12) (kk0 (st' := fun v => [(1, v)]) rfl (fun _ => rfl)) (H.mono (fun k v13 h14 H => ⟨H.1, ?_⟩))
    replace H := H.2
    refine r_run 6 4 (pc' := 14) (ls' := [(1, a0), (1, a1), (1, v13), (0, a3)]) (st' := [(1, a1), (0, a3), (1, v13)]) rfl ?_
    obtain ⟨t15, i16, i17, x18, v21, H⟩ := H
    refine r_astA (j := 10) (t := 4) rfl rfl rfl rfl rfl x18 (t15) i16 i17 v21 (fun h19 e20 => ?_)
    replace H := H h19 e20
    refine r_run 11 4 (pc' := 19) (ls' := [(1, a0), (1, a1), (1, v13), (0, a3)]) (st' := [(0, (wr (a3 + 1))), (1, a0)]) rfl ?_
    obtain ⟨t22, x23, H⟩ := H
    refine r_putf (j := 15) (c := 3) (f := 2) rfl rfl rfl (by decide +kernel) rfl rfl rfl rfl x23 (t22) trivial (fun h24 e25 => ?_)
    replace H := H h24 e25
    exact r_vret (j := 16) rfl rfl H

set_option maxRecDepth 100000 in
set_option maxHeartbeats 4000000 in
theorem wJ2_clear {G : GM} {d : Nat} {P : Nat → Int → SM → Prop} {h : SM} {a0 : Int} (hd : 1 ≤ d) 
    (H : (h a0 (-1) = 4) ∧ ((0 < a0) ∧ (∀ h3, h3 = up h a0 0 (wr ((h a0 0) + 1)) → ((h3 a0 (-1) = 4) ∧ ((0 < a0) ∧ (∀ h7, h7 = up h3 a0 2 0 → (WP G mJ2_clear 27 [(9, 0), (1, (h3 a0 1)), (0, (h3 a0 2)), (0, 0)] [] h7 d P))))))) :
    WP G mJ2_clear 0 [(1, a0), (9, 0), (9, 0), (9, 0)] [] h d P := by
  refine r_run 0 2 (pc' := 2) (ls' := [(1, a0), (9, 0), (9, 0), (9, 0)]) (st' := [(1, a0), (1, a0)]) rfl ?_
  obtain ⟨t1, H⟩ := H
  refine r_getf (j := 2) (c := 3) (f := 0) rfl rfl rfl rfl rfl rfl rfl (t1) ?_
  refine r_run 3 2 (pc' := 7) (ls' := [(1, a0), (9, 0), (9, 0), (9, 0)]) (st' := [(0, (wr ((h a0 0) + 1))), (1, a0)]) rfl ?_
  obtain ⟨x2, H⟩ := H
  refine r_putf (j := 5) (c := 3) (f := 0) rfl rfl rfl (by decide +kernel) rfl rfl rfl rfl x2 (t1) trivial (fun h3 e4 => ?_)
  replace H := H h3 e4
  refine r_run 6 1 (pc' := 11) (ls' := [(1, a0), (9, 0), (9, 0), (9, 0)]) (st' := [(1, a0)]) rfl ?_
  obtain ⟨t5, H⟩ := H
  refine r_getf (j := 7) (c := 3) (f := 1) rfl rfl rfl rfl rfl rfl rfl (t5) ?_
  refine r_run 8 2 (pc' := 16) (ls' := [(1, a0), (1, (h3 a0 1)), (9, 0), (9, 0)]) (st' := [(1, a0)]) rfl ?_
  refine r_getf (j := 10) (c := 3) (f := 2) rfl rfl rfl rfl rfl rfl rfl (t5) ?_
  refine r_run 11 4 (pc' := 23) (ls' := [(1, a0), (1, (h3 a0 1)), (0, (h3 a0 2)), (9, 0)]) (st' := [(0, 0), (1, a0), (0, 0)]) rfl ?_
  obtain ⟨x6, H⟩ := H
  refine r_putf (j := 15) (c := 3) (f := 2) rfl rfl rfl (by decide +kernel) rfl rfl rfl rfl x6 (t5) trivial (fun h7 e8 => ?_)
  replace H := H h7 e8
  refine r_run 16 1 (pc' := 27) (ls' := [(1, a0), (1, (h3 a0 1)), (0, (h3 a0 2)), (0, 0)]) (st' := []) rfl ?_
  refine r_drp [false, true, true, true] ?_
  exact H

set_option maxRecDepth 100000 in
set_option maxHeartbeats 4000000 in
theorem wJ2_clear_27 {G : GM} {d : Nat} {P : Nat → Int → SM → Prop} {h : SM} {a1 a2 a3 : Int} (hd : 1 ≤ d) 
    (H : (a2 ≤ a3 → (P 0 0 h)) ∧ (a3 < a2 → ((h a1 (-1) = 104) ∧ (0 ≤ a3) ∧ (a3 < h a1 (-2)) ∧ (0 < a1) ∧ (elOK h 0) ∧ (∀ h5, h5 = up h a1 a3 0 → (WP G mJ2_clear 27 [(9, 0), (1, a1), (0, a2), (0, (wr (a3 + 1)))] [] h5 d P))))) :
    WP G mJ2_clear 27 [(9, 0), (1, a1), (0, a2), (0, a3)] [] h d P := by
  refine r_run 17 2 (pc' := 29) (ls' := [(9, 0), (1, a1), (0, a2), (0, a3)]) (st' := [(0, a2), (0, a3)]) rfl ?_
  refine r_icmpge (j := 19) rfl rfl rfl (fun q => ?_) (fun q => ?_)
  · replace H := H.1 q
    exact r_vret (j := 26) rfl rfl H
  · replace H := H.2 q
    refine r_run 20 3 (pc' := 35) (ls' := [(9, 0), (1, a1), (0, a2), (0, a3)]) (st' := [(1, 0), (0, a3), (1, a1)]) rfl ?_
    obtain ⟨t1, i2, i3, x4, v7, H⟩ := H
    refine r_astA (j := 23) (t := 4) rfl rfl rfl rfl rfl x4 (t1) i2 i3 v7 (fun h5 e6 => ?_)
    replace H := H h5 e6
    refine r_run 24 1 (pc' := 39) (ls' := [(9, 0), (1, a1), (0, a2), (0, (wr (a3 + 1)))]) (st' := []) rfl ?_
    refine r_goto (j := 25) (tgt := 27) rfl rfl ?_
    exact H

set_option maxRecDepth 100000 in
set_option maxHeartbeats 4000000 in
theorem wJ2_elementData {G : GM} {d : Nat} {P : Nat → Int → SM → Prop} {h : SM} {a0 a1 : Int} (hd : 1 ≤ d) 
    (H : (h a0 (-1) = 4) ∧ ((h (h a0 1) (-1) = 104) ∧ (0 ≤ a1) ∧ (a1 < h (h a0 1) (-2)) ∧ (P 0 (h (h a0 1) a1) h))) :
    WP G mJ2_elementData 0 [(1, a0), (0, a1)] [] h d P := by
  refine r_run 0 1 (pc' := 1) (ls' := [(1, a0), (0, a1)]) (st' := [(1, a0)]) rfl ?_
  obtain ⟨t1, H⟩ := H
  refine r_getf (j := 1) (c := 3) (f := 1) rfl rfl rfl rfl rfl rfl rfl (t1) ?_
  refine r_run 2 1 (pc' := 5) (ls' := [(1, a0), (0, a1)]) (st' := [(0, a1), (1, (h a0 1))]) rfl ?_
  obtain ⟨t2, i3, i4, H⟩ := H
  refine r_ald (j := 3) (t := 4) rfl rfl rfl rfl rfl (t2) i3 i4 ?_
  exact r_aret (j := 4) rfl rfl rfl H

set_option maxRecDepth 100000 in
set_option maxHeartbeats 4000000 in
theorem wJ2_fastRemove {G : GM} {d : Nat} {P : Nat → Int → SM → Prop} {h : SM} {a0 a1 a2 : Int} (hd : 1 ≤ d) 
    (H : (h a0 (-1) = 4) ∧ ((0 < a0) ∧ (∀ h3, h3 = up h a0 0 (wr ((h a0 0) + 1)) → ((h3 a0 (-1) = 4) ∧ (((wr ((h3 a0 2) - 1)) ≤ a2 → ((0 < a0) ∧ (∀ h7, h7 = up h3 a0 2 (wr ((h3 a0 2) - 1)) → ((h7 a1 (-1) = 104) ∧ (0 ≤ (wr ((h3 a0 2) - 1))) ∧ ((wr ((h3 a0 2) - 1)) < h7 a1 (-2)) ∧ (0 < a1) ∧ (elOK h7 0) ∧ (∀ h13, h13 = up h7 a1 (wr ((h3 a0 2) - 1)) 0 → (P 0 0 h13)))))) ∧ (a2 < (wr ((h3 a0 2) - 1)) → ((h3 a1 (-1) = 104) ∧ (0 < a1) ∧ (0 ≤ (wr (a2 + 1))) ∧ (0 ≤ a2) ∧ (0 ≤ (wr ((wr ((h3 a0 2) - 1)) - a2))) ∧ ((wr (a2 + 1)) + (wr ((wr ((h3 a0 2) - 1)) - a2)) ≤ h3 a1 (-2)) ∧ (a2 + (wr ((wr ((h3 a0 2) - 1)) - a2)) ≤ h3 a1 (-2)) ∧ (∀ i, (wr (a2 + 1)) ≤ i → i < (wr (a2 + 1)) + (wr ((wr ((h3 a0 2) - 1)) - a2)) → elOK h3 (h3 a1 i)) ∧ (∀ h24, h24 = cpM h3 a1 (wr (a2 + 1)) a1 a2 (wr ((wr ((h3 a0 2) - 1)) - a2)) → ((h24 a0 (-1) = 4) ∧ (0 < a0) ∧ (∀ h28, h28 = up h24 a0 2 (wr ((h3 a0 2) - 1)) → ((h28 a1 (-1) = 104) ∧ (0 ≤ (wr ((h3 a0 2) - 1))) ∧ ((wr ((h3 a0 2) - 1)) < h28 a1 (-2)) ∧ (0 < a1) ∧ (elOK h28 0) ∧ (∀ h34, h34 = up h28 a1 (wr ((h3 a0 2) - 1)) 0 → (P 0 0 h34))))))))))))) :
    WP G mJ2_fastRemove 0 [(1, a0), (1, a1), (0, a2), (9, 0)] [] h d P := by
  refine r_run 0 2 (pc' := 2) (ls' := [(1, a0), (1, a1), (0, a2), (9, 0)]) (st' := [(1, a0), (1, a0)]) rfl ?_
  obtain ⟨t1, H⟩ := H
  refine r_getf (j := 2) (c := 3) (f := 0) rfl rfl rfl rfl rfl rfl rfl (t1) ?_
  refine r_run 3 2 (pc' := 7) (ls' := [(1, a0), (1, a1), (0, a2), (9, 0)]) (st' := [(0, (wr ((h a0 0) + 1))), (1, a0)]) rfl ?_
  obtain ⟨x2, H⟩ := H
  refine r_putf (j := 5) (c := 3) (f := 0) rfl rfl rfl (by decide +kernel) rfl rfl rfl rfl x2 (t1) trivial (fun h3 e4 => ?_)
  replace H := H h3 e4
  refine r_run 6 1 (pc' := 11) (ls' := [(1, a0), (1, a1), (0, a2), (9, 0)]) (st' := [(1, a0)]) rfl ?_
  obtain ⟨t5, H⟩ := H
  refine r_getf (j := 7) (c := 3) (f := 2) rfl rfl rfl rfl rfl rfl rfl (t5) ?_
  refine r_run 8 5 (pc' := 19) (ls' := [(1, a0), (1, a1), (0, a2), (0, (wr ((h3 a0 2) - 1)))]) (st' := [(0, a2), (0, (wr ((h3 a0 2) - 1)))]) rfl ?_
  refine r_icmple (j := 13) rfl rfl rfl (fun q => ?_) (fun q => ?_)
  · replace H := H.1 q
    refine r_run 24 4 (pc' := 38) (ls' := [(1, a0), (1, a1), (0, a2), (0, (wr ((h3 a0 2) - 1)))]) (st' := [(0, (wr ((h3 a0 2) - 1))), (1, a0), (0, (wr ((h3 a0 2) - 1))), (1, a1)]) rfl ?_
    obtain ⟨x6, H⟩ := H
    refine r_putf (j := 28) (c := 3) (f := 2) rfl rfl rfl (by decide +kernel) rfl rfl rfl rfl x6 (t5) trivial (fun h7 e8 => ?_)
    replace H := H h7 e8
    refine r_run 29 1 (pc' := 42) (ls' := [(1, a0), (1, a1), (0, a2), (0, (wr ((h3 a0 2) - 1)))]) (st' := [(1, 0), (0, (wr ((h3 a0 2) - 1))), (1, a1)]) rfl ?_
    obtain ⟨t9, i10, i11, x12, v15, H⟩ := H
    refine r_astA (j := 30) (t := 4) rfl rfl rfl rfl rfl x12 (t9) i10 i11 v15 (fun h13 e14 => ?_)
    replace H := H h13 e14
    exact r_vret (j := 31) rfl rfl H
  · replace H := H.2 q
    refine r_run 14 9 (pc' := 31) (ls' := [(1, a0), (1, a1), (0, a2), (0, (wr ((h3 a0 2) - 1)))]) (st' := [(0, (wr ((wr ((h3 a0 2) - 1)) - a2))), (0, a2), (1, a1), (0, (wr (a2 + 1))), (1, a1)]) rfl ?_
    obtain ⟨t16, y17, y18, y19, y20, y21, y22, y23, H⟩ := H
    refine r_copy (j := 23) rfl rfl rfl rfl (by omega) (by simp) (t := 4) rfl rfl y17 (t16) (t16) y18 y19 y20 y21 y22 (fun _ => y23) (fun h24 e25 => ?_)
    replace H := H h24 e25
    refine r_run 24 4 (pc' := 38) (ls' := [(1, a0), (1, a1), (0, a2), (0, (wr ((h3 a0 2) - 1)))]) (st' := [(0, (wr ((h3 a0 2) - 1))), (1, a0), (0, (wr ((h3 a0 2) - 1))), (1, a1)]) rfl ?_
    obtain ⟨t26, x27, H⟩ := H
    refine r_putf (j := 28) (c := 3) (f := 2) rfl rfl rfl (by decide +kernel) rfl rfl rfl rfl x27 (t26) trivial (fun h28 e29 => ?_)
    replace H := H h28 e29
    refine r_run 29 1 (pc' := 42) (ls' := [(1, a0), (1, a1), (0, a2), (0, (wr ((h3 a0 2) - 1)))]) (st' := [(1, 0), (0, (wr ((h3 a0 2) - 1))), (1, a1)]) rfl ?_
    obtain ⟨t30, i31, i32, x33, v36, H⟩ := H
    refine r_astA (j := 30) (t := 4) rfl rfl rfl rfl rfl x33 (t30) i31 i32 v36 (fun h34 e35 => ?_)
    replace H := H h34 e35
    exact r_vret (j := 31) rfl rfl H

set_option maxRecDepth 100000 in
set_option maxHeartbeats 4000000 in
theorem wJ2_get {G : GM} {d : Nat} {P : Nat → Int → SM → Prop} {h : SM} {a0 a1 : Int} (hd : 1 ≤ d) 
    (H : (h a0 (-1) = 4) ∧ (WP G mJ20_checkIndex 0 [(0, a1), (0, (h a0 2))] [] h (d - 1) (fun k v2 h3 => k = 0 ∧ ((h3 a0 (-1) = 4) ∧ (WP G mJ2_elementData 0 [(1, a0), (0, a1)] [] h3 (d - 1) (fun k v5 h6 => k = 0 ∧ (P 0 v5 h6))))))) :
    WP G mJ2_get 0 [(1, a0), (0, a1)] [] h d P := by
  refine r_run 0 2 (pc' := 2) (ls' := [(1, a0), (0, a1)]) (st' := [(1, a0), (0, a1)]) rfl ?_
  obtain ⟨t1, H⟩ := H
  refine r_getf (j := 2) (c := 3) (f := 2) rfl rfl rfl rfl rfl rfl rfl (t1) ?_
  refine r_callS (j := 3) (M' := mJ20_checkIndex) (as := [(0, a1), (0, (h a0 2))]) (st := []) rfl rfl rfl rfl rfl (Nat.le_of_ble_eq_true rfl) (Nat.le_of_ble_eq_true rfl) (by omega) (kk0 (st' := fun v => [(0, v)]) rfl (fun _ => rfl)) (H.mono (fun k v2 h3 H => ⟨H.1, ?_⟩))
  replace H := H.2
  refine r_run 4 3 (pc' := 11) (ls' := [(1, a0), (0, a1)]) (st' := [(0, a1), (1, a0)]) rfl ?_
  obtain ⟨t4, H⟩ := H
  refine r_callV (j := 7) (M' := mJ2_elementData) (as := [(0, a1)]) (st := []) rfl rfl rfl rfl rfl (Nat.le_of_ble_eq_true rfl) (Nat.le_of_ble_eq_true rfl) (by omega) (t4) (kk0 (st' := fun v => [(1, v)]) rfl (fun _ => rfl)) (H.mono (fun k v5 h6 H => ⟨H.1, ?_⟩))
  replace H := H.2
  exact r_aret (j := 8) rfl rfl rfl H

set_option maxRecDepth 100000 in
set_option maxHeartbeats 4000000 in
theorem wJ2_grow {G : GM} {d : Nat} {P : Nat → Int → SM → Prop} {h : SM} {a0 : Int} (hd : 1 ≤ d) 
    (H : (h a0 (-1) = 4) ∧ (WP G mJ2_grow_2 0 [(1, a0), (0, (wr ((h a0 2) + 1))), (9, 0), (9, 0)] [] h (d - 1) (fun k v2 h3 => k = 0 ∧ (P 0 v2 h3)))) :
    WP G mJ2_grow 0 [(1, a0)] [] h d P := by
  refine r_run 0 2 (pc' := 2) (ls' := [(1, a0)]) (st' := [(1, a0), (1, a0)]) rfl ?_
  obtain ⟨t1, H⟩ := H
  refine r_getf (j := 2) (c := 3) (f := 2) rfl rfl rfl rfl rfl rfl rfl (t1) ?_
  refine r_run 3 2 (pc' := 7) (ls' := [(1, a0)]) (st' := [(0, (wr ((h a0 2) + 1))), (1, a0)]) rfl ?_
  refine r_callV (j := 5) (M' := mJ2_grow_2) (as := [(0, (wr ((h a0 2) + 1)))]) (st := []) rfl rfl rfl rfl rfl (Nat.le_of_ble_eq_true rfl) (Nat.le_of_ble_eq_true rfl) (by omega) (t1) (kk0 (st' := fun v => [(1, v)]) rfl (fun _ => rfl)) (H.mono (fun k v2 h3 H => ⟨H.1, ?_⟩))
  replace H := H.2
  exact r_aret (j := 6) rfl rfl rfl H

set_option maxRecDepth 100000 in
set_option maxHeartbeats 4000000 in
theorem wJ2_grow_2 {G : GM} {d : Nat} {P : Nat → Int → SM → Prop} {h : SM} {a0 a1 : Int} (hd : 1 ≤ d) 
    (H : (h a0 (-1) = 4) ∧ ((h (h a0 1) (-1) = 104) ∧ (((0 : Int) < (h (h a0 1) (-2)) → (WP G mJ8_newLength 0 [(0, (h (h a0 1) (-2))), (0, (wr (a1 - (h (h a0 1) (-2))))), (0, (bShr (h (h a0 1) (-2)) 1)), (9, 0)] [] h (d - 1) (fun k v3 h4 => k = 0 ∧ ((h4 a0 (-1) = 4) ∧ (WP G mJ10_copyOf_2 0 [(1, (h4 a0 1)), (0, v3)] [] h4 (d - 1) (fun k v6 h7 => k = 0 ∧ ((h7 a0 (-1) = 4) ∧ (0 < a0) ∧ (∀ h10, h10 = up h7 a0 1 v6 → (P 0 v6 h10))))))))) ∧ ((h (h a0 1) (-2)) ≤ (0 : Int) → (((h a0 1) = (-20) → ((0 ≤ ((if 10 < a1 then a1 else 10) : Int)) ∧ (h 0 0 ≤ 1203200) ∧ (h 0 1 + (if 10 < a1 then a1 else 10) ≤ 5491882) ∧ (∀ h15, h15 = al h 104 (if 10 < a1 then a1 else 10) (if 10 < a1 then a1 else 10) → ((h15 a0 (-1) = 4) ∧ (0 < a0) ∧ (∀ h19, h19 = up h15 a0 1 (h 0 0) → (P 0 (h 0 0) h19)))))) ∧ ((h a0 1) ≠ (-20) → (WP G mJ8_newLength 0 [(0, (h (h a0 1) (-2))), (0, (wr (a1 - (h (h a0 1) (-2))))), (0, (bShr (h (h a0 1) (-2)) 1)), (9, 0)] [] h (d - 1) (fun k v21 h22 => k = 0 ∧ ((h22 a0 (-1) = 4) ∧ (WP G mJ10_copyOf_2 0 [(1, (h22 a0 1)), (0, v21)] [] h22 (d - 1) (fun k v24 h25 => k = 0 ∧ ((h25 a0 (-1) = 4) ∧ (0 < a0) ∧ (∀ h28, h28 = up h25 a0 1 v24 → (P 0 v24 h28)))))))))))))) :
    WP G mJ2_grow_2 0 [(1, a0), (0, a1), (9, 0), (9, 0)] [] h d P := by
  refine r_run 0 1 (pc' := 1) (ls' := [(1, a0), (0, a1), (9, 0), (9, 0)]) (st' := [(1, a0)]) rfl ?_
  obtain ⟨t1, H⟩ := H
  refine r_getf (j := 1) (c := 3) (f := 1) rfl rfl rfl rfl rfl rfl rfl (t1) ?_
  obtain ⟨t2, H⟩ := H
  refine r_alen (j := 2) (t := 4) rfl rfl rfl rfl (t2) ?_
  refine r_run 3 2 (pc' := 7) (ls' := [(1, a0), (0, a1), (0, (h (h a0 1) (-2))), (9, 0)]) (st' := [(0, (h (h a0 1) (-2)))]) rfl ?_
  refine r_ifgt (j := 5) rfl rfl rfl (fun q => ?_) (fun q => ?_)
  · replace H := H.1 q
    refine r_run 10 7 (pc' := 27) (ls' := [(1, a0), (0, a1), (0, (h (h a0 1) (-2))), (9, 0)]) (st' := [(0, (bShr (h (h a0 1) (-2)) 1)), (0, (wr (a1 - (h (h a0 1) (-2))))), (0, (h (h a0 1) (-2)))]) rfl ?_
    refine r_callS (j := 17) (M' := mJ8_newLength) (as := [(0, (h (h a0 1) (-2))), (0, (wr (a1 - (h (h a0 1) (-2))))), (0, (bShr (h (h a0 1) (-2)) 1))]) (st := []) rfl rfl rfl rfl rfl (Nat.le_of_ble_eq_true rfl) (Nat.le_of_ble_eq_true rfl) (by omega) (kk0 (st' := fun v => [(0, v)]) rfl (fun _ => rfl)) (H.mono (fun k v3 h4 H => ⟨H.1, ?_⟩))
    replace H := H.2
    refine r_run 18 3 (pc' := 33) (ls' := [(1, a0), (0, a1), (0, (h (h a0 1) (-2))), (0, v3)]) (st' := [(1, a0), (1, a0)]) rfl ?_
    obtain ⟨t5, H⟩ := H
    refine r_getf (j := 21) (c := 3) (f := 1) rfl rfl rfl rfl rfl rfl rfl (t5) ?_
    refine r_run 22 1 (pc' := 37) (ls' := [(1, a0), (0, a1), (0, (h (h a0 1) (-2))), (0, v3)]) (st' := [(0, v3), (1, (h4 a0 1)), (1, a0)]) rfl ?_
    refine r_callS (j := 23) (M' := mJ10_copyOf_2) (as := [(1, (h4 a0 1)), (0, v3)]) (st := [(1, a0)]) rfl rfl rfl rfl rfl (Nat.le_of_ble_eq_true rfl) (Nat.le_of_ble_eq_true rfl) (by omega) (kk0 (st' := fun v => [(1, v), (1, a0)]) rfl (fun _ => rfl)) (H.mono (fun k v6 h7 H => ⟨H.1, ?_⟩))
    replace H := H.2
    refine r_run 24 1 (pc' := 41) (ls' := [(1, a0), (0, a1), (0, (h (h a0 1) (-2))), (0, v3)]) (st' := [(1, v6), (1, a0), (1, v6)]) rfl ?_
    obtain ⟨t8, x9, H⟩ := H
    refine r_putf (j := 25) (c := 3) (f := 1) rfl rfl rfl (by decide +kernel) rfl rfl rfl rfl x9 (t8) trivial (fun h10 e11 => ?_)
    replace H := H h10 e11
    exact r_aret (j := 26) rfl rfl rfl H
  · replace H := H.2 q
    refine r_run 6 1 (pc' := 11) (ls' := [(1, a0), (0, a1), (0, (h (h a0 1) (-2))), (9, 0)]) (st' := [(1, a0)]) rfl ?_
    refine r_getf (j := 7) (c := 3) (f := 1) rfl rfl rfl rfl rfl rfl rfl (t1) ?_
    refine r_gets (j := 8) (g := 1) (v := (-20)) rfl rfl rfl rfl ?_
    refine r_aeq (j := 9) rfl rfl rfl (fun q => ?_) (fun q => ?_)
    · replace H := H.1 q
      refine r_run 27 3 (pc' := 49) (ls' := [(1, a0), (0, a1), (0, (h (h a0 1) (-2))), (9, 0)]) (st' := [(0, a1), (0, 10), (1, a0)]) rfl ?_
      refine r_max (j := 30) rfl rfl rfl rfl (by omega) (by simp) ?_
      obtain ⟨r14, r12, r13, H⟩ := H
      refine r_anew (j := 31) rfl rfl (t := 4) rfl rfl rfl r14 r12 r13 (fun h15 e16 => ?_)
      replace H := H h15 e16
      refine r_run 32 1 (pc' := 56) (ls' := [(1, a0), (0, a1), (0, (h (h a0 1) (-2))), (9, 0)]) (st' := [(1, (h 0 0)), (1, a0), (1, (h 0 0))]) rfl ?_
      obtain ⟨t17, x18, H⟩ := H
      refine r_putf (j := 33) (c := 3) (f := 1) rfl rfl rfl (by decide +kernel) rfl rfl rfl rfl x18 (t17) trivial (fun h19 e20 => ?_)
      replace H := H h19 e20
      exact r_aret (j := 34) rfl rfl rfl H
    · replace H := H.2 q
      refine r_run 10 7 (pc' := 27) (ls' := [(1, a0), (0, a1), (0, (h (h a0 1) (-2))), (9, 0)]) (st' := [(0, (bShr (h (h a0 1) (-2)) 1)), (0, (wr (a1 - (h (h a0 1) (-2))))), (0, (h (h a0 1) (-2)))]) rfl ?_
      refine r_callS (j := 17) (M' := mJ8_newLength) (as := [(0, (h (h a0 1) (-2))), (0, (wr (a1 - (h (h a0 1) (-2))))), (0, (bShr (h (h a0 1) (-2)) 1))]) (st := []) rfl rfl rfl rfl rfl (Nat.le_of_ble_eq_true rfl) (Nat.le_of_ble_eq_true rfl) (by omega) (kk0 (st' := fun v => [(0, v)]) rfl (fun _ => rfl)) (H.mono (fun k v21 h22 H => ⟨H.1, ?_⟩))
      replace H := H.2
      refine r_run 18 3 (pc' := 33) (ls' := [(1, a0), (0, a1), (0, (h (h a0 1) (-2))), (0, v21)]) (st' := [(1, a0), (1, a0)]) rfl ?_
      obtain ⟨t23, H⟩ := H
      refine r_getf (j := 21) (c := 3) (f := 1) rfl rfl rfl rfl rfl rfl rfl (t23) ?_
      refine r_run 22 1 (pc' := 37) (ls' := [(1, a0), (0, a1), (0, (h (h a0 1) (-2))), (0, v21)]) (st' := [(0, v21), (1, (h22 a0 1)), (1, a0)]) rfl ?_
      refine r_callS (j := 23) (M' := mJ10_copyOf_2) (as := [(1, (h22 a0 1)), (0, v21)]) (st := [(1, a0)]) rfl rfl rfl rfl rfl (Nat.le_of_ble_eq_true rfl) (Nat.le_of_ble_eq_true rfl) (by omega) (kk0 (st' := fun v => [(1, v), (1, a0)]) rfl (fun _ => rfl)) (H.mono (fun k v24 h25 H => ⟨H.1, ?_⟩))
      replace H := H.2
      refine r_run 24 1 (pc' := 41) (ls' := [(1, a0), (0, a1), (0, (h (h a0 1) (-2))), (0, v21)]) (st' := [(1, v24), (1, a0), (1, v24)]) rfl ?_
      obtain ⟨t26, x27, H⟩ := H
      refine r_putf (j := 25) (c := 3) (f := 1) rfl rfl rfl (by decide +kernel) rfl rfl rfl rfl x27 (t26) trivial (fun h28 e29 => ?_)
      replace H := H h28 e29
      exact r_aret (j := 26) rfl rfl rfl H

set_option maxRecDepth 100000 in
set_option maxHeartbeats 4000000 in
theorem wJ2_init {G : GM} {d : Nat} {P : Nat → Int → SM → Prop} {h : SM} {a0 : Int} (hd : 1 ≤ d) 
    (H : (a0 ≠ 0) ∧ (WP G mJ1_init 0 [(1, a0)] [] h (d - 1) (fun k v2 h3 => k = 0 ∧ ((h3 a0 (-1) = 4) ∧ (0 < a0) ∧ (∀ h6, h6 = up h3 a0 1 (-20) → (P 0 0 h6)))))) :
    WP G mJ2_init 0 [(1, a0)] [] h d P := by
  refine r_run 0 1 (pc' := 1) (ls' := [(1, a0)]) (st' := [(1, a0)]) rfl ?_
  obtain ⟨z1, H⟩ := H
  refine r_callI (j := 1) (M' := mJ1_init) (as := []) (st := []) rfl rfl rfl rfl rfl (Nat.le_of_ble_eq_true rfl) (Nat.le_of_ble_eq_true rfl) (by omega) z1 (kk0 (st' := fun v => []) rfl (fun _ => rfl)) (H.mono (fun k v2 h3 H => ⟨H.1, ?_⟩))
  replace H := H.2
  refine r_run 2 1 (pc' := 5) (ls' := [(1, a0)]) (st' := [(1, a0)]) rfl ?_
  refine r_gets (j := 3) (g := 1) (v := (-20)) rfl rfl rfl rfl ?_
  obtain ⟨t4, x5, H⟩ := H
  refine r_putf (j := 4) (c := 3) (f := 1) rfl rfl rfl (by decide +kernel) rfl rfl rfl rfl x5 (t4) trivial (fun h6 e7 => ?_)
  replace H := H h6 e7
  exact r_vret (j := 5) rfl rfl H

set_option maxRecDepth 100000 in
set_option maxHeartbeats 4000000 in
theorem wJ2_isEmpty {G : GM} {d : Nat} {P : Nat → Int → SM → Prop} {h : SM} {a0 : Int} (hd : 1 ≤ d) 
    (H : (h a0 (-1) = 4) ∧ (((h a0 2) ≠ (0 : Int) → (P 0 0 h)) ∧ ((h a0 2) = (0 : Int) → (P 0 1 h)))) :
    WP G mJ2_isEmpty 0 [(1, a0)] [] h d P := by
  refine r_run 0 1 (pc' := 1) (ls' := [(1, a0)]) (st' := [(1, a0)]) rfl ?_
  obtain ⟨t1, H⟩ := H
  refine r_getf (j := 1) (c := 3) (f := 2) rfl rfl rfl rfl rfl rfl rfl (t1) ?_
  refine r_ifne (j := 2) rfl rfl rfl (fun q => ?_) (fun q => ?_)
  · replace H := H.1 q
    refine r_run 5 1 (pc' := 12) (ls' := [(1, a0)]) (st' := [(0, 0)]) rfl ?_
    exact r_iret (j := 6) rfl rfl rfl (Or.inl rfl) H
  · replace H := H.2 q
    refine r_run 3 1 (pc' := 8) (ls' := [(1, a0)]) (st' := [(0, 1)]) rfl ?_
    refine r_goto (j := 4) (tgt := 12) rfl rfl ?_
    exact r_iret (j := 6) rfl rfl rfl (Or.inr rfl) H

set_option maxRecDepth 100000 in
set_option maxHeartbeats 4000000 in
theorem wJ2_remove {G : GM} {d : Nat} {P : Nat → Int → SM → Prop} {h : SM} {a0 a1 : Int} (hd : 1 ≤ d) 
    (H : (h a0 (-1) = 4) ∧ (WP G mJ20_checkIndex 0 [(0, a1), (0, (h a0 2))] [] h (d - 1) (fun k v2 h3 => k = 0 ∧ ((h3 a0 (-1) = 4) ∧ ((h3 (h3 a0 1) (-1) = 104) ∧ (0 ≤ a1) ∧ (a1 < h3 (h3 a0 1) (-2)) ∧ (WP G mJ2_fastRemove 0 [(1, a0), (1, (h3 a0 1)), (0, a1), (9, 0)] [] h3 (d - 1) (fun k v8 h9 => k = 0 ∧ (P 0 (h3 (h3 a0 1) a1) h9)))))))) :
    WP G mJ2_remove 0 [(1, a0), (0, a1), (9, 0), (9, 0)] [] h d P := by
  refine r_run 0 2 (pc' := 2) (ls' := [(1, a0), (0, a1), (9, 0), (9, 0)]) (st' := [(1, a0), (0, a1)]) rfl ?_
  obtain ⟨t1, H⟩ := H
  refine r_getf (j := 2) (c := 3) (f := 2) rfl rfl rfl rfl rfl rfl rfl (t1) ?_
  refine r_callS (j := 3) (M' := mJ20_checkIndex) (as := [(0, a1), (0, (h a0 2))]) (st := []) rfl rfl rfl rfl rfl (Nat.le_of_ble_eq_true rfl) (Nat.le_of_ble_eq_true rfl) (by omega) (kk0 (st' := fun v => [(0, v)]) rfl (fun _ => rfl)) (H.mono (fun k v2 h3 H => ⟨H.1, ?_⟩))
  replace H := H.2
  refine r_run 4 2 (pc' := 10) (ls' := [(1, a0), (0, a1), (9, 0), (9, 0)]) (st' := [(1, a0)]) rfl ?_
  obtain ⟨t4, H⟩ := H
  refine r_getf (j := 6) (c := 3) (f := 1) rfl rfl rfl rfl rfl rfl rfl (t4) ?_
  refine r_run 7 3 (pc' := 16) (ls' := [(1, a0), (0, a1), (1, (h3 a0 1)), (9, 0)]) (st' := [(0, a1), (1, (h3 a0 1))]) rfl ?_
  obtain ⟨t5, i6, i7, H⟩ := H
  refine r_ald (j := 10) (t := 4) rfl rfl rfl rfl rfl (t5) i6 i7 ?_
  refine r_run 11 4 (pc' := 21) (ls' := [(1, a0), (0, a1), (1, (h3 a0 1)), (1, (h3 (h3 a0 1) a1))]) (st' := [(0, a1), (1, (h3 a0 1)), (1, a0)]) rfl ?_
  refine r_callV (j := 15) (M' := mJ2_fastRemove) (as := [(1, (h3 a0 1)), (0, a1)]) (st := []) rfl rfl rfl rfl rfl (Nat.le_of_ble_eq_true rfl) (Nat.le_of_ble_eq_true rfl) (by omega) (t4) (kk0 (st' := fun v => []) rfl (fun _ => rfl)) (H.mono (fun k v8 h9 H => ⟨H.1, ?_⟩))
  replace H := H.2
  refine r_run 16 1 (pc' := 25) (ls' := [(1, a0), (0, a1), (1, (h3 a0 1)), (1, (h3 (h3 a0 1) a1))]) (st' := [(1, (h3 (h3 a0 1) a1))]) rfl ?_
  exact r_aret (j := 17) rfl rfl rfl H

set_option maxRecDepth 100000 in
set_option maxHeartbeats 4000000 in
theorem wJ2_set {G : GM} {d : Nat} {P : Nat → Int → SM → Prop} {h : SM} {a0 a1 a2 : Int} (hd : 1 ≤ d) 
    (H : (h a0 (-1) = 4) ∧ (WP G mJ20_checkIndex 0 [(0, a1), (0, (h a0 2))] [] h (d - 1) (fun k v2 h3 => k = 0 ∧ ((h3 a0 (-1) = 4) ∧ (WP G mJ2_elementData 0 [(1, a0), (0, a1)] [] h3 (d - 1) (fun k v5 h6 => k = 0 ∧ ((h6 a0 (-1) = 4) ∧ ((h6 (h6 a0 1) (-1) = 104) ∧ (0 ≤ a1) ∧ (a1 < h6 (h6 a0 1) (-2)) ∧ (0 < (h6 a0 1)) ∧ (elOK h6 a2) ∧ (∀ h12, h12 = up h6 (h6 a0 1) a1 a2 → (P 0 v5 h12)))))))))) :
    WP G mJ2_set 0 [(1, a0), (0, a1), (1, a2), (9, 0)] [] h d P := by
  refine r_run 0 2 (pc' := 2) (ls' := [(1, a0), (0, a1), (1, a2), (9, 0)]) (st' := [(1, a0), (0, a1)]) rfl ?_
  obtain ⟨t1, H⟩ := H
  refine r_getf (j := 2) (c := 3) (f := 2) rfl rfl rfl rfl rfl rfl rfl (t1) ?_
  refine r_callS (j := 3) (M' := mJ20_checkIndex) (as := [(0, a1), (0, (h a0 2))]) (st := []) rfl rfl rfl rfl rfl (Nat.le_of_ble_eq_true rfl) (Nat.le_of_ble_eq_true rfl) (by omega) (kk0 (st' := fun v => [(0, v)]) rfl (fun _ => rfl)) (H.mono (fun k v2 h3 H => ⟨H.1, ?_⟩))
  replace H := H.2
  refine r_run 4 3 (pc' := 11) (ls' := [(1, a0), (0, a1), (1, a2), (9, 0)]) (st' := [(0, a1), (1, a0)]) rfl ?_
  obtain ⟨t4, H⟩ := H
  refine r_callV (j := 7) (M' := mJ2_elementData) (as := [(0, a1)]) (st := []) rfl rfl rfl rfl rfl (Nat.le_of_ble_eq_true rfl) (Nat.le_of_ble_eq_true rfl) (by omega) (t4) (kk0 (st' := fun v => [(1, v)]) rfl (fun _ => rfl)) (H.mono (fun k v5 h6 H => ⟨H.1, ?_⟩))
  replace H := H.2
  refine r_run 8 2 (pc' := 16) (ls' := [(1, a0), (0, a1), (1, a2), (1, v5)]) (st' := [(1, a0)]) rfl ?_
  obtain ⟨t7, H⟩ := H
  refine r_getf (j := 10) (c := 3) (f := 1) rfl rfl rfl rfl rfl rfl rfl (t7) ?_
  refine r_run 11 2 (pc' := 21) (ls' := [(1, a0), (0, a1), (1, a2), (1, v5)]) (st' := [(1, a2), (0, a1), (1, (h6 a0 1))]) rfl ?_
  obtain ⟨t8, i9, i10, x11, v14, H⟩ := H
  refine r_astA (j := 13) (t := 4) rfl rfl rfl rfl rfl x11 (t8) i9 i10 v14 (fun h12 e13 => ?_)
  replace H := H h12 e13
  refine r_run 14 1 (pc' := 23) (ls' := [(1, a0), (0, a1), (1, a2), (1, v5)]) (st' := [(1, v5)]) rfl ?_
  exact r_aret (j := 15) rfl rfl rfl H

set_option maxRecDepth 100000 in
set_option maxHeartbeats 4000000 in
theorem wJ2_size {G : GM} {d : Nat} {P : Nat → Int → SM → Prop} {h : SM} {a0 : Int} (hd : 1 ≤ d) 
    (H : (h a0 (-1) = 4) ∧ (P 0 (h a0 2) h)) :
    WP G mJ2_size 0 [(1, a0)] [] h d P := by
  refine r_run 0 1 (pc' := 1) (ls' := [(1, a0)]) (st' := [(1, a0)]) rfl ?_
  obtain ⟨t1, H⟩ := H
  refine r_getf (j := 1) (c := 3) (f := 2) rfl rfl rfl rfl rfl rfl rfl (t1) ?_
  exact r_iret (j := 2) rfl rfl rfl trivial H

set_option maxRecDepth 100000 in
set_option maxHeartbeats 4000000 in
theorem wJ3_append {G : GM} {d : Nat} {P : Nat → Int → SM → Prop} {h : SM} {a0 a1 : Int} (hd : 1 ≤ d) 
    (H : (h a0 (-1) = 6) ∧ (WP G mJ3_ensureCapacityInternal 0 [(1, a0), (0, (wr ((h a0 3) + 1))), (9, 0)] [] h (d - 1) (fun k v2 h3 => k = 0 ∧ ((h3 a0 (-1) = 6) ∧ (WP G mJ3_isLatin1 0 [(1, a0)] [] h3 (d - 1) (fun k v5 h6 => k = 0 ∧ ((v5 = (0 : Int) → (WP G mJ3_append 45 [(1, a0), (0, a1)] [] h6 d P)) ∧ (v5 ≠ (0 : Int) → (WP G mJ11_canEncode 0 [(0, a1)] [] h6 (d - 1) (fun k v7 h8 => k = 0 ∧ ((v7 = (0 : Int) → (WP G mJ3_append 45 [(1, a0), (0, a1)] [] h8 d P)) ∧ (v7 ≠ (0 : Int) → ((h8 a0 (-1) = 6) ∧ ((0 < a0) ∧ (∀ h11, h11 = up h8 a0 3 (wr ((h8 a0 3) + 1)) → ((h11 (h8 a0 0) (-1) = 102) ∧ (0 ≤ (h8 a0 3)) ∧ ((h8 a0 3) < h11 (h8 a0 0) (-2)) ∧ (0 < (h8 a0 0)) ∧ (-128 ≤ (i8 a1) ∧ (i8 a1) ≤ 127) ∧ (∀ h18, h18 = up h11 (h8 a0 0) (h8 a0 3) (i8 a1) → (P 0 a0 h18)))))))))))))))))) :
    WP G mJ3_append 0 [(1, a0), (0, a1)] [] h d P := by
  refine r_run 0 2 (pc' := 2) (ls' := [(1, a0), (0, a1)]) (st' := [(1, a0), (1, a0)]) rfl ?_
  obtain ⟨t1, H⟩ := H
  refine r_getf (j := 2) (c := 5) (f := 3) rfl rfl rfl rfl rfl rfl rfl (t1) ?_
  refine r_run 3 2 (pc' := 7) (ls' := [(1, a0), (0, a1)]) (st' := [(0, (wr ((h a0 3) + 1))), (1, a0)]) rfl ?_
  refine r_callV (j := 5) (M' := mJ3_ensureCapacityInternal) (as := [(0, (wr ((h a0 3) + 1)))]) (st := []) rfl rfl rfl rfl rfl (Nat.le_of_ble_eq_true rfl) (Nat.le_of_ble_eq_true rfl) (by omega) (t1) (kk0 (st' := fun v => []) rfl (fun _ => rfl)) (H.mono (fun k v2 h3 H => ⟨H.1, ?_⟩))
  replace H := H.2
  refine r_run 6 1 (pc' := 11) (ls' := [(1, a0), (0, a1)]) (st' := [(1, a0)]) rfl ?_
  obtain ⟨t4, H⟩ := H
  refine r_callV (j := 7) (M' := mJ3_isLatin1) (as := []) (st := []) rfl rfl rfl rfl rfl (Nat.le_of_ble_eq_true rfl) (Nat.le_of_ble_eq_true rfl) (by omega) (t4) (kk0 (st' := fun v => [(0, v)]) rfl (fun _ => rfl)) (H.mono (fun k v5 h6 H => ⟨H.1, ?_⟩))
  replace H := H.2
  refine r_ifeq (j := 8) rfl rfl rfl (fun q => ?_) (fun q => ?_)
  · replace H := H.1 q
    exact H
  · replace H := H.2 q
    refine r_run 9 1 (pc' := 18) (ls' := [(1, a0), (0, a1)]) (st' := [(0, a1)]) rfl ?_
    refine r_callS (j := 10) (M' := mJ11_canEncode) (as := [(0, a1)]) (st := []) rfl rfl rfl rfl rfl (Nat.le_of_ble_eq_true rfl) (Nat.le_of_ble_eq_true rfl) (by omega) (kk0 (st' := fun v => [(0, v)]) rfl (fun _ => rfl)) (H.mono (fun k v7 h8 H => ⟨H.1, ?_⟩))
    replace H := H.2
    refine r_ifeq (j := 11) rfl rfl rfl (fun q => ?_) (fun q => ?_)
    · replace H := H.1 q
      exact H
    · replace H := H.2 q
      refine r_run 12 1 (pc' := 25) (ls' := [(1, a0), (0, a1)]) (st' := [(1, a0)]) rfl ?_
      obtain ⟨t9, H⟩ := H
      refine r_getf (j := 13) (c := 5) (f := 0) rfl rfl rfl rfl rfl rfl rfl (t9) ?_
      refine r_run 14 2 (pc' := 30) (ls' := [(1, a0), (0, a1)]) (st' := [(1, a0), (1, a0), (1, (h8 a0 0))]) rfl ?_
      refine r_getf (j := 16) (c := 5) (f := 3) rfl rfl rfl rfl rfl rfl rfl (t9) ?_
      refine r_run 17 3 (pc' := 36) (ls' := [(1, a0), (0, a1)]) (st' := [(0, (wr ((h8 a0 3) + 1))), (1, a0), (0, (h8 a0 3)), (1, (h8 a0 0))]) rfl ?_
      obtain ⟨x10, H⟩ := H
      refine r_putf (j := 20) (c := 5) (f := 3) rfl rfl rfl (by decide +kernel) rfl rfl rfl rfl x10 (t9) trivial (fun h11 e12 => ?_)
      replace H := H h11 e12
      refine r_run 21 2 (pc' := 41) (ls' := [(1, a0), (0, a1)]) (st' := [(0, (i8 a1)), (0, (h8 a0 3)), (1, (h8 a0 0))]) rfl ?_
      obtain ⟨t13, i14, i15, x16, r17, H⟩ := H
      refine r_ast (j := 23) (t := 2) rfl rfl rfl rfl rfl (by decide) x16 (t13) i14 i15 r17 (fun h18 e19 => ?_)
      replace H := H h18 e19
      refine r_goto (j := 24) (tgt := 75) rfl rfl ?_
      refine r_run 41 1 (pc' := 76) (ls' := [(1, a0), (0, a1)]) (st' := [(1, a0)]) rfl ?_
      exact r_aret (j := 42) rfl rfl rfl H

set_option maxRecDepth 100000 in
set_option maxHeartbeats 4000000 in
theorem wJ3_append_45 {G : GM} {d : Nat} {P : Nat → Int → SM → Prop} {h : SM} {a0 a1 : Int} (hd : 1 ≤ d) 
    (H : (h a0 (-1) = 6) ∧ (WP G mJ3_isLatin1 0 [(1, a0)] [] h (d - 1) (fun k v2 h3 => k = 0 ∧ ((v2 = (0 : Int) → ((h3 a0 (-1) = 6) ∧ ((0 < a0) ∧ (∀ h6, h6 = up h3 a0 3 (wr ((h3 a0 3) + 1)) → (False))))) ∧ (v2 ≠ (0 : Int) → (False)))))) :
    WP G mJ3_append 45 [(1, a0), (0, a1)] [] h d P := by
  refine r_run 25 1 (pc' := 46) (ls' := [(1, a0), (0, a1)]) (st' := [(1, a0)]) rfl ?_
  obtain ⟨t1, H⟩ := H
  refine r_callV (j := 26) (M' := mJ3_isLatin1) (as := []) (st := []) rfl rfl rfl rfl rfl (Nat.le_of_ble_eq_true rfl) (Nat.le_of_ble_eq_true rfl) (by omega) (t1) (kk0 (st' := fun v => [(0, v)]) rfl (fun _ => rfl)) (H.mono (fun k v2 h3 H => ⟨H.1, ?_⟩))
  replace H := H.2
  refine r_ifeq (j := 27) rfl rfl rfl (fun q => ?_) (fun q => ?_)
  · replace H := H.1 q
    refine r_run 30 1 (pc' := 57) (ls' := [(1, a0), (0, a1)]) (st' := [(1, a0)]) rfl ?_
    obtain ⟨t4, H⟩ := H
    refine r_getf (j := 31) (c := 5) (f := 0) rfl rfl rfl rfl rfl rfl rfl (t4) ?_
    refine r_run 32 2 (pc' := 62) (ls' := [(1, a0), (0, a1)]) (st' := [(1, a0), (1, a0), (1, (h3 a0 0))]) rfl ?_
    refine r_getf (j := 34) (c := 5) (f := 3) rfl rfl rfl rfl rfl rfl rfl (t4) ?_
    refine r_run 35 3 (pc' := 68) (ls' := [(1, a0), (0, a1)]) (st' := [(0, (wr ((h3 a0 3) + 1))), (1, a0), (0, (h3 a0 3)), (1, (h3 a0 0))]) rfl ?_
    obtain ⟨x5, H⟩ := H
    refine r_putf (j := 38) (c := 5) (f := 3) rfl rfl rfl (by decide +kernel) rfl rfl rfl rfl x5 (t4) trivial (fun h6 e7 => ?_)
    replace H := H h6 e7
    refine r_run 39 1 (pc' := 72) (ls' := [(1, a0), (0, a1)]) (st' := [(0, a1), (0, (h3 a0 3)), (1, (h3 a0 0))]) rfl ?_
    exact H.elim
  · replace H := H.2 q
    refine r_run 28 1 (pc' := 53) (ls' := [(1, a0), (0, a1)]) (st' := [(1, a0)]) rfl ?_
    exact H.elim

set_option maxRecDepth 100000 in
set_option maxHeartbeats 4000000 in
theorem wJ3_append_2 {G : GM} {d : Nat} {P : Nat → Int → SM → Prop} {h : SM} {a0 a1 : Int} (hd : 1 ≤ d) 
    (H : (a1 ≠ 0 → ((h a1 (-1) = 13) ∧ (WP G mJ5_length 0 [(1, a1)] [] h (d - 1) (fun k v2 h3 => k = 0 ∧ ((h3 a0 (-1) = 6) ∧ (WP G mJ3_ensureCapacityInternal 0 [(1, a0), (0, (wr ((h3 a0 3) + v2))), (9, 0)] [] h3 (d - 1) (fun k v5 h6 => k = 0 ∧ ((h6 a0 (-1) = 6) ∧ (WP G mJ3_putStringAt 0 [(1, a0), (0, (h6 a0 3)), (1, a1)] [] h6 (d - 1) (fun k v8 h9 => k = 0 ∧ ((h9 a0 (-1) = 6) ∧ ((0 < a0) ∧ (∀ h12, h12 = up h9 a0 3 (wr ((h9 a0 3) + v2)) → (P 0 a0 h12)))))))))))))) ∧ (a1 = 0 → (False))) :
    WP G mJ3_append_2 0 [(1, a0), (1, a1), (9, 0)] [] h d P := by
  refine r_run 0 1 (pc' := 1) (ls' := [(1, a0), (1, a1), (9, 0)]) (st' := [(1, a1)]) rfl ?_
  refine r_nonnull (j := 1) rfl rfl rfl (fun q => ?_) (fun q => ?_)
  · replace H := H.1 q
    refine r_run 5 1 (pc' := 10) (ls' := [(1, a0), (1, a1), (9, 0)]) (st' := [(1, a1)]) rfl ?_
    obtain ⟨t1, H⟩ := H
    refine r_callV (j := 6) (M' := mJ5_length) (as := []) (st := []) rfl rfl rfl rfl rfl (Nat.le_of_ble_eq_true rfl) (Nat.le_of_ble_eq_true rfl) (by omega) (t1) (kk0 (st' := fun v => [(0, v)]) rfl (fun _ => rfl)) (H.mono (fun k v2 h3 H => ⟨H.1, ?_⟩))
    replace H := H.2
    refine r_run 7 3 (pc' := 16) (ls' := [(1, a0), (1, a1), (0, v2)]) (st' := [(1, a0), (1, a0)]) rfl ?_
    obtain ⟨t4, H⟩ := H
    refine r_getf (j := 10) (c := 5) (f := 3) rfl rfl rfl rfl rfl rfl rfl (t4) ?_
    refine r_run 11 2 (pc' := 21) (ls' := [(1, a0), (1, a1), (0, v2)]) (st' := [(0, (wr ((h3 a0 3) + v2))), (1, a0)]) rfl ?_
    refine r_callV (j := 13) (M' := mJ3_ensureCapacityInternal) (as := [(0, (wr ((h3 a0 3) + v2)))]) (st := []) rfl rfl rfl rfl rfl (Nat.le_of_ble_eq_true rfl) (Nat.le_of_ble_eq_true rfl) (by omega) (t4) (kk0 (st' := fun v => []) rfl (fun _ => rfl)) (H.mono (fun k v5 h6 H => ⟨H.1, ?_⟩))
    replace H := H.2
    refine r_run 14 2 (pc' := 26) (ls' := [(1, a0), (1, a1), (0, v2)]) (st' := [(1, a0), (1, a0)]) rfl ?_
    obtain ⟨t7, H⟩ := H
    refine r_getf (j := 16) (c := 5) (f := 3) rfl rfl rfl rfl rfl rfl rfl (t7) ?_
    refine r_run 17 1 (pc' := 30) (ls' := [(1, a0), (1, a1), (0, v2)]) (st' := [(1, a1), (0, (h6 a0 3)), (1, a0)]) rfl ?_
    refine r_callV (j := 18) (M' := mJ3_putStringAt) (as := [(0, (h6 a0 3)), (1, a1)]) (st := []) rfl rfl rfl rfl rfl (Nat.le_of_ble_eq_true rfl) (Nat.le_of_ble_eq_true rfl) (by omega) (t7) (kk0 (st' := fun v => []) rfl (fun _ => rfl)) (H.mono (fun k v8 h9 H => ⟨H.1, ?_⟩))
    replace H := H.2
    refine r_run 19 2 (pc' := 35) (ls' := [(1, a0), (1, a1), (0, v2)]) (st' := [(1, a0), (1, a0)]) rfl ?_
    obtain ⟨t10, H⟩ := H
    refine r_getf (j := 21) (c := 5) (f := 3) rfl rfl rfl rfl rfl rfl rfl (t10) ?_
    refine r_run 22 2 (pc' := 40) (ls' := [(1, a0), (1, a1), (0, v2)]) (st' := [(0, (wr ((h9 a0 3) + v2))), (1, a0)]) rfl ?_
    obtain ⟨x11, H⟩ := H
    refine r_putf (j := 24) (c := 5) (f := 3) rfl rfl rfl (by decide +kernel) rfl rfl rfl rfl x11 (t10) trivial (fun h12 e13 => ?_)
    replace H := H h12 e13
    refine r_run 25 1 (pc' := 44) (ls' := [(1, a0), (1, a1), (0, v2)]) (st' := [(1, a0)]) rfl ?_
    exact r_aret (j := 26) rfl rfl rfl H
  · replace H := H.2 q
    refine r_run 2 1 (pc' := 5) (ls' := [(1, a0), (1, a1), (9, 0)]) (st' := [(1, a0)]) rfl ?_
    exact H.elim

set_option maxRecDepth 100000 in
set_option maxHeartbeats 4000000 in
theorem wJ3_append_3 {G : GM} {d : Nat} {P : Nat → Int → SM → Prop} {h : SM} {a0 a1 : Int} (hd : 1 ≤ d) 
    (H : (h a0 (-1) = 6) ∧ (WP G mJ17_stringSize 0 [(0, a1), (9, 0), (9, 0), (9, 0)] [] h (d - 1) (fun k v2 h3 => k = 0 ∧ ((h3 a0 (-1) = 6) ∧ (WP G mJ3_ensureCapacityInternal 0 [(1, a0), (0, (wr ((h a0 3) + v2))), (9, 0)] [] h3 (d - 1) (fun k v5 h6 => k = 0 ∧ ((h6 a0 (-1) = 6) ∧ (WP G mJ3_isLatin1 0 [(1, a0)] [] h6 (d - 1) (fun k v8 h9 => k = 0 ∧ ((v8 = (0 : Int) → ((h9 a0 (-1) = 6) ∧ (False))) ∧ (v8 ≠ (0 : Int) → ((h9 a0 (-1) = 6) ∧ (WP G mJ17_getChars 0 [(0, a1), (0, (wr ((h a0 3) + v2))), (1, (h9 a0 0)), (9, 0), (9, 0), (9, 0), (9, 0)] [] h9 (d - 1) (fun k v12 h13 => k = 0 ∧ ((h13 a0 (-1) = 6) ∧ (0 < a0) ∧ (∀ h16, h16 = up h13 a0 3 (wr ((h a0 3) + v2)) → (P 0 a0 h16))))))))))))))))) :
    WP G mJ3_append_3 0 [(1, a0), (0, a1), (9, 0), (9, 0)] [] h d P := by
  refine r_run 0 1 (pc' := 1) (ls' := [(1, a0), (0, a1), (9, 0), (9, 0)]) (st' := [(1, a0)]) rfl ?_
  obtain ⟨t1, H⟩ := H
  refine r_getf (j := 1) (c := 5) (f := 3) rfl rfl rfl rfl rfl rfl rfl (t1) ?_
  refine r_run 2 3 (pc' := 7) (ls' := [(1, a0), (0, a1), (0, (h a0 3)), (9, 0)]) (st' := [(0, a1), (0, (h a0 3))]) rfl ?_
  refine r_callS (j := 5) (M' := mJ17_stringSize) (as := [(0, a1)]) (st := [(0, (h a0 3))]) rfl rfl rfl rfl rfl (Nat.le_of_ble_eq_true rfl) (Nat.le_of_ble_eq_true rfl) (by omega) (kk0 (st' := fun v => [(0, v), (0, (h a0 3))]) rfl (fun _ => rfl)) (H.mono (fun k v2 h3 H => ⟨H.1, ?_⟩))
  replace H := H.2
  refine r_run 6 4 (pc' := 14) (ls' := [(1, a0), (0, a1), (0, (h a0 3)), (0, (wr ((h a0 3) + v2)))]) (st' := [(0, (wr ((h a0 3) + v2))), (1, a0)]) rfl ?_
  obtain ⟨t4, H⟩ := H
  refine r_callV (j := 10) (M' := mJ3_ensureCapacityInternal) (as := [(0, (wr ((h a0 3) + v2)))]) (st := []) rfl rfl rfl rfl rfl (Nat.le_of_ble_eq_true rfl) (Nat.le_of_ble_eq_true rfl) (by omega) (t4) (kk0 (st' := fun v => []) rfl (fun _ => rfl)) (H.mono (fun k v5 h6 H => ⟨H.1, ?_⟩))
  replace H := H.2
  refine r_run 11 1 (pc' := 18) (ls' := [(1, a0), (0, a1), (0, (h a0 3)), (0, (wr ((h a0 3) + v2)))]) (st' := [(1, a0)]) rfl ?_
  obtain ⟨t7, H⟩ := H
  refine r_callV (j := 12) (M' := mJ3_isLatin1) (as := []) (st := []) rfl rfl rfl rfl rfl (Nat.le_of_ble_eq_true rfl) (Nat.le_of_ble_eq_true rfl) (by omega) (t7) (kk0 (st' := fun v => [(0, v)]) rfl (fun _ => rfl)) (H.mono (fun k v8 h9 H => ⟨H.1, ?_⟩))
  replace H := H.2
  refine r_ifeq (j := 13) rfl rfl rfl (fun q => ?_) (fun q => ?_)
  · replace H := H.1 q
    refine r_run 21 4 (pc' := 41) (ls' := [(1, a0), (0, a1), (0, (h a0 3)), (0, (wr ((h a0 3) + v2)))]) (st' := [(1, a0), (0, (wr ((h a0 3) + v2))), (0, (h a0 3)), (0, a1)]) rfl ?_
    obtain ⟨t10, H⟩ := H
    refine r_getf (j := 25) (c := 5) (f := 0) rfl rfl rfl rfl rfl rfl rfl (t10) ?_
    exact H.elim
  · replace H := H.2 q
    refine r_run 14 3 (pc' := 27) (ls' := [(1, a0), (0, a1), (0, (h a0 3)), (0, (wr ((h a0 3) + v2)))]) (st' := [(1, a0), (0, (wr ((h a0 3) + v2))), (0, a1)]) rfl ?_
    obtain ⟨t11, H⟩ := H
    refine r_getf (j := 17) (c := 5) (f := 0) rfl rfl rfl rfl rfl rfl rfl (t11) ?_
    refine r_callS (j := 18) (M' := mJ17_getChars) (as := [(0, a1), (0, (wr ((h a0 3) + v2))), (1, (h9 a0 0))]) (st := []) rfl rfl rfl rfl rfl (Nat.le_of_ble_eq_true rfl) (Nat.le_of_ble_eq_true rfl) (by omega) (kk0 (st' := fun v => [(0, v)]) rfl (fun _ => rfl)) (H.mono (fun k v12 h13 H => ⟨H.1, ?_⟩))
    replace H := H.2
    refine r_run 19 1 (pc' := 34) (ls' := [(1, a0), (0, a1), (0, (h a0 3)), (0, (wr ((h a0 3) + v2)))]) (st' := []) rfl ?_
    refine r_goto (j := 20) (tgt := 48) rfl rfl ?_
    refine r_run 28 2 (pc' := 50) (ls' := [(1, a0), (0, a1), (0, (h a0 3)), (0, (wr ((h a0 3) + v2)))]) (st' := [(0, (wr ((h a0 3) + v2))), (1, a0)]) rfl ?_
    obtain ⟨t14, x15, H⟩ := H
    refine r_putf (j := 30) (c := 5) (f := 3) rfl rfl rfl (by decide +kernel) rfl rfl rfl rfl x15 (t14) trivial (fun h16 e17 => ?_)
    replace H := H h16 e17
    refine r_run 31 1 (pc' := 54) (ls' := [(1, a0), (0, a1), (0, (h a0 3)), (0, (wr ((h a0 3) + v2)))]) (st' := [(1, a0)]) rfl ?_
    exact r_aret (j := 32) rfl rfl rfl H

set_option maxRecDepth 100000 in
set_option maxHeartbeats 4000000 in
theorem wJ3_charAt {G : GM} {d : Nat} {P : Nat → Int → SM → Prop} {h : SM} {a0 a1 : Int} (hd : 1 ≤ d) 
    (H : (h a0 (-1) = 6) ∧ ((h (h a0 0) (-1) = 102) ∧ (WP G mJ5_checkIndex 0 [(0, a1), (0, (if (bShr (h (h a0 0) (-2)) (h a0 1)) < (h a0 3) then (bShr (h (h a0 0) (-2)) (h a0 1)) else (h a0 3)))] [] h (d - 1) (fun k v3 h4 => k = 0 ∧ (((h a0 1) ≠ (0 : Int) → (False)) ∧ ((h a0 1) = (0 : Int) → ((h4 (h a0 0) (-1) = 102) ∧ (0 ≤ a1) ∧ (a1 < h4 (h a0 0) (-2)) ∧ ((0 ≤ (c16 (bAnd (h4 (h a0 0) a1) 255)) ∧ (c16 (bAnd (h4 (h a0 0) a1) 255)) ≤ 65535) ∧ (P 0 (c16 (bAnd (h4 (h a0 0) a1) 255)) h4))))))))) :
    WP G mJ3_charAt 0 [(1, a0), (0, a1), (9, 0), (9, 0), (9, 0)] [] h d P := by
  refine r_run 0 1 (pc' := 1) (ls' := [(1, a0), (0, a1), (9, 0), (9, 0), (9, 0)]) (st' := [(1, a0)]) rfl ?_
  obtain ⟨t1, H⟩ := H
  refine r_getf (j := 1) (c := 5) (f := 1) rfl rfl rfl rfl rfl rfl rfl (t1) ?_
  refine r_run 2 2 (pc' := 6) (ls' := [(1, a0), (0, a1), (0, (h a0 1)), (9, 0), (9, 0)]) (st' := [(1, a0)]) rfl ?_
  refine r_getf (j := 4) (c := 5) (f := 0) rfl rfl rfl rfl rfl rfl rfl (t1) ?_
  refine r_run 5 2 (pc' := 11) (ls' := [(1, a0), (0, a1), (0, (h a0 1)), (1, (h a0 0)), (9, 0)]) (st' := [(1, a0)]) rfl ?_
  refine r_getf (j := 7) (c := 5) (f := 3) rfl rfl rfl rfl rfl rfl rfl (t1) ?_
  refine r_run 8 1 (pc' := 15) (ls' := [(1, a0), (0, a1), (0, (h a0 1)), (1, (h a0 0)), (9, 0)]) (st' := [(1, (h a0 0)), (0, (h a0 3))]) rfl ?_
  obtain ⟨t2, H⟩ := H
  refine r_alen (j := 9) (t := 2) rfl rfl rfl rfl (t2) ?_
  refine r_run 10 2 (pc' := 18) (ls' := [(1, a0), (0, a1), (0, (h a0 1)), (1, (h a0 0)), (9, 0)]) (st' := [(0, (bShr (h (h a0 0) (-2)) (h a0 1))), (0, (h a0 3))]) rfl ?_
  refine r_min (j := 12) rfl rfl rfl rfl (by omega) (by simp) ?_
  refine r_run 13 3 (pc' := 26) (ls' := [(1, a0), (0, a1), (0, (h a0 1)), (1, (h a0 0)), (0, (if (bShr (h (h a0 0) (-2)) (h a0 1)) < (h a0 3) then (bShr (h (h a0 0) (-2)) (h a0 1)) else (h a0 3)))]) (st' := [(0, (if (bShr (h (h a0 0) (-2)) (h a0 1)) < (h a0 3) then (bShr (h (h a0 0) (-2)) (h a0 1)) else (h a0 3))), (0, a1)]) rfl ?_
  refine r_callS (j := 16) (M' := mJ5_checkIndex) (as := [(0, a1), (0, (if (bShr (h (h a0 0) (-2)) (h a0 1)) < (h a0 3) then (bShr (h (h a0 0) (-2)) (h a0 1)) else (h a0 3)))]) (st := []) rfl rfl rfl rfl rfl (Nat.le_of_ble_eq_true rfl) (Nat.le_of_ble_eq_true rfl) (by omega) (kk0 (st' := fun v => []) rfl (fun _ => rfl)) (H.mono (fun k v3 h4 H => ⟨H.1, ?_⟩))
  replace H := H.2
  refine r_run 17 1 (pc' := 30) (ls' := [(1, a0), (0, a1), (0, (h a0 1)), (1, (h a0 0)), (0, (if (bShr (h (h a0 0) (-2)) (h a0 1)) < (h a0 3) then (bShr (h (h a0 0) (-2)) (h a0 1)) else (h a0 3)))]) (st' := [(0, (h a0 1))]) rfl ?_
  refine r_ifne (j := 18) rfl rfl rfl (fun q => ?_) (fun q => ?_)
  · replace H := H.1 q
    refine r_run 26 2 (pc' := 44) (ls' := [(1, a0), (0, a1), (0, (h a0 1)), (1, (h a0 0)), (0, (if (bShr (h (h a0 0) (-2)) (h a0 1)) < (h a0 3) then (bShr (h (h a0 0) (-2)) (h a0 1)) else (h a0 3)))]) (st' := [(0, a1), (1, (h a0 0))]) rfl ?_
    exact H.elim
  · replace H := H.2 q
    refine r_run 19 2 (pc' := 35) (ls' := [(1, a0), (0, a1), (0, (h a0 1)), (1, (h a0 0)), (0, (if (bShr (h (h a0 0) (-2)) (h a0 1)) < (h a0 3) then (bShr (h (h a0 0) (-2)) (h a0 1)) else (h a0 3)))]) (st' := [(0, a1), (1, (h a0 0))]) rfl ?_
    obtain ⟨t5, i6, i7, H⟩ := H
    refine r_ald (j := 21) (t := 2) rfl rfl rfl rfl rfl (t5) i6 i7 ?_
    refine r_run 22 3 (pc' := 41) (ls' := [(1, a0), (0, a1), (0, (h a0 1)), (1, (h a0 0)), (0, (if (bShr (h (h a0 0) (-2)) (h a0 1)) < (h a0 3) then (bShr (h (h a0 0) (-2)) (h a0 1)) else (h a0 3)))]) (st' := [(0, (c16 (bAnd (h4 (h a0 0) a1) 255)))]) rfl ?_
    obtain ⟨r8, H⟩ := H
    exact r_iret (j := 25) rfl rfl rfl r8 H

set_option maxRecDepth 100000 in
set_option maxHeartbeats 4000000 in
theorem wJ3_ensureCapacityInternal {G : GM} {d : Nat} {P : Nat → Int → SM → Prop} {h : SM} {a0 a1 : Int} (hd : 1 ≤ d) 
    (H : (h a0 (-1) = 6) ∧ ((h (h a0 0) (-1) = 102) ∧ (((wr (a1 - (bShr (h (h a0 0) (-2)) (h a0 1)))) ≤ (0 : Int) → (P 0 0 h)) ∧ ((0 : Int) < (wr (a1 - (bShr (h (h a0 0) (-2)) (h a0 1)))) → (WP G mJ3_newCapacity 0 [(1, a0), (0, a1), (9, 0), (9, 0), (9, 0), (9, 0)] [] h (d - 1) (fun k v3 h4 => k = 0 ∧ ((h4 a0 (-1) = 6) ∧ (WP G mJ10_copyOf 0 [(1, (h a0 0)), (0, (bShl v3 (h4 a0 1))), (9, 0)] [] h4 (d - 1) (fun k v6 h7 => k = 0 ∧ ((h7 a0 (-1) = 6) ∧ (0 < a0) ∧ (∀ h10, h10 = up h7 a0 0 v6 → (P 0 0 h10)))))))))))) :
    WP G mJ3_ensureCapacityInternal 0 [(1, a0), (0, a1), (9, 0)] [] h d P := by
  refine r_run 0 1 (pc' := 1) (ls' := [(1, a0), (0, a1), (9, 0)]) (st' := [(1, a0)]) rfl ?_
  obtain ⟨t1, H⟩ := H
  refine r_getf (j := 1) (c := 5) (f := 0) rfl rfl rfl rfl rfl rfl rfl (t1) ?_
  obtain ⟨t2, H⟩ := H
  refine r_alen (j := 2) (t := 2) rfl rfl rfl rfl (t2) ?_
  refine r_run 3 1 (pc' := 6) (ls' := [(1, a0), (0, a1), (9, 0)]) (st' := [(1, a0), (0, (h (h a0 0) (-2)))]) rfl ?_
  refine r_getf (j := 4) (c := 5) (f := 1) rfl rfl rfl rfl rfl rfl rfl (t1) ?_
  refine r_run 5 5 (pc' := 14) (ls' := [(1, a0), (0, a1), (0, (bShr (h (h a0 0) (-2)) (h a0 1)))]) (st' := [(0, (wr (a1 - (bShr (h (h a0 0) (-2)) (h a0 1)))))]) rfl ?_
  refine r_ifle (j := 10) rfl rfl rfl (fun q => ?_) (fun q => ?_)
  · replace H := H.1 q
    exact r_vret (j := 22) rfl rfl H
  · replace H := H.2 q
    refine r_run 11 2 (pc' := 19) (ls' := [(1, a0), (0, a1), (0, (bShr (h (h a0 0) (-2)) (h a0 1)))]) (st' := [(1, a0), (1, a0)]) rfl ?_
    refine r_getf (j := 13) (c := 5) (f := 0) rfl rfl rfl rfl rfl rfl rfl (t1) ?_
    refine r_run 14 2 (pc' := 24) (ls' := [(1, a0), (0, a1), (0, (bShr (h (h a0 0) (-2)) (h a0 1)))]) (st' := [(0, a1), (1, a0), (1, (h a0 0)), (1, a0)]) rfl ?_
    refine r_callV (j := 16) (M' := mJ3_newCapacity) (as := [(0, a1)]) (st := [(1, (h a0 0)), (1, a0)]) rfl rfl rfl rfl rfl (Nat.le_of_ble_eq_true rfl) (Nat.le_of_ble_eq_true rfl) (by omega) (t1) (kk0 (st' := fun v => [(0, v), (1, (h a0 0)), (1, a0)]) rfl (fun _ => rfl)) (H.mono (fun k v3 h4 H => ⟨H.1, ?_⟩))
    replace H := H.2
    refine r_run 17 1 (pc' := 28) (ls' := [(1, a0), (0, a1), (0, (bShr (h (h a0 0) (-2)) (h a0 1)))]) (st' := [(1, a0), (0, v3), (1, (h a0 0)), (1, a0)]) rfl ?_
    obtain ⟨t5, H⟩ := H
    refine r_getf (j := 18) (c := 5) (f := 1) rfl rfl rfl rfl rfl rfl rfl (t5) ?_
    refine r_run 19 1 (pc' := 32) (ls' := [(1, a0), (0, a1), (0, (bShr (h (h a0 0) (-2)) (h a0 1)))]) (st' := [(0, (bShl v3 (h4 a0 1))), (1, (h a0 0)), (1, a0)]) rfl ?_
    refine r_callS (j := 20) (M' := mJ10_copyOf) (as := [(1, (h a0 0)), (0, (bShl v3 (h4 a0 1)))]) (st := [(1, a0)]) rfl rfl rfl rfl rfl (Nat.le_of_ble_eq_true rfl) (Nat.le_of_ble_eq_true rfl) (by omega) (kk0 (st' := fun v => [(1, v), (1, a0)]) rfl (fun _ => rfl)) (H.mono (fun k v6 h7 H => ⟨H.1, ?_⟩))
    replace H := H.2
    obtain ⟨t8, x9, H⟩ := H
    refine r_putf (j := 21) (c := 5) (f := 0) rfl rfl rfl (by decide +kernel) rfl rfl rfl rfl x9 (t8) trivial (fun h10 e11 => ?_)
    replace H := H h10 e11
    exact r_vret (j := 22) rfl rfl H

set_option maxRecDepth 100000 in
set_option maxHeartbeats 4000000 in
theorem wJ3_getValue {G : GM} {d : Nat} {P : Nat → Int → SM → Prop} {h : SM} {a0 : Int} (hd : 1 ≤ d) 
    (H : (h a0 (-1) = 6) ∧ (P 0 (h a0 0) h)) :
    WP G mJ3_getValue 0 [(1, a0)] [] h d P := by
  refine r_run 0 1 (pc' := 1) (ls' := [(1, a0)]) (st' := [(1, a0)]) rfl ?_
  obtain ⟨t1, H⟩ := H
  refine r_getf (j := 1) (c := 5) (f := 0) rfl rfl rfl rfl rfl rfl rfl (t1) ?_
  exact r_aret (j := 2) rfl rfl rfl H

set_option maxRecDepth 100000 in
set_option maxHeartbeats 4000000 in
theorem wJ3_inflateIfNeededFor {G : GM} {d : Nat} {P : Nat → Int → SM → Prop} {h : SM} {a0 a1 : Int} (hd : 1 ≤ d) 
    (H : (h a0 (-1) = 6) ∧ ((h a1 (-1) = 13) ∧ (WP G mJ5_coder 0 [(1, a1)] [] h (d - 1) (fun k v3 h4 => k = 0 ∧ (((h a0 1) = v3 → (P 0 0 h4)) ∧ ((h a0 1) ≠ v3 → (False))))))) :
    WP G mJ3_inflateIfNeededFor 0 [(1, a0), (1, a1)] [] h d P := by
  refine r_gets (j := 0) (g := 0) (v := 1) rfl rfl rfl rfl ?_
  refine r_ifeq (j := 1) rfl rfl rfl (fun q => absurd q (by decide)) (fun q => ?_)
  refine r_run 2 1 (pc' := 7) (ls' := [(1, a0), (1, a1)]) (st' := [(1, a0)]) rfl ?_
  obtain ⟨t1, H⟩ := H
  refine r_getf (j := 3) (c := 5) (f := 1) rfl rfl rfl rfl rfl rfl rfl (t1) ?_
  refine r_run 4 1 (pc' := 11) (ls' := [(1, a0), (1, a1)]) (st' := [(1, a1), (0, (h a0 1))]) rfl ?_
  obtain ⟨t2, H⟩ := H
  refine r_callV (j := 5) (M' := mJ5_coder) (as := []) (st := [(0, (h a0 1))]) rfl rfl rfl rfl rfl (Nat.le_of_ble_eq_true rfl) (Nat.le_of_ble_eq_true rfl) (by omega) (t2) (kk0 (st' := fun v => [(0, v), (0, (h a0 1))]) rfl (fun _ => rfl)) (H.mono (fun k v3 h4 H => ⟨H.1, ?_⟩))
  replace H := H.2
  refine r_icmpeq (j := 6) rfl rfl rfl (fun q => ?_) (fun q => ?_)
  · replace H := H.1 q
    exact r_vret (j := 9) rfl rfl H
  · replace H := H.2 q
    refine r_run 7 1 (pc' := 18) (ls' := [(1, a0), (1, a1)]) (st' := [(1, a0)]) rfl ?_
    exact H.elim

set_option maxRecDepth 100000 in
set_option maxHeartbeats 4000000 in
theorem wJ3_init {G : GM} {d : Nat} {P : Nat → Int → SM → Prop} {h : SM} {a0 a1 : Int} (hd : 1 ≤ d) 
    (H : (a0 ≠ 0) ∧ ((0 ≤ a1) ∧ (h 0 0 ≤ 1203200) ∧ (h 0 1 + a1 ≤ 5491882) ∧ (∀ h5, h5 = al h 102 a1 a1 → ((h5 a0 (-1) = 6) ∧ (0 < a0) ∧ (∀ h9, h9 = up h5 a0 0 (h 0 0) → ((h9 a0 (-1) = 6) ∧ (0 < a0) ∧ (-128 ≤ (0 : Int) ∧ (0 : Int) ≤ 127) ∧ (∀ h14, h14 = up h9 a0 1 0 → (P 0 0 h14)))))))) :
    WP G mJ3_init 0 [(1, a0), (0, a1)] [] h d P := by
  refine r_run 0 1 (pc' := 1) (ls' := [(1, a0), (0, a1)]) (st' := [(1, a0)]) rfl ?_
  obtain ⟨z1, H⟩ := H
  refine r_obj (j := 1) rfl rfl rfl rfl z1 (by omega) (by simp) ?_
  refine r_gets (j := 2) (g := 0) (v := 1) rfl rfl rfl rfl ?_
  refine r_ifeq (j := 3) rfl rfl rfl (fun q => absurd q (by decide)) (fun q => ?_)
  refine r_run 4 2 (pc' := 12) (ls' := [(1, a0), (0, a1)]) (st' := [(0, a1), (1, a0)]) rfl ?_
  obtain ⟨r4, r2, r3, H⟩ := H
  refine r_newB (j := 6) rfl rfl r4 r2 r3 (fun h5 e6 => ?_)
  replace H := H h5 e6
  obtain ⟨t7, x8, H⟩ := H
  refine r_putf (j := 7) (c := 5) (f := 0) rfl rfl rfl (by decide +kernel) rfl rfl rfl rfl x8 (t7) trivial (fun h9 e10 => ?_)
  replace H := H h9 e10
  refine r_run 8 2 (pc' := 19) (ls' := [(1, a0), (0, a1)]) (st' := [(0, 0), (1, a0)]) rfl ?_
  obtain ⟨t11, x12, r13, H⟩ := H
  refine r_putf (j := 10) (c := 5) (f := 1) rfl rfl rfl (by decide +kernel) rfl rfl rfl rfl x12 (t11) r13 (fun h14 e15 => ?_)
  replace H := H h14 e15
  refine r_goto (j := 11) (tgt := 38) rfl rfl ?_
  exact r_vret (j := 19) rfl rfl H

set_option maxRecDepth 100000 in
set_option maxHeartbeats 4000000 in
theorem wJ3_isLatin1 {G : GM} {d : Nat} {P : Nat → Int → SM → Prop} {h : SM} {a0 : Int} (hd : 1 ≤ d) 
    (H : (h a0 (-1) = 6) ∧ (((h a0 1) ≠ (0 : Int) → (P 0 0 h)) ∧ ((h a0 1) = (0 : Int) → (P 0 1 h)))) :
    WP G mJ3_isLatin1 0 [(1, a0)] [] h d P := by
  refine r_gets (j := 0) (g := 0) (v := 1) rfl rfl rfl rfl ?_
  refine r_ifeq (j := 1) rfl rfl rfl (fun q => absurd q (by decide)) (fun q => ?_)
  refine r_run 2 1 (pc' := 7) (ls' := [(1, a0)]) (st' := [(1, a0)]) rfl ?_
  obtain ⟨t1, H⟩ := H
  refine r_getf (j := 3) (c := 5) (f := 1) rfl rfl rfl rfl rfl rfl rfl (t1) ?_
  refine r_ifne (j := 4) rfl rfl rfl (fun q => ?_) (fun q => ?_)
  · replace H := H.1 q
    refine r_run 7 1 (pc' := 18) (ls' := [(1, a0)]) (st' := [(0, 0)]) rfl ?_
    exact r_iret (j := 8) rfl rfl rfl (Or.inl rfl) H
  · replace H := H.2 q
    refine r_run 5 1 (pc' := 14) (ls' := [(1, a0)]) (st' := [(0, 1)]) rfl ?_
    refine r_goto (j := 6) (tgt := 18) rfl rfl ?_
    exact r_iret (j := 8) rfl rfl rfl (Or.inr rfl) H

set_option maxRecDepth 100000 in
set_option maxHeartbeats 4000000 in
theorem wJ3_length {G : GM} {d : Nat} {P : Nat → Int → SM → Prop} {h : SM} {a0 : Int} (hd : 1 ≤ d) 
    (H : (h a0 (-1) = 6) ∧ (P 0 (h a0 3) h)) :
    WP G mJ3_length 0 [(1, a0)] [] h d P := by
  refine r_run 0 1 (pc' := 1) (ls' := [(1, a0)]) (st' := [(1, a0)]) rfl ?_
  obtain ⟨t1, H⟩ := H
  refine r_getf (j := 1) (c := 5) (f := 3) rfl rfl rfl rfl rfl rfl rfl (t1) ?_
  exact r_iret (j := 2) rfl rfl rfl trivial H

set_option maxRecDepth 100000 in
set_option maxHeartbeats 4000000 in
theorem wJ3_newCapacity {G : GM} {d : Nat} {P : Nat → Int → SM → Prop} {h : SM} {a0 a1 : Int} (hd : 1 ≤ d) 
    (H : (h a0 (-1) = 6) ∧ ((h (h a0 0) (-1) = 102) ∧ (WP G mJ8_newLength 0 [(0, (h (h a0 0) (-2))), (0, (wr ((bShl a1 (h a0 1)) - (h (h a0 0) (-2))))), (0, (wr ((h (h a0 0) (-2)) + (bShl 2 (h a0 1))))), (9, 0)] [] h (d - 1) (fun k v3 h4 => k = 0 ∧ ((v3 ≠ (2147483647 : Int) → ((h4 a0 (-1) = 6) ∧ (P 0 (bShr v3 (h4 a0 1)) h4))) ∧ (v3 = (2147483647 : Int) → (False))))))) :
    WP G mJ3_newCapacity 0 [(1, a0), (0, a1), (9, 0), (9, 0), (9, 0), (9, 0)] [] h d P := by
  refine r_run 0 1 (pc' := 1) (ls' := [(1, a0), (0, a1), (9, 0), (9, 0), (9, 0), (9, 0)]) (st' := [(1, a0)]) rfl ?_
  obtain ⟨t1, H⟩ := H
  refine r_getf (j := 1) (c := 5) (f := 0) rfl rfl rfl rfl rfl rfl rfl (t1) ?_
  obtain ⟨t2, H⟩ := H
  refine r_alen (j := 2) (t := 2) rfl rfl rfl rfl (t2) ?_
  refine r_run 3 3 (pc' := 8) (ls' := [(1, a0), (0, a1), (0, (h (h a0 0) (-2))), (9, 0), (9, 0), (9, 0)]) (st' := [(1, a0), (0, a1)]) rfl ?_
  refine r_getf (j := 6) (c := 5) (f := 1) rfl rfl rfl rfl rfl rfl rfl (t1) ?_
  refine r_run 7 11 (pc' := 24) (ls' := [(1, a0), (0, a1), (0, (h (h a0 0) (-2))), (0, (bShl a1 (h a0 1))), (0, (wr ((bShl a1 (h a0 1)) - (h (h a0 0) (-2))))), (9, 0)]) (st' := [(1, a0), (0, 2), (0, (h (h a0 0) (-2))), (0, (wr ((bShl a1 (h a0 1)) - (h (h a0 0) (-2))))), (0, (h (h a0 0) (-2)))]) rfl ?_
  refine r_getf (j := 18) (c := 5) (f := 1) rfl rfl rfl rfl rfl rfl rfl (t1) ?_
  refine r_run 19 2 (pc' := 29) (ls' := [(1, a0), (0, a1), (0, (h (h a0 0) (-2))), (0, (bShl a1 (h a0 1))), (0, (wr ((bShl a1 (h a0 1)) - (h (h a0 0) (-2))))), (9, 0)]) (st' := [(0, (wr ((h (h a0 0) (-2)) + (bShl 2 (h a0 1))))), (0, (wr ((bShl a1 (h a0 1)) - (h (h a0 0) (-2))))), (0, (h (h a0 0) (-2)))]) rfl ?_
  refine r_callS (j := 21) (M' := mJ8_newLength) (as := [(0, (h (h a0 0) (-2))), (0, (wr ((bShl a1 (h a0 1)) - (h (h a0 0) (-2))))), (0, (wr ((h (h a0 0) (-2)) + (bShl 2 (h a0 1)))))]) (st := []) rfl rfl rfl rfl rfl (Nat.le_of_ble_eq_true rfl) (Nat.le_of_ble_eq_true rfl) (by omega) (kk0 (st' := fun v => [(0, v)]) rfl (fun _ => rfl)) (H.mono (fun k v3 h4 H => ⟨H.1, ?_⟩))
  replace H := H.2
  refine r_run 22 2 (pc' := 36) (ls' := [(1, a0), (0, a1), (0, (h (h a0 0) (-2))), (0, (bShl a1 (h a0 1))), (0, (wr ((bShl a1 (h a0 1)) - (h (h a0 0) (-2))))), (0, v3)]) (st' := [(0, v3)]) rfl ?_
  refine r_ldc (j := 24) (g := 0) (v := 2147483647) rfl rfl rfl (by decide) rfl ?_
  refine r_icmpne (j := 25) rfl rfl rfl (fun q => ?_) (fun q => ?_)
  · replace H := H.1 q
    refine r_run 31 2 (pc' := 54) (ls' := [(1, a0), (0, a1), (0, (h (h a0 0) (-2))), (0, (bShl a1 (h a0 1))), (0, (wr ((bShl a1 (h a0 1)) - (h (h a0 0) (-2))))), (0, v3)]) (st' := [(1, a0), (0, v3)]) rfl ?_
    obtain ⟨t5, H⟩ := H
    refine r_getf (j := 33) (c := 5) (f := 1) rfl rfl rfl rfl rfl rfl rfl (t5) ?_
    refine r_run 34 1 (pc' := 58) (ls' := [(1, a0), (0, a1), (0, (h (h a0 0) (-2))), (0, (bShl a1 (h a0 1))), (0, (wr ((bShl a1 (h a0 1)) - (h (h a0 0) (-2))))), (0, v3)]) (st' := [(0, (bShr v3 (h4 a0 1)))]) rfl ?_
    exact r_iret (j := 35) rfl rfl rfl trivial H
  · replace H := H.2 q
    exact H.elim

set_option maxRecDepth 100000 in
set_option maxHeartbeats 4000000 in
theorem wJ3_putStringAt {G : GM} {d : Nat} {P : Nat → Int → SM → Prop} {h : SM} {a0 a1 a2 : Int} (hd : 1 ≤ d) 
    (H : (h a0 (-1) = 6) ∧ (WP G mJ3_inflateIfNeededFor 0 [(1, a0), (1, a2)] [] h (d - 1) (fun k v2 h3 => k = 0 ∧ ((h3 a0 (-1) = 6) ∧ ((h3 a2 (-1) = 13) ∧ (WP G mJ5_getBytes 0 [(1, a2), (1, (h3 a0 0)), (0, a1), (0, (h3 a0 1))] [] h3 (d - 1) (fun k v6 h7 => k = 0 ∧ (P 0 0 h7)))))))) :
    WP G mJ3_putStringAt 0 [(1, a0), (0, a1), (1, a2)] [] h d P := by
  refine r_run 0 2 (pc' := 2) (ls' := [(1, a0), (0, a1), (1, a2)]) (st' := [(1, a2), (1, a0)]) rfl ?_
  obtain ⟨t1, H⟩ := H
  refine r_callV (j := 2) (M' := mJ3_inflateIfNeededFor) (as := [(1, a2)]) (st := []) rfl rfl rfl rfl rfl (Nat.le_of_ble_eq_true rfl) (Nat.le_of_ble_eq_true rfl) (by omega) (t1) (kk0 (st' := fun v => []) rfl (fun _ => rfl)) (H.mono (fun k v2 h3 H => ⟨H.1, ?_⟩))
  replace H := H.2
  refine r_run 3 2 (pc' := 7) (ls' := [(1, a0), (0, a1), (1, a2)]) (st' := [(1, a0), (1, a2)]) rfl ?_
  obtain ⟨t4, H⟩ := H
  refine r_getf (j := 5) (c := 5) (f := 0) rfl rfl rfl rfl rfl rfl rfl (t4) ?_
  refine r_run 6 2 (pc' := 12) (ls' := [(1, a0), (0, a1), (1, a2)]) (st' := [(1, a0), (0, a1), (1, (h3 a0 0)), (1, a2)]) rfl ?_
  refine r_getf (j := 8) (c := 5) (f := 1) rfl rfl rfl rfl rfl rfl rfl (t4) ?_
  obtain ⟨t5, H⟩ := H
  refine r_callV (j := 9) (M' := mJ5_getBytes) (as := [(1, (h3 a0 0)), (0, a1), (0, (h3 a0 1))]) (st := []) rfl rfl rfl rfl rfl (Nat.le_of_ble_eq_true rfl) (Nat.le_of_ble_eq_true rfl) (by omega) (t5) (kk0 (st' := fun v => []) rfl (fun _ => rfl)) (H.mono (fun k v6 h7 H => ⟨H.1, ?_⟩))
  replace H := H.2
  exact r_vret (j := 10) rfl rfl H

set_option maxRecDepth 100000 in
set_option maxHeartbeats 4000000 in
theorem wJ3_setLength {G : GM} {d : Nat} {P : Nat → Int → SM → Prop} {h : SM} {a0 a1 : Int} (hd : 1 ≤ d) 
    (H : ((0 : Int) ≤ a1 → ((h a0 (-1) = 6) ∧ (WP G mJ3_ensureCapacityInternal 0 [(1, a0), (0, a1), (9, 0)] [] h (d - 1) (fun k v2 h3 => k = 0 ∧ ((h3 a0 (-1) = 6) ∧ ((a1 ≤ (h3 a0 3) → (((h3 a0 3) ≤ a1 → ((0 < a0) ∧ (∀ h6, h6 = up h3 a0 3 a1 → (P 0 0 h6)))) ∧ (a1 < (h3 a0 3) → ((0 < a0) ∧ (∀ h10, h10 = up h3 a0 2 1 → ((h10 a0 (-1) = 6) ∧ (0 < a0) ∧ (∀ h14, h14 = up h10 a0 3 a1 → (P 0 0 h14)))))))) ∧ ((h3 a0 3) < a1 → (WP G mJ3_isLatin1 0 [(1, a0)] [] h3 (d - 1) (fun k v16 h17 => k = 0 ∧ ((v16 = (0 : Int) → ((h17 a0 (-1) = 6) ∧ (False))) ∧ (v16 ≠ (0 : Int) → ((h17 a0 (-1) = 6) ∧ (WP G mJ11_fillNull 0 [(1, (h17 a0 0)), (0, (h17 a0 3)), (0, a1)] [] h17 (d - 1) (fun k v20 h21 => k = 0 ∧ ((h21 a0 (-1) = 6) ∧ (0 < a0) ∧ (∀ h24, h24 = up h21 a0 3 a1 → (P 0 0 h24))))))))))))))))) ∧ (a1 < (0 : Int) → (False))) :
    WP G mJ3_setLength 0 [(1, a0), (0, a1)] [] h d P := by
  refine r_run 0 1 (pc' := 1) (ls' := [(1, a0), (0, a1)]) (st' := [(0, a1)]) rfl ?_
  refine r_ifge (j := 1) rfl rfl rfl (fun q => ?_) (fun q => ?_)
  · replace H := H.1 q
    refine r_run 7 2 (pc' := 15) (ls' := [(1, a0), (0, a1)]) (st' := [(0, a1), (1, a0)]) rfl ?_
    obtain ⟨t1, H⟩ := H
    refine r_callV (j := 9) (M' := mJ3_ensureCapacityInternal) (as := [(0, a1)]) (st := []) rfl rfl rfl rfl rfl (Nat.le_of_ble_eq_true rfl) (Nat.le_of_ble_eq_true rfl) (by omega) (t1) (kk0 (st' := fun v => []) rfl (fun _ => rfl)) (H.mono (fun k v2 h3 H => ⟨H.1, ?_⟩))
    replace H := H.2
    refine r_run 10 1 (pc' := 19) (ls' := [(1, a0), (0, a1)]) (st' := [(1, a0)]) rfl ?_
    obtain ⟨t4, H⟩ := H
    refine r_getf (j := 11) (c := 5) (f := 3) rfl rfl rfl rfl rfl rfl rfl (t4) ?_
    refine r_run 12 1 (pc' := 23) (ls' := [(1, a0), (0, a1)]) (st' := [(0, a1), (0, (h3 a0 3))]) rfl ?_
    refine r_icmpge (j := 13) rfl rfl rfl (fun q => ?_) (fun q => ?_)
    · replace H := H.1 q
      refine r_run 31 1 (pc' := 64) (ls' := [(1, a0), (0, a1)]) (st' := [(1, a0)]) rfl ?_
      refine r_getf (j := 32) (c := 5) (f := 3) rfl rfl rfl rfl rfl rfl rfl (t4) ?_
      refine r_run 33 1 (pc' := 68) (ls' := [(1, a0), (0, a1)]) (st' := [(0, a1), (0, (h3 a0 3))]) rfl ?_
      refine r_icmple (j := 34) rfl rfl rfl (fun q => ?_) (fun q => ?_)
      · replace H := H.1 q
        refine r_run 38 2 (pc' := 78) (ls' := [(1, a0), (0, a1)]) (st' := [(0, a1), (1, a0)]) rfl ?_
        obtain ⟨x5, H⟩ := H
        refine r_putf (j := 40) (c := 5) (f := 3) rfl rfl rfl (by decide +kernel) rfl rfl rfl rfl x5 (t4) trivial (fun h6 e7 => ?_)
        replace H := H h6 e7
        exact r_vret (j := 41) rfl rfl H
      · replace H := H.2 q
        refine r_run 35 2 (pc' := 73) (ls' := [(1, a0), (0, a1)]) (st' := [(0, 1), (1, a0)]) rfl ?_
        obtain ⟨x8, H⟩ := H
        refine r_putf (j := 37) (c := 5) (f := 2) rfl rfl rfl (by decide +kernel) rfl rfl rfl rfl x8 (t4) (Or.inr rfl) (fun h10 e11 => ?_)
        replace H := H h10 e11
        refine r_run 38 2 (pc' := 78) (ls' := [(1, a0), (0, a1)]) (st' := [(0, a1), (1, a0)]) rfl ?_
        obtain ⟨t12, x13, H⟩ := H
        refine r_putf (j := 40) (c := 5) (f := 3) rfl rfl rfl (by decide +kernel) rfl rfl rfl rfl x13 (t12) trivial (fun h14 e15 => ?_)
        replace H := H h14 e15
        exact r_vret (j := 41) rfl rfl H
    · replace H := H.2 q
      refine r_run 14 1 (pc' := 27) (ls' := [(1, a0), (0, a1)]) (st' := [(1, a0)]) rfl ?_
      refine r_callV (j := 15) (M' := mJ3_isLatin1) (as := []) (st := []) rfl rfl rfl rfl rfl (Nat.le_of_ble_eq_true rfl) (Nat.le_of_ble_eq_true rfl) (by omega) (t4) (kk0 (st' := fun v => [(0, v)]) rfl (fun _ => rfl)) (H.mono (fun k v16 h17 H => ⟨H.1, ?_⟩))
      replace H := H.2
      refine r_ifeq (j := 16) rfl rfl rfl (fun q => ?_) (fun q => ?_)
      · replace H := H.1 q
        refine r_run 24 1 (pc' := 49) (ls' := [(1, a0), (0, a1)]) (st' := [(1, a0)]) rfl ?_
        obtain ⟨t18, H⟩ := H
        refine r_getf (j := 25) (c := 5) (f := 0) rfl rfl rfl rfl rfl rfl rfl (t18) ?_
        refine r_run 26 1 (pc' := 53) (ls' := [(1, a0), (0, a1)]) (st' := [(1, a0), (1, (h17 a0 0))]) rfl ?_
        refine r_getf (j := 27) (c := 5) (f := 3) rfl rfl rfl rfl rfl rfl rfl (t18) ?_
        refine r_run 28 1 (pc' := 57) (ls' := [(1, a0), (0, a1)]) (st' := [(0, a1), (0, (h17 a0 3)), (1, (h17 a0 0))]) rfl ?_
        exact H.elim
      · replace H := H.2 q
        refine r_run 17 1 (pc' := 34) (ls' := [(1, a0), (0, a1)]) (st' := [(1, a0)]) rfl ?_
        obtain ⟨t19, H⟩ := H
        refine r_getf (j := 18) (c := 5) (f := 0) rfl rfl rfl rfl rfl rfl rfl (t19) ?_
        refine r_run 19 1 (pc' := 38) (ls' := [(1, a0), (0, a1)]) (st' := [(1, a0), (1, (h17 a0 0))]) rfl ?_
        refine r_getf (j := 20) (c := 5) (f := 3) rfl rfl rfl rfl rfl rfl rfl (t19) ?_
        refine r_run 21 1 (pc' := 42) (ls' := [(1, a0), (0, a1)]) (st' := [(0, a1), (0, (h17 a0 3)), (1, (h17 a0 0))]) rfl ?_
        refine r_callS (j := 22) (M' := mJ11_fillNull) (as := [(1, (h17 a0 0)), (0, (h17 a0 3)), (0, a1)]) (st := []) rfl rfl rfl rfl rfl (Nat.le_of_ble_eq_true rfl) (Nat.le_of_ble_eq_true rfl) (by omega) (kk0 (st' := fun v => []) rfl (fun _ => rfl)) (H.mono (fun k v20 h21 H => ⟨H.1, ?_⟩))
        replace H := H.2
        refine r_goto (j := 23) (tgt := 76) rfl rfl ?_
        refine r_run 38 2 (pc' := 78) (ls' := [(1, a0), (0, a1)]) (st' := [(0, a1), (1, a0)]) rfl ?_
        obtain ⟨t22, x23, H⟩ := H
        refine r_putf (j := 40) (c := 5) (f := 3) rfl rfl rfl (by decide +kernel) rfl rfl rfl rfl x23 (t22) trivial (fun h24 e25 => ?_)
        replace H := H h24 e25
        exact r_vret (j := 41) rfl rfl H
  · replace H := H.2 q
    exact H.elim

set_option maxRecDepth 100000 in
set_option maxHeartbeats 4000000 in
theorem wJ4_append {G : GM} {d : Nat} {P : Nat → Int → SM → Prop} {h : SM} {a0 a1 : Int} (hd : 1 ≤ d) 
    (H : (h a0 (-1) = 6) ∧ (WP G mJ3_append 0 [(1, a0), (0, a1)] [] h (d - 1) (fun k v2 h3 => k = 0 ∧ (P 0 a0 h3)))) :
    WP G mJ4_append 0 [(1, a0), (0, a1)] [] h d P := by
  refine r_run 0 2 (pc' := 2) (ls' := [(1, a0), (0, a1)]) (st' := [(0, a1), (1, a0)]) rfl ?_
  obtain ⟨t1, H⟩ := H
  refine r_callP (j := 2) (M' := mJ3_append) (as := [(0, a1)]) (st := []) rfl rfl rfl rfl rfl (Nat.le_of_ble_eq_true rfl) (Nat.le_of_ble_eq_true rfl) (by omega) (t1) (kk0 (st' := fun v => [(1, v)]) rfl (fun _ => rfl)) (H.mono (fun k v2 h3 H => ⟨H.1, ?_⟩))
  replace H := H.2
  refine r_run 3 2 (pc' := 7) (ls' := [(1, a0), (0, a1)]) (st' := [(1, a0)]) rfl ?_
  exact r_aret (j := 5) rfl rfl rfl H

set_option maxRecDepth 100000 in
set_option maxHeartbeats 4000000 in
theorem wJ4_append_2 {G : GM} {d : Nat} {P : Nat → Int → SM → Prop} {h : SM} {a0 a1 : Int} (hd : 1 ≤ d) 
    (H : (h a0 (-1) = 6) ∧ (WP G mJ3_append_2 0 [(1, a0), (1, a1), (9, 0)] [] h (d - 1) (fun k v2 h3 => k = 0 ∧ (P 0 a0 h3)))) :
    WP G mJ4_append_2 0 [(1, a0), (1, a1)] [] h d P := by
  refine r_run 0 2 (pc' := 2) (ls' := [(1, a0), (1, a1)]) (st' := [(1, a1), (1, a0)]) rfl ?_
  obtain ⟨t1, H⟩ := H
  refine r_callP (j := 2) (M' := mJ3_append_2) (as := [(1, a1)]) (st := []) rfl rfl rfl rfl rfl (Nat.le_of_ble_eq_true rfl) (Nat.le_of_ble_eq_true rfl) (by omega) (t1) (kk0 (st' := fun v => [(1, v)]) rfl (fun _ => rfl)) (H.mono (fun k v2 h3 H => ⟨H.1, ?_⟩))
  replace H := H.2
  refine r_run 3 2 (pc' := 7) (ls' := [(1, a0), (1, a1)]) (st' := [(1, a0)]) rfl ?_
  exact r_aret (j := 5) rfl rfl rfl H

set_option maxRecDepth 100000 in
set_option maxHeartbeats 4000000 in
theorem wJ4_append_3 {G : GM} {d : Nat} {P : Nat → Int → SM → Prop} {h : SM} {a0 a1 : Int} (hd : 1 ≤ d) 
    (H : (h a0 (-1) = 6) ∧ (WP G mJ3_append_3 0 [(1, a0), (0, a1), (9, 0), (9, 0)] [] h (d - 1) (fun k v2 h3 => k = 0 ∧ (P 0 a0 h3)))) :
    WP G mJ4_append_3 0 [(1, a0), (0, a1)] [] h d P := by
  refine r_run 0 2 (pc' := 2) (ls' := [(1, a0), (0, a1)]) (st' := [(0, a1), (1, a0)]) rfl ?_
  obtain ⟨t1, H⟩ := H
  refine r_callP (j := 2) (M' := mJ3_append_3) (as := [(0, a1)]) (st := []) rfl rfl rfl rfl rfl (Nat.le_of_ble_eq_true rfl) (Nat.le_of_ble_eq_true rfl) (by omega) (t1) (kk0 (st' := fun v => [(1, v)]) rfl (fun _ => rfl)) (H.mono (fun k v2 h3 H => ⟨H.1, ?_⟩))
  replace H := H.2
  refine r_run 3 2 (pc' := 7) (ls' := [(1, a0), (0, a1)]) (st' := [(1, a0)]) rfl ?_
  exact r_aret (j := 5) rfl rfl rfl H

set_option maxRecDepth 100000 in
set_option maxHeartbeats 4000000 in
theorem wJ4_charAt {G : GM} {d : Nat} {P : Nat → Int → SM → Prop} {h : SM} {a0 a1 : Int} (hd : 1 ≤ d) 
    (H : (h a0 (-1) = 6) ∧ (WP G mJ3_charAt 0 [(1, a0), (0, a1), (9, 0), (9, 0), (9, 0)] [] h (d - 1) (fun k v2 h3 => k = 0 ∧ ((0 ≤ v2 ∧ v2 ≤ 65535) ∧ (P 0 v2 h3))))) :
    WP G mJ4_charAt 0 [(1, a0), (0, a1)] [] h d P := by
  refine r_run 0 2 (pc' := 2) (ls' := [(1, a0), (0, a1)]) (st' := [(0, a1), (1, a0)]) rfl ?_
  obtain ⟨t1, H⟩ := H
  refine r_callP (j := 2) (M' := mJ3_charAt) (as := [(0, a1)]) (st := []) rfl rfl rfl rfl rfl (Nat.le_of_ble_eq_true rfl) (Nat.le_of_ble_eq_true rfl) (by omega) (t1) (kk0 (st' := fun v => [(0, v)]) rfl (fun _ => rfl)) (H.mono (fun k v2 h3 H => ⟨H.1, ?_⟩))
  replace H := H.2
  obtain ⟨r4, H⟩ := H
  exact r_iret (j := 3) rfl rfl rfl r4 H

set_option maxRecDepth 100000 in
set_option maxHeartbeats 4000000 in
theorem wJ4_init {G : GM} {d : Nat} {P : Nat → Int → SM → Prop} {h : SM} {a0 : Int} (hd : 1 ≤ d) 
    (H : (a0 ≠ 0) ∧ (WP G mJ3_init 0 [(1, a0), (0, 16)] [] h (d - 1) (fun k v2 h3 => k = 0 ∧ (P 0 0 h3)))) :
    WP G mJ4_init 0 [(1, a0)] [] h d P := by
  refine r_run 0 2 (pc' := 3) (ls' := [(1, a0)]) (st' := [(0, 16), (1, a0)]) rfl ?_
  obtain ⟨z1, H⟩ := H
  refine r_callI (j := 2) (M' := mJ3_init) (as := [(0, 16)]) (st := []) rfl rfl rfl rfl rfl (Nat.le_of_ble_eq_true rfl) (Nat.le_of_ble_eq_true rfl) (by omega) z1 (kk0 (st' := fun v => []) rfl (fun _ => rfl)) (H.mono (fun k v2 h3 H => ⟨H.1, ?_⟩))
  replace H := H.2
  exact r_vret (j := 3) rfl rfl H

set_option maxRecDepth 100000 in
set_option maxHeartbeats 4000000 in
theorem wJ4_length {G : GM} {d : Nat} {P : Nat → Int → SM → Prop} {h : SM} {a0 : Int} (hd : 1 ≤ d) 
    (H : (h a0 (-1) = 6) ∧ (WP G mJ3_length 0 [(1, a0)] [] h (d - 1) (fun k v2 h3 => k = 0 ∧ (P 0 v2 h3)))) :
    WP G mJ4_length 0 [(1, a0)] [] h d P := by
  refine r_run 0 1 (pc' := 1) (ls' := [(1, a0)]) (st' := [(1, a0)]) rfl ?_
  obtain ⟨t1, H⟩ := H
  refine r_callP (j := 1) (M' := mJ3_length) (as := []) (st := []) rfl rfl rfl rfl rfl (Nat.le_of_ble_eq_true rfl) (Nat.le_of_ble_eq_true rfl) (by omega) (t1) (kk0 (st' := fun v => [(0, v)]) rfl (fun _ => rfl)) (H.mono (fun k v2 h3 H => ⟨H.1, ?_⟩))
  replace H := H.2
  exact r_iret (j := 2) rfl rfl rfl trivial H

set_option maxRecDepth 100000 in
set_option maxHeartbeats 4000000 in
theorem wJ4_setLength {G : GM} {d : Nat} {P : Nat → Int → SM → Prop} {h : SM} {a0 a1 : Int} (hd : 1 ≤ d) 
    (H : (h a0 (-1) = 6) ∧ (WP G mJ3_setLength 0 [(1, a0), (0, a1)] [] h (d - 1) (fun k v2 h3 => k = 0 ∧ (P 0 0 h3)))) :
    WP G mJ4_setLength 0 [(1, a0), (0, a1)] [] h d P := by
  refine r_run 0 2 (pc' := 2) (ls' := [(1, a0), (0, a1)]) (st' := [(0, a1), (1, a0)]) rfl ?_
  obtain ⟨t1, H⟩ := H
  refine r_callP (j := 2) (M' := mJ3_setLength) (as := [(0, a1)]) (st := []) rfl rfl rfl rfl rfl (Nat.le_of_ble_eq_true rfl) (Nat.le_of_ble_eq_true rfl) (by omega) (t1) (kk0 (st' := fun v => []) rfl (fun _ => rfl)) (H.mono (fun k v2 h3 H => ⟨H.1, ?_⟩))
  replace H := H.2
  exact r_vret (j := 3) rfl rfl H

set_option maxRecDepth 100000 in
set_option maxHeartbeats 4000000 in
theorem wJ4_toString {G : GM} {d : Nat} {P : Nat → Int → SM → Prop} {h : SM} {a0 : Int} (hd : 1 ≤ d) 
    (H : (h 0 0 ≤ 1203200) ∧ (h 0 1 + 4 ≤ 5491882) ∧ (∀ h3, h3 = al h 13 0 4 → (((h 0 0) ≠ 0) ∧ (WP G mJ5_init 0 [(1, (h 0 0)), (1, a0)] [] h3 (d - 1) (fun k v6 h7 => k = 0 ∧ (P 0 (h 0 0) h7)))))) :
    WP G mJ4_toString 0 [(1, a0)] [] h d P := by
  obtain ⟨r1, r2, H⟩ := H
  refine r_new (j := 0) (c := 12) rfl rfl rfl rfl rfl rfl r1 r2 (fun h3 e4 => ?_)
  replace H := H h3 e4
  refine r_run 1 2 (pc' := 5) (ls' := [(1, a0)]) (st' := [(1, a0), (1, (h 0 0)), (1, (h 0 0))]) rfl ?_
  obtain ⟨z5, H⟩ := H
  refine r_callI (j := 3) (M' := mJ5_init) (as := [(1, a0)]) (st := [(1, (h 0 0))]) rfl rfl rfl rfl rfl (Nat.le_of_ble_eq_true rfl) (Nat.le_of_ble_eq_true rfl) (by omega) z5 (kk0 (st' := fun v => [(1, (h 0 0))]) rfl (fun _ => rfl)) (H.mono (fun k v6 h7 H => ⟨H.1, ?_⟩))
  replace H := H.2
  exact r_aret (j := 4) rfl rfl rfl H

set_option maxRecDepth 100000 in
set_option maxHeartbeats 4000000 in
theorem wJ5_charAt {G : GM} {d : Nat} {P : Nat → Int → SM → Prop} {h : SM} {a0 a1 : Int} (hd : 1 ≤ d) 
    (H : (h a0 (-1) = 13) ∧ (WP G mJ5_isLatin1 0 [(1, a0)] [] h (d - 1) (fun k v2 h3 => k = 0 ∧ ((v2 = (0 : Int) → ((h3 a0 (-1) = 13) ∧ (False))) ∧ (v2 ≠ (0 : Int) → ((h3 a0 (-1) = 13) ∧ (WP G mJ11_charAt 0 [(1, (h3 a0 0)), (0, a1)] [] h3 (d - 1) (fun k v6 h7 => k = 0 ∧ ((0 ≤ v6 ∧ v6 ≤ 65535) ∧ (P 0 v6 h7)))))))))) :
    WP G mJ5_charAt 0 [(1, a0), (0, a1)] [] h d P := by
  refine r_run 0 1 (pc' := 1) (ls' := [(1, a0), (0, a1)]) (st' := [(1, a0)]) rfl ?_
  obtain ⟨t1, H⟩ := H
  refine r_callV (j := 1) (M' := mJ5_isLatin1) (as := []) (st := []) rfl rfl rfl rfl rfl (Nat.le_of_ble_eq_true rfl) (Nat.le_of_ble_eq_true rfl) (by omega) (t1) (kk0 (st' := fun v => [(0, v)]) rfl (fun _ => rfl)) (H.mono (fun k v2 h3 H => ⟨H.1, ?_⟩))
  replace H := H.2
  refine r_ifeq (j := 2) rfl rfl rfl (fun q => ?_) (fun q => ?_)
  · replace H := H.1 q
    refine r_run 8 1 (pc' := 17) (ls' := [(1, a0), (0, a1)]) (st' := [(1, a0)]) rfl ?_
    obtain ⟨t4, H⟩ := H
    refine r_getf (j := 9) (c := 12) (f := 0) rfl rfl rfl rfl rfl rfl rfl (t4) ?_
    refine r_run 10 1 (pc' := 21) (ls' := [(1, a0), (0, a1)]) (st' := [(0, a1), (1, (h3 a0 0))]) rfl ?_
    exact H.elim
  · replace H := H.2 q
    refine r_run 3 1 (pc' := 8) (ls' := [(1, a0), (0, a1)]) (st' := [(1, a0)]) rfl ?_
    obtain ⟨t5, H⟩ := H
    refine r_getf (j := 4) (c := 12) (f := 0) rfl rfl rfl rfl rfl rfl rfl (t5) ?_
    refine r_run 5 1 (pc' := 12) (ls' := [(1, a0), (0, a1)]) (st' := [(0, a1), (1, (h3 a0 0))]) rfl ?_
    refine r_callS (j := 6) (M' := mJ11_charAt) (as := [(1, (h3 a0 0)), (0, a1)]) (st := []) rfl rfl rfl rfl rfl (Nat.le_of_ble_eq_true rfl) (Nat.le_of_ble_eq_true rfl) (by omega) (kk0 (st' := fun v => [(0, v)]) rfl (fun _ => rfl)) (H.mono (fun k v6 h7 H => ⟨H.1, ?_⟩))
    replace H := H.2
    obtain ⟨r8, H⟩ := H
    exact r_iret (j := 7) rfl rfl rfl r8 H

set_option maxRecDepth 100000 in
set_option maxHeartbeats 4000000 in
theorem wJ5_checkIndex {G : GM} {d : Nat} {P : Nat → Int → SM → Prop} {h : SM} {a0 a1 : Int} (hd : 1 ≤ d) 
    (H : WP G mJ12_checkIndex 0 [(0, a0), (0, a1), (3, 0)] [] h (d - 1) (fun k v1 h2 => k = 0 ∧ (P 0 0 h2))) :
    WP G mJ5_checkIndex 0 [(0, a0), (0, a1)] [] h d P := by
  refine r_run 0 2 (pc' := 2) (ls' := [(0, a0), (0, a1)]) (st' := [(0, a1), (0, a0)]) rfl ?_
  refine r_gets (j := 2) (g := 3) (v := 0) rfl rfl rfl rfl ?_
  refine r_callS (j := 3) (M' := mJ12_checkIndex) (as := [(0, a0), (0, a1), (3, 0)]) (st := []) rfl rfl rfl rfl rfl (Nat.le_of_ble_eq_true rfl) (Nat.le_of_ble_eq_true rfl) (by omega) (kk0 (st' := fun v => [(0, v)]) rfl (fun _ => rfl)) (H.mono (fun k v1 h2 H => ⟨H.1, ?_⟩))
  replace H := H.2
  refine r_run 4 1 (pc' := 9) (ls' := [(0, a0), (0, a1)]) (st' := []) rfl ?_
  exact r_vret (j := 5) rfl rfl H

set_option maxRecDepth 100000 in
set_option maxHeartbeats 4000000 in
theorem wJ5_coder {G : GM} {d : Nat} {P : Nat → Int → SM → Prop} {h : SM} {a0 : Int} (hd : 1 ≤ d) 
    (H : (h a0 (-1) = 13) ∧ ((-128 ≤ (h a0 1) ∧ (h a0 1) ≤ 127) ∧ (P 0 (h a0 1) h))) :
    WP G mJ5_coder 0 [(1, a0)] [] h d P := by
  refine r_gets (j := 0) (g := 0) (v := 1) rfl rfl rfl rfl ?_
  refine r_ifeq (j := 1) rfl rfl rfl (fun q => absurd q (by decide)) (fun q => ?_)
  refine r_run 2 1 (pc' := 7) (ls' := [(1, a0)]) (st' := [(1, a0)]) rfl ?_
  obtain ⟨t1, H⟩ := H
  refine r_getf (j := 3) (c := 12) (f := 1) rfl rfl rfl rfl rfl rfl rfl (t1) ?_
  refine r_goto (j := 4) (tgt := 14) rfl rfl ?_
  obtain ⟨r2, H⟩ := H
  exact r_iret (j := 6) rfl rfl rfl r2 H

set_option maxRecDepth 100000 in
set_option maxHeartbeats 4000000 in
theorem wJ5_getBytes {G : GM} {d : Nat} {P : Nat → Int → SM → Prop} {h : SM} {a0 a1 a2 a3 : Int} (hd : 1 ≤ d) 
    (H : (h a0 (-1) = 13) ∧ (WP G mJ5_coder 0 [(1, a0)] [] h (d - 1) (fun k v2 h3 => k = 0 ∧ ((v2 ≠ a3 → ((h3 a0 (-1) = 13) ∧ ((h3 (h3 a0 0) (-1) = 102) ∧ (WP G mJ11_inflate 0 [(1, (h3 a0 0)), (0, 0), (1, a1), (0, a2), (0, (h3 (h3 a0 0) (-2)))] [] h3 (d - 1) (fun k v6 h7 => k = 0 ∧ (P 0 0 h7)))))) ∧ (v2 = a3 → ((h3 a0 (-1) = 13) ∧ ((h3 (h3 a0 0) (-1) = 102) ∧ ((h3 a1 (-1) = 102) ∧ (0 < a1) ∧ (0 ≤ (0 : Int)) ∧ (0 ≤ (bShl a2 a3)) ∧ (0 ≤ (h3 (h3 a0 0) (-2))) ∧ (0 + (h3 (h3 a0 0) (-2)) ≤ h3 (h3 a0 0) (-2)) ∧ ((bShl a2 a3) + (h3 (h3 a0 0) (-2)) ≤ h3 a1 (-2)) ∧ (∀ h18, h18 = cpM h3 (h3 a0 0) 0 a1 (bShl a2 a3) (h3 (h3 a0 0) (-2)) → (P 0 0 h18)))))))))) :
    WP G mJ5_getBytes 0 [(1, a0), (1, a1), (0, a2), (0, a3)] [] h d P := by
  refine r_run 0 1 (pc' := 1) (ls' := [(1, a0), (1, a1), (0, a2), (0, a3)]) (st' := [(1, a0)]) rfl ?_
  obtain ⟨t1, H⟩ := H
  refine r_callV (j := 1) (M' := mJ5_coder) (as := []) (st := []) rfl rfl rfl rfl rfl (Nat.le_of_ble_eq_true rfl) (Nat.le_of_ble_eq_true rfl) (by omega) (t1) (kk0 (st' := fun v => [(0, v)]) rfl (fun _ => rfl)) (H.mono (fun k v2 h3 H => ⟨H.1, ?_⟩))
  replace H := H.2
  refine r_run 2 1 (pc' := 5) (ls' := [(1, a0), (1, a1), (0, a2), (0, a3)]) (st' := [(0, a3), (0, v2)]) rfl ?_
  refine r_icmpne (j := 3) rfl rfl rfl (fun q => ?_) (fun q => ?_)
  · replace H := H.1 q
    refine r_run 16 1 (pc' := 29) (ls' := [(1, a0), (1, a1), (0, a2), (0, a3)]) (st' := [(1, a0)]) rfl ?_
    obtain ⟨t4, H⟩ := H
    refine r_getf (j := 17) (c := 12) (f := 0) rfl rfl rfl rfl rfl rfl rfl (t4) ?_
    refine r_run 18 4 (pc' := 36) (ls' := [(1, a0), (1, a1), (0, a2), (0, a3)]) (st' := [(1, a0), (0, a2), (1, a1), (0, 0), (1, (h3 a0 0))]) rfl ?_
    refine r_getf (j := 22) (c := 12) (f := 0) rfl rfl rfl rfl rfl rfl rfl (t4) ?_
    obtain ⟨t5, H⟩ := H
    refine r_alen (j := 23) (t := 2) rfl rfl rfl rfl (t5) ?_
    refine r_callS (j := 24) (M' := mJ11_inflate) (as := [(1, (h3 a0 0)), (0, 0), (1, a1), (0, a2), (0, (h3 (h3 a0 0) (-2)))]) (st := []) rfl rfl rfl rfl rfl (Nat.le_of_ble_eq_true rfl) (Nat.le_of_ble_eq_true rfl) (by omega) (kk0 (st' := fun v => []) rfl (fun _ => rfl)) (H.mono (fun k v6 h7 H => ⟨H.1, ?_⟩))
    replace H := H.2
    exact r_vret (j := 25) rfl rfl H
  · replace H := H.2 q
    refine r_run 4 1 (pc' := 9) (ls' := [(1, a0), (1, a1), (0, a2), (0, a3)]) (st' := [(1, a0)]) rfl ?_
    obtain ⟨t8, H⟩ := H
    refine r_getf (j := 5) (c := 12) (f := 0) rfl rfl rfl rfl rfl rfl rfl (t8) ?_
    refine r_run 6 6 (pc' := 18) (ls' := [(1, a0), (1, a1), (0, a2), (0, a3)]) (st' := [(1, a0), (0, (bShl a2 a3)), (1, a1), (0, 0), (1, (h3 a0 0))]) rfl ?_
    refine r_getf (j := 12) (c := 12) (f := 0) rfl rfl rfl rfl rfl rfl rfl (t8) ?_
    obtain ⟨t9, H⟩ := H
    refine r_alen (j := 13) (t := 2) rfl rfl rfl rfl (t9) ?_
    obtain ⟨t10, y11, y12, y13, y14, y15, y16, H⟩ := H
    refine r_copy (j := 14) rfl rfl rfl rfl (by omega) (by simp) (t := 2) rfl rfl y11 (t9) (t10) y12 y13 y14 y15 y16 (fun q => by omega) (fun h18 e19 => ?_)
    replace H := H h18 e19
    refine r_goto (j := 15) (tgt := 43) rfl rfl ?_
    exact r_vret (j := 25) rfl rfl H

set_option maxRecDepth 100000 in
set_option maxHeartbeats 4000000 in
theorem wJ5_init {G : GM} {d : Nat} {P : Nat → Int → SM → Prop} {h : SM} {a0 a1 : Int} (hd : 1 ≤ d) 
    (H : (a0 ≠ 0) ∧ (WP G mJ5_init_2 0 [(1, a0), (1, a1), (1, 0), (9, 0), (9, 0)] [] h (d - 1) (fun k v2 h3 => k = 0 ∧ (P 0 0 h3)))) :
    WP G mJ5_init 0 [(1, a0), (1, a1)] [] h d P := by
  refine r_run 0 3 (pc' := 3) (ls' := [(1, a0), (1, a1)]) (st' := [(1, 0), (1, a1), (1, a0)]) rfl ?_
  obtain ⟨z1, H⟩ := H
  refine r_callI (j := 3) (M' := mJ5_init_2) (as := [(1, a1), (1, 0)]) (st := []) rfl rfl rfl rfl rfl (Nat.le_of_ble_eq_true rfl) (Nat.le_of_ble_eq_true rfl) (by omega) z1 (kk0 (st' := fun v => []) rfl (fun _ => rfl)) (H.mono (fun k v2 h3 H => ⟨H.1, ?_⟩))
  replace H := H.2
  exact r_vret (j := 4) rfl rfl H

set_option maxRecDepth 100000 in
set_option maxHeartbeats 4000000 in
theorem wJ5_init_2 {G : GM} {d : Nat} {P : Nat → Int → SM → Prop} {h : SM} {a0 a1 a2 : Int} (hd : 1 ≤ d) 
    (H : (a0 ≠ 0) ∧ ((h a1 (-1) = 6) ∧ (WP G mJ3_getValue 0 [(1, a1)] [] h (d - 1) (fun k v3 h4 => k = 0 ∧ ((h4 a1 (-1) = 6) ∧ (WP G mJ4_length 0 [(1, a1)] [] h4 (d - 1) (fun k v6 h7 => k = 0 ∧ ((h7 a1 (-1) = 6) ∧ (WP G mJ3_isLatin1 0 [(1, a1)] [] h7 (d - 1) (fun k v9 h10 => k = 0 ∧ ((v9 = (0 : Int) → ((h10 a1 (-1) = 6) ∧ (((h10 a1 2) = (0 : Int) → ((h10 a0 (-1) = 13) ∧ (0 < a0) ∧ (-128 ≤ (1 : Int) ∧ (1 : Int) ≤ 127) ∧ (∀ h15, h15 = up h10 a0 1 1 → (WP G mJ10_copyOfRange 0 [(1, v3), (0, 0), (0, (bShl v6 1))] [] h15 (d - 1) (fun k v17 h18 => k = 0 ∧ ((h18 a0 (-1) = 13) ∧ (0 < a0) ∧ (∀ h21, h21 = up h18 a0 0 v17 → (P 0 0 h21)))))))) ∧ ((h10 a1 2) ≠ (0 : Int) → (False))))) ∧ (v9 ≠ (0 : Int) → ((h10 a0 (-1) = 13) ∧ (0 < a0) ∧ (-128 ≤ (0 : Int) ∧ (0 : Int) ≤ 127) ∧ (∀ h26, h26 = up h10 a0 1 0 → (WP G mJ10_copyOfRange 0 [(1, v3), (0, 0), (0, v6)] [] h26 (d - 1) (fun k v28 h29 => k = 0 ∧ ((h29 a0 (-1) = 13) ∧ (0 < a0) ∧ (∀ h32, h32 = up h29 a0 0 v28 → (P 0 0 h32))))))))))))))))))) :
    WP G mJ5_init_2 0 [(1, a0), (1, a1), (1, a2), (9, 0), (9, 0)] [] h d P := by
  refine r_run 0 1 (pc' := 1) (ls' := [(1, a0), (1, a1), (1, a2), (9, 0), (9, 0)]) (st' := [(1, a0)]) rfl ?_
  obtain ⟨z1, H⟩ := H
  refine r_obj (j := 1) rfl rfl rfl rfl z1 (by omega) (by simp) ?_
  refine r_run 2 1 (pc' := 5) (ls' := [(1, a0), (1, a1), (1, a2), (9, 0), (9, 0)]) (st' := [(1, a1)]) rfl ?_
  obtain ⟨t2, H⟩ := H
  refine r_callV (j := 3) (M' := mJ3_getValue) (as := []) (st := []) rfl rfl rfl rfl rfl (Nat.le_of_ble_eq_true rfl) (Nat.le_of_ble_eq_true rfl) (by omega) (t2) (kk0 (st' := fun v => [(1, v)]) rfl (fun _ => rfl)) (H.mono (fun k v3 h4 H => ⟨H.1, ?_⟩))
  replace H := H.2
  refine r_run 4 2 (pc' := 10) (ls' := [(1, a0), (1, a1), (1, a2), (1, v3), (9, 0)]) (st' := [(1, a1)]) rfl ?_
  obtain ⟨t5, H⟩ := H
  refine r_callU (j := 6) (M' := mJ4_length) (as := []) (st := []) rfl rfl rfl rfl rfl (Nat.le_of_ble_eq_true rfl) (Nat.le_of_ble_eq_true rfl) (by omega) (t5) (kk0 (st' := fun v => [(0, v)]) rfl (fun _ => rfl)) (H.mono (fun k v6 h7 H => ⟨H.1, ?_⟩))
  replace H := H.2
  refine r_run 7 2 (pc' := 16) (ls' := [(1, a0), (1, a1), (1, a2), (1, v3), (0, v6)]) (st' := [(1, a1)]) rfl ?_
  obtain ⟨t8, H⟩ := H
  refine r_callV (j := 9) (M' := mJ3_isLatin1) (as := []) (st := []) rfl rfl rfl rfl rfl (Nat.le_of_ble_eq_true rfl) (Nat.le_of_ble_eq_true rfl) (by omega) (t8) (kk0 (st' := fun v => [(0, v)]) rfl (fun _ => rfl)) (H.mono (fun k v9 h10 H => ⟨H.1, ?_⟩))
  replace H := H.2
  refine r_ifeq (j := 10) rfl rfl rfl (fun q => ?_) (fun q => ?_)
  · replace H := H.1 q
    refine r_gets (j := 21) (g := 0) (v := 1) rfl rfl rfl rfl ?_
    refine r_ifeq (j := 22) rfl rfl rfl (fun q => absurd q (by decide)) (fun q => ?_)
    refine r_run 23 1 (pc' := 48) (ls' := [(1, a0), (1, a1), (1, a2), (1, v3), (0, v6)]) (st' := [(1, a1)]) rfl ?_
    obtain ⟨t11, H⟩ := H
    refine r_getf (j := 24) (c := 5) (f := 2) rfl rfl rfl rfl rfl rfl rfl (t11) ?_
    refine r_ifeq (j := 25) rfl rfl rfl (fun q => ?_) (fun q => ?_)
    · replace H := H.1 q
      refine r_run 39 2 (pc' := 81) (ls' := [(1, a0), (1, a1), (1, a2), (1, v3), (0, v6)]) (st' := [(0, 1), (1, a0)]) rfl ?_
      obtain ⟨t12, x13, r14, H⟩ := H
      refine r_putf (j := 41) (c := 12) (f := 1) rfl rfl rfl (by decide +kernel) rfl rfl rfl rfl x13 (t12) r14 (fun h15 e16 => ?_)
      replace H := H h15 e16
      refine r_run 42 6 (pc' := 91) (ls' := [(1, a0), (1, a1), (1, a2), (1, v3), (0, v6)]) (st' := [(0, (bShl v6 1)), (0, 0), (1, v3), (1, a0)]) rfl ?_
      refine r_callS (j := 48) (M' := mJ10_copyOfRange) (as := [(1, v3), (0, 0), (0, (bShl v6 1))]) (st := [(1, a0)]) rfl rfl rfl rfl rfl (Nat.le_of_ble_eq_true rfl) (Nat.le_of_ble_eq_true rfl) (by omega) (kk0 (st' := fun v => [(1, v), (1, a0)]) rfl (fun _ => rfl)) (H.mono (fun k v17 h18 H => ⟨H.1, ?_⟩))
      replace H := H.2
      obtain ⟨t19, x20, H⟩ := H
      refine r_putf (j := 49) (c := 12) (f := 0) rfl rfl rfl (by decide +kernel) rfl rfl rfl rfl x20 (t19) trivial (fun h21 e22 => ?_)
      replace H := H h21 e22
      exact r_vret (j := 50) rfl rfl H
    · replace H := H.2 q
      refine r_run 26 4 (pc' := 59) (ls' := [(1, a0), (1, a1), (1, a2), (1, v3), (0, v6)]) (st' := [(0, v6), (0, 0), (1, v3), (1, a0)]) rfl ?_
      exact H.elim
  · replace H := H.2 q
    refine r_run 11 2 (pc' := 24) (ls' := [(1, a0), (1, a1), (1, a2), (1, v3), (0, v6)]) (st' := [(0, 0), (1, a0)]) rfl ?_
    obtain ⟨t23, x24, r25, H⟩ := H
    refine r_putf (j := 13) (c := 12) (f := 1) rfl rfl rfl (by decide +kernel) rfl rfl rfl rfl x24 (t23) r25 (fun h26 e27 => ?_)
    replace H := H h26 e27
    refine r_run 14 4 (pc' := 32) (ls' := [(1, a0), (1, a1), (1, a2), (1, v3), (0, v6)]) (st' := [(0, v6), (0, 0), (1, v3), (1, a0)]) rfl ?_
    refine r_callS (j := 18) (M' := mJ10_copyOfRange) (as := [(1, v3), (0, 0), (0, v6)]) (st := [(1, a0)]) rfl rfl rfl rfl rfl (Nat.le_of_ble_eq_true rfl) (Nat.le_of_ble_eq_true rfl) (by omega) (kk0 (st' := fun v => [(1, v), (1, a0)]) rfl (fun _ => rfl)) (H.mono (fun k v28 h29 H => ⟨H.1, ?_⟩))
    replace H := H.2
    obtain ⟨t30, x31, H⟩ := H
    refine r_putf (j := 19) (c := 12) (f := 0) rfl rfl rfl (by decide +kernel) rfl rfl rfl rfl x31 (t30) trivial (fun h32 e33 => ?_)
    replace H := H h32 e33
    refine r_goto (j := 20) (tgt := 97) rfl rfl ?_
    exact r_vret (j := 50) rfl rfl H

set_option maxRecDepth 100000 in
set_option maxHeartbeats 4000000 in
theorem wJ5_isLatin1 {G : GM} {d : Nat} {P : Nat → Int → SM → Prop} {h : SM} {a0 : Int} (hd : 1 ≤ d) 
    (H : (h a0 (-1) = 13) ∧ (((h a0 1) ≠ (0 : Int) → (P 0 0 h)) ∧ ((h a0 1) = (0 : Int) → (P 0 1 h)))) :
    WP G mJ5_isLatin1 0 [(1, a0)] [] h d P := by
  refine r_gets (j := 0) (g := 0) (v := 1) rfl rfl rfl rfl ?_
  refine r_ifeq (j := 1) rfl rfl rfl (fun q => absurd q (by decide)) (fun q => ?_)
  refine r_run 2 1 (pc' := 7) (ls' := [(1, a0)]) (st' := [(1, a0)]) rfl ?_
  obtain ⟨t1, H⟩ := H
  refine r_getf (j := 3) (c := 12) (f := 1) rfl rfl rfl rfl rfl rfl rfl (t1) ?_
  refine r_ifne (j := 4) rfl rfl rfl (fun q => ?_) (fun q => ?_)
  · replace H := H.1 q
    refine r_run 7 1 (pc' := 18) (ls' := [(1, a0)]) (st' := [(0, 0)]) rfl ?_
    exact r_iret (j := 8) rfl rfl rfl (Or.inl rfl) H
  · replace H := H.2 q
    refine r_run 5 1 (pc' := 14) (ls' := [(1, a0)]) (st' := [(0, 1)]) rfl ?_
    refine r_goto (j := 6) (tgt := 18) rfl rfl ?_
    exact r_iret (j := 8) rfl rfl rfl (Or.inr rfl) H

set_option maxRecDepth 100000 in
set_option maxHeartbeats 4000000 in
theorem wJ5_length {G : GM} {d : Nat} {P : Nat → Int → SM → Prop} {h : SM} {a0 : Int} (hd : 1 ≤ d) 
    (H : (h a0 (-1) = 13) ∧ ((h (h a0 0) (-1) = 102) ∧ (WP G mJ5_coder 0 [(1, a0)] [] h (d - 1) (fun k v3 h4 => k = 0 ∧ (P 0 (bShr (h (h a0 0) (-2)) v3) h4))))) :
    WP G mJ5_length 0 [(1, a0)] [] h d P := by
  refine r_run 0 1 (pc' := 1) (ls' := [(1, a0)]) (st' := [(1, a0)]) rfl ?_
  obtain ⟨t1, H⟩ := H
  refine r_getf (j := 1) (c := 12) (f := 0) rfl rfl rfl rfl rfl rfl rfl (t1) ?_
  obtain ⟨t2, H⟩ := H
  refine r_alen (j := 2) (t := 2) rfl rfl rfl rfl (t2) ?_
  refine r_run 3 1 (pc' := 6) (ls' := [(1, a0)]) (st' := [(1, a0), (0, (h (h a0 0) (-2)))]) rfl ?_
  refine r_callV (j := 4) (M' := mJ5_coder) (as := []) (st := [(0, (h (h a0 0) (-2)))]) rfl rfl rfl rfl rfl (Nat.le_of_ble_eq_true rfl) (Nat.le_of_ble_eq_true rfl) (by omega) (t1) (kk0 (st' := fun v => [(0, v), (0, (h (h a0 0) (-2)))]) rfl (fun _ => rfl)) (H.mono (fun k v3 h4 H => ⟨H.1, ?_⟩))
  replace H := H.2
  refine r_run 5 1 (pc' := 10) (ls' := [(1, a0)]) (st' := [(0, (bShr (h (h a0 0) (-2)) v3))]) rfl ?_
  exact r_iret (j := 6) rfl rfl rfl trivial H

set_option maxRecDepth 100000 in
set_option maxHeartbeats 4000000 in
theorem wJ8_newLength {G : GM} {d : Nat} {P : Nat → Int → SM → Prop} {h : SM} {a0 a1 a2 : Int} (hd : 1 ≤ d) 
    (H : ((wr (a0 + (if a1 < a2 then a2 else a1))) ≤ (0 : Int) → (False)) ∧ ((0 : Int) < (wr (a0 + (if a1 < a2 then a2 else a1))) → (((2147483639 : Int) < (wr (a0 + (if a1 < a2 then a2 else a1))) → (False)) ∧ ((wr (a0 + (if a1 < a2 then a2 else a1))) ≤ (2147483639 : Int) → (P 0 (wr (a0 + (if a1 < a2 then a2 else a1))) h))))) :
    WP G mJ8_newLength 0 [(0, a0), (0, a1), (0, a2), (9, 0)] [] h d P := by
  refine r_run 0 3 (pc' := 3) (ls' := [(0, a0), (0, a1), (0, a2), (9, 0)]) (st' := [(0, a2), (0, a1), (0, a0)]) rfl ?_
  refine r_max (j := 3) rfl rfl rfl rfl (by omega) (by simp) ?_
  refine r_run 4 4 (pc' := 10) (ls' := [(0, a0), (0, a1), (0, a2), (0, (wr (a0 + (if a1 < a2 then a2 else a1))))]) (st' := [(0, (wr (a0 + (if a1 < a2 then a2 else a1)))), (0, 0)]) rfl ?_
  refine r_icmpge (j := 8) rfl rfl rfl (fun q => ?_) (fun q => ?_)
  · replace H := H.1 q
    refine r_run 14 2 (pc' := 23) (ls' := [(0, a0), (0, a1), (0, a2), (0, (wr (a0 + (if a1 < a2 then a2 else a1))))]) (st' := [(0, a1), (0, a0)]) rfl ?_
    exact H.elim
  · replace H := H.2 q
    refine r_run 9 1 (pc' := 14) (ls' := [(0, a0), (0, a1), (0, a2), (0, (wr (a0 + (if a1 < a2 then a2 else a1))))]) (st' := [(0, (wr (a0 + (if a1 < a2 then a2 else a1))))]) rfl ?_
    refine r_ldc (j := 10) (g := 0) (v := 2147483639) rfl rfl rfl (by decide) rfl ?_
    refine r_icmpgt (j := 11) rfl rfl rfl (fun q => ?_) (fun q => ?_)
    · replace H := H.1 q
      refine r_run 14 2 (pc' := 23) (ls' := [(0, a0), (0, a1), (0, a2), (0, (wr (a0 + (if a1 < a2 then a2 else a1))))]) (st' := [(0, a1), (0, a0)]) rfl ?_
      exact H.elim
    · replace H := H.2 q
      refine r_run 12 1 (pc' := 20) (ls' := [(0, a0), (0, a1), (0, a2), (0, (wr (a0 + (if a1 < a2 then a2 else a1))))]) (st' := [(0, (wr (a0 + (if a1 < a2 then a2 else a1))))]) rfl ?_
      exact r_iret (j := 13) rfl rfl rfl trivial H
