/-! walks (made by gen_w.py) -/
set_option maxRecDepth 100000 in
set_option maxHeartbeats 4000000 in
theorem wX8_find {G : GM} {d : Nat} {P : Nat → Int → SM → Prop} {m : SM} {a0 a1 : Int} (K : KI m) (hd : 12 ≤ d) 
    (H : WV G mX8_find 2 [(9, 0), (0, a1), (1, a0)] [] m d P) :
    WV G mX8_find 0 [(1, a0), (0, a1), (9, 0)] [] m d P := by
  refine v_run 0 2 (pc' := 2) (ls' := [(1, a0), (0, a1), (1, a0)]) (st' := []) rfl ?_
  refine v_drp [false, true, true] ?_
  exact H

set_option maxRecDepth 100000 in
set_option maxHeartbeats 4000000 in
theorem wX8_find_2 {G : GM} {d : Nat} {P : Nat → Int → SM → Prop} {m : SM} {a1 a2 : Int} (K : KI m) (hd : 12 ≤ d) 
    (H : (a2 = 0 → (P 0 a2 m)) ∧ (a2 ≠ 0 → ((m a2 (-1) = 19) ∧ (((m a2 0) = a1 → (P 0 a2 m)) ∧ ((m a2 0) ≠ a1 → (WV G mX8_find 2 [(9, 0), (0, a1), (1, (m a2 3))] [] m d P)))))) :
    WV G mX8_find 2 [(9, 0), (0, a1), (1, a2)] [] m d P := by
  refine v_run 2 1 (pc' := 3) (ls' := [(9, 0), (0, a1), (1, a2)]) (st' := [(1, a2)]) rfl ?_
  refine v_null (j := 3) rfl rfl rfl (fun q => ?_) (fun q => ?_)
  · replace H := H.1 q
    refine v_run 12 1 (pc' := 23) (ls' := [(9, 0), (0, a1), (1, a2)]) (st' := [(1, a2)]) rfl ?_
    exact v_aret (j := 13) rfl rfl rfl H
  · replace H := H.2 q
    refine v_run 4 1 (pc' := 7) (ls' := [(9, 0), (0, a1), (1, a2)]) (st' := [(1, a2)]) rfl ?_
    obtain ⟨t1, H⟩ := H
    refine v_callV (j := 5) (M' := mX16_name) (as := []) (st := []) rfl rfl rfl rfl rfl (Nat.le_of_ble_eq_true rfl) (Nat.le_of_ble_eq_true rfl) (by omega) (by decide) (t1) (kv0 (st' := fun v => [(0, v)]) rfl (fun _ => rfl)) (ipX16_name (t1) ⟨rfl, ?_⟩)
    refine v_run 6 1 (pc' := 11) (ls' := [(9, 0), (0, a1), (1, a2)]) (st' := [(0, a1), (0, (m a2 0))]) rfl ?_
    refine v_icmpeq (j := 7) rfl rfl rfl (fun q => ?_) (fun q => ?_)
    · replace H := H.1 q
      refine v_run 12 1 (pc' := 23) (ls' := [(9, 0), (0, a1), (1, a2)]) (st' := [(1, a2)]) rfl ?_
      exact v_aret (j := 13) rfl rfl rfl H
    · replace H := H.2 q
      refine v_run 8 1 (pc' := 15) (ls' := [(9, 0), (0, a1), (1, a2)]) (st' := [(1, a2)]) rfl ?_
      refine v_callV (j := 9) (M' := mX16_outer) (as := []) (st := []) rfl rfl rfl rfl rfl (Nat.le_of_ble_eq_true rfl) (Nat.le_of_ble_eq_true rfl) (by omega) (by decide) (t1) (kv0 (st' := fun v => [(1, v)]) rfl (fun _ => rfl)) (ipX16_outer (t1) ⟨rfl, ?_⟩)
      refine v_run 10 1 (pc' := 19) (ls' := [(9, 0), (0, a1), (1, (m a2 3))]) (st' := []) rfl ?_
      refine v_goto (j := 11) (tgt := 2) rfl rfl ?_
      exact H

set_option maxRecDepth 100000 in
set_option maxHeartbeats 4000000 in
theorem wX8_fits {G : GM} {d : Nat} {P : Nat → Int → SM → Prop} {m : SM} {a1 a2 : Int} (K : KI m) (hd : 12 ≤ d) 
    (H : (m a1 (-1) = 11) ∧ (((m a1 0) = (-15) → (P 0 0 m)) ∧ (¬ ((m a1 0) = (-15)) → (WV G mX7_unite 0 [(1, 27), (1, 30), (1, a1), (1, a2), (9, 0), (9, 0), (9, 0), (9, 0), (9, 0), (9, 0)] [] m (d - 1) (fun k v2 m3 => k = 0 ∧ Ok m m3 ∧ ((v2 = (0 : Int) → (P 0 0 m3)) ∧ (v2 ≠ (0 : Int) → (P 0 1 m3)))))))) :
    WV G mX8_fits 0 [(1, 26), (1, a1), (1, a2)] [] m d P := by
  refine v_run 0 1 (pc' := 1) (ls' := [(1, 26), (1, a1), (1, a2)]) (st' := [(1, a1)]) rfl ?_
  refine v_gets (j := 1) (g := 1) (v := (-15)) rfl rfl rfl rfl ?_
  obtain ⟨t1, H⟩ := H
  refine v_callV (j := 2) (M' := mX9_is) (as := [(1, (-15))]) (st := []) rfl rfl rfl rfl rfl (Nat.le_of_ble_eq_true rfl) (Nat.le_of_ble_eq_true rfl) (by omega) (by decide) (t1) (kv0 (st' := fun v => [(0, v)]) rfl (fun _ => rfl)) (ipX9_is (t1) ⟨rfl, ?_⟩)
  refine v_ifne (j := 3) rfl rfl rfl (fun q => ?_) (fun q => ?_)
  · replace H := H.1 (ite1 q)
    refine v_run 14 1 (pc' := 31) (ls' := [(1, 26), (1, a1), (1, a2)]) (st' := [(0, 0)]) rfl ?_
    exact v_iret (j := 15) rfl rfl rfl (Or.inl rfl) H
  · replace H := H.2 (ite0 q)
    refine v_run 4 1 (pc' := 11) (ls' := [(1, 26), (1, a1), (1, a2)]) (st' := [(1, 26)]) rfl ?_
    refine v_getK (j := 5) (c := 9) (f := 2) rfl rfl rfl rfl rfl rfl rfl rfl (K26_t K) (K26_2 K) ?_
    refine v_run 6 1 (pc' := 15) (ls' := [(1, 26), (1, a1), (1, a2)]) (st' := [(1, 26), (1, 27)]) rfl ?_
    refine v_getK (j := 7) (c := 9) (f := 3) rfl rfl rfl rfl rfl rfl rfl rfl (K26_t K) (K26_3 K) ?_
    refine v_run 8 2 (pc' := 20) (ls' := [(1, 26), (1, a1), (1, a2)]) (st' := [(1, a2), (1, a1), (1, 30), (1, 27)]) rfl ?_
    refine v_callV (j := 10) (M' := mX7_unite) (as := [(1, 30), (1, a1), (1, a2)]) (st := []) rfl rfl rfl rfl rfl (Nat.le_of_ble_eq_true rfl) (Nat.le_of_ble_eq_true rfl) (by omega) (by decide) (K27_t K) (kv0 (st' := fun v => [(0, v)]) rfl (fun _ => rfl)) (H.mono (fun k v2 m3 H => ⟨H.1, ?_⟩))
    have K4 := H.2.1.2.1 K
    have t5 := Ok.tag H.2.1 (t1) (by decide)
    replace H := H.2.2
    refine v_ifeq (j := 11) rfl rfl rfl (fun q => ?_) (fun q => ?_)
    · replace H := H.1 q
      refine v_run 14 1 (pc' := 31) (ls' := [(1, 26), (1, a1), (1, a2)]) (st' := [(0, 0)]) rfl ?_
      exact v_iret (j := 15) rfl rfl rfl (Or.inl rfl) H
    · replace H := H.2 q
      refine v_run 12 1 (pc' := 27) (ls' := [(1, 26), (1, a1), (1, a2)]) (st' := [(0, 1)]) rfl ?_
      refine v_goto (j := 13) (tgt := 31) rfl rfl ?_
      exact v_iret (j := 15) rfl rfl rfl (Or.inr rfl) H

set_option maxRecDepth 100000 in
set_option maxHeartbeats 4000000 in
theorem wX8_meet {G : GM} {d : Nat} {P : Nat → Int → SM → Prop} {m : SM} {a1 a2 a3 : Int} (K : KI m) (hd : 12 ≤ d) 
    (H : (m a1 (-1) = 20) ∧ (WV G mX2_programOf 0 [(1, 2), (0, (m a1 2)), (9, 0)] [] m (d - 1) (fun k v2 m3 => k = 0 ∧ Ok m m3 ∧ ((m3 (m3 a1 4) (-1) = 4) ∧ (WV G mX8_meet 30 [(1, 26), (1, a1), (0, a2), (1, a3), (1, v2), (1, 0), (0, (wr ((m3 (m3 a1 4) (-2)) - 1))), (0, 0), (9, 0)] [] m3 d P))))) :
    WV G mX8_meet 0 [(1, 26), (1, a1), (0, a2), (1, a3), (9, 0), (9, 0), (9, 0), (9, 0), (9, 0)] [] m d P := by
  refine v_run 0 1 (pc' := 1) (ls' := [(1, 26), (1, a1), (0, a2), (1, a3), (9, 0), (9, 0), (9, 0), (9, 0), (9, 0)]) (st' := [(1, 26)]) rfl ?_
  refine v_getK (j := 1) (c := 9) (f := 0) rfl rfl rfl rfl rfl rfl rfl rfl (K26_t K) (K26_0 K) ?_
  refine v_run 2 1 (pc' := 5) (ls' := [(1, 26), (1, a1), (0, a2), (1, a3), (9, 0), (9, 0), (9, 0), (9, 0), (9, 0)]) (st' := [(1, a1), (1, 2)]) rfl ?_
  obtain ⟨t1, H⟩ := H
  refine v_callV (j := 3) (M' := mX12_letter) (as := []) (st := [(1, 2)]) rfl rfl rfl rfl rfl (Nat.le_of_ble_eq_true rfl) (Nat.le_of_ble_eq_true rfl) (by omega) (by decide) (t1) (kv0 (st' := fun v => [(0, v), (1, 2)]) rfl (fun _ => rfl)) (ipX12_letter (t1) ⟨rfl, ?_⟩)
  refine v_callV (j := 4) (M' := mX2_programOf) (as := [(0, (m a1 2))]) (st := []) rfl rfl rfl rfl rfl (Nat.le_of_ble_eq_true rfl) (Nat.le_of_ble_eq_true rfl) (by omega) (by decide) (K2_t K) (kv0 (st' := fun v => [(1, v)]) rfl (fun _ => rfl)) (H.mono (fun k v2 m3 H => ⟨H.1, ?_⟩))
  have K4 := H.2.1.2.1 K
  have t5 := Ok.tag H.2.1 (t1) (by decide)
  replace H := H.2.2
  refine v_run 5 4 (pc' := 17) (ls' := [(1, 26), (1, a1), (0, a2), (1, a3), (1, v2), (1, 0), (9, 0), (9, 0), (9, 0)]) (st' := [(1, a1)]) rfl ?_
  refine v_callV (j := 9) (M' := mX12_terms) (as := []) (st := []) rfl rfl rfl rfl rfl (Nat.le_of_ble_eq_true rfl) (Nat.le_of_ble_eq_true rfl) (by omega) (by decide) (t5) (kv0 (st' := fun v => [(1, v)]) rfl (fun _ => rfl)) (ipX12_terms (t5) ⟨rfl, ?_⟩)
  obtain ⟨t6, H⟩ := H
  refine vj_size (j := 10) rfl rfl rfl rfl (t6) (by omega) (by simp) ?_
  refine v_run 11 5 (pc' := 30) (ls' := [(1, 26), (1, a1), (0, a2), (1, a3), (1, v2), (1, 0), (0, (wr ((m3 (m3 a1 4) (-2)) - 1))), (0, 0), (9, 0)]) (st' := []) rfl ?_
  exact H

set_option maxRecDepth 100000 in
set_option maxHeartbeats 4000000 in
theorem wX8_meet_30 {G : GM} {d : Nat} {P : Nat → Int → SM → Prop} {m : SM} {a1 a2 a3 a4 a5 a6 a7 : Int} (K : KI m) (hd : 12 ≤ d) 
    (H : (a6 ≤ a7 → (WV G mX8_meet 89 [(1, 26), (1, a1), (0, a2), (1, a3), (1, a4), (1, a5), (0, a6), (9, 0), (9, 0)] [] m d P)) ∧ (a7 < a6 → ((a4 = 0 → (WV G mX8_meet 89 [(1, 26), (1, a1), (0, a2), (1, a3), (1, a4), (1, a5), (0, a6), (9, 0), (9, 0)] [] m d P)) ∧ (a4 ≠ 0 → ((m a4 (-1) = 22) ∧ ((m (m a4 0) (-1) = 13) ∧ (0 ≤ a7) ∧ (a7 < m (m a4 0) (-2)) ∧ ((m a1 (-1) = 20) ∧ ((m (m a1 4) (-1) = 4) ∧ (0 ≤ a7) ∧ (a7 < m (m a1 4) (-2)) ∧ (((m (m a1 4) a7) = 0 ∨ m (m (m a1 4) a7) (-1) = 14) ∧ (WV G mX8_value 0 [(1, 26), (1, (m (m a1 4) a7)), (1, a3), (9, 0), (9, 0), (9, 0)] [] m (d - 1) (fun k v10 m11 => k = 0 ∧ Ok m m11 ∧ (WV G mX3_bind 0 [(1, 3), (0, (m (m a4 0) a7)), (1, v10), (1, a5), (9, 0)] [] m11 (d - 1) (fun k v15 m16 => k = 0 ∧ Ok m11 m16 ∧ (WV G mX8_meet 30 [(1, 26), (1, a1), (0, a2), (1, a3), (1, a4), (1, v15), (0, a6), (0, (wr (a7 + 1))), (9, 0)] [] m16 d P)))))))))))))) :
    WV G mX8_meet 30 [(1, 26), (1, a1), (0, a2), (1, a3), (1, a4), (1, a5), (0, a6), (0, a7), (9, 0)] [] m d P := by
  refine v_run 16 2 (pc' := 34) (ls' := [(1, 26), (1, a1), (0, a2), (1, a3), (1, a4), (1, a5), (0, a6), (0, a7), (9, 0)]) (st' := [(0, a6), (0, a7)]) rfl ?_
  refine v_icmpge (j := 18) rfl rfl rfl (fun q => ?_) (fun q => ?_)
  · replace H := H.1 q
    refine v_drp [true, true, true, true, true, true, true, false, false] ?_
    exact H
  · replace H := H.2 q
    refine v_run 19 1 (pc' := 39) (ls' := [(1, 26), (1, a1), (0, a2), (1, a3), (1, a4), (1, a5), (0, a6), (0, a7), (9, 0)]) (st' := [(1, a4)]) rfl ?_
    refine v_null (j := 20) rfl rfl rfl (fun q => ?_) (fun q => ?_)
    · replace H := H.1 q
      refine v_drp [true, true, true, true, true, true, true, false, false] ?_
      exact H
    · replace H := H.2 q
      refine v_run 21 1 (pc' := 43) (ls' := [(1, 26), (1, a1), (0, a2), (1, a3), (1, a4), (1, a5), (0, a6), (0, a7), (9, 0)]) (st' := [(1, 26)]) rfl ?_
      refine v_getK (j := 22) (c := 9) (f := 0) rfl rfl rfl rfl rfl rfl rfl rfl (K26_t K) (K26_0 K) ?_
      refine v_getK (j := 23) (c := 1) (f := 0) rfl rfl rfl rfl rfl rfl rfl rfl (K2_t K) (K2_0 K) ?_
      refine v_run 24 1 (pc' := 51) (ls' := [(1, 26), (1, a1), (0, a2), (1, a3), (1, a4), (1, a5), (0, a6), (0, a7), (9, 0)]) (st' := [(1, a4), (1, 3)]) rfl ?_
      obtain ⟨t1, H⟩ := H
      refine v_getf (j := 25) (c := 21) (f := 0) rfl rfl rfl rfl rfl rfl rfl rfl (t1) ?_
      refine v_run 26 1 (pc' := 56) (ls' := [(1, 26), (1, a1), (0, a2), (1, a3), (1, a4), (1, a5), (0, a6), (0, a7), (9, 0)]) (st' := [(0, a7), (1, (m a4 0)), (1, 3)]) rfl ?_
      obtain ⟨t2, i3, i4, H⟩ := H
      refine vj_stat (j := 27) rfl rfl rfl rfl (t2) (by omega) (by simp) i3 i4 ?_
      refine v_run 28 2 (pc' := 61) (ls' := [(1, 26), (1, a1), (0, a2), (1, a3), (1, a4), (1, a5), (0, a6), (0, a7), (9, 0)]) (st' := [(1, a1), (1, 26), (0, (m (m a4 0) a7)), (1, 3)]) rfl ?_
      obtain ⟨t5, H⟩ := H
      refine v_callV (j := 30) (M' := mX12_terms) (as := []) (st := [(1, 26), (0, (m (m a4 0) a7)), (1, 3)]) rfl rfl rfl rfl rfl (Nat.le_of_ble_eq_true rfl) (Nat.le_of_ble_eq_true rfl) (by omega) (by decide) (t5) (kv0 (st' := fun v => [(1, v), (1, 26), (0, (m (m a4 0) a7)), (1, 3)]) rfl (fun _ => rfl)) (ipX12_terms (t5) ⟨rfl, ?_⟩)
      refine v_run 31 1 (pc' := 66) (ls' := [(1, 26), (1, a1), (0, a2), (1, a3), (1, a4), (1, a5), (0, a6), (0, a7), (9, 0)]) (st' := [(0, a7), (1, (m a1 4)), (1, 26), (0, (m (m a4 0) a7)), (1, 3)]) rfl ?_
      obtain ⟨t6, i7, i8, H⟩ := H
      refine vj_get (j := 32) rfl rfl rfl rfl (t6) (by omega) (by simp) i7 i8 ?_
      obtain ⟨c9, H⟩ := H
      refine v_cast (j := 33) (c := 13) rfl rfl rfl rfl rfl (c9) ?_
      refine v_run 34 1 (pc' := 73) (ls' := [(1, 26), (1, a1), (0, a2), (1, a3), (1, a4), (1, a5), (0, a6), (0, a7), (9, 0)]) (st' := [(1, a3), (1, (m (m a1 4) a7)), (1, 26), (0, (m (m a4 0) a7)), (1, 3)]) rfl ?_
      refine v_callS (j := 35) (M' := mX8_value) (as := [(1, 26), (1, (m (m a1 4) a7)), (1, a3)]) (st := [(0, (m (m a4 0) a7)), (1, 3)]) rfl rfl rfl rfl rfl (Nat.le_of_ble_eq_true rfl) (Nat.le_of_ble_eq_true rfl) (by omega) (kv0 (st' := fun v => [(1, v), (0, (m (m a4 0) a7)), (1, 3)]) rfl (fun _ => rfl)) (H.mono (fun k v10 m11 H => ⟨H.1, ?_⟩))
      have K12 := H.2.1.2.1 K
      have t13 := Ok.tag H.2.1 (t1) (by decide)
      have t14 := Ok.tag H.2.1 (t5) (by decide)
      replace H := H.2.2
      refine v_run 36 1 (pc' := 78) (ls' := [(1, 26), (1, a1), (0, a2), (1, a3), (1, a4), (1, a5), (0, a6), (0, a7), (9, 0)]) (st' := [(1, a5), (1, v10), (0, (m (m a4 0) a7)), (1, 3)]) rfl ?_
      refine v_callV (j := 37) (M' := mX3_bind) (as := [(0, (m (m a4 0) a7)), (1, v10), (1, a5)]) (st := []) rfl rfl rfl rfl rfl (Nat.le_of_ble_eq_true rfl) (Nat.le_of_ble_eq_true rfl) (by omega) (by decide) (K3_t K12) (kv0 (st' := fun v => [(1, v)]) rfl (fun _ => rfl)) (H.mono (fun k v15 m16 H => ⟨H.1, ?_⟩))
      have K17 := H.2.1.2.1 K12
      have t18 := Ok.tag H.2.1 (t13) (by decide)
      have t19 := Ok.tag H.2.1 (t14) (by decide)
      replace H := H.2.2
      refine v_run 38 2 (pc' := 86) (ls' := [(1, 26), (1, a1), (0, a2), (1, a3), (1, a4), (1, v15), (0, a6), (0, (wr (a7 + 1))), (9, 0)]) (st' := []) rfl ?_
      refine v_goto (j := 40) (tgt := 30) rfl rfl ?_
      exact H

set_option maxRecDepth 100000 in
set_option maxHeartbeats 4000000 in
theorem wX8_meet_89 {G : GM} {d : Nat} {P : Nat → Int → SM → Prop} {m : SM} {a1 a2 a3 a4 a5 a6 : Int} (K : KI m) (hd : 12 ≤ d) 
    (H : WV G mX6_start 0 [(1, 22), (1, a4), (1, a5)] [] m (d - 1) (fun k v1 m2 => Ok m m2 ∧ (k = 0 → (WV G mX8_meet 116 [(1, 26), (1, a1), (0, a2), (1, a3), (9, 0), (9, 0), (0, a6), (1, v1), (9, 0)] [] m2 d P)) ∧ (k ≠ 0 → m2 v1 (-1) = 18 ∧ (WV G mX8_need 0 [(1, 26), (0, 0), (0, a2)] [] m2 (d - 1) (fun k v5 m6 => Ok m2 m6 ∧ (k = 0 → (WV G mX8_meet 116 [(1, 26), (1, a1), (0, a2), (1, a3), (9, 0), (9, 0), (0, a6), (1, 0), (9, 0)] [] m6 d P)) ∧ (k ≠ 0 → P 1 v5 m6)))))) :
    WV G mX8_meet 89 [(1, 26), (1, a1), (0, a2), (1, a3), (1, a4), (1, a5), (0, a6), (9, 0), (9, 0)] [] m d P := by
  refine v_run 41 3 (pc' := 93) (ls' := [(1, 26), (1, a1), (0, a2), (1, a3), (1, a4), (1, a5), (0, a6), (1, 0), (9, 0)]) (st' := [(1, 26)]) rfl ?_
  refine v_getK (j := 44) (c := 9) (f := 1) rfl rfl rfl rfl rfl rfl rfl rfl (K26_t K) (K26_1 K) ?_
  refine v_run 45 2 (pc' := 100) (ls' := [(1, 26), (1, a1), (0, a2), (1, a3), (1, a4), (1, a5), (0, a6), (1, 0), (9, 0)]) (st' := [(1, a5), (1, a4), (1, 22)]) rfl ?_
  refine v_callV (j := 47) (M' := mX6_start) (as := [(1, a4), (1, a5)]) (st := []) rfl rfl rfl rfl rfl (Nat.le_of_ble_eq_true rfl) (Nat.le_of_ble_eq_true rfl) (by omega) (by decide) (K22_t K) (kvh (st' := fun v => [(1, v)]) (c := 17) rfl (fun _ => rfl) rfl rfl rfl) (H.mono (fun k v1 m2 H => ⟨fun z => ?_, fun z => ⟨(H.2.2 z).1, ?_⟩⟩))
  · have O := H.1
    replace H := H.2.1 z
    have K3 := O.2.1 K
    refine v_run 48 1 (pc' := 105) (ls' := [(1, 26), (1, a1), (0, a2), (1, a3), (1, a4), (1, a5), (0, a6), (1, v1), (9, 0)]) (st' := []) rfl ?_
    refine v_goto (j := 49) (tgt := 116) rfl rfl ?_
    refine v_drp [true, true, true, true, false, false, true, true, false] ?_
    exact H
  · have O := H.1
    replace H := (H.2.2 z).2
    have K4 := O.2.1 K
    refine v_run 50 4 (pc' := 113) (ls' := [(1, 26), (1, a1), (0, a2), (1, a3), (1, a4), (1, a5), (0, a6), (1, 0), (1, v1)]) (st' := [(0, a2), (0, 0), (1, 26)]) rfl ?_
    refine v_callV (j := 54) (M' := mX8_need) (as := [(0, 0), (0, a2)]) (st := []) rfl rfl rfl rfl rfl (Nat.le_of_ble_eq_true rfl) (Nat.le_of_ble_eq_true rfl) (by omega) (by decide) (K26_t K4) (kvt (st' := fun v => []) rfl (fun _ => rfl) rfl) (H.mono (fun k v5 m6 H => ⟨fun z => ?_, H.2.2⟩))
    have O := H.1
    replace H := H.2.1 z
    have K7 := O.2.1 K4
    refine v_drp [true, true, true, true, false, false, true, true, false] ?_
    exact H

set_option maxRecDepth 100000 in
set_option maxHeartbeats 4000000 in
theorem wX8_meet_116 {G : GM} {d : Nat} {P : Nat → Int → SM → Prop} {m : SM} {a1 a2 a3 a6 a7 : Int} (K : KI m) (hd : 12 ≤ d) 
    (H : (a7 = 0 → (WV G mX8_need 0 [(1, 26), (0, 0), (0, a2)] [] m (d - 1) (fun k v1 m2 => Ok m m2 ∧ (k = 0 → (P 0 0 m2)) ∧ (k ≠ 0 → P 1 v1 m2)))) ∧ (a7 ≠ 0 → ((m a1 (-1) = 20) ∧ ((m (m a1 4) (-1) = 4) ∧ (0 ≤ a6) ∧ (a6 < m (m a1 4) (-2)) ∧ (((m (m a1 4) a6) = 0 ∨ m (m (m a1 4) a6) (-1) = 14) ∧ (WV G mX8_value 0 [(1, 26), (1, (m (m a1 4) a6)), (1, a3), (9, 0), (9, 0), (9, 0)] [] m (d - 1) (fun k v9 m10 => k = 0 ∧ Ok m m10 ∧ (WV G mX7_unite 0 [(1, 27), (1, 30), (1, a7), (1, v9), (9, 0), (9, 0), (9, 0), (9, 0), (9, 0), (9, 0)] [] m10 (d - 1) (fun k v13 m14 => k = 0 ∧ Ok m10 m14 ∧ (WV G mX8_need 0 [(1, 26), (0, (if v13 = (0 : Int) then 0 else 1)), (0, a2)] [] m14 (d - 1) (fun k v17 m18 => Ok m14 m18 ∧ (k = 0 → (P 0 0 m18)) ∧ (k ≠ 0 → P 1 v17 m18)))))))))))) :
    WV G mX8_meet 116 [(1, 26), (1, a1), (0, a2), (1, a3), (9, 0), (9, 0), (0, a6), (1, a7), (9, 0)] [] m d P := by
  refine v_run 55 2 (pc' := 119) (ls' := [(1, 26), (1, a1), (0, a2), (1, a3), (9, 0), (9, 0), (0, a6), (1, a7), (9, 0)]) (st' := [(1, a7), (1, 26)]) rfl ?_
  refine v_null (j := 57) rfl rfl rfl (fun q => ?_) (fun q => ?_)
  · replace H := H.1 q
    refine v_run 75 2 (pc' := 161) (ls' := [(1, 26), (1, a1), (0, a2), (1, a3), (9, 0), (9, 0), (0, a6), (1, a7), (9, 0)]) (st' := [(0, a2), (0, 0), (1, 26)]) rfl ?_
    refine v_callV (j := 77) (M' := mX8_need) (as := [(0, 0), (0, a2)]) (st := []) rfl rfl rfl rfl rfl (Nat.le_of_ble_eq_true rfl) (Nat.le_of_ble_eq_true rfl) (by omega) (by decide) (K26_t K) (kvt (st' := fun v => []) rfl (fun _ => rfl) rfl) (H.mono (fun k v1 m2 H => ⟨fun z => ?_, H.2.2⟩))
    have O := H.1
    replace H := H.2.1 z
    have K3 := O.2.1 K
    exact v_vret (j := 78) rfl rfl H
  · replace H := H.2 q
    refine v_run 58 1 (pc' := 123) (ls' := [(1, 26), (1, a1), (0, a2), (1, a3), (9, 0), (9, 0), (0, a6), (1, a7), (9, 0)]) (st' := [(1, 26), (1, 26)]) rfl ?_
    refine v_getK (j := 59) (c := 9) (f := 2) rfl rfl rfl rfl rfl rfl rfl rfl (K26_t K) (K26_2 K) ?_
    refine v_run 60 1 (pc' := 127) (ls' := [(1, 26), (1, a1), (0, a2), (1, a3), (9, 0), (9, 0), (0, a6), (1, a7), (9, 0)]) (st' := [(1, 26), (1, 27), (1, 26)]) rfl ?_
    refine v_getK (j := 61) (c := 9) (f := 3) rfl rfl rfl rfl rfl rfl rfl rfl (K26_t K) (K26_3 K) ?_
    refine v_run 62 3 (pc' := 134) (ls' := [(1, 26), (1, a1), (0, a2), (1, a3), (9, 0), (9, 0), (0, a6), (1, a7), (9, 0)]) (st' := [(1, a1), (1, 26), (1, a7), (1, 30), (1, 27), (1, 26)]) rfl ?_
    obtain ⟨t4, H⟩ := H
    refine v_callV (j := 65) (M' := mX12_terms) (as := []) (st := [(1, 26), (1, a7), (1, 30), (1, 27), (1, 26)]) rfl rfl rfl rfl rfl (Nat.le_of_ble_eq_true rfl) (Nat.le_of_ble_eq_true rfl) (by omega) (by decide) (t4) (kv0 (st' := fun v => [(1, v), (1, 26), (1, a7), (1, 30), (1, 27), (1, 26)]) rfl (fun _ => rfl)) (ipX12_terms (t4) ⟨rfl, ?_⟩)
    refine v_run 66 1 (pc' := 139) (ls' := [(1, 26), (1, a1), (0, a2), (1, a3), (9, 0), (9, 0), (0, a6), (1, a7), (9, 0)]) (st' := [(0, a6), (1, (m a1 4)), (1, 26), (1, a7), (1, 30), (1, 27), (1, 26)]) rfl ?_
    obtain ⟨t5, i6, i7, H⟩ := H
    refine vj_get (j := 67) rfl rfl rfl rfl (t5) (by omega) (by simp) i6 i7 ?_
    obtain ⟨c8, H⟩ := H
    refine v_cast (j := 68) (c := 13) rfl rfl rfl rfl rfl (c8) ?_
    refine v_run 69 1 (pc' := 146) (ls' := [(1, 26), (1, a1), (0, a2), (1, a3), (9, 0), (9, 0), (0, a6), (1, a7), (9, 0)]) (st' := [(1, a3), (1, (m (m a1 4) a6)), (1, 26), (1, a7), (1, 30), (1, 27), (1, 26)]) rfl ?_
    refine v_callS (j := 70) (M' := mX8_value) (as := [(1, 26), (1, (m (m a1 4) a6)), (1, a3)]) (st := [(1, a7), (1, 30), (1, 27), (1, 26)]) rfl rfl rfl rfl rfl (Nat.le_of_ble_eq_true rfl) (Nat.le_of_ble_eq_true rfl) (by omega) (kv0 (st' := fun v => [(1, v), (1, a7), (1, 30), (1, 27), (1, 26)]) rfl (fun _ => rfl)) (H.mono (fun k v9 m10 H => ⟨H.1, ?_⟩))
    have K11 := H.2.1.2.1 K
    have t12 := Ok.tag H.2.1 (t4) (by decide)
    replace H := H.2.2
    refine v_callV (j := 71) (M' := mX7_unite) (as := [(1, 30), (1, a7), (1, v9)]) (st := [(1, 26)]) rfl rfl rfl rfl rfl (Nat.le_of_ble_eq_true rfl) (Nat.le_of_ble_eq_true rfl) (by omega) (by decide) (K27_t K11) (kv0 (st' := fun v => [(0, v), (1, 26)]) rfl (fun _ => rfl)) (H.mono (fun k v13 m14 H => ⟨H.1, ?_⟩))
    have K15 := H.2.1.2.1 K11
    have t16 := Ok.tag H.2.1 (t12) (by decide)
    replace H := H.2.2
    have J21 : WV G mX8_meet 160 [(1, 26), (1, a1), (0, a2), (1, a3), (9, 0), (9, 0), (0, a6), (1, a7), (9, 0)] [(0, (if v13 = (0 : Int) then 0 else 1)), (1, 26)] m14 d P := by
      refine v_run 76 1 (pc' := 161) (ls' := [(1, 26), (1, a1), (0, a2), (1, a3), (9, 0), (9, 0), (0, a6), (1, a7), (9, 0)]) (st' := [(0, a2), (0, (if v13 = (0 : Int) then 0 else 1)), (1, 26)]) rfl ?_
      refine v_callV (j := 77) (M' := mX8_need) (as := [(0, (if v13 = (0 : Int) then 0 else 1)), (0, a2)]) (st := []) rfl rfl rfl rfl rfl (Nat.le_of_ble_eq_true rfl) (Nat.le_of_ble_eq_true rfl) (by omega) (by decide) (K26_t K15) (kvt (st' := fun v => []) rfl (fun _ => rfl) rfl) (H.mono (fun k v17 m18 H => ⟨fun z => ?_, H.2.2⟩))
      have O := H.1
      replace H := H.2.1 z
      have K19 := O.2.1 K15
      have t20 := Ok.tag O (t16) (by decide)
      exact v_vret (j := 78) rfl rfl H
    refine v_ifeq (j := 72) rfl rfl rfl (fun q => ?_) (fun q => ?_)
    · rw [show ((if v13 = (0 : Int) then 0 else 1) : Int) = 0 from if_pos q] at J21
      refine v_run 75 1 (pc' := 160) (ls' := [(1, 26), (1, a1), (0, a2), (1, a3), (9, 0), (9, 0), (0, a6), (1, a7), (9, 0)]) (st' := [(0, 0), (1, 26)]) rfl ?_
      exact J21
    · rw [show ((if v13 = (0 : Int) then 0 else 1) : Int) = 1 from if_neg q] at J21
      refine v_run 73 1 (pc' := 156) (ls' := [(1, 26), (1, a1), (0, a2), (1, a3), (9, 0), (9, 0), (0, a6), (1, a7), (9, 0)]) (st' := [(0, 1), (1, 26)]) rfl ?_
      refine v_goto (j := 74) (tgt := 160) rfl rfl ?_
      exact J21

set_option maxRecDepth 100000 in
set_option maxHeartbeats 4000000 in
theorem wX8_need {G : GM} {d : Nat} {P : Nat → Int → SM → Prop} {m : SM} {a1 a2 : Int} (K : KI m) (hd : 12 ≤ d) 
    (H : (a1 = (0 : Int) → (∀ m1, m1 = up m 26 7 a2 → Ok m m1 → ((m1 0 0 ≤ 1203200) ∧ (m1 0 1 + 6 ≤ 5491882) ∧ (∀ m7, m7 = al m1 15 0 6 → Ok m1 m7 → P 1 (m1 0 0) m7)))) ∧ (a1 ≠ (0 : Int) → (P 0 0 m))) :
    WV G mX8_need 0 [(1, 26), (0, a1), (0, a2)] [] m d P := by
  refine v_run 0 1 (pc' := 1) (ls' := [(1, 26), (0, a1), (0, a2)]) (st' := [(0, a1)]) rfl ?_
  refine v_ifeq (j := 1) rfl rfl rfl (fun q => ?_) (fun q => ?_)
  · replace H := H.1 q
    refine v_run 3 2 (pc' := 7) (ls' := [(1, 26), (0, a1), (0, a2)]) (st' := [(0, a2), (1, 26)]) rfl ?_
    refine v_putf (j := 5) (c := 9) (f := 7) rfl rfl rfl rfl (by decide +kernel) rfl rfl rfl rfl (K26_t K) trivial (fun m1 e2 => ?_)
    have O3 : Ok m m1 := Ok.wf e2 (K26_t K) (by decide) (by decide)
    have K4 := O3.2.1 K
    replace H := H m1 e2 O3
    obtain ⟨r5, r6, H⟩ := H
    refine v_throw (j := 6) (j1 := 7) (j2 := 8) (j3 := 9) (c := 14) (ic := 55) rfl rfl rfl rfl rfl rfl rfl (by decide) rfl rfl rfl (by omega) (by simp) r5 r6 (fun B m7 e8 => ?_)
    exact H m7 e8 (Ok.nw B e8)
  · replace H := H.2 q
    exact v_vret (j := 2) rfl rfl H

set_option maxRecDepth 100000 in
set_option maxHeartbeats 4000000 in
theorem wX8_ofConstant {G : GM} {d : Nat} {P : Nat → Int → SM → Prop} {m : SM} {a1 a2 a3 : Int} (K : KI m) (hd : 12 ≤ d) 
    (H : WV G mX8_ofConstant 9 [(1, 26), (1, a1), (1, a2), (1, a3), (1, 0), (0, 0), (0, 0), (9, 0), (9, 0), (9, 0)] [] m d P) :
    WV G mX8_ofConstant 0 [(1, 26), (1, a1), (1, a2), (1, a3), (9, 0), (9, 0), (9, 0), (9, 0), (9, 0), (9, 0)] [] m d P := by
  refine v_run 0 6 (pc' := 9) (ls' := [(1, 26), (1, a1), (1, a2), (1, a3), (1, 0), (0, 0), (0, 0), (9, 0), (9, 0), (9, 0)]) (st' := []) rfl ?_
  exact H

set_option maxRecDepth 100000 in
set_option maxHeartbeats 4000000 in
theorem wX8_ofConstant_9 {G : GM} {d : Nat} {P : Nat → Int → SM → Prop} {m : SM} {a1 a2 a3 a4 a5 a6 : Int} (K : KI m) (hd : 12 ≤ d) 
    (H : (m a1 (-1) = 21) ∧ ((m (m a1 0) (-1) = 4) ∧ (((m (m a1 0) (-2)) ≤ a6 → (((m a1 1) ≠ 0 → (WV G mX8_value 0 [(1, 26), (1, (m a1 1)), (1, a4), (9, 0), (9, 0), (9, 0)] [] m (d - 1) (fun k v3 m4 => k = 0 ∧ Ok m m4 ∧ (P 0 v3 m4)))) ∧ ((m a1 1) = 0 → (P 0 (m a1 2) m)))) ∧ (a6 < (m (m a1 0) (-2)) → ((0 ≤ a6) ∧ (a6 < m (m a1 0) (-2)) ∧ (((m (m a1 0) a6) = 0 ∨ m (m (m a1 0) a6) (-1) = 20) ∧ ((m (m (m a1 0) a6) (-1) = 20) ∧ (((m (m (m a1 0) a6) 0) = (0 : Int) → ((m a2 (-1) = 14) ∧ ((m (m a2 4) (-1) = 4) ∧ (0 ≤ a5) ∧ (a5 < m (m a2 4) (-2)) ∧ (((m (m a2 4) a5) = 0 ∨ m (m (m a2 4) a5) (-1) = 14) ∧ (WV G mX8_value 0 [(1, 26), (1, (m (m (m a1 0) a6) 3)), (1, a4), (9, 0), (9, 0), (9, 0)] [] m (d - 1) (fun k v16 m17 => k = 0 ∧ Ok m m17 ∧ ((m17 (m (m a2 4) a5) (-1) = 14) ∧ (((m17 (m (m a2 4) a5) 0) ≠ (-12) → (WV G mX8_type 0 [(1, 26), (1, (m (m a2 4) a5)), (1, a3), (9, 0), (9, 0)] [] m17 (d - 1) (fun k v23 m24 => Ok m17 m24 ∧ (k = 0 → (WV G mX8_fits 0 [(1, 26), (1, v23), (1, v16)] [] m24 (d - 1) (fun k v30 m31 => k = 0 ∧ Ok m24 m31 ∧ (WV G mX8_need 0 [(1, 26), (0, v30), (0, (m31 (m (m a2 4) a5) 1))] [] m31 (d - 1) (fun k v37 m38 => Ok m31 m38 ∧ (k = 0 → (WV G mX8_ofConstant 143 [(1, 26), (1, a1), (1, a2), (1, a3), (1, a4), (0, (wr (a5 + 1))), (0, a6), (1, (m (m a1 0) a6)), (1, (m (m a2 4) a5)), (1, v16)] [] m38 d P)) ∧ (k ≠ 0 → P 1 v37 m38)))))) ∧ (k ≠ 0 → P 1 v23 m24)))) ∧ ((m17 (m (m a2 4) a5) 0) = (-12) → (WV G mX3_make 0 [(1, 3), (1, (-18)), (0, 0), (9, 0)] [] m17 (d - 1) (fun k v44 m45 => k = 0 ∧ Ok m17 m45 ∧ (∀ m51, m51 = up m45 (m (m a2 4) a5) 5 v44 → Ok m45 m51 → (WV G mX8_ofConstant 143 [(1, 26), (1, a1), (1, a2), (1, a3), (1, a4), (0, (wr (a5 + 1))), (0, a6), (1, (m (m a1 0) a6)), (1, (m (m a2 4) a5)), (1, v16)] [] m51 d P))))))))))))) ∧ ((m (m (m a1 0) a6) 0) ≠ (0 : Int) → ((m a2 (-1) = 14) ∧ (WV G mX8_meet 0 [(1, 26), (1, (m (m a1 0) a6)), (0, (m a2 1)), (1, a4), (9, 0), (9, 0), (9, 0), (9, 0), (9, 0)] [] m (d - 1) (fun k v60 m61 => Ok m m61 ∧ (k = 0 → (WV G mX8_ofConstant 9 [(1, 26), (1, a1), (1, a2), (1, a3), (1, a4), (0, a5), (0, (wr (a6 + 1))), (9, 0), (9, 0), (9, 0)] [] m61 d P)) ∧ (k ≠ 0 → P 1 v60 m61))))))))))))) :
    WV G mX8_ofConstant 9 [(1, 26), (1, a1), (1, a2), (1, a3), (1, a4), (0, a5), (0, a6), (9, 0), (9, 0), (9, 0)] [] m d P := by
  refine v_run 6 2 (pc' := 12) (ls' := [(1, 26), (1, a1), (1, a2), (1, a3), (1, a4), (0, a5), (0, a6), (9, 0), (9, 0), (9, 0)]) (st' := [(1, a1), (0, a6)]) rfl ?_
  obtain ⟨t1, H⟩ := H
  refine v_getf (j := 8) (c := 20) (f := 0) rfl rfl rfl rfl rfl rfl rfl rfl (t1) ?_
  obtain ⟨t2, H⟩ := H
  refine vj_size (j := 9) rfl rfl rfl rfl (t2) (by omega) (by simp) ?_
  refine v_icmpge (j := 10) rfl rfl rfl (fun q => ?_) (fun q => ?_)
  · replace H := H.1 q
    refine v_run 81 1 (pc' := 183) (ls' := [(1, 26), (1, a1), (1, a2), (1, a3), (1, a4), (0, a5), (0, a6), (9, 0), (9, 0), (9, 0)]) (st' := [(1, a1)]) rfl ?_
    refine v_getf (j := 82) (c := 20) (f := 1) rfl rfl rfl rfl rfl rfl rfl rfl (t1) ?_
    refine v_nonnull (j := 83) rfl rfl rfl (fun q => ?_) (fun q => ?_)
    · replace H := H.1 q
      refine v_run 87 2 (pc' := 198) (ls' := [(1, 26), (1, a1), (1, a2), (1, a3), (1, a4), (0, a5), (0, a6), (9, 0), (9, 0), (9, 0)]) (st' := [(1, a1), (1, 26)]) rfl ?_
      refine v_getf (j := 89) (c := 20) (f := 1) rfl rfl rfl rfl rfl rfl rfl rfl (t1) ?_
      refine v_run 90 1 (pc' := 203) (ls' := [(1, 26), (1, a1), (1, a2), (1, a3), (1, a4), (0, a5), (0, a6), (9, 0), (9, 0), (9, 0)]) (st' := [(1, a4), (1, (m a1 1)), (1, 26)]) rfl ?_
      refine v_callS (j := 91) (M' := mX8_value) (as := [(1, 26), (1, (m a1 1)), (1, a4)]) (st := []) rfl rfl rfl rfl rfl (Nat.le_of_ble_eq_true rfl) (Nat.le_of_ble_eq_true rfl) (by omega) (kv0 (st' := fun v => [(1, v)]) rfl (fun _ => rfl)) (H.mono (fun k v3 m4 H => ⟨H.1, ?_⟩))
      have K5 := H.2.1.2.1 K
      have t6 := Ok.tag H.2.1 (t1) (by decide)
      replace H := H.2.2
      exact v_aret (j := 92) rfl rfl rfl H
    · replace H := H.2 q
      refine v_run 84 1 (pc' := 190) (ls' := [(1, 26), (1, a1), (1, a2), (1, a3), (1, a4), (0, a5), (0, a6), (9, 0), (9, 0), (9, 0)]) (st' := [(1, a1)]) rfl ?_
      refine v_getf (j := 85) (c := 20) (f := 2) rfl rfl rfl rfl rfl rfl rfl rfl (t1) ?_
      refine v_goto (j := 86) (tgt := 206) rfl rfl ?_
      exact v_aret (j := 92) rfl rfl rfl H
  · replace H := H.2 q
    refine v_run 11 1 (pc' := 22) (ls' := [(1, 26), (1, a1), (1, a2), (1, a3), (1, a4), (0, a5), (0, a6), (9, 0), (9, 0), (9, 0)]) (st' := [(1, a1)]) rfl ?_
    refine v_getf (j := 12) (c := 20) (f := 0) rfl rfl rfl rfl rfl rfl rfl rfl (t1) ?_
    refine v_run 13 1 (pc' := 27) (ls' := [(1, 26), (1, a1), (1, a2), (1, a3), (1, a4), (0, a5), (0, a6), (9, 0), (9, 0), (9, 0)]) (st' := [(0, a6), (1, (m a1 0))]) rfl ?_
    obtain ⟨i7, i8, H⟩ := H
    refine vj_get (j := 14) rfl rfl rfl rfl (t2) (by omega) (by simp) i7 i8 ?_
    obtain ⟨c9, H⟩ := H
    refine v_cast (j := 15) (c := 19) rfl rfl rfl rfl rfl (c9) ?_
    refine v_run 16 2 (pc' := 37) (ls' := [(1, 26), (1, a1), (1, a2), (1, a3), (1, a4), (0, a5), (0, a6), (1, (m (m a1 0) a6)), (9, 0), (9, 0)]) (st' := [(1, (m (m a1 0) a6))]) rfl ?_
    obtain ⟨t10, H⟩ := H
    refine v_callV (j := 18) (M' := mX12_condition) (as := []) (st := []) rfl rfl rfl rfl rfl (Nat.le_of_ble_eq_true rfl) (Nat.le_of_ble_eq_true rfl) (by omega) (by decide) (t10) (kv0 (st' := fun v => [(0, v)]) rfl (fun _ => rfl)) (ipX12_condition (t10) ⟨rfl, ?_⟩)
    refine v_ifeq (j := 19) rfl rfl rfl (fun q => ?_) (fun q => ?_)
    · replace H := H.1 q
      refine v_run 27 1 (pc' := 59) (ls' := [(1, 26), (1, a1), (1, a2), (1, a3), (1, a4), (0, a5), (0, a6), (1, (m (m a1 0) a6)), (9, 0), (9, 0)]) (st' := [(1, a2)]) rfl ?_
      obtain ⟨t11, H⟩ := H
      refine v_getf (j := 28) (c := 13) (f := 4) rfl rfl rfl rfl rfl rfl rfl rfl (t11) ?_
      refine v_run 29 2 (pc' := 67) (ls' := [(1, 26), (1, a1), (1, a2), (1, a3), (1, a4), (0, (wr (a5 + 1))), (0, a6), (1, (m (m a1 0) a6)), (9, 0), (9, 0)]) (st' := [(0, a5), (1, (m a2 4))]) rfl ?_
      obtain ⟨t12, i13, i14, H⟩ := H
      refine vj_get (j := 31) rfl rfl rfl rfl (t12) (by omega) (by simp) i13 i14 ?_
      obtain ⟨c15, H⟩ := H
      refine v_cast (j := 32) (c := 13) rfl rfl rfl rfl rfl (c15) ?_
      refine v_run 33 3 (pc' := 78) (ls' := [(1, 26), (1, a1), (1, a2), (1, a3), (1, a4), (0, (wr (a5 + 1))), (0, a6), (1, (m (m a1 0) a6)), (1, (m (m a2 4) a5)), (9, 0)]) (st' := [(1, (m (m a1 0) a6)), (1, 26)]) rfl ?_
      refine v_callV (j := 36) (M' := mX12_type) (as := []) (st := [(1, 26)]) rfl rfl rfl rfl rfl (Nat.le_of_ble_eq_true rfl) (Nat.le_of_ble_eq_true rfl) (by omega) (by decide) (t10) (kv0 (st' := fun v => [(1, v), (1, 26)]) rfl (fun _ => rfl)) (ipX12_type (t10) ⟨rfl, ?_⟩)
      refine v_run 37 1 (pc' := 83) (ls' := [(1, 26), (1, a1), (1, a2), (1, a3), (1, a4), (0, (wr (a5 + 1))), (0, a6), (1, (m (m a1 0) a6)), (1, (m (m a2 4) a5)), (9, 0)]) (st' := [(1, a4), (1, (m (m (m a1 0) a6) 3)), (1, 26)]) rfl ?_
      refine v_callS (j := 38) (M' := mX8_value) (as := [(1, 26), (1, (m (m (m a1 0) a6) 3)), (1, a4)]) (st := []) rfl rfl rfl rfl rfl (Nat.le_of_ble_eq_true rfl) (Nat.le_of_ble_eq_true rfl) (by omega) (kv0 (st' := fun v => [(1, v)]) rfl (fun _ => rfl)) (H.mono (fun k v16 m17 H => ⟨H.1, ?_⟩))
      have K18 := H.2.1.2.1 K
      have t19 := Ok.tag H.2.1 (t1) (by decide)
      have t20 := Ok.tag H.2.1 (t10) (by decide)
      have t21 := Ok.tag H.2.1 (t11) (by decide)
      replace H := H.2.2
      refine v_run 39 2 (pc' := 90) (ls' := [(1, 26), (1, a1), (1, a2), (1, a3), (1, a4), (0, (wr (a5 + 1))), (0, a6), (1, (m (m a1 0) a6)), (1, (m (m a2 4) a5)), (1, v16)]) (st' := [(1, (m (m a2 4) a5))]) rfl ?_
      obtain ⟨t22, H⟩ := H
      refine v_getf (j := 41) (c := 13) (f := 0) rfl rfl rfl rfl rfl rfl rfl rfl (t22) ?_
      refine v_gets (j := 42) (g := 1) (v := (-12)) rfl rfl rfl rfl ?_
      refine v_ane (j := 43) rfl rfl rfl (fun q => ?_) (fun q => ?_)
      · replace H := H.1 q
        refine v_run 53 5 (pc' := 127) (ls' := [(1, 26), (1, a1), (1, a2), (1, a3), (1, a4), (0, (wr (a5 + 1))), (0, a6), (1, (m (m a1 0) a6)), (1, (m (m a2 4) a5)), (1, v16)]) (st' := [(1, a3), (1, (m (m a2 4) a5)), (1, 26), (1, 26), (1, 26)]) rfl ?_
        refine v_callS (j := 58) (M' := mX8_type) (as := [(1, 26), (1, (m (m a2 4) a5)), (1, a3)]) (st := [(1, 26), (1, 26)]) rfl rfl rfl rfl rfl (Nat.le_of_ble_eq_true rfl) (Nat.le_of_ble_eq_true rfl) (by omega) (kvt (st' := fun v => [(1, v), (1, 26), (1, 26)]) rfl (fun _ => rfl) rfl) (H.mono (fun k v23 m24 H => ⟨fun z => ?_, H.2.2⟩))
        have O := H.1
        replace H := H.2.1 z
        have K25 := O.2.1 K18
        have t26 := Ok.tag O (t19) (by decide)
        have t27 := Ok.tag O (t20) (by decide)
        have t28 := Ok.tag O (t21) (by decide)
        have t29 := Ok.tag O (t22) (by decide)
        refine v_run 59 1 (pc' := 132) (ls' := [(1, 26), (1, a1), (1, a2), (1, a3), (1, a4), (0, (wr (a5 + 1))), (0, a6), (1, (m (m a1 0) a6)), (1, (m (m a2 4) a5)), (1, v16)]) (st' := [(1, v16), (1, v23), (1, 26), (1, 26)]) rfl ?_
        refine v_callV (j := 60) (M' := mX8_fits) (as := [(1, v23), (1, v16)]) (st := [(1, 26)]) rfl rfl rfl rfl rfl (Nat.le_of_ble_eq_true rfl) (Nat.le_of_ble_eq_true rfl) (by omega) (by decide) (K26_t K25) (kv0 (st' := fun v => [(0, v), (1, 26)]) rfl (fun _ => rfl)) (H.mono (fun k v30 m31 H => ⟨H.1, ?_⟩))
        have K32 := H.2.1.2.1 K25
        have t33 := Ok.tag H.2.1 (t26) (by decide)
        have t34 := Ok.tag H.2.1 (t27) (by decide)
        have t35 := Ok.tag H.2.1 (t28) (by decide)
        have t36 := Ok.tag H.2.1 (t29) (by decide)
        replace H := H.2.2
        refine v_run 61 1 (pc' := 137) (ls' := [(1, 26), (1, a1), (1, a2), (1, a3), (1, a4), (0, (wr (a5 + 1))), (0, a6), (1, (m (m a1 0) a6)), (1, (m (m a2 4) a5)), (1, v16)]) (st' := [(1, (m (m a2 4) a5)), (0, v30), (1, 26)]) rfl ?_
        refine v_getf (j := 62) (c := 13) (f := 1) rfl rfl rfl rfl rfl rfl rfl rfl (t36) ?_
        refine v_callV (j := 63) (M' := mX8_need) (as := [(0, v30), (0, (m31 (m (m a2 4) a5) 1))]) (st := []) rfl rfl rfl rfl rfl (Nat.le_of_ble_eq_true rfl) (Nat.le_of_ble_eq_true rfl) (by omega) (by decide) (K26_t K32) (kvt (st' := fun v => []) rfl (fun _ => rfl) rfl) (H.mono (fun k v37 m38 H => ⟨fun z => ?_, H.2.2⟩))
        have O := H.1
        replace H := H.2.1 z
        have K39 := O.2.1 K32
        have t40 := Ok.tag O (t33) (by decide)
        have t41 := Ok.tag O (t34) (by decide)
        have t42 := Ok.tag O (t35) (by decide)
        have t43 := Ok.tag O (t36) (by decide)
        exact H
      · replace H := H.2 q
        refine v_run 44 2 (pc' := 102) (ls' := [(1, 26), (1, a1), (1, a2), (1, a3), (1, a4), (0, (wr (a5 + 1))), (0, a6), (1, (m (m a1 0) a6)), (1, (m (m a2 4) a5)), (1, v16)]) (st' := [(1, 26), (1, (m (m a2 4) a5))]) rfl ?_
        refine v_getK (j := 46) (c := 9) (f := 0) rfl rfl rfl rfl rfl rfl rfl rfl (K26_t K18) (K26_0 K18) ?_
        refine v_getK (j := 47) (c := 1) (f := 0) rfl rfl rfl rfl rfl rfl rfl rfl (K2_t K18) (K2_0 K18) ?_
        refine v_gets (j := 48) (g := 1) (v := (-18)) rfl rfl rfl rfl ?_
        refine v_run 49 1 (pc' := 112) (ls' := [(1, 26), (1, a1), (1, a2), (1, a3), (1, a4), (0, (wr (a5 + 1))), (0, a6), (1, (m (m a1 0) a6)), (1, (m (m a2 4) a5)), (1, v16)]) (st' := [(0, 0), (1, (-18)), (1, 3), (1, (m (m a2 4) a5))]) rfl ?_
        refine v_callV (j := 50) (M' := mX3_make) (as := [(1, (-18)), (0, 0)]) (st := [(1, (m (m a2 4) a5))]) rfl rfl rfl rfl rfl (Nat.le_of_ble_eq_true rfl) (Nat.le_of_ble_eq_true rfl) (by omega) (by decide) (K3_t K18) (kv0 (st' := fun v => [(1, v), (1, (m (m a2 4) a5))]) rfl (fun _ => rfl)) (H.mono (fun k v44 m45 H => ⟨H.1, ?_⟩))
        have K46 := H.2.1.2.1 K18
        have t47 := Ok.tag H.2.1 (t19) (by decide)
        have t48 := Ok.tag H.2.1 (t20) (by decide)
        have t49 := Ok.tag H.2.1 (t21) (by decide)
        have t50 := Ok.tag H.2.1 (t22) (by decide)
        replace H := H.2.2
        refine v_putf (j := 51) (c := 13) (f := 5) rfl rfl rfl rfl (by decide +kernel) rfl rfl rfl rfl (t50) trivial (fun m51 e52 => ?_)
        have O53 : Ok m45 m51 := Ok.wf e52 (t50) (by decide) (by decide)
        have K54 := O53.2.1 K46
        have t55 := Ok.tag O53 (t47) (by decide)
        have t56 := Ok.tag O53 (t48) (by decide)
        have t57 := Ok.tag O53 (t49) (by decide)
        have t58 := Ok.tag O53 (t50) (by decide)
        replace H := H m51 e52 O53
        refine v_goto (j := 52) (tgt := 143) rfl rfl ?_
        exact H
    · replace H := H.2 q
      refine v_run 20 3 (pc' := 47) (ls' := [(1, 26), (1, a1), (1, a2), (1, a3), (1, a4), (0, a5), (0, a6), (1, (m (m a1 0) a6)), (9, 0), (9, 0)]) (st' := [(1, a2), (1, (m (m a1 0) a6)), (1, 26)]) rfl ?_
      obtain ⟨t59, H⟩ := H
      refine v_getf (j := 23) (c := 13) (f := 1) rfl rfl rfl rfl rfl rfl rfl rfl (t59) ?_
      refine v_run 24 1 (pc' := 52) (ls' := [(1, 26), (1, a1), (1, a2), (1, a3), (1, a4), (0, a5), (0, a6), (1, (m (m a1 0) a6)), (9, 0), (9, 0)]) (st' := [(1, a4), (0, (m a2 1)), (1, (m (m a1 0) a6)), (1, 26)]) rfl ?_
      refine v_callV (j := 25) (M' := mX8_meet) (as := [(1, (m (m a1 0) a6)), (0, (m a2 1)), (1, a4)]) (st := []) rfl rfl rfl rfl rfl (Nat.le_of_ble_eq_true rfl) (Nat.le_of_ble_eq_true rfl) (by omega) (by decide) (K26_t K) (kvt (st' := fun v => []) rfl (fun _ => rfl) rfl) (H.mono (fun k v60 m61 H => ⟨fun z => ?_, H.2.2⟩))
      have O := H.1
      replace H := H.2.1 z
      have K62 := O.2.1 K
      have t63 := Ok.tag O (t1) (by decide)
      have t64 := Ok.tag O (t10) (by decide)
      have t65 := Ok.tag O (t59) (by decide)
      refine v_goto (j := 26) (tgt := 176) rfl rfl ?_
      refine v_run 79 1 (pc' := 179) (ls' := [(1, 26), (1, a1), (1, a2), (1, a3), (1, a4), (0, a5), (0, (wr (a6 + 1))), (1, (m (m a1 0) a6)), (9, 0), (9, 0)]) (st' := []) rfl ?_
      refine v_goto (j := 80) (tgt := 9) rfl rfl ?_
      refine v_drp [true, true, true, true, true, true, true, false, false, false] ?_
      exact H

set_option maxRecDepth 100000 in
set_option maxHeartbeats 4000000 in
theorem wX8_ofConstant_143 {G : GM} {d : Nat} {P : Nat → Int → SM → Prop} {m : SM} {a1 a2 a3 a4 a5 a6 a7 a8 a9 : Int} (K : KI m) (hd : 12 ≤ d) 
    (H : (m a7 (-1) = 20) ∧ (((m a7 2) = (0 : Int) → (WV G mX8_ofConstant 9 [(1, 26), (1, a1), (1, a2), (1, a3), (1, a4), (0, a5), (0, (wr (a6 + 1))), (9, 0), (9, 0), (9, 0)] [] m d P)) ∧ ((m a7 2) ≠ (0 : Int) → ((m 0 0 ≤ 1203200) ∧ (m 0 1 + 4 ≤ 5491882) ∧ (Bs m → ∀ m4, m4 = al m 19 0 4 → Ok m m4 → (WV G mX8_value 0 [(1, 26), (1, a8), (1, a3), (9, 0), (9, 0), (9, 0)] [] m4 (d - 1) (fun k v10 m11 => k = 0 ∧ Ok m4 m11 ∧ (((m 0 0) ≠ 0) ∧ (WV G mX16_init 0 [(1, (m 0 0)), (0, (m4 a7 2)), (1, v10), (1, a9), (1, a4)] [] m11 (d - 1) (fun k v16 m17 => k = 0 ∧ Ok m11 m17 ∧ (WV G mX8_ofConstant 9 [(1, 26), (1, a1), (1, a2), (1, a3), (1, (m 0 0)), (0, a5), (0, (wr (a6 + 1))), (9, 0), (9, 0), (9, 0)] [] m17 d P))))))))))) :
    WV G mX8_ofConstant 143 [(1, 26), (1, a1), (1, a2), (1, a3), (1, a4), (0, a5), (0, a6), (1, a7), (1, a8), (1, a9)] [] m d P := by
  refine v_run 64 1 (pc' := 145) (ls' := [(1, 26), (1, a1), (1, a2), (1, a3), (1, a4), (0, a5), (0, a6), (1, a7), (1, a8), (1, a9)]) (st' := [(1, a7)]) rfl ?_
  obtain ⟨t1, H⟩ := H
  refine v_callV (j := 65) (M' := mX12_letter) (as := []) (st := []) rfl rfl rfl rfl rfl (Nat.le_of_ble_eq_true rfl) (Nat.le_of_ble_eq_true rfl) (by omega) (by decide) (t1) (kv0 (st' := fun v => [(0, v)]) rfl (fun _ => rfl)) (ipX12_letter (t1) ⟨rfl, ?_⟩)
  refine v_ifeq (j := 66) rfl rfl rfl (fun q => ?_) (fun q => ?_)
  · replace H := H.1 q
    refine v_run 79 1 (pc' := 179) (ls' := [(1, 26), (1, a1), (1, a2), (1, a3), (1, a4), (0, a5), (0, (wr (a6 + 1))), (1, a7), (1, a8), (1, a9)]) (st' := []) rfl ?_
    refine v_goto (j := 80) (tgt := 9) rfl rfl ?_
    refine v_drp [true, true, true, true, true, true, true, false, false, false] ?_
    exact H
  · replace H := H.2 q
    obtain ⟨r2, r3, H⟩ := H
    refine v_new (j := 67) (c := 18) rfl rfl rfl rfl rfl rfl rfl r2 r3 (fun B m4 e5 => ?_)
    have O6 : Ok m m4 := Ok.nw B e5
    have K7 := O6.2.1 K
    have t8 := Ok.tag O6 (t1) (by decide)
    replace H := H B m4 e5 O6
    have t9 := al_tag B e5
    refine v_run 68 2 (pc' := 157) (ls' := [(1, 26), (1, a1), (1, a2), (1, a3), (1, a4), (0, a5), (0, a6), (1, a7), (1, a8), (1, a9)]) (st' := [(1, a7), (1, (m 0 0)), (1, (m 0 0))]) rfl ?_
    refine v_callV (j := 70) (M' := mX12_letter) (as := []) (st := [(1, (m 0 0)), (1, (m 0 0))]) rfl rfl rfl rfl rfl (Nat.le_of_ble_eq_true rfl) (Nat.le_of_ble_eq_true rfl) (by omega) (by decide) (t8) (kv0 (st' := fun v => [(0, v), (1, (m 0 0)), (1, (m 0 0))]) rfl (fun _ => rfl)) (ipX12_letter (t8) ⟨rfl, ?_⟩)
    refine v_run 71 3 (pc' := 164) (ls' := [(1, 26), (1, a1), (1, a2), (1, a3), (1, a4), (0, a5), (0, a6), (1, a7), (1, a8), (1, a9)]) (st' := [(1, a3), (1, a8), (1, 26), (0, (m4 a7 2)), (1, (m 0 0)), (1, (m 0 0))]) rfl ?_
    refine v_callS (j := 74) (M' := mX8_value) (as := [(1, 26), (1, a8), (1, a3)]) (st := [(0, (m4 a7 2)), (1, (m 0 0)), (1, (m 0 0))]) rfl rfl rfl rfl rfl (Nat.le_of_ble_eq_true rfl) (Nat.le_of_ble_eq_true rfl) (by omega) (kv0 (st' := fun v => [(1, v), (0, (m4 a7 2)), (1, (m 0 0)), (1, (m 0 0))]) rfl (fun _ => rfl)) (H.mono (fun k v10 m11 H => ⟨H.1, ?_⟩))
    have K12 := H.2.1.2.1 K7
    have t13 := Ok.tag H.2.1 (t8) (by decide)
    have t14 := Ok.tag H.2.1 (t9) (by decide)
    replace H := H.2.2
    refine v_run 75 2 (pc' := 171) (ls' := [(1, 26), (1, a1), (1, a2), (1, a3), (1, a4), (0, a5), (0, a6), (1, a7), (1, a8), (1, a9)]) (st' := [(1, a4), (1, a9), (1, v10), (0, (m4 a7 2)), (1, (m 0 0)), (1, (m 0 0))]) rfl ?_
    obtain ⟨z15, H⟩ := H
    refine v_callI (j := 77) (M' := mX16_init) (as := [(0, (m4 a7 2)), (1, v10), (1, a9), (1, a4)]) (st := [(1, (m 0 0))]) rfl rfl rfl rfl rfl (Nat.le_of_ble_eq_true rfl) (Nat.le_of_ble_eq_true rfl) (by omega) z15 (kv0 (st' := fun v => [(1, (m 0 0))]) rfl (fun _ => rfl)) (H.mono (fun k v16 m17 H => ⟨H.1, ?_⟩))
    have K18 := H.2.1.2.1 K12
    have t19 := Ok.tag H.2.1 (t13) (by decide)
    have t20 := Ok.tag H.2.1 (t14) (by decide)
    replace H := H.2.2
    refine v_run 78 2 (pc' := 179) (ls' := [(1, 26), (1, a1), (1, a2), (1, a3), (1, (m 0 0)), (0, a5), (0, (wr (a6 + 1))), (1, a7), (1, a8), (1, a9)]) (st' := []) rfl ?_
    refine v_goto (j := 80) (tgt := 9) rfl rfl ?_
    refine v_drp [true, true, true, true, true, true, true, false, false, false] ?_
    exact H

set_option maxRecDepth 100000 in
set_option maxHeartbeats 4000000 in
theorem wX8_scope {G : GM} {d : Nat} {P : Nat → Int → SM → Prop} {m : SM} {a1 a2 : Int} (K : KI m) (hd : 12 ≤ d) 
    (H : WV G mX8_scope 5 [(1, 26), (1, a1), (1, a2), (1, 0), (0, 0)] [] m d P) :
    WV G mX8_scope 0 [(1, 26), (1, a1), (1, a2), (9, 0), (9, 0)] [] m d P := by
  refine v_run 0 4 (pc' := 5) (ls' := [(1, 26), (1, a1), (1, a2), (1, 0), (0, 0)]) (st' := []) rfl ?_
  exact H

set_option maxRecDepth 100000 in
set_option maxHeartbeats 4000000 in
theorem wX8_scope_5 {G : GM} {d : Nat} {P : Nat → Int → SM → Prop} {m : SM} {a1 a2 a3 a4 : Int} (K : KI m) (hd : 12 ≤ d) 
    (H : (m a2 (-1) = 4) ∧ (((m a2 (-2)) ≤ a4 → (P 0 a3 m)) ∧ (a4 < (m a2 (-2)) → ((0 ≤ a4) ∧ (a4 < m a2 (-2)) ∧ (((m a2 a4) = 0 ∨ m (m a2 a4) (-1) = 14) ∧ (WV G mX8_type 0 [(1, 26), (1, (m a2 a4)), (1, 0), (9, 0), (9, 0)] [] m (d - 1) (fun k v5 m6 => Ok m m6 ∧ (k = 0 → ((m6 a1 (-1) = 22) ∧ ((m6 (m6 a1 0) (-1) = 13) ∧ (0 ≤ a4) ∧ (a4 < m6 (m6 a1 0) (-2)) ∧ ((0 ≤ a4) ∧ (a4 < m6 a2 (-2)) ∧ (((m6 a2 a4) = 0 ∨ m6 (m6 a2 a4) (-1) = 14) ∧ (WV G mX8_value 0 [(1, 26), (1, (m6 a2 a4)), (1, 0), (9, 0), (9, 0), (9, 0)] [] m6 (d - 1) (fun k v16 m17 => k = 0 ∧ Ok m6 m17 ∧ (WV G mX3_bind 0 [(1, 3), (0, (m6 (m6 a1 0) a4)), (1, v16), (1, a3), (9, 0)] [] m17 (d - 1) (fun k v21 m22 => k = 0 ∧ Ok m17 m22 ∧ (WV G mX8_scope 5 [(1, 26), (1, a1), (1, a2), (1, v21), (0, (wr (a4 + 1)))] [] m22 d P)))))))))) ∧ (k ≠ 0 → P 1 v5 m6)))))))) :
    WV G mX8_scope 5 [(1, 26), (1, a1), (1, a2), (1, a3), (0, a4)] [] m d P := by
  refine v_run 4 2 (pc' := 8) (ls' := [(1, 26), (1, a1), (1, a2), (1, a3), (0, a4)]) (st' := [(1, a2), (0, a4)]) rfl ?_
  obtain ⟨t1, H⟩ := H
  refine vj_size (j := 6) rfl rfl rfl rfl (t1) (by omega) (by simp) ?_
  refine v_icmpge (j := 7) rfl rfl rfl (fun q => ?_) (fun q => ?_)
  · replace H := H.1 q
    refine v_run 35 1 (pc' := 71) (ls' := [(1, 26), (1, a1), (1, a2), (1, a3), (0, a4)]) (st' := [(1, a3)]) rfl ?_
    exact v_aret (j := 36) rfl rfl rfl H
  · replace H := H.2 q
    refine v_run 8 3 (pc' := 18) (ls' := [(1, 26), (1, a1), (1, a2), (1, a3), (0, a4)]) (st' := [(0, a4), (1, a2), (1, 26)]) rfl ?_
    obtain ⟨i2, i3, H⟩ := H
    refine vj_get (j := 11) rfl rfl rfl rfl (t1) (by omega) (by simp) i2 i3 ?_
    obtain ⟨c4, H⟩ := H
    refine v_cast (j := 12) (c := 13) rfl rfl rfl rfl rfl (c4) ?_
    refine v_run 13 1 (pc' := 25) (ls' := [(1, 26), (1, a1), (1, a2), (1, a3), (0, a4)]) (st' := [(1, 0), (1, (m a2 a4)), (1, 26)]) rfl ?_
    refine v_callS (j := 14) (M' := mX8_type) (as := [(1, 26), (1, (m a2 a4)), (1, 0)]) (st := []) rfl rfl rfl rfl rfl (Nat.le_of_ble_eq_true rfl) (Nat.le_of_ble_eq_true rfl) (by omega) (kvt (st' := fun v => [(1, v)]) rfl (fun _ => rfl) rfl) (H.mono (fun k v5 m6 H => ⟨fun z => ?_, H.2.2⟩))
    have O := H.1
    replace H := H.2.1 z
    have K7 := O.2.1 K
    have t8 := Ok.tag O (t1) (by decide)
    refine v_run 15 2 (pc' := 30) (ls' := [(1, 26), (1, a1), (1, a2), (1, a3), (0, a4)]) (st' := [(1, 26)]) rfl ?_
    refine v_getK (j := 17) (c := 9) (f := 0) rfl rfl rfl rfl rfl rfl rfl rfl (K26_t K7) (K26_0 K7) ?_
    refine v_getK (j := 18) (c := 1) (f := 0) rfl rfl rfl rfl rfl rfl rfl rfl (K2_t K7) (K2_0 K7) ?_
    refine v_run 19 1 (pc' := 37) (ls' := [(1, 26), (1, a1), (1, a2), (1, a3), (0, a4)]) (st' := [(1, a1), (1, 3)]) rfl ?_
    obtain ⟨t9, H⟩ := H
    refine v_getf (j := 20) (c := 21) (f := 0) rfl rfl rfl rfl rfl rfl rfl rfl (t9) ?_
    refine v_run 21 1 (pc' := 42) (ls' := [(1, 26), (1, a1), (1, a2), (1, a3), (0, a4)]) (st' := [(0, a4), (1, (m6 a1 0)), (1, 3)]) rfl ?_
    obtain ⟨t10, i11, i12, H⟩ := H
    refine vj_stat (j := 22) rfl rfl rfl rfl (t10) (by omega) (by simp) i11 i12 ?_
    refine v_run 23 3 (pc' := 49) (ls' := [(1, 26), (1, a1), (1, a2), (1, a3), (0, a4)]) (st' := [(0, a4), (1, a2), (1, 26), (0, (m6 (m6 a1 0) a4)), (1, 3)]) rfl ?_
    obtain ⟨i13, i14, H⟩ := H
    refine vj_get (j := 26) rfl rfl rfl rfl (t8) (by omega) (by simp) i13 i14 ?_
    obtain ⟨c15, H⟩ := H
    refine v_cast (j := 27) (c := 13) rfl rfl rfl rfl rfl (c15) ?_
    refine v_run 28 1 (pc' := 56) (ls' := [(1, 26), (1, a1), (1, a2), (1, a3), (0, a4)]) (st' := [(1, 0), (1, (m6 a2 a4)), (1, 26), (0, (m6 (m6 a1 0) a4)), (1, 3)]) rfl ?_
    refine v_callS (j := 29) (M' := mX8_value) (as := [(1, 26), (1, (m6 a2 a4)), (1, 0)]) (st := [(0, (m6 (m6 a1 0) a4)), (1, 3)]) rfl rfl rfl rfl rfl (Nat.le_of_ble_eq_true rfl) (Nat.le_of_ble_eq_true rfl) (by omega) (kv0 (st' := fun v => [(1, v), (0, (m6 (m6 a1 0) a4)), (1, 3)]) rfl (fun _ => rfl)) (H.mono (fun k v16 m17 H => ⟨H.1, ?_⟩))
    have K18 := H.2.1.2.1 K7
    have t19 := Ok.tag H.2.1 (t8) (by decide)
    have t20 := Ok.tag H.2.1 (t9) (by decide)
    replace H := H.2.2
    refine v_run 30 1 (pc' := 60) (ls' := [(1, 26), (1, a1), (1, a2), (1, a3), (0, a4)]) (st' := [(1, a3), (1, v16), (0, (m6 (m6 a1 0) a4)), (1, 3)]) rfl ?_
    refine v_callV (j := 31) (M' := mX3_bind) (as := [(0, (m6 (m6 a1 0) a4)), (1, v16), (1, a3)]) (st := []) rfl rfl rfl rfl rfl (Nat.le_of_ble_eq_true rfl) (Nat.le_of_ble_eq_true rfl) (by omega) (by decide) (K3_t K18) (kv0 (st' := fun v => [(1, v)]) rfl (fun _ => rfl)) (H.mono (fun k v21 m22 H => ⟨H.1, ?_⟩))
    have K23 := H.2.1.2.1 K18
    have t24 := Ok.tag H.2.1 (t19) (by decide)
    have t25 := Ok.tag H.2.1 (t20) (by decide)
    replace H := H.2.2
    refine v_run 32 2 (pc' := 67) (ls' := [(1, 26), (1, a1), (1, a2), (1, v21), (0, (wr (a4 + 1)))]) (st' := []) rfl ?_
    refine v_goto (j := 34) (tgt := 5) rfl rfl ?_
    exact H

set_option maxRecDepth 100000 in
set_option maxHeartbeats 4000000 in
theorem wX8_type {G : GM} {d : Nat} {P : Nat → Int → SM → Prop} {m : SM} {a1 a2 : Int} (K : KI m) (hd : 12 ≤ d) 
    (H : (m a1 (-1) = 14) ∧ ((m (m a1 0) (-1) = 51) ∧ ((((m (m a1 0) 0) < 0 ∨ 2 < (m (m a1 0) 0)) → (WV G mX2_constant 0 [(1, 2), (0, (m a1 2)), (9, 0)] [] m (d - 1) (fun k v3 m4 => k = 0 ∧ Ok m m4 ∧ ((v3 = 0 → (WV G mX8_need 0 [(1, 26), (0, 0), (0, (m4 a1 1))] [] m4 (d - 1) (fun k v7 m8 => Ok m4 m8 ∧ (k = 0 → ((v3 ≠ 0 → (WV G mX8_ofConstant 0 [(1, 26), (1, v3), (1, a1), (1, a2), (9, 0), (9, 0), (9, 0), (9, 0), (9, 0), (9, 0)] [] m8 (d - 1) (fun k v11 m12 => Ok m8 m12 ∧ (k = 0 → (P 0 v11 m12)) ∧ (k ≠ 0 → P 1 v11 m12)))) ∧ (v3 = 0 → (P 0 33 m8)))) ∧ (k ≠ 0 → P 1 v7 m8)))) ∧ (v3 ≠ 0 → ((m4 v3 (-1) = 21) ∧ (WV G mX13_parameters 0 [(1, v3)] [] m4 (d - 1) (fun k v16 m17 => k = 0 ∧ Ok m4 m17 ∧ ((m17 (m17 a1 4) (-1) = 4) ∧ (∃ Q22 : Int → Prop, ((v16 ≠ (m17 (m17 a1 4) (-2)) → (Q22 0)) ∧ (v16 = (m17 (m17 a1 4) (-2)) → (((m17 26 6) = (0 : Int) → (Q22 1)) ∧ ((m17 26 6) ≠ (0 : Int) → (((0 : Int) < (m17 v3 3) → (Q22 0)) ∧ ((m17 v3 3) ≤ (0 : Int) → (Q22 1))))))) ∧ (∀ v23, Q22 v23 → (WV G mX8_need 0 [(1, 26), (0, v23), (0, (m17 a1 1))] [] m17 (d - 1) (fun k v26 m27 => Ok m17 m27 ∧ (k = 0 → ((v3 ≠ 0 → (WV G mX8_ofConstant 0 [(1, 26), (1, v3), (1, a1), (1, a2), (9, 0), (9, 0), (9, 0), (9, 0), (9, 0), (9, 0)] [] m27 (d - 1) (fun k v31 m32 => Ok m27 m32 ∧ (k = 0 → (P 0 v31 m32)) ∧ (k ≠ 0 → P 1 v31 m32)))) ∧ (v3 = 0 → (P 0 33 m27)))) ∧ (k ≠ 0 → P 1 v26 m27)))))))))))))) ∧ ((m (m a1 0) 0) = 0 → (WV G mX8_find 0 [(1, a2), (0, (m a1 2)), (9, 0)] [] m (d - 1) (fun k v36 m37 => k = 0 ∧ Ok m m37 ∧ (WV G mX8_need 0 [(1, 26), (0, (if v36 = 0 then 0 else 1)), (0, (m37 a1 1))] [] m37 (d - 1) (fun k v40 m41 => Ok m37 m41 ∧ (k = 0 → ((v36 ≠ 0 → ((m41 v36 (-1) = 19) ∧ (P 0 (m41 v36 2) m41))) ∧ (v36 = 0 → (P 0 33 m41)))) ∧ (k ≠ 0 → P 1 v40 m41)))))) ∧ ((m (m a1 0) 0) = 1 → ((m (m a1 3) (-1) = 11) ∧ ((¬ ((m (m a1 3) 0) = (-16)) → (P 0 34 m)) ∧ ((m (m a1 3) 0) = (-16) → (P 0 33 m))))) ∧ ((m (m a1 0) 0) = 2 → (WV G mX8_need 0 [(1, 26), (0, 0), (0, (m a1 1))] [] m (d - 1) (fun k v47 m48 => Ok m m48 ∧ (k = 0 → (P 0 33 m48)) ∧ (k ≠ 0 → P 1 v47 m48))))))) :
    WV G mX8_type 0 [(1, 26), (1, a1), (1, a2), (9, 0), (9, 0)] [] m d P := by
  refine v_run 0 1 (pc' := 1) (ls' := [(1, 26), (1, a1), (1, a2), (9, 0), (9, 0)]) (st' := [(1, a1)]) rfl ?_
  obtain ⟨t1, H⟩ := H
  refine v_getf (j := 1) (c := 13) (f := 0) rfl rfl rfl rfl rfl rfl rfl rfl (t1) ?_
  obtain ⟨t2, H⟩ := H
  refine vj_ord (j := 2) (jj := 1) rfl rfl rfl rfl rfl (by decide) (t2) (by omega) (by simp) ?_
  refine v_tsw (j := 3) (tdf := 113) (tg := [57, 32, 99]) rfl rfl rfl rfl (fun q => ?_) (fun k n hk q => ?_)
  · replace H := H.1 q
    refine v_run 45 1 (pc' := 114) (ls' := [(1, 26), (1, a1), (1, a2), (9, 0), (9, 0)]) (st' := [(1, 26)]) rfl ?_
    refine v_getK (j := 46) (c := 9) (f := 0) rfl rfl rfl rfl rfl rfl rfl rfl (K26_t K) (K26_0 K) ?_
    refine v_run 47 1 (pc' := 118) (ls' := [(1, 26), (1, a1), (1, a2), (9, 0), (9, 0)]) (st' := [(1, a1), (1, 2)]) rfl ?_
    refine v_getf (j := 48) (c := 13) (f := 2) rfl rfl rfl rfl rfl rfl rfl rfl (t1) ?_
    refine v_callV (j := 49) (M' := mX2_constant) (as := [(0, (m a1 2))]) (st := []) rfl rfl rfl rfl rfl (Nat.le_of_ble_eq_true rfl) (Nat.le_of_ble_eq_true rfl) (by omega) (by decide) (K2_t K) (kv0 (st' := fun v => [(1, v)]) rfl (fun _ => rfl)) (H.mono (fun k v3 m4 H => ⟨H.1, ?_⟩))
    have K5 := H.2.1.2.1 K
    have t6 := Ok.tag H.2.1 (t1) (by decide)
    replace H := H.2.2
    refine v_run 50 3 (pc' := 129) (ls' := [(1, 26), (1, a1), (1, a2), (9, 0), (1, v3)]) (st' := [(1, v3), (1, 26)]) rfl ?_
    refine v_null (j := 53) rfl rfl rfl (fun q => ?_) (fun q => ?_)
    · replace H := H.1 q
      refine v_run 68 2 (pc' := 168) (ls' := [(1, 26), (1, a1), (1, a2), (9, 0), (1, v3)]) (st' := [(1, a1), (0, 0), (1, 26)]) rfl ?_
      refine v_getf (j := 70) (c := 13) (f := 1) rfl rfl rfl rfl rfl rfl rfl rfl (t6) ?_
      refine v_callV (j := 71) (M' := mX8_need) (as := [(0, 0), (0, (m4 a1 1))]) (st := []) rfl rfl rfl rfl rfl (Nat.le_of_ble_eq_true rfl) (Nat.le_of_ble_eq_true rfl) (by omega) (by decide) (K26_t K5) (kvt (st' := fun v => []) rfl (fun _ => rfl) rfl) (H.mono (fun k v7 m8 H => ⟨fun z => ?_, H.2.2⟩))
      have O := H.1
      replace H := H.2.1 z
      have K9 := O.2.1 K5
      have t10 := Ok.tag O (t6) (by decide)
      refine v_run 72 1 (pc' := 176) (ls' := [(1, 26), (1, a1), (1, a2), (9, 0), (1, v3)]) (st' := [(1, v3)]) rfl ?_
      refine v_nonnull (j := 73) rfl rfl rfl (fun q => ?_) (fun q => ?_)
      · replace H := H.1 q
        refine v_run 77 4 (pc' := 191) (ls' := [(1, 26), (1, a1), (1, a2), (9, 0), (1, v3)]) (st' := [(1, a2), (1, a1), (1, v3), (1, 26)]) rfl ?_
        refine v_callS (j := 81) (M' := mX8_ofConstant) (as := [(1, 26), (1, v3), (1, a1), (1, a2)]) (st := []) rfl rfl rfl rfl rfl (Nat.le_of_ble_eq_true rfl) (Nat.le_of_ble_eq_true rfl) (by omega) (kvt (st' := fun v => [(1, v)]) rfl (fun _ => rfl) rfl) (H.mono (fun k v11 m12 H => ⟨fun z => ?_, H.2.2⟩))
        have O := H.1
        replace H := H.2.1 z
        have K13 := O.2.1 K9
        have t14 := Ok.tag O (t10) (by decide)
        exact v_aret (j := 82) rfl rfl rfl H
      · replace H := H.2 q
        refine v_run 74 1 (pc' := 180) (ls' := [(1, 26), (1, a1), (1, a2), (9, 0), (1, v3)]) (st' := [(1, 26)]) rfl ?_
        refine v_getK (j := 75) (c := 9) (f := 4) rfl rfl rfl rfl rfl rfl rfl rfl (K26_t K9) (K26_4 K9) ?_
        refine v_goto (j := 76) (tgt := 194) rfl rfl ?_
        exact v_aret (j := 82) rfl rfl rfl H
    · replace H := H.2 q
      refine v_run 54 1 (pc' := 134) (ls' := [(1, 26), (1, a1), (1, a2), (9, 0), (1, v3)]) (st' := [(1, v3), (1, 26)]) rfl ?_
      obtain ⟨t15, H⟩ := H
      refine v_callV (j := 55) (M' := mX13_parameters) (as := []) (st := [(1, 26)]) rfl rfl rfl rfl rfl (Nat.le_of_ble_eq_true rfl) (Nat.le_of_ble_eq_true rfl) (by omega) (by decide) (t15) (kv0 (st' := fun v => [(0, v), (1, 26)]) rfl (fun _ => rfl)) (H.mono (fun k v16 m17 H => ⟨H.1, ?_⟩))
      have K18 := H.2.1.2.1 K5
      have t19 := Ok.tag H.2.1 (t6) (by decide)
      have t20 := Ok.tag H.2.1 (t15) (by decide)
      replace H := H.2.2
      refine v_run 56 1 (pc' := 138) (ls' := [(1, 26), (1, a1), (1, a2), (9, 0), (1, v3)]) (st' := [(1, a1), (0, v16), (1, 26)]) rfl ?_
      refine v_getf (j := 57) (c := 13) (f := 4) rfl rfl rfl rfl rfl rfl rfl rfl (t19) ?_
      obtain ⟨t21, H⟩ := H
      refine vj_size (j := 58) rfl rfl rfl rfl (t21) (by omega) (by simp) ?_
      obtain ⟨Q22, H, J25⟩ := H
      have J25 : ∀ v23, Q22 v23 → WV G mX8_type 167 [(1, 26), (1, a1), (1, a2), (9, 0), (1, v3)] [(0, v23), (1, 26)] m17 d P := by
        intro v23 q24
        have H := J25 v23 q24
        refine v_run 69 1 (pc' := 168) (ls' := [(1, 26), (1, a1), (1, a2), (9, 0), (1, v3)]) (st' := [(1, a1), (0, v23), (1, 26)]) rfl ?_
        refine v_getf (j := 70) (c := 13) (f := 1) rfl rfl rfl rfl rfl rfl rfl rfl (t19) ?_
        refine v_callV (j := 71) (M' := mX8_need) (as := [(0, v23), (0, (m17 a1 1))]) (st := []) rfl rfl rfl rfl rfl (Nat.le_of_ble_eq_true rfl) (Nat.le_of_ble_eq_true rfl) (by omega) (by decide) (K26_t K18) (kvt (st' := fun v => []) rfl (fun _ => rfl) rfl) (H.mono (fun k v26 m27 H => ⟨fun z => ?_, H.2.2⟩))
        have O := H.1
        replace H := H.2.1 z
        have K28 := O.2.1 K18
        have t29 := Ok.tag O (t19) (by decide)
        have t30 := Ok.tag O (t20) (by decide)
        refine v_run 72 1 (pc' := 176) (ls' := [(1, 26), (1, a1), (1, a2), (9, 0), (1, v3)]) (st' := [(1, v3)]) rfl ?_
        refine v_nonnull (j := 73) rfl rfl rfl (fun q => ?_) (fun q => ?_)
        · replace H := H.1 q
          refine v_run 77 4 (pc' := 191) (ls' := [(1, 26), (1, a1), (1, a2), (9, 0), (1, v3)]) (st' := [(1, a2), (1, a1), (1, v3), (1, 26)]) rfl ?_
          refine v_callS (j := 81) (M' := mX8_ofConstant) (as := [(1, 26), (1, v3), (1, a1), (1, a2)]) (st := []) rfl rfl rfl rfl rfl (Nat.le_of_ble_eq_true rfl) (Nat.le_of_ble_eq_true rfl) (by omega) (kvt (st' := fun v => [(1, v)]) rfl (fun _ => rfl) rfl) (H.mono (fun k v31 m32 H => ⟨fun z => ?_, H.2.2⟩))
          have O := H.1
          replace H := H.2.1 z
          have K33 := O.2.1 K28
          have t34 := Ok.tag O (t29) (by decide)
          have t35 := Ok.tag O (t30) (by decide)
          exact v_aret (j := 82) rfl rfl rfl H
        · replace H := H.2 q
          refine v_run 74 1 (pc' := 180) (ls' := [(1, 26), (1, a1), (1, a2), (9, 0), (1, v3)]) (st' := [(1, 26)]) rfl ?_
          refine v_getK (j := 75) (c := 9) (f := 4) rfl rfl rfl rfl rfl rfl rfl rfl (K26_t K28) (K26_4 K28) ?_
          refine v_goto (j := 76) (tgt := 194) rfl rfl ?_
          exact v_aret (j := 82) rfl rfl rfl H
      refine v_icmpne (j := 59) rfl rfl rfl (fun q => ?_) (fun q => ?_)
      · replace H := H.1 q
        refine v_run 68 1 (pc' := 167) (ls' := [(1, 26), (1, a1), (1, a2), (9, 0), (1, v3)]) (st' := [(0, 0), (1, 26)]) rfl ?_
        exact J25 _ H
      · replace H := H.2 q
        refine v_run 60 1 (pc' := 148) (ls' := [(1, 26), (1, a1), (1, a2), (9, 0), (1, v3)]) (st' := [(1, 26), (1, 26)]) rfl ?_
        refine v_getf (j := 61) (c := 9) (f := 6) rfl rfl rfl rfl rfl rfl rfl rfl (K26_t K18) ?_
        refine v_ifeq (j := 62) rfl rfl rfl (fun q => ?_) (fun q => ?_)
        · replace H := H.1 q
          refine v_run 66 1 (pc' := 163) (ls' := [(1, 26), (1, a1), (1, a2), (9, 0), (1, v3)]) (st' := [(0, 1), (1, 26)]) rfl ?_
          refine v_goto (j := 67) (tgt := 167) rfl rfl ?_
          exact J25 _ H
        · replace H := H.2 q
          refine v_run 63 1 (pc' := 156) (ls' := [(1, 26), (1, a1), (1, a2), (9, 0), (1, v3)]) (st' := [(1, v3), (1, 26)]) rfl ?_
          refine v_getf (j := 64) (c := 20) (f := 3) rfl rfl rfl rfl rfl rfl rfl rfl (t20) ?_
          refine v_ifgt (j := 65) rfl rfl rfl (fun q => ?_) (fun q => ?_)
          · replace H := H.1 q
            refine v_run 68 1 (pc' := 167) (ls' := [(1, 26), (1, a1), (1, a2), (9, 0), (1, v3)]) (st' := [(0, 0), (1, 26)]) rfl ?_
            exact J25 _ H
          · replace H := H.2 q
            refine v_run 66 1 (pc' := 163) (ls' := [(1, 26), (1, a1), (1, a2), (9, 0), (1, v3)]) (st' := [(0, 1), (1, 26)]) rfl ?_
            refine v_goto (j := 67) (tgt := 167) rfl rfl ?_
            exact J25 _ H
  · replace H := H.2
    match k, hk, q with
    | 0, hk, q =>
      cases hk
      replace H := H.1 q
      refine v_run 15 2 (pc' := 59) (ls' := [(1, 26), (1, a1), (1, a2), (9, 0), (9, 0)]) (st' := [(1, a1), (1, a2)]) rfl ?_
      refine v_getf (j := 17) (c := 13) (f := 2) rfl rfl rfl rfl rfl rfl rfl rfl (t1) ?_
      refine v_callS (j := 18) (M' := mX8_find) (as := [(1, a2), (0, (m a1 2))]) (st := []) rfl rfl rfl rfl rfl (Nat.le_of_ble_eq_true rfl) (Nat.le_of_ble_eq_true rfl) (by omega) (kv0 (st' := fun v => [(1, v)]) rfl (fun _ => rfl)) (H.mono (fun k v36 m37 H => ⟨H.1, ?_⟩))
      have K38 := H.2.1.2.1 K
      have t39 := Ok.tag H.2.1 (t1) (by decide)
      replace H := H.2.2
      refine v_run 19 3 (pc' := 68) (ls' := [(1, 26), (1, a1), (1, a2), (1, v36), (9, 0)]) (st' := [(1, v36), (1, 26)]) rfl ?_
      have J45 : WV G mX8_type 76 [(1, 26), (1, a1), (1, a2), (1, v36), (9, 0)] [(0, (if v36 = 0 then 0 else 1)), (1, 26)] m37 d P := by
        refine v_run 26 1 (pc' := 77) (ls' := [(1, 26), (1, a1), (1, a2), (1, v36), (9, 0)]) (st' := [(1, a1), (0, (if v36 = 0 then 0 else 1)), (1, 26)]) rfl ?_
        refine v_getf (j := 27) (c := 13) (f := 1) rfl rfl rfl rfl rfl rfl rfl rfl (t39) ?_
        refine v_callV (j := 28) (M' := mX8_need) (as := [(0, (if v36 = 0 then 0 else 1)), (0, (m37 a1 1))]) (st := []) rfl rfl rfl rfl rfl (Nat.le_of_ble_eq_true rfl) (Nat.le_of_ble_eq_true rfl) (by omega) (by decide) (K26_t K38) (kvt (st' := fun v => []) rfl (fun _ => rfl) rfl) (H.mono (fun k v40 m41 H => ⟨fun z => ?_, H.2.2⟩))
        have O := H.1
        replace H := H.2.1 z
        have K42 := O.2.1 K38
        have t43 := Ok.tag O (t39) (by decide)
        refine v_run 29 1 (pc' := 84) (ls' := [(1, 26), (1, a1), (1, a2), (1, v36), (9, 0)]) (st' := [(1, v36)]) rfl ?_
        refine v_nonnull (j := 30) rfl rfl rfl (fun q => ?_) (fun q => ?_)
        · replace H := H.1 q
          refine v_run 34 1 (pc' := 95) (ls' := [(1, 26), (1, a1), (1, a2), (1, v36), (9, 0)]) (st' := [(1, v36)]) rfl ?_
          obtain ⟨t44, H⟩ := H
          refine v_callV (j := 35) (M' := mX16_type) (as := []) (st := []) rfl rfl rfl rfl rfl (Nat.le_of_ble_eq_true rfl) (Nat.le_of_ble_eq_true rfl) (by omega) (by decide) (t44) (kv0 (st' := fun v => [(1, v)]) rfl (fun _ => rfl)) (ipX16_type (t44) ⟨rfl, ?_⟩)
          exact v_aret (j := 36) rfl rfl rfl H
        · replace H := H.2 q
          refine v_run 31 1 (pc' := 88) (ls' := [(1, 26), (1, a1), (1, a2), (1, v36), (9, 0)]) (st' := [(1, 26)]) rfl ?_
          refine v_getK (j := 32) (c := 9) (f := 4) rfl rfl rfl rfl rfl rfl rfl rfl (K26_t K42) (K26_4 K42) ?_
          refine v_goto (j := 33) (tgt := 98) rfl rfl ?_
          exact v_aret (j := 36) rfl rfl rfl H
      refine v_null (j := 22) rfl rfl rfl (fun q => ?_) (fun q => ?_)
      · rw [show ((if v36 = 0 then 0 else 1) : Int) = 0 from if_pos q] at J45
        refine v_run 25 1 (pc' := 76) (ls' := [(1, 26), (1, a1), (1, a2), (1, v36), (9, 0)]) (st' := [(0, 0), (1, 26)]) rfl ?_
        exact J45
      · rw [show ((if v36 = 0 then 0 else 1) : Int) = 1 from if_neg q] at J45
        refine v_run 23 1 (pc' := 72) (ls' := [(1, 26), (1, a1), (1, a2), (1, v36), (9, 0)]) (st' := [(0, 1), (1, 26)]) rfl ?_
        refine v_goto (j := 24) (tgt := 76) rfl rfl ?_
        exact J45
    | 1, hk, q =>
      cases hk
      replace H := H.2.1 q
      refine v_run 4 1 (pc' := 33) (ls' := [(1, 26), (1, a1), (1, a2), (9, 0), (9, 0)]) (st' := [(1, a1)]) rfl ?_
      refine v_getf (j := 5) (c := 13) (f := 3) rfl rfl rfl rfl rfl rfl rfl rfl (t1) ?_
      refine v_gets (j := 6) (g := 1) (v := (-16)) rfl rfl rfl rfl ?_
      obtain ⟨t46, H⟩ := H
      refine v_callV (j := 7) (M' := mX9_is) (as := [(1, (-16))]) (st := []) rfl rfl rfl rfl rfl (Nat.le_of_ble_eq_true rfl) (Nat.le_of_ble_eq_true rfl) (by omega) (by decide) (t46) (kv0 (st' := fun v => [(0, v)]) rfl (fun _ => rfl)) (ipX9_is (t46) ⟨rfl, ?_⟩)
      refine v_ifeq (j := 8) rfl rfl rfl (fun q => ?_) (fun q => ?_)
      · replace H := H.1 (ite0 q)
        refine v_run 12 1 (pc' := 53) (ls' := [(1, 26), (1, a1), (1, a2), (9, 0), (9, 0)]) (st' := [(1, 26)]) rfl ?_
        refine v_getK (j := 13) (c := 9) (f := 5) rfl rfl rfl rfl rfl rfl rfl rfl (K26_t K) (K26_5 K) ?_
        exact v_aret (j := 14) rfl rfl rfl H
      · replace H := H.2 (ite1 q)
        refine v_run 9 1 (pc' := 46) (ls' := [(1, 26), (1, a1), (1, a2), (9, 0), (9, 0)]) (st' := [(1, 26)]) rfl ?_
        refine v_getK (j := 10) (c := 9) (f := 4) rfl rfl rfl rfl rfl rfl rfl rfl (K26_t K) (K26_4 K) ?_
        refine v_goto (j := 11) (tgt := 56) rfl rfl ?_
        exact v_aret (j := 14) rfl rfl rfl H
    | 2, hk, q =>
      cases hk
      replace H := H.2.2 q
      refine v_run 37 3 (pc' := 102) (ls' := [(1, 26), (1, a1), (1, a2), (9, 0), (9, 0)]) (st' := [(1, a1), (0, 0), (1, 26)]) rfl ?_
      refine v_getf (j := 40) (c := 13) (f := 1) rfl rfl rfl rfl rfl rfl rfl rfl (t1) ?_
      refine v_callV (j := 41) (M' := mX8_need) (as := [(0, 0), (0, (m a1 1))]) (st := []) rfl rfl rfl rfl rfl (Nat.le_of_ble_eq_true rfl) (Nat.le_of_ble_eq_true rfl) (by omega) (by decide) (K26_t K) (kvt (st' := fun v => []) rfl (fun _ => rfl) rfl) (H.mono (fun k v47 m48 H => ⟨fun z => ?_, H.2.2⟩))
      have O := H.1
      replace H := H.2.1 z
      have K49 := O.2.1 K
      have t50 := Ok.tag O (t1) (by decide)
      refine v_run 42 1 (pc' := 109) (ls' := [(1, 26), (1, a1), (1, a2), (9, 0), (9, 0)]) (st' := [(1, 26)]) rfl ?_
      refine v_getK (j := 43) (c := 9) (f := 4) rfl rfl rfl rfl rfl rfl rfl rfl (K26_t K49) (K26_4 K49) ?_
      exact v_aret (j := 44) rfl rfl rfl H
    | k + 3, hk, q => exact absurd hk (by simp)

set_option maxRecDepth 100000 in
set_option maxHeartbeats 4000000 in
theorem wX8_value {G : GM} {d : Nat} {P : Nat → Int → SM → Prop} {m : SM} {a1 a2 : Int} (K : KI m) (hd : 12 ≤ d) 
    (H : (m a1 (-1) = 14) ∧ ((m (m a1 0) (-1) = 51) ∧ ((((m (m a1 0) 0) < 0 ∨ 2 < (m (m a1 0) 0)) → (WV G mX8_value 73 [(1, 26), (1, a1), (1, a2), (9, 0), (1, 0), (0, 0)] [] m d P)) ∧ ((m (m a1 0) 0) = 0 → (WV G mX8_find 0 [(1, a2), (0, (m a1 2)), (9, 0)] [] m (d - 1) (fun k v3 m4 => k = 0 ∧ Ok m m4 ∧ ((v3 ≠ 0 → ((m4 v3 (-1) = 19) ∧ (P 0 (m4 v3 1) m4))) ∧ (v3 = 0 → (P 0 33 m4)))))) ∧ ((m (m a1 0) 0) = 1 → (P 0 (m a1 3) m)) ∧ ((m (m a1 0) 0) = 2 → (P 0 (m a1 5) m))))) :
    WV G mX8_value 0 [(1, 26), (1, a1), (1, a2), (9, 0), (9, 0), (9, 0)] [] m d P := by
  refine v_run 0 1 (pc' := 1) (ls' := [(1, 26), (1, a1), (1, a2), (9, 0), (9, 0), (9, 0)]) (st' := [(1, a1)]) rfl ?_
  obtain ⟨t1, H⟩ := H
  refine v_getf (j := 1) (c := 13) (f := 0) rfl rfl rfl rfl rfl rfl rfl rfl (t1) ?_
  obtain ⟨t2, H⟩ := H
  refine vj_ord (j := 2) (jj := 1) rfl rfl rfl rfl rfl (by decide) (t2) (by omega) (by simp) ?_
  refine v_tsw (j := 3) (tdf := 67) (tg := [42, 32, 37]) rfl rfl rfl rfl (fun q => ?_) (fun k n hk q => ?_)
  · replace H := H.1 q
    refine v_run 23 4 (pc' := 73) (ls' := [(1, 26), (1, a1), (1, a2), (9, 0), (1, 0), (0, 0)]) (st' := []) rfl ?_
    exact H
  · replace H := H.2
    match k, hk, q with
    | 0, hk, q =>
      cases hk
      replace H := H.1 q
      refine v_run 10 2 (pc' := 44) (ls' := [(1, 26), (1, a1), (1, a2), (9, 0), (9, 0), (9, 0)]) (st' := [(1, a1), (1, a2)]) rfl ?_
      refine v_getf (j := 12) (c := 13) (f := 2) rfl rfl rfl rfl rfl rfl rfl rfl (t1) ?_
      refine v_callS (j := 13) (M' := mX8_find) (as := [(1, a2), (0, (m a1 2))]) (st := []) rfl rfl rfl rfl rfl (Nat.le_of_ble_eq_true rfl) (Nat.le_of_ble_eq_true rfl) (by omega) (kv0 (st' := fun v => [(1, v)]) rfl (fun _ => rfl)) (H.mono (fun k v3 m4 H => ⟨H.1, ?_⟩))
      have K5 := H.2.1.2.1 K
      have t6 := Ok.tag H.2.1 (t1) (by decide)
      replace H := H.2.2
      refine v_run 14 2 (pc' := 52) (ls' := [(1, 26), (1, a1), (1, a2), (1, v3), (9, 0), (9, 0)]) (st' := [(1, v3)]) rfl ?_
      refine v_nonnull (j := 16) rfl rfl rfl (fun q => ?_) (fun q => ?_)
      · replace H := H.1 q
        refine v_run 20 1 (pc' := 63) (ls' := [(1, 26), (1, a1), (1, a2), (1, v3), (9, 0), (9, 0)]) (st' := [(1, v3)]) rfl ?_
        obtain ⟨t7, H⟩ := H
        refine v_callV (j := 21) (M' := mX16_value) (as := []) (st := []) rfl rfl rfl rfl rfl (Nat.le_of_ble_eq_true rfl) (Nat.le_of_ble_eq_true rfl) (by omega) (by decide) (t7) (kv0 (st' := fun v => [(1, v)]) rfl (fun _ => rfl)) (ipX16_value (t7) ⟨rfl, ?_⟩)
        exact v_aret (j := 22) rfl rfl rfl H
      · replace H := H.2 q
        refine v_run 17 1 (pc' := 56) (ls' := [(1, 26), (1, a1), (1, a2), (1, v3), (9, 0), (9, 0)]) (st' := [(1, 26)]) rfl ?_
        refine v_getK (j := 18) (c := 9) (f := 4) rfl rfl rfl rfl rfl rfl rfl rfl (K26_t K5) (K26_4 K5) ?_
        refine v_goto (j := 19) (tgt := 66) rfl rfl ?_
        exact v_aret (j := 22) rfl rfl rfl H
    | 1, hk, q =>
      cases hk
      replace H := H.2.1 q
      refine v_run 4 1 (pc' := 33) (ls' := [(1, 26), (1, a1), (1, a2), (9, 0), (9, 0), (9, 0)]) (st' := [(1, a1)]) rfl ?_
      refine v_getf (j := 5) (c := 13) (f := 3) rfl rfl rfl rfl rfl rfl rfl rfl (t1) ?_
      exact v_aret (j := 6) rfl rfl rfl H
    | 2, hk, q =>
      cases hk
      replace H := H.2.2 q
      refine v_run 7 1 (pc' := 38) (ls' := [(1, 26), (1, a1), (1, a2), (9, 0), (9, 0), (9, 0)]) (st' := [(1, a1)]) rfl ?_
      refine v_getf (j := 8) (c := 13) (f := 5) rfl rfl rfl rfl rfl rfl rfl rfl (t1) ?_
      exact v_aret (j := 9) rfl rfl rfl H
    | k + 3, hk, q => exact absurd hk (by simp)

set_option maxRecDepth 100000 in
set_option maxHeartbeats 4000000 in
theorem wX8_value_73 {G : GM} {d : Nat} {P : Nat → Int → SM → Prop} {m : SM} {a1 a2 a4 a5 : Int} (K : KI m) (hd : 12 ≤ d) 
    (H : (m a1 (-1) = 14) ∧ ((m (m a1 4) (-1) = 4) ∧ (((m (m a1 4) (-2)) ≤ a5 → (WV G mX3_made 0 [(1, 3), (0, (m a1 2)), (1, a4), (9, 0)] [] m (d - 1) (fun k v3 m4 => k = 0 ∧ Ok m m4 ∧ (P 0 v3 m4)))) ∧ (a5 < (m (m a1 4) (-2)) → ((0 ≤ a5) ∧ (a5 < m (m a1 4) (-2)) ∧ (((m (m a1 4) a5) = 0 ∨ m (m (m a1 4) a5) (-1) = 14) ∧ (WV G mX8_value 0 [(1, 26), (1, (m (m a1 4) a5)), (1, a2), (9, 0), (9, 0), (9, 0)] [] m (d - 1) (fun k v10 m11 => k = 0 ∧ Ok m m11 ∧ (WV G mX3_append 0 [(1, 3), (1, a4), (1, v10), (9, 0), (9, 0)] [] m11 (d - 1) (fun k v14 m15 => k = 0 ∧ Ok m11 m15 ∧ (WV G mX8_value 73 [(1, 26), (1, a1), (1, a2), (9, 0), (1, v14), (0, (wr (a5 + 1)))] [] m15 d P))))))))))) :
    WV G mX8_value 73 [(1, 26), (1, a1), (1, a2), (9, 0), (1, a4), (0, a5)] [] m d P := by
  refine v_run 27 2 (pc' := 76) (ls' := [(1, 26), (1, a1), (1, a2), (9, 0), (1, a4), (0, a5)]) (st' := [(1, a1), (0, a5)]) rfl ?_
  obtain ⟨t1, H⟩ := H
  refine v_getf (j := 29) (c := 13) (f := 4) rfl rfl rfl rfl rfl rfl rfl rfl (t1) ?_
  obtain ⟨t2, H⟩ := H
  refine vj_size (j := 30) rfl rfl rfl rfl (t2) (by omega) (by simp) ?_
  refine v_icmpge (j := 31) rfl rfl rfl (fun q => ?_) (fun q => ?_)
  · replace H := H.1 q
    refine v_run 48 1 (pc' := 123) (ls' := [(1, 26), (1, a1), (1, a2), (9, 0), (1, a4), (0, a5)]) (st' := [(1, 26)]) rfl ?_
    refine v_getK (j := 49) (c := 9) (f := 0) rfl rfl rfl rfl rfl rfl rfl rfl (K26_t K) (K26_0 K) ?_
    refine v_getK (j := 50) (c := 1) (f := 0) rfl rfl rfl rfl rfl rfl rfl rfl (K2_t K) (K2_0 K) ?_
    refine v_run 51 1 (pc' := 130) (ls' := [(1, 26), (1, a1), (1, a2), (9, 0), (1, a4), (0, a5)]) (st' := [(1, a1), (1, 3)]) rfl ?_
    refine v_getf (j := 52) (c := 13) (f := 2) rfl rfl rfl rfl rfl rfl rfl rfl (t1) ?_
    refine v_run 53 1 (pc' := 135) (ls' := [(1, 26), (1, a1), (1, a2), (9, 0), (1, a4), (0, a5)]) (st' := [(1, a4), (0, (m a1 2)), (1, 3)]) rfl ?_
    refine v_callV (j := 54) (M' := mX3_made) (as := [(0, (m a1 2)), (1, a4)]) (st := []) rfl rfl rfl rfl rfl (Nat.le_of_ble_eq_true rfl) (Nat.le_of_ble_eq_true rfl) (by omega) (by decide) (K3_t K) (kv0 (st' := fun v => [(1, v)]) rfl (fun _ => rfl)) (H.mono (fun k v3 m4 H => ⟨H.1, ?_⟩))
    have K5 := H.2.1.2.1 K
    have t6 := Ok.tag H.2.1 (t1) (by decide)
    replace H := H.2.2
    exact v_aret (j := 55) rfl rfl rfl H
  · replace H := H.2 q
    refine v_run 32 1 (pc' := 86) (ls' := [(1, 26), (1, a1), (1, a2), (9, 0), (1, a4), (0, a5)]) (st' := [(1, 26)]) rfl ?_
    refine v_getK (j := 33) (c := 9) (f := 0) rfl rfl rfl rfl rfl rfl rfl rfl (K26_t K) (K26_0 K) ?_
    refine v_getK (j := 34) (c := 1) (f := 0) rfl rfl rfl rfl rfl rfl rfl rfl (K2_t K) (K2_0 K) ?_
    refine v_run 35 3 (pc' := 96) (ls' := [(1, 26), (1, a1), (1, a2), (9, 0), (1, a4), (0, a5)]) (st' := [(1, a1), (1, 26), (1, a4), (1, 3)]) rfl ?_
    refine v_getf (j := 38) (c := 13) (f := 4) rfl rfl rfl rfl rfl rfl rfl rfl (t1) ?_
    refine v_run 39 1 (pc' := 101) (ls' := [(1, 26), (1, a1), (1, a2), (9, 0), (1, a4), (0, a5)]) (st' := [(0, a5), (1, (m a1 4)), (1, 26), (1, a4), (1, 3)]) rfl ?_
    obtain ⟨i7, i8, H⟩ := H
    refine vj_get (j := 40) rfl rfl rfl rfl (t2) (by omega) (by simp) i7 i8 ?_
    obtain ⟨c9, H⟩ := H
    refine v_cast (j := 41) (c := 13) rfl rfl rfl rfl rfl (c9) ?_
    refine v_run 42 1 (pc' := 108) (ls' := [(1, 26), (1, a1), (1, a2), (9, 0), (1, a4), (0, a5)]) (st' := [(1, a2), (1, (m (m a1 4) a5)), (1, 26), (1, a4), (1, 3)]) rfl ?_
    refine v_callS (j := 43) (M' := mX8_value) (as := [(1, 26), (1, (m (m a1 4) a5)), (1, a2)]) (st := [(1, a4), (1, 3)]) rfl rfl rfl rfl rfl (Nat.le_of_ble_eq_true rfl) (Nat.le_of_ble_eq_true rfl) (by omega) (kv0 (st' := fun v => [(1, v), (1, a4), (1, 3)]) rfl (fun _ => rfl)) (H.mono (fun k v10 m11 H => ⟨H.1, ?_⟩))
    have K12 := H.2.1.2.1 K
    have t13 := Ok.tag H.2.1 (t1) (by decide)
    replace H := H.2.2
    refine v_callV (j := 44) (M' := mX3_append) (as := [(1, a4), (1, v10)]) (st := []) rfl rfl rfl rfl rfl (Nat.le_of_ble_eq_true rfl) (Nat.le_of_ble_eq_true rfl) (by omega) (by decide) (K3_t K12) (kv0 (st' := fun v => [(1, v)]) rfl (fun _ => rfl)) (H.mono (fun k v14 m15 H => ⟨H.1, ?_⟩))
    have K16 := H.2.1.2.1 K12
    have t17 := Ok.tag H.2.1 (t13) (by decide)
    replace H := H.2.2
    refine v_run 45 2 (pc' := 119) (ls' := [(1, 26), (1, a1), (1, a2), (9, 0), (1, v14), (0, (wr (a5 + 1)))]) (st' := []) rfl ?_
    refine v_goto (j := 47) (tgt := 73) rfl rfl ?_
    exact H

set_option maxRecDepth 100000 in
set_option maxHeartbeats 4000000 in
theorem wX8_look {G : GM} {d : Nat} {P : Nat → Int → SM → Prop} {m : SM} {a1 : Int} (K : KI m) (hd : 12 ≤ d) 
    (H : ∀ m2, m2 = up m 26 6 1 → Ok m m2 → (WV G mX8_look 9 [(1, 26), (1, a1), (1, 0), (0, 0), (9, 0), (9, 0), (9, 0)] [] m2 d P)) :
    WV G mX8_look 0 [(1, 26), (1, a1), (9, 0), (9, 0), (9, 0), (9, 0), (9, 0)] [] m d P := by
  refine v_run 0 2 (pc' := 2) (ls' := [(1, 26), (1, a1), (9, 0), (9, 0), (9, 0), (9, 0), (9, 0)]) (st' := [(0, 1), (1, 26)]) rfl ?_
  refine v_putf (j := 2) (c := 9) (f := 6) rfl rfl rfl rfl (by decide +kernel) rfl rfl rfl rfl (K26_t K) (Or.inr rfl) (fun m2 e3 => ?_)
  have O4 : Ok m m2 := Ok.wf e3 (K26_t K) (by decide) (by decide)
  have K5 := O4.2.1 K
  replace H := H m2 e3 O4
  refine v_run 3 4 (pc' := 9) (ls' := [(1, 26), (1, a1), (1, 0), (0, 0), (9, 0), (9, 0), (9, 0)]) (st' := []) rfl ?_
  exact H

set_option maxRecDepth 100000 in
set_option maxHeartbeats 4000000 in
theorem wX8_look_9 {G : GM} {d : Nat} {P : Nat → Int → SM → Prop} {m : SM} {a1 a2 a3 : Int} (K : KI m) (hd : 12 ≤ d) 
    (H : (m a1 (-1) = 21) ∧ ((m (m a1 0) (-1) = 4) ∧ (((m (m a1 0) (-2)) ≤ a3 → (((m a1 1) = 0 → (∃ Q3 : Int → Prop, (((m a1 1) ≠ 0 → ((m (m a1 1) (-1) = 14) ∧ (Q3 (m (m a1 1) 1)))) ∧ ((m a1 1) = 0 → (Q3 0))) ∧ (∀ v4, Q3 v4 → (WV G mX8_need 0 [(1, 26), (0, 1), (0, v4)] [] m (d - 1) (fun k v7 m8 => Ok m m8 ∧ (k = 0 → (P 0 0 m8)) ∧ (k ≠ 0 → P 1 v7 m8)))))) ∧ ((m a1 1) ≠ 0 → (WV G mX8_type 0 [(1, 26), (1, (m a1 1)), (1, a2), (9, 0), (9, 0)] [] m (d - 1) (fun k v12 m13 => Ok m m13 ∧ (k = 0 → ((m13 v12 (-1) = 11) ∧ (∃ Q17 : Int → Prop, (((m13 a1 1) ≠ 0 → ((m13 (m13 a1 1) (-1) = 14) ∧ (Q17 (m13 (m13 a1 1) 1)))) ∧ ((m13 a1 1) = 0 → (Q17 0))) ∧ (∀ v18, Q17 v18 → (WV G mX8_need 0 [(1, 26), (0, (if (m13 v12 0) = (-15) then 1 else 0)), (0, v18)] [] m13 (d - 1) (fun k v21 m22 => Ok m13 m22 ∧ (k = 0 → (P 0 0 m22)) ∧ (k ≠ 0 → P 1 v21 m22))))))) ∧ (k ≠ 0 → P 1 v12 m13)))))) ∧ (a3 < (m (m a1 0) (-2)) → ((0 ≤ a3) ∧ (a3 < m (m a1 0) (-2)) ∧ (((m (m a1 0) a3) = 0 ∨ m (m (m a1 0) a3) (-1) = 20) ∧ ((m (m (m a1 0) a3) (-1) = 20) ∧ (((m (m (m a1 0) a3) 0) = (0 : Int) → (WV G mX8_type 0 [(1, 26), (1, (m (m (m a1 0) a3) 3)), (1, a2), (9, 0), (9, 0)] [] m (d - 1) (fun k v31 m32 => Ok m m32 ∧ (k = 0 → ((m32 v31 (-1) = 11) ∧ ((m32 (m32 (m (m a1 0) a3) 3) (-1) = 14) ∧ (WV G mX8_need 0 [(1, 26), (0, (if (m32 v31 0) = (-15) then 1 else 0)), (0, (m32 (m32 (m (m a1 0) a3) 3) 1))] [] m32 (d - 1) (fun k v38 m39 => Ok m32 m39 ∧ (k = 0 → (((m39 (m (m a1 0) a3) 2) = (0 : Int) → (WV G mX8_look 9 [(1, 26), (1, a1), (1, a2), (0, (wr (a3 + 1))), (9, 0), (9, 0), (9, 0)] [] m39 d P)) ∧ ((m39 (m (m a1 0) a3) 2) ≠ (0 : Int) → ((m39 0 0 ≤ 1203200) ∧ (m39 0 1 + 4 ≤ 5491882) ∧ (Bs m39 → ∀ m45, m45 = al m39 19 0 4 → Ok m39 m45 → (WV G mX3_make 0 [(1, 3), (1, (-17)), (0, 0), (9, 0)] [] m45 (d - 1) (fun k v52 m53 => k = 0 ∧ Ok m45 m53 ∧ (WV G mX8_value 0 [(1, 26), (1, (m53 (m (m a1 0) a3) 3)), (1, a2), (9, 0), (9, 0), (9, 0)] [] m53 (d - 1) (fun k v58 m59 => k = 0 ∧ Ok m53 m59 ∧ (((m39 0 0) ≠ 0) ∧ (WV G mX16_init 0 [(1, (m39 0 0)), (0, (m45 (m (m a1 0) a3) 2)), (1, v52), (1, v58), (1, a2)] [] m59 (d - 1) (fun k v65 m66 => k = 0 ∧ Ok m59 m66 ∧ (WV G mX8_look 9 [(1, 26), (1, a1), (1, (m39 0 0)), (0, (wr (a3 + 1))), (9, 0), (9, 0), (9, 0)] [] m66 d P))))))))))))) ∧ (k ≠ 0 → P 1 v38 m39)))))) ∧ (k ≠ 0 → P 1 v31 m32)))) ∧ ((m (m (m a1 0) a3) 0) ≠ (0 : Int) → (WV G mX2_programOf 0 [(1, 2), (0, (m (m (m a1 0) a3) 2)), (9, 0)] [] m (d - 1) (fun k v71 m72 => k = 0 ∧ Ok m m72 ∧ ((v71 = 0 → (WV G mX8_need 0 [(1, 26), (0, 0), (0, (m72 (m (m a1 0) a3) 1))] [] m72 (d - 1) (fun k v76 m77 => Ok m72 m77 ∧ (k = 0 → (WV G mX8_look 95 [(1, 26), (1, a1), (1, a2), (0, a3), (1, (m (m a1 0) a3)), (9, 0), (0, 0)] [] m77 d P)) ∧ (k ≠ 0 → P 1 v76 m77)))) ∧ (v71 ≠ 0 → ((m72 v71 (-1) = 22) ∧ (WV G mX17_parameters 0 [(1, v71)] [] m72 (d - 1) (fun k v82 m83 => k = 0 ∧ Ok m72 m83 ∧ ((m83 (m83 (m (m a1 0) a3) 4) (-1) = 4) ∧ (WV G mX8_need 0 [(1, 26), (0, (if v82 ≠ (wr ((m83 (m83 (m (m a1 0) a3) 4) (-2)) - 1)) then 0 else 1)), (0, (m83 (m (m a1 0) a3) 1))] [] m83 (d - 1) (fun k v89 m90 => Ok m83 m90 ∧ (k = 0 → (WV G mX8_look 95 [(1, 26), (1, a1), (1, a2), (0, a3), (1, (m (m a1 0) a3)), (9, 0), (0, 0)] [] m90 d P)) ∧ (k ≠ 0 → P 1 v89 m90)))))))))))))))))))) :
    WV G mX8_look 9 [(1, 26), (1, a1), (1, a2), (0, a3), (9, 0), (9, 0), (9, 0)] [] m d P := by
  refine v_run 7 2 (pc' := 11) (ls' := [(1, 26), (1, a1), (1, a2), (0, a3), (9, 0), (9, 0), (9, 0)]) (st' := [(1, a1), (0, a3)]) rfl ?_
  obtain ⟨t1, H⟩ := H
  refine v_getf (j := 9) (c := 20) (f := 0) rfl rfl rfl rfl rfl rfl rfl rfl (t1) ?_
  obtain ⟨t2, H⟩ := H
  refine vj_size (j := 10) rfl rfl rfl rfl (t2) (by omega) (by simp) ?_
  refine v_icmpge (j := 11) rfl rfl rfl (fun q => ?_) (fun q => ?_)
  · replace H := H.1 q
    refine v_run 98 2 (pc' := 218) (ls' := [(1, 26), (1, a1), (1, a2), (0, a3), (9, 0), (9, 0), (9, 0)]) (st' := [(1, a1), (1, 26)]) rfl ?_
    refine v_getf (j := 100) (c := 20) (f := 1) rfl rfl rfl rfl rfl rfl rfl rfl (t1) ?_
    refine v_null (j := 101) rfl rfl rfl (fun q => ?_) (fun q => ?_)
    · replace H := H.1 q
      refine v_run 110 1 (pc' := 243) (ls' := [(1, 26), (1, a1), (1, a2), (0, a3), (9, 0), (9, 0), (9, 0)]) (st' := [(0, 1), (1, 26)]) rfl ?_
      refine v_goto (j := 111) (tgt := 247) rfl rfl ?_
      refine v_run 113 1 (pc' := 248) (ls' := [(1, 26), (1, a1), (1, a2), (0, a3), (9, 0), (9, 0), (9, 0)]) (st' := [(1, a1), (0, 1), (1, 26)]) rfl ?_
      refine v_getf (j := 114) (c := 20) (f := 1) rfl rfl rfl rfl rfl rfl rfl rfl (t1) ?_
      obtain ⟨Q3, H, J6⟩ := H
      have J6 : ∀ v4, Q3 v4 → WV G mX8_look 265 [(1, 26), (1, a1), (1, a2), (0, a3), (9, 0), (9, 0), (9, 0)] [(0, v4), (0, 1), (1, 26)] m d P := by
        intro v4 q5
        have H := J6 v4 q5
        refine v_callV (j := 121) (M' := mX8_need) (as := [(0, 1), (0, v4)]) (st := []) rfl rfl rfl rfl rfl (Nat.le_of_ble_eq_true rfl) (Nat.le_of_ble_eq_true rfl) (by omega) (by decide) (K26_t K) (kvt (st' := fun v => []) rfl (fun _ => rfl) rfl) (H.mono (fun k v7 m8 H => ⟨fun z => ?_, H.2.2⟩))
        have O := H.1
        replace H := H.2.1 z
        have K9 := O.2.1 K
        have t10 := Ok.tag O (t1) (by decide)
        exact v_vret (j := 122) rfl rfl H
      refine v_nonnull (j := 115) rfl rfl rfl (fun q => ?_) (fun q => ?_)
      · replace H := H.1 q
        refine v_run 118 1 (pc' := 259) (ls' := [(1, 26), (1, a1), (1, a2), (0, a3), (9, 0), (9, 0), (9, 0)]) (st' := [(1, a1), (0, 1), (1, 26)]) rfl ?_
        refine v_getf (j := 119) (c := 20) (f := 1) rfl rfl rfl rfl rfl rfl rfl rfl (t1) ?_
        obtain ⟨t11, H⟩ := H
        refine v_getf (j := 120) (c := 13) (f := 1) rfl rfl rfl rfl rfl rfl rfl rfl (t11) ?_
        exact J6 _ H
      · replace H := H.2 q
        refine v_run 116 1 (pc' := 255) (ls' := [(1, 26), (1, a1), (1, a2), (0, a3), (9, 0), (9, 0), (9, 0)]) (st' := [(0, 0), (0, 1), (1, 26)]) rfl ?_
        refine v_goto (j := 117) (tgt := 265) rfl rfl ?_
        exact J6 _ H
    · replace H := H.2 q
      refine v_run 102 2 (pc' := 226) (ls' := [(1, 26), (1, a1), (1, a2), (0, a3), (9, 0), (9, 0), (9, 0)]) (st' := [(1, a1), (1, 26), (1, 26)]) rfl ?_
      refine v_getf (j := 104) (c := 20) (f := 1) rfl rfl rfl rfl rfl rfl rfl rfl (t1) ?_
      refine v_run 105 1 (pc' := 230) (ls' := [(1, 26), (1, a1), (1, a2), (0, a3), (9, 0), (9, 0), (9, 0)]) (st' := [(1, a2), (1, (m a1 1)), (1, 26), (1, 26)]) rfl ?_
      refine v_callS (j := 106) (M' := mX8_type) (as := [(1, 26), (1, (m a1 1)), (1, a2)]) (st := [(1, 26)]) rfl rfl rfl rfl rfl (Nat.le_of_ble_eq_true rfl) (Nat.le_of_ble_eq_true rfl) (by omega) (kvt (st' := fun v => [(1, v), (1, 26)]) rfl (fun _ => rfl) rfl) (H.mono (fun k v12 m13 H => ⟨fun z => ?_, H.2.2⟩))
      have O := H.1
      replace H := H.2.1 z
      have K14 := O.2.1 K
      have t15 := Ok.tag O (t1) (by decide)
      refine v_gets (j := 107) (g := 1) (v := (-15)) rfl rfl rfl rfl ?_
      obtain ⟨t16, H⟩ := H
      refine v_callV (j := 108) (M' := mX9_is) (as := [(1, (-15))]) (st := [(1, 26)]) rfl rfl rfl rfl rfl (Nat.le_of_ble_eq_true rfl) (Nat.le_of_ble_eq_true rfl) (by omega) (by decide) (t16) (kv0 (st' := fun v => [(0, v), (1, 26)]) rfl (fun _ => rfl)) (ipX9_is (t16) ⟨rfl, ?_⟩)
      have J26 : WV G mX8_look 247 [(1, 26), (1, a1), (1, a2), (0, a3), (9, 0), (9, 0), (9, 0)] [(0, (if (m13 v12 0) = (-15) then 1 else 0)), (1, 26)] m13 d P := by
        refine v_run 113 1 (pc' := 248) (ls' := [(1, 26), (1, a1), (1, a2), (0, a3), (9, 0), (9, 0), (9, 0)]) (st' := [(1, a1), (0, (if (m13 v12 0) = (-15) then 1 else 0)), (1, 26)]) rfl ?_
        refine v_getf (j := 114) (c := 20) (f := 1) rfl rfl rfl rfl rfl rfl rfl rfl (t15) ?_
        obtain ⟨Q17, H, J20⟩ := H
        have J20 : ∀ v18, Q17 v18 → WV G mX8_look 265 [(1, 26), (1, a1), (1, a2), (0, a3), (9, 0), (9, 0), (9, 0)] [(0, v18), (0, (if (m13 v12 0) = (-15) then 1 else 0)), (1, 26)] m13 d P := by
          intro v18 q19
          have H := J20 v18 q19
          refine v_callV (j := 121) (M' := mX8_need) (as := [(0, (if (m13 v12 0) = (-15) then 1 else 0)), (0, v18)]) (st := []) rfl rfl rfl rfl rfl (Nat.le_of_ble_eq_true rfl) (Nat.le_of_ble_eq_true rfl) (by omega) (by decide) (K26_t K14) (kvt (st' := fun v => []) rfl (fun _ => rfl) rfl) (H.mono (fun k v21 m22 H => ⟨fun z => ?_, H.2.2⟩))
          have O := H.1
          replace H := H.2.1 z
          have K23 := O.2.1 K14
          have t24 := Ok.tag O (t15) (by decide)
          exact v_vret (j := 122) rfl rfl H
        refine v_nonnull (j := 115) rfl rfl rfl (fun q => ?_) (fun q => ?_)
        · replace H := H.1 q
          refine v_run 118 1 (pc' := 259) (ls' := [(1, 26), (1, a1), (1, a2), (0, a3), (9, 0), (9, 0), (9, 0)]) (st' := [(1, a1), (0, (if (m13 v12 0) = (-15) then 1 else 0)), (1, 26)]) rfl ?_
          refine v_getf (j := 119) (c := 20) (f := 1) rfl rfl rfl rfl rfl rfl rfl rfl (t15) ?_
          obtain ⟨t25, H⟩ := H
          refine v_getf (j := 120) (c := 13) (f := 1) rfl rfl rfl rfl rfl rfl rfl rfl (t25) ?_
          exact J20 _ H
        · replace H := H.2 q
          refine v_run 116 1 (pc' := 255) (ls' := [(1, 26), (1, a1), (1, a2), (0, a3), (9, 0), (9, 0), (9, 0)]) (st' := [(0, 0), (0, (if (m13 v12 0) = (-15) then 1 else 0)), (1, 26)]) rfl ?_
          refine v_goto (j := 117) (tgt := 265) rfl rfl ?_
          exact J20 _ H
      refine v_ifeq (j := 109) rfl rfl rfl (fun q => ?_) (fun q => ?_)
      · rw [show ((if (m13 v12 0) = (-15) then 1 else 0) : Int) = 0 from if_neg (ite0 q)] at J26
        refine v_run 112 1 (pc' := 247) (ls' := [(1, 26), (1, a1), (1, a2), (0, a3), (9, 0), (9, 0), (9, 0)]) (st' := [(0, 0), (1, 26)]) rfl ?_
        exact J26
      · rw [show ((if (m13 v12 0) = (-15) then 1 else 0) : Int) = 1 from if_pos (ite1 q)] at J26
        refine v_run 110 1 (pc' := 243) (ls' := [(1, 26), (1, a1), (1, a2), (0, a3), (9, 0), (9, 0), (9, 0)]) (st' := [(0, 1), (1, 26)]) rfl ?_
        refine v_goto (j := 111) (tgt := 247) rfl rfl ?_
        exact J26
  · replace H := H.2 q
    refine v_run 12 1 (pc' := 21) (ls' := [(1, 26), (1, a1), (1, a2), (0, a3), (9, 0), (9, 0), (9, 0)]) (st' := [(1, a1)]) rfl ?_
    refine v_getf (j := 13) (c := 20) (f := 0) rfl rfl rfl rfl rfl rfl rfl rfl (t1) ?_
    refine v_run 14 1 (pc' := 25) (ls' := [(1, 26), (1, a1), (1, a2), (0, a3), (9, 0), (9, 0), (9, 0)]) (st' := [(0, a3), (1, (m a1 0))]) rfl ?_
    obtain ⟨i27, i28, H⟩ := H
    refine vj_get (j := 15) rfl rfl rfl rfl (t2) (by omega) (by simp) i27 i28 ?_
    obtain ⟨c29, H⟩ := H
    refine v_cast (j := 16) (c := 19) rfl rfl rfl rfl rfl (c29) ?_
    refine v_run 17 2 (pc' := 35) (ls' := [(1, 26), (1, a1), (1, a2), (0, a3), (1, (m (m a1 0) a3)), (9, 0), (9, 0)]) (st' := [(1, (m (m a1 0) a3))]) rfl ?_
    obtain ⟨t30, H⟩ := H
    refine v_callV (j := 19) (M' := mX12_condition) (as := []) (st := []) rfl rfl rfl rfl rfl (Nat.le_of_ble_eq_true rfl) (Nat.le_of_ble_eq_true rfl) (by omega) (by decide) (t30) (kv0 (st' := fun v => [(0, v)]) rfl (fun _ => rfl)) (ipX12_condition (t30) ⟨rfl, ?_⟩)
    refine v_ifeq (j := 20) rfl rfl rfl (fun q => ?_) (fun q => ?_)
    · replace H := H.1 q
      refine v_run 63 3 (pc' := 140) (ls' := [(1, 26), (1, a1), (1, a2), (0, a3), (1, (m (m a1 0) a3)), (9, 0), (9, 0)]) (st' := [(1, (m (m a1 0) a3)), (1, 26), (1, 26)]) rfl ?_
      refine v_callV (j := 66) (M' := mX12_type) (as := []) (st := [(1, 26), (1, 26)]) rfl rfl rfl rfl rfl (Nat.le_of_ble_eq_true rfl) (Nat.le_of_ble_eq_true rfl) (by omega) (by decide) (t30) (kv0 (st' := fun v => [(1, v), (1, 26), (1, 26)]) rfl (fun _ => rfl)) (ipX12_type (t30) ⟨rfl, ?_⟩)
      refine v_run 67 1 (pc' := 144) (ls' := [(1, 26), (1, a1), (1, a2), (0, a3), (1, (m (m a1 0) a3)), (9, 0), (9, 0)]) (st' := [(1, a2), (1, (m (m (m a1 0) a3) 3)), (1, 26), (1, 26)]) rfl ?_
      refine v_callS (j := 68) (M' := mX8_type) (as := [(1, 26), (1, (m (m (m a1 0) a3) 3)), (1, a2)]) (st := [(1, 26)]) rfl rfl rfl rfl rfl (Nat.le_of_ble_eq_true rfl) (Nat.le_of_ble_eq_true rfl) (by omega) (kvt (st' := fun v => [(1, v), (1, 26)]) rfl (fun _ => rfl) rfl) (H.mono (fun k v31 m32 H => ⟨fun z => ?_, H.2.2⟩))
      have O := H.1
      replace H := H.2.1 z
      have K33 := O.2.1 K
      have t34 := Ok.tag O (t1) (by decide)
      have t35 := Ok.tag O (t30) (by decide)
      refine v_gets (j := 69) (g := 1) (v := (-15)) rfl rfl rfl rfl ?_
      obtain ⟨t36, H⟩ := H
      refine v_callV (j := 70) (M' := mX9_is) (as := [(1, (-15))]) (st := [(1, 26)]) rfl rfl rfl rfl rfl (Nat.le_of_ble_eq_true rfl) (Nat.le_of_ble_eq_true rfl) (by omega) (by decide) (t36) (kv0 (st' := fun v => [(0, v), (1, 26)]) rfl (fun _ => rfl)) (ipX9_is (t36) ⟨rfl, ?_⟩)
      refine v_run 71 1 (pc' := 155) (ls' := [(1, 26), (1, a1), (1, a2), (0, a3), (1, (m (m a1 0) a3)), (9, 0), (9, 0)]) (st' := [(1, (m (m a1 0) a3)), (0, (if (m32 v31 0) = (-15) then 1 else 0)), (1, 26)]) rfl ?_
      refine v_callV (j := 72) (M' := mX12_type) (as := []) (st := [(0, (if (m32 v31 0) = (-15) then 1 else 0)), (1, 26)]) rfl rfl rfl rfl rfl (Nat.le_of_ble_eq_true rfl) (Nat.le_of_ble_eq_true rfl) (by omega) (by decide) (t35) (kv0 (st' := fun v => [(1, v), (0, (if (m32 v31 0) = (-15) then 1 else 0)), (1, 26)]) rfl (fun _ => rfl)) (ipX12_type (t35) ⟨rfl, ?_⟩)
      obtain ⟨t37, H⟩ := H
      refine v_getf (j := 73) (c := 13) (f := 1) rfl rfl rfl rfl rfl rfl rfl rfl (t37) ?_
      refine v_callV (j := 74) (M' := mX8_need) (as := [(0, (if (m32 v31 0) = (-15) then 1 else 0)), (0, (m32 (m32 (m (m a1 0) a3) 3) 1))]) (st := []) rfl rfl rfl rfl rfl (Nat.le_of_ble_eq_true rfl) (Nat.le_of_ble_eq_true rfl) (by omega) (by decide) (K26_t K33) (kvt (st' := fun v => []) rfl (fun _ => rfl) rfl) (H.mono (fun k v38 m39 H => ⟨fun z => ?_, H.2.2⟩))
      have O := H.1
      replace H := H.2.1 z
      have K40 := O.2.1 K33
      have t41 := Ok.tag O (t34) (by decide)
      have t42 := Ok.tag O (t35) (by decide)
      refine v_run 75 1 (pc' := 166) (ls' := [(1, 26), (1, a1), (1, a2), (0, a3), (1, (m (m a1 0) a3)), (9, 0), (9, 0)]) (st' := [(1, (m (m a1 0) a3))]) rfl ?_
      refine v_callV (j := 76) (M' := mX12_letter) (as := []) (st := []) rfl rfl rfl rfl rfl (Nat.le_of_ble_eq_true rfl) (Nat.le_of_ble_eq_true rfl) (by omega) (by decide) (t42) (kv0 (st' := fun v => [(0, v)]) rfl (fun _ => rfl)) (ipX12_letter (t42) ⟨rfl, ?_⟩)
      refine v_ifeq (j := 77) rfl rfl rfl (fun q => ?_) (fun q => ?_)
      · replace H := H.1 q
        refine v_run 96 1 (pc' := 213) (ls' := [(1, 26), (1, a1), (1, a2), (0, (wr (a3 + 1))), (1, (m (m a1 0) a3)), (9, 0), (9, 0)]) (st' := []) rfl ?_
        refine v_goto (j := 97) (tgt := 9) rfl rfl ?_
        refine v_drp [true, true, true, true, false, false, false] ?_
        exact H
      · replace H := H.2 q
        obtain ⟨r43, r44, H⟩ := H
        refine v_new (j := 78) (c := 18) rfl rfl rfl rfl rfl rfl rfl r43 r44 (fun B m45 e46 => ?_)
        have O47 : Ok m39 m45 := Ok.nw B e46
        have K48 := O47.2.1 K40
        have t49 := Ok.tag O47 (t41) (by decide)
        have t50 := Ok.tag O47 (t42) (by decide)
        replace H := H B m45 e46 O47
        have t51 := al_tag B e46
        refine v_run 79 2 (pc' := 178) (ls' := [(1, 26), (1, a1), (1, a2), (0, a3), (1, (m (m a1 0) a3)), (9, 0), (9, 0)]) (st' := [(1, (m (m a1 0) a3)), (1, (m39 0 0)), (1, (m39 0 0))]) rfl ?_
        refine v_callV (j := 81) (M' := mX12_letter) (as := []) (st := [(1, (m39 0 0)), (1, (m39 0 0))]) rfl rfl rfl rfl rfl (Nat.le_of_ble_eq_true rfl) (Nat.le_of_ble_eq_true rfl) (by omega) (by decide) (t50) (kv0 (st' := fun v => [(0, v), (1, (m39 0 0)), (1, (m39 0 0))]) rfl (fun _ => rfl)) (ipX12_letter (t50) ⟨rfl, ?_⟩)
        refine v_run 82 1 (pc' := 182) (ls' := [(1, 26), (1, a1), (1, a2), (0, a3), (1, (m (m a1 0) a3)), (9, 0), (9, 0)]) (st' := [(1, 26), (0, (m45 (m (m a1 0) a3) 2)), (1, (m39 0 0)), (1, (m39 0 0))]) rfl ?_
        refine v_getK (j := 83) (c := 9) (f := 0) rfl rfl rfl rfl rfl rfl rfl rfl (K26_t K48) (K26_0 K48) ?_
        refine v_getK (j := 84) (c := 1) (f := 0) rfl rfl rfl rfl rfl rfl rfl rfl (K2_t K48) (K2_0 K48) ?_
        refine v_gets (j := 85) (g := 1) (v := (-17)) rfl rfl rfl rfl ?_
        refine v_run 86 1 (pc' := 192) (ls' := [(1, 26), (1, a1), (1, a2), (0, a3), (1, (m (m a1 0) a3)), (9, 0), (9, 0)]) (st' := [(0, 0), (1, (-17)), (1, 3), (0, (m45 (m (m a1 0) a3) 2)), (1, (m39 0 0)), (1, (m39 0 0))]) rfl ?_
        refine v_callV (j := 87) (M' := mX3_make) (as := [(1, (-17)), (0, 0)]) (st := [(0, (m45 (m (m a1 0) a3) 2)), (1, (m39 0 0)), (1, (m39 0 0))]) rfl rfl rfl rfl rfl (Nat.le_of_ble_eq_true rfl) (Nat.le_of_ble_eq_true rfl) (by omega) (by decide) (K3_t K48) (kv0 (st' := fun v => [(1, v), (0, (m45 (m (m a1 0) a3) 2)), (1, (m39 0 0)), (1, (m39 0 0))]) rfl (fun _ => rfl)) (H.mono (fun k v52 m53 H => ⟨H.1, ?_⟩))
        have K54 := H.2.1.2.1 K48
        have t55 := Ok.tag H.2.1 (t49) (by decide)
        have t56 := Ok.tag H.2.1 (t50) (by decide)
        have t57 := Ok.tag H.2.1 (t51) (by decide)
        replace H := H.2.2
        refine v_run 88 2 (pc' := 198) (ls' := [(1, 26), (1, a1), (1, a2), (0, a3), (1, (m (m a1 0) a3)), (9, 0), (9, 0)]) (st' := [(1, (m (m a1 0) a3)), (1, 26), (1, v52), (0, (m45 (m (m a1 0) a3) 2)), (1, (m39 0 0)), (1, (m39 0 0))]) rfl ?_
        refine v_callV (j := 90) (M' := mX12_type) (as := []) (st := [(1, 26), (1, v52), (0, (m45 (m (m a1 0) a3) 2)), (1, (m39 0 0)), (1, (m39 0 0))]) rfl rfl rfl rfl rfl (Nat.le_of_ble_eq_true rfl) (Nat.le_of_ble_eq_true rfl) (by omega) (by decide) (t56) (kv0 (st' := fun v => [(1, v), (1, 26), (1, v52), (0, (m45 (m (m a1 0) a3) 2)), (1, (m39 0 0)), (1, (m39 0 0))]) rfl (fun _ => rfl)) (ipX12_type (t56) ⟨rfl, ?_⟩)
        refine v_run 91 1 (pc' := 202) (ls' := [(1, 26), (1, a1), (1, a2), (0, a3), (1, (m (m a1 0) a3)), (9, 0), (9, 0)]) (st' := [(1, a2), (1, (m53 (m (m a1 0) a3) 3)), (1, 26), (1, v52), (0, (m45 (m (m a1 0) a3) 2)), (1, (m39 0 0)), (1, (m39 0 0))]) rfl ?_
        refine v_callS (j := 92) (M' := mX8_value) (as := [(1, 26), (1, (m53 (m (m a1 0) a3) 3)), (1, a2)]) (st := [(1, v52), (0, (m45 (m (m a1 0) a3) 2)), (1, (m39 0 0)), (1, (m39 0 0))]) rfl rfl rfl rfl rfl (Nat.le_of_ble_eq_true rfl) (Nat.le_of_ble_eq_true rfl) (by omega) (kv0 (st' := fun v => [(1, v), (1, v52), (0, (m45 (m (m a1 0) a3) 2)), (1, (m39 0 0)), (1, (m39 0 0))]) rfl (fun _ => rfl)) (H.mono (fun k v58 m59 H => ⟨H.1, ?_⟩))
        have K60 := H.2.1.2.1 K54
        have t61 := Ok.tag H.2.1 (t55) (by decide)
        have t62 := Ok.tag H.2.1 (t56) (by decide)
        have t63 := Ok.tag H.2.1 (t57) (by decide)
        replace H := H.2.2
        refine v_run 93 1 (pc' := 206) (ls' := [(1, 26), (1, a1), (1, a2), (0, a3), (1, (m (m a1 0) a3)), (9, 0), (9, 0)]) (st' := [(1, a2), (1, v58), (1, v52), (0, (m45 (m (m a1 0) a3) 2)), (1, (m39 0 0)), (1, (m39 0 0))]) rfl ?_
        obtain ⟨z64, H⟩ := H
        refine v_callI (j := 94) (M' := mX16_init) (as := [(0, (m45 (m (m a1 0) a3) 2)), (1, v52), (1, v58), (1, a2)]) (st := [(1, (m39 0 0))]) rfl rfl rfl rfl rfl (Nat.le_of_ble_eq_true rfl) (Nat.le_of_ble_eq_true rfl) (by omega) z64 (kv0 (st' := fun v => [(1, (m39 0 0))]) rfl (fun _ => rfl)) (H.mono (fun k v65 m66 H => ⟨H.1, ?_⟩))
        have K67 := H.2.1.2.1 K60
        have t68 := Ok.tag H.2.1 (t61) (by decide)
        have t69 := Ok.tag H.2.1 (t62) (by decide)
        have t70 := Ok.tag H.2.1 (t63) (by decide)
        replace H := H.2.2
        refine v_run 95 2 (pc' := 213) (ls' := [(1, 26), (1, a1), (1, (m39 0 0)), (0, (wr (a3 + 1))), (1, (m (m a1 0) a3)), (9, 0), (9, 0)]) (st' := []) rfl ?_
        refine v_goto (j := 97) (tgt := 9) rfl rfl ?_
        refine v_drp [true, true, true, true, false, false, false] ?_
        exact H
    · replace H := H.2 q
      refine v_run 21 1 (pc' := 42) (ls' := [(1, 26), (1, a1), (1, a2), (0, a3), (1, (m (m a1 0) a3)), (9, 0), (9, 0)]) (st' := [(1, 26)]) rfl ?_
      refine v_getK (j := 22) (c := 9) (f := 0) rfl rfl rfl rfl rfl rfl rfl rfl (K26_t K) (K26_0 K) ?_
      refine v_run 23 1 (pc' := 47) (ls' := [(1, 26), (1, a1), (1, a2), (0, a3), (1, (m (m a1 0) a3)), (9, 0), (9, 0)]) (st' := [(1, (m (m a1 0) a3)), (1, 2)]) rfl ?_
      refine v_callV (j := 24) (M' := mX12_letter) (as := []) (st := [(1, 2)]) rfl rfl rfl rfl rfl (Nat.le_of_ble_eq_true rfl) (Nat.le_of_ble_eq_true rfl) (by omega) (by decide) (t30) (kv0 (st' := fun v => [(0, v), (1, 2)]) rfl (fun _ => rfl)) (ipX12_letter (t30) ⟨rfl, ?_⟩)
      refine v_callV (j := 25) (M' := mX2_programOf) (as := [(0, (m (m (m a1 0) a3) 2))]) (st := []) rfl rfl rfl rfl rfl (Nat.le_of_ble_eq_true rfl) (Nat.le_of_ble_eq_true rfl) (by omega) (by decide) (K2_t K) (kv0 (st' := fun v => [(1, v)]) rfl (fun _ => rfl)) (H.mono (fun k v71 m72 H => ⟨H.1, ?_⟩))
      have K73 := H.2.1.2.1 K
      have t74 := Ok.tag H.2.1 (t1) (by decide)
      have t75 := Ok.tag H.2.1 (t30) (by decide)
      replace H := H.2.2
      refine v_run 26 3 (pc' := 58) (ls' := [(1, 26), (1, a1), (1, a2), (0, a3), (1, (m (m a1 0) a3)), (1, v71), (9, 0)]) (st' := [(1, v71), (1, 26)]) rfl ?_
      refine v_null (j := 29) rfl rfl rfl (fun q => ?_) (fun q => ?_)
      · replace H := H.1 q
        refine v_run 40 2 (pc' := 86) (ls' := [(1, 26), (1, a1), (1, a2), (0, a3), (1, (m (m a1 0) a3)), (1, v71), (9, 0)]) (st' := [(1, (m (m a1 0) a3)), (0, 0), (1, 26)]) rfl ?_
        refine v_callV (j := 42) (M' := mX12_place) (as := []) (st := [(0, 0), (1, 26)]) rfl rfl rfl rfl rfl (Nat.le_of_ble_eq_true rfl) (Nat.le_of_ble_eq_true rfl) (by omega) (by decide) (t75) (kv0 (st' := fun v => [(0, v), (0, 0), (1, 26)]) rfl (fun _ => rfl)) (ipX12_place (t75) ⟨rfl, ?_⟩)
        refine v_callV (j := 43) (M' := mX8_need) (as := [(0, 0), (0, (m72 (m (m a1 0) a3) 1))]) (st := []) rfl rfl rfl rfl rfl (Nat.le_of_ble_eq_true rfl) (Nat.le_of_ble_eq_true rfl) (by omega) (by decide) (K26_t K73) (kvt (st' := fun v => []) rfl (fun _ => rfl) rfl) (H.mono (fun k v76 m77 H => ⟨fun z => ?_, H.2.2⟩))
        have O := H.1
        replace H := H.2.1 z
        have K78 := O.2.1 K73
        have t79 := Ok.tag O (t74) (by decide)
        have t80 := Ok.tag O (t75) (by decide)
        refine v_run 44 2 (pc' := 95) (ls' := [(1, 26), (1, a1), (1, a2), (0, a3), (1, (m (m a1 0) a3)), (1, v71), (0, 0)]) (st' := []) rfl ?_
        refine v_drp [true, true, true, true, true, false, true] ?_
        exact H
      · replace H := H.2 q
        refine v_run 30 1 (pc' := 63) (ls' := [(1, 26), (1, a1), (1, a2), (0, a3), (1, (m (m a1 0) a3)), (1, v71), (9, 0)]) (st' := [(1, v71), (1, 26)]) rfl ?_
        obtain ⟨t81, H⟩ := H
        refine v_callV (j := 31) (M' := mX17_parameters) (as := []) (st := [(1, 26)]) rfl rfl rfl rfl rfl (Nat.le_of_ble_eq_true rfl) (Nat.le_of_ble_eq_true rfl) (by omega) (by decide) (t81) (kv0 (st' := fun v => [(0, v), (1, 26)]) rfl (fun _ => rfl)) (H.mono (fun k v82 m83 H => ⟨H.1, ?_⟩))
        have K84 := H.2.1.2.1 K73
        have t85 := Ok.tag H.2.1 (t74) (by decide)
        have t86 := Ok.tag H.2.1 (t75) (by decide)
        have t87 := Ok.tag H.2.1 (t81) (by decide)
        replace H := H.2.2
        refine v_run 32 1 (pc' := 68) (ls' := [(1, 26), (1, a1), (1, a2), (0, a3), (1, (m (m a1 0) a3)), (1, v71), (9, 0)]) (st' := [(1, (m (m a1 0) a3)), (0, v82), (1, 26)]) rfl ?_
        refine v_callV (j := 33) (M' := mX12_terms) (as := []) (st := [(0, v82), (1, 26)]) rfl rfl rfl rfl rfl (Nat.le_of_ble_eq_true rfl) (Nat.le_of_ble_eq_true rfl) (by omega) (by decide) (t86) (kv0 (st' := fun v => [(1, v), (0, v82), (1, 26)]) rfl (fun _ => rfl)) (ipX12_terms (t86) ⟨rfl, ?_⟩)
        obtain ⟨t88, H⟩ := H
        refine vj_size (j := 34) rfl rfl rfl rfl (t88) (by omega) (by simp) ?_
        refine v_run 35 2 (pc' := 76) (ls' := [(1, 26), (1, a1), (1, a2), (0, a3), (1, (m (m a1 0) a3)), (1, v71), (9, 0)]) (st' := [(0, (wr ((m83 (m83 (m (m a1 0) a3) 4) (-2)) - 1))), (0, v82), (1, 26)]) rfl ?_
        have J95 : WV G mX8_look 84 [(1, 26), (1, a1), (1, a2), (0, a3), (1, (m (m a1 0) a3)), (1, v71), (9, 0)] [(0, (if v82 ≠ (wr ((m83 (m83 (m (m a1 0) a3) 4) (-2)) - 1)) then 0 else 1)), (1, 26)] m83 d P := by
          refine v_run 41 1 (pc' := 86) (ls' := [(1, 26), (1, a1), (1, a2), (0, a3), (1, (m (m a1 0) a3)), (1, v71), (9, 0)]) (st' := [(1, (m (m a1 0) a3)), (0, (if v82 ≠ (wr ((m83 (m83 (m (m a1 0) a3) 4) (-2)) - 1)) then 0 else 1)), (1, 26)]) rfl ?_
          refine v_callV (j := 42) (M' := mX12_place) (as := []) (st := [(0, (if v82 ≠ (wr ((m83 (m83 (m (m a1 0) a3) 4) (-2)) - 1)) then 0 else 1)), (1, 26)]) rfl rfl rfl rfl rfl (Nat.le_of_ble_eq_true rfl) (Nat.le_of_ble_eq_true rfl) (by omega) (by decide) (t86) (kv0 (st' := fun v => [(0, v), (0, (if v82 ≠ (wr ((m83 (m83 (m (m a1 0) a3) 4) (-2)) - 1)) then 0 else 1)), (1, 26)]) rfl (fun _ => rfl)) (ipX12_place (t86) ⟨rfl, ?_⟩)
          refine v_callV (j := 43) (M' := mX8_need) (as := [(0, (if v82 ≠ (wr ((m83 (m83 (m (m a1 0) a3) 4) (-2)) - 1)) then 0 else 1)), (0, (m83 (m (m a1 0) a3) 1))]) (st := []) rfl rfl rfl rfl rfl (Nat.le_of_ble_eq_true rfl) (Nat.le_of_ble_eq_true rfl) (by omega) (by decide) (K26_t K84) (kvt (st' := fun v => []) rfl (fun _ => rfl) rfl) (H.mono (fun k v89 m90 H => ⟨fun z => ?_, H.2.2⟩))
          have O := H.1
          replace H := H.2.1 z
          have K91 := O.2.1 K84
          have t92 := Ok.tag O (t85) (by decide)
          have t93 := Ok.tag O (t86) (by decide)
          have t94 := Ok.tag O (t87) (by decide)
          refine v_run 44 2 (pc' := 95) (ls' := [(1, 26), (1, a1), (1, a2), (0, a3), (1, (m (m a1 0) a3)), (1, v71), (0, 0)]) (st' := []) rfl ?_
          refine v_drp [true, true, true, true, true, false, true] ?_
          exact H
        refine v_icmpne (j := 37) rfl rfl rfl (fun q => ?_) (fun q => ?_)
        · rw [show ((if v82 ≠ (wr ((m83 (m83 (m (m a1 0) a3) 4) (-2)) - 1)) then 0 else 1) : Int) = 0 from if_pos q] at J95
          refine v_run 40 1 (pc' := 84) (ls' := [(1, 26), (1, a1), (1, a2), (0, a3), (1, (m (m a1 0) a3)), (1, v71), (9, 0)]) (st' := [(0, 0), (1, 26)]) rfl ?_
          exact J95
        · rw [show ((if v82 ≠ (wr ((m83 (m83 (m (m a1 0) a3) 4) (-2)) - 1)) then 0 else 1) : Int) = 1 from if_neg (fun z => z q)] at J95
          refine v_run 38 1 (pc' := 80) (ls' := [(1, 26), (1, a1), (1, a2), (0, a3), (1, (m (m a1 0) a3)), (1, v71), (9, 0)]) (st' := [(0, 1), (1, 26)]) rfl ?_
          refine v_goto (j := 39) (tgt := 84) rfl rfl ?_
          exact J95

set_option maxRecDepth 100000 in
set_option maxHeartbeats 4000000 in
theorem wX8_look_95 {G : GM} {d : Nat} {P : Nat → Int → SM → Prop} {m : SM} {a1 a2 a3 a4 a6 : Int} (K : KI m) (hd : 12 ≤ d) 
    (H : (m a4 (-1) = 20) ∧ ((m (m a4 4) (-1) = 4) ∧ (((m (m a4 4) (-2)) ≤ a6 → (WV G mX8_look 9 [(1, 26), (1, a1), (1, a2), (0, (wr (a3 + 1))), (9, 0), (9, 0), (9, 0)] [] m d P)) ∧ (a6 < (m (m a4 4) (-2)) → ((0 ≤ a6) ∧ (a6 < m (m a4 4) (-2)) ∧ (((m (m a4 4) a6) = 0 ∨ m (m (m a4 4) a6) (-1) = 14) ∧ (WV G mX8_type 0 [(1, 26), (1, (m (m a4 4) a6)), (1, a2), (9, 0), (9, 0)] [] m (d - 1) (fun k v6 m7 => Ok m m7 ∧ (k = 0 → (WV G mX8_look 95 [(1, 26), (1, a1), (1, a2), (0, a3), (1, a4), (9, 0), (0, (wr (a6 + 1)))] [] m7 d P)) ∧ (k ≠ 0 → P 1 v6 m7))))))))) :
    WV G mX8_look 95 [(1, 26), (1, a1), (1, a2), (0, a3), (1, a4), (9, 0), (0, a6)] [] m d P := by
  refine v_run 46 2 (pc' := 99) (ls' := [(1, 26), (1, a1), (1, a2), (0, a3), (1, a4), (9, 0), (0, a6)]) (st' := [(1, a4), (0, a6)]) rfl ?_
  obtain ⟨t1, H⟩ := H
  refine v_callV (j := 48) (M' := mX12_terms) (as := []) (st := [(0, a6)]) rfl rfl rfl rfl rfl (Nat.le_of_ble_eq_true rfl) (Nat.le_of_ble_eq_true rfl) (by omega) (by decide) (t1) (kv0 (st' := fun v => [(1, v), (0, a6)]) rfl (fun _ => rfl)) (ipX12_terms (t1) ⟨rfl, ?_⟩)
  obtain ⟨t2, H⟩ := H
  refine vj_size (j := 49) rfl rfl rfl rfl (t2) (by omega) (by simp) ?_
  refine v_icmpge (j := 50) rfl rfl rfl (fun q => ?_) (fun q => ?_)
  · replace H := H.1 q
    refine v_goto (j := 62) (tgt := 210) rfl rfl ?_
    refine v_run 96 1 (pc' := 213) (ls' := [(1, 26), (1, a1), (1, a2), (0, (wr (a3 + 1))), (1, a4), (9, 0), (0, a6)]) (st' := []) rfl ?_
    refine v_goto (j := 97) (tgt := 9) rfl rfl ?_
    refine v_drp [true, true, true, true, false, false, false] ?_
    exact H
  · replace H := H.2 q
    refine v_run 51 2 (pc' := 111) (ls' := [(1, 26), (1, a1), (1, a2), (0, a3), (1, a4), (9, 0), (0, a6)]) (st' := [(1, a4), (1, 26)]) rfl ?_
    refine v_callV (j := 53) (M' := mX12_terms) (as := []) (st := [(1, 26)]) rfl rfl rfl rfl rfl (Nat.le_of_ble_eq_true rfl) (Nat.le_of_ble_eq_true rfl) (by omega) (by decide) (t1) (kv0 (st' := fun v => [(1, v), (1, 26)]) rfl (fun _ => rfl)) (ipX12_terms (t1) ⟨rfl, ?_⟩)
    refine v_run 54 1 (pc' := 116) (ls' := [(1, 26), (1, a1), (1, a2), (0, a3), (1, a4), (9, 0), (0, a6)]) (st' := [(0, a6), (1, (m a4 4)), (1, 26)]) rfl ?_
    obtain ⟨i3, i4, H⟩ := H
    refine vj_get (j := 55) rfl rfl rfl rfl (t2) (by omega) (by simp) i3 i4 ?_
    obtain ⟨c5, H⟩ := H
    refine v_cast (j := 56) (c := 13) rfl rfl rfl rfl rfl (c5) ?_
    refine v_run 57 1 (pc' := 123) (ls' := [(1, 26), (1, a1), (1, a2), (0, a3), (1, a4), (9, 0), (0, a6)]) (st' := [(1, a2), (1, (m (m a4 4) a6)), (1, 26)]) rfl ?_
    refine v_callS (j := 58) (M' := mX8_type) (as := [(1, 26), (1, (m (m a4 4) a6)), (1, a2)]) (st := []) rfl rfl rfl rfl rfl (Nat.le_of_ble_eq_true rfl) (Nat.le_of_ble_eq_true rfl) (by omega) (kvt (st' := fun v => [(1, v)]) rfl (fun _ => rfl) rfl) (H.mono (fun k v6 m7 H => ⟨fun z => ?_, H.2.2⟩))
    have O := H.1
    replace H := H.2.1 z
    have K8 := O.2.1 K
    have t9 := Ok.tag O (t1) (by decide)
    refine v_run 59 2 (pc' := 130) (ls' := [(1, 26), (1, a1), (1, a2), (0, a3), (1, a4), (9, 0), (0, (wr (a6 + 1)))]) (st' := []) rfl ?_
    refine v_goto (j := 61) (tgt := 95) rfl rfl ?_
    exact H

set_option maxRecDepth 100000 in
set_option maxHeartbeats 4000000 in
theorem wX13_parameters {G : GM} {d : Nat} {P : Nat → Int → SM → Prop} {m : SM} {a0 : Int} (K : KI m) (hd : 12 ≤ d) 
    (H : (m a0 (-1) = 21) ∧ ((m (m a0 0) (-1) = 4) ∧ (P 0 (wr ((m (m a0 0) (-2)) - (m a0 3))) m))) :
    WV G mX13_parameters 0 [(1, a0)] [] m d P := by
  refine v_run 0 1 (pc' := 1) (ls' := [(1, a0)]) (st' := [(1, a0)]) rfl ?_
  obtain ⟨t1, H⟩ := H
  refine v_getf (j := 1) (c := 20) (f := 0) rfl rfl rfl rfl rfl rfl rfl rfl (t1) ?_
  obtain ⟨t2, H⟩ := H
  refine vj_size (j := 2) rfl rfl rfl rfl (t2) (by omega) (by simp) ?_
  refine v_run 3 1 (pc' := 8) (ls' := [(1, a0)]) (st' := [(1, a0), (0, (m (m a0 0) (-2)))]) rfl ?_
  refine v_getf (j := 4) (c := 20) (f := 3) rfl rfl rfl rfl rfl rfl rfl rfl (t1) ?_
  refine v_run 5 1 (pc' := 12) (ls' := [(1, a0)]) (st' := [(0, (wr ((m (m a0 0) (-2)) - (m a0 3))))]) rfl ?_
  exact v_iret (j := 6) rfl rfl rfl trivial H

set_option maxRecDepth 100000 in
set_option maxHeartbeats 4000000 in
theorem wX17_parameters {G : GM} {d : Nat} {P : Nat → Int → SM → Prop} {m : SM} {a0 : Int} (K : KI m) (hd : 12 ≤ d) 
    (H : (m a0 (-1) = 22) ∧ ((m (m a0 0) (-1) = 13) ∧ (P 0 (m (m a0 0) (-2)) m))) :
    WV G mX17_parameters 0 [(1, a0)] [] m d P := by
  refine v_run 0 1 (pc' := 1) (ls' := [(1, a0)]) (st' := [(1, a0)]) rfl ?_
  obtain ⟨t1, H⟩ := H
  refine v_getf (j := 1) (c := 21) (f := 0) rfl rfl rfl rfl rfl rfl rfl rfl (t1) ?_
  obtain ⟨t2, H⟩ := H
  refine vj_stlen (j := 2) rfl rfl rfl rfl (t2) (by omega) (by simp) ?_
  exact v_iret (j := 3) rfl rfl rfl trivial H
