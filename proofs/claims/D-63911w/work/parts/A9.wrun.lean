/-! walks (made by gen_w.py) -/
set_option maxRecDepth 100000 in
set_option maxHeartbeats 4000000 in
theorem wX6_find {G : GM} {d : Nat} {P : Nat → Int → SM → Prop} {m : SM} {a0 a1 : Int} (K : KI m) (hd : 12 ≤ d) 
    (H : WV G mX6_find 2 [(9, 0), (0, a1), (1, a0)] [] m d P) :
    WV G mX6_find 0 [(1, a0), (0, a1), (9, 0)] [] m d P := by
  refine v_run 0 2 (pc' := 2) (ls' := [(1, a0), (0, a1), (1, a0)]) (st' := []) rfl ?_
  refine v_drp [false, true, true] ?_
  exact H

set_option maxRecDepth 100000 in
set_option maxHeartbeats 4000000 in
theorem wX6_find_2 {G : GM} {d : Nat} {P : Nat → Int → SM → Prop} {m : SM} {a1 a2 : Int} (K : KI m) (hd : 12 ≤ d) 
    (H : (a2 = 0 → (P 0 a2 m)) ∧ (a2 ≠ 0 → ((m a2 (-1) = 17) ∧ (((m a2 0) = a1 → (P 0 a2 m)) ∧ ((m a2 0) ≠ a1 → (WV G mX6_find 2 [(9, 0), (0, a1), (1, (m a2 2))] [] m d P)))))) :
    WV G mX6_find 2 [(9, 0), (0, a1), (1, a2)] [] m d P := by
  refine v_run 2 1 (pc' := 3) (ls' := [(9, 0), (0, a1), (1, a2)]) (st' := [(1, a2)]) rfl ?_
  refine v_null (j := 3) rfl rfl rfl (fun q => ?_) (fun q => ?_)
  · replace H := H.1 q
    refine v_run 12 1 (pc' := 23) (ls' := [(9, 0), (0, a1), (1, a2)]) (st' := [(1, a2)]) rfl ?_
    exact v_aret (j := 13) rfl rfl rfl H
  · replace H := H.2 q
    refine v_run 4 1 (pc' := 7) (ls' := [(9, 0), (0, a1), (1, a2)]) (st' := [(1, a2)]) rfl ?_
    obtain ⟨t1, H⟩ := H
    refine v_getf (j := 5) (c := 16) (f := 0) rfl rfl rfl rfl rfl rfl rfl rfl (t1) ?_
    refine v_run 6 1 (pc' := 11) (ls' := [(9, 0), (0, a1), (1, a2)]) (st' := [(0, a1), (0, (m a2 0))]) rfl ?_
    refine v_icmpeq (j := 7) rfl rfl rfl (fun q => ?_) (fun q => ?_)
    · replace H := H.1 q
      refine v_run 12 1 (pc' := 23) (ls' := [(9, 0), (0, a1), (1, a2)]) (st' := [(1, a2)]) rfl ?_
      exact v_aret (j := 13) rfl rfl rfl H
    · replace H := H.2 q
      refine v_run 8 1 (pc' := 15) (ls' := [(9, 0), (0, a1), (1, a2)]) (st' := [(1, a2)]) rfl ?_
      refine v_getf (j := 9) (c := 16) (f := 2) rfl rfl rfl rfl rfl rfl rfl rfl (t1) ?_
      refine v_run 10 1 (pc' := 19) (ls' := [(9, 0), (0, a1), (1, (m a2 2))]) (st' := []) rfl ?_
      refine v_goto (j := 11) (tgt := 2) rfl rfl ?_
      exact H

set_option maxRecDepth 100000 in
set_option maxHeartbeats 4000000 in
theorem wX6_need {G : GM} {d : Nat} {P : Nat → Int → SM → Prop} {m : SM} {a1 : Int} (K : KI m) (hd : 12 ≤ d) 
    (H : (a1 ≠ (0 : Int) → (P 0 0 m)) ∧ (a1 = (0 : Int) → ((m 0 0 ≤ 1203200) ∧ (m 0 1 + 6 ≤ 5491882) ∧ (∀ m3, m3 = al m 18 0 6 → Ok m m3 → P 1 (m 0 0) m3)))) :
    WV G mX6_need 0 [(1, 22), (0, a1)] [] m d P := by
  refine v_run 0 1 (pc' := 1) (ls' := [(1, 22), (0, a1)]) (st' := [(0, a1)]) rfl ?_
  refine v_ifne (j := 1) rfl rfl rfl (fun q => ?_) (fun q => ?_)
  · replace H := H.1 q
    exact v_vret (j := 6) rfl rfl H
  · replace H := H.2 q
    obtain ⟨r1, r2, H⟩ := H
    refine v_throw (j := 2) (j1 := 3) (j2 := 4) (j3 := 5) (c := 17) (ic := 34) rfl rfl rfl rfl rfl rfl rfl (by decide) rfl rfl rfl (by omega) (by simp) r1 r2 (fun B m3 e4 => ?_)
    exact H m3 e4 (Ok.nw B e4)

set_option maxRecDepth 100000 in
set_option maxHeartbeats 4000000 in
theorem wX6_start {G : GM} {d : Nat} {P : Nat → Int → SM → Prop} {m : SM} {a1 a2 : Int} (K : KI m) (hd : 12 ≤ d) 
    (H : ∀ m1, m1 = up m 22 2 0 → Ok m m1 → (WV G mX6_need 0 [(1, 22), (0, (if a1 = 0 then 0 else 1))] [] m1 (d - 1) (fun k v5 m6 => Ok m1 m6 ∧ (k = 0 → ((a1 ≠ 0 → ((m6 a1 (-1) = 22) ∧ (WV G mX6_step 0 [(1, 22), (1, (m6 a1 1)), (1, a2), (0, 1), (9, 0)] [] m6 (d - 1) (fun k v9 m10 => Ok m6 m10 ∧ (k = 0 → (P 0 v9 m10)) ∧ (k ≠ 0 → P 1 v9 m10))))) ∧ (a1 = 0 → (P 0 0 m6)))) ∧ (k ≠ 0 → P 1 v5 m6)))) :
    WV G mX6_start 0 [(1, 22), (1, a1), (1, a2)] [] m d P := by
  refine v_run 0 2 (pc' := 2) (ls' := [(1, 22), (1, a1), (1, a2)]) (st' := [(0, 0), (1, 22)]) rfl ?_
  refine v_putf (j := 2) (c := 7) (f := 2) rfl rfl rfl rfl (by decide +kernel) rfl rfl rfl rfl (K22_t K) trivial (fun m1 e2 => ?_)
  have O3 : Ok m m1 := Ok.wf e2 (K22_t K) (by decide) (by decide)
  have K4 := O3.2.1 K
  replace H := H m1 e2 O3
  refine v_run 3 2 (pc' := 7) (ls' := [(1, 22), (1, a1), (1, a2)]) (st' := [(1, a1), (1, 22)]) rfl ?_
  have J13 : WV G mX6_start 15 [(1, 22), (1, a1), (1, a2)] [(0, (if a1 = 0 then 0 else 1)), (1, 22)] m1 d P := by
    refine v_callV (j := 9) (M' := mX6_need) (as := [(0, (if a1 = 0 then 0 else 1))]) (st := []) rfl rfl rfl rfl rfl (Nat.le_of_ble_eq_true rfl) (Nat.le_of_ble_eq_true rfl) (by omega) (by decide) (K22_t K4) (kvt (st' := fun v => []) rfl (fun _ => rfl) rfl) (H.mono (fun k v5 m6 H => ⟨fun z => ?_, H.2.2⟩))
    have O := H.1
    replace H := H.2.1 z
    have K7 := O.2.1 K4
    refine v_run 10 1 (pc' := 19) (ls' := [(1, 22), (1, a1), (1, a2)]) (st' := [(1, a1)]) rfl ?_
    refine v_nonnull (j := 11) rfl rfl rfl (fun q => ?_) (fun q => ?_)
    · replace H := H.1 q
      refine v_run 14 2 (pc' := 28) (ls' := [(1, 22), (1, a1), (1, a2)]) (st' := [(1, a1), (1, 22)]) rfl ?_
      obtain ⟨t8, H⟩ := H
      refine v_getf (j := 16) (c := 21) (f := 1) rfl rfl rfl rfl rfl rfl rfl rfl (t8) ?_
      refine v_run 17 2 (pc' := 33) (ls' := [(1, 22), (1, a1), (1, a2)]) (st' := [(0, 1), (1, a2), (1, (m6 a1 1)), (1, 22)]) rfl ?_
      refine v_callS (j := 19) (M' := mX6_step) (as := [(1, 22), (1, (m6 a1 1)), (1, a2), (0, 1)]) (st := []) rfl rfl rfl rfl rfl (Nat.le_of_ble_eq_true rfl) (Nat.le_of_ble_eq_true rfl) (by omega) (kvt (st' := fun v => [(1, v)]) rfl (fun _ => rfl) rfl) (H.mono (fun k v9 m10 H => ⟨fun z => ?_, H.2.2⟩))
      have O := H.1
      replace H := H.2.1 z
      have K11 := O.2.1 K7
      have t12 := Ok.tag O (t8) (by decide)
      exact v_aret (j := 20) rfl rfl rfl H
    · replace H := H.2 q
      refine v_run 12 1 (pc' := 23) (ls' := [(1, 22), (1, a1), (1, a2)]) (st' := [(1, 0)]) rfl ?_
      refine v_goto (j := 13) (tgt := 36) rfl rfl ?_
      exact v_aret (j := 20) rfl rfl rfl H
  refine v_null (j := 5) rfl rfl rfl (fun q => ?_) (fun q => ?_)
  · rw [show ((if a1 = 0 then 0 else 1) : Int) = 0 from if_pos q] at J13
    refine v_run 8 1 (pc' := 15) (ls' := [(1, 22), (1, a1), (1, a2)]) (st' := [(0, 0), (1, 22)]) rfl ?_
    exact J13
  · rw [show ((if a1 = 0 then 0 else 1) : Int) = 1 from if_neg q] at J13
    refine v_run 6 1 (pc' := 11) (ls' := [(1, 22), (1, a1), (1, a2)]) (st' := [(0, 1), (1, 22)]) rfl ?_
    refine v_goto (j := 7) (tgt := 15) rfl rfl ?_
    exact J13

set_option maxRecDepth 100000 in
set_option maxHeartbeats 4000000 in
theorem wX6_step {G : GM} {d : Nat} {P : Nat → Int → SM → Prop} {m : SM} {a1 a2 a3 : Int} (K : KI m) (hd : 12 ≤ d) 
    (H : ∃ Q1 : Int → Prop, (((30 : Int) < a3 → (Q1 0)) ∧ (a3 ≤ (30 : Int) → (((100 : Int) ≤ (m 22 2) → (Q1 0)) ∧ ((m 22 2) < (100 : Int) → (Q1 1))))) ∧ (∀ v2, Q1 v2 → (WV G mX6_need 0 [(1, 22), (0, v2)] [] m (d - 1) (fun k v5 m6 => Ok m m6 ∧ (k = 0 → (∀ m8, m8 = up m6 22 2 (wr ((m6 22 2) + 1)) → Ok m6 m8 → (∀ m12, m12 = up m8 22 3 (wr ((m8 22 3) + 1)) → Ok m8 m12 → ((m12 a1 (-1) = 23) ∧ ((m12 (m12 a1 0) (-1) = 50) ∧ ((((m12 (m12 a1 0) 0) < 0 ∨ 8 < (m12 (m12 a1 0) 0)) → (WV G mX6_reckon 0 [(1, 22), (1, a1), (1, a2), (0, (wr (a3 + 1))), (9, 0), (9, 0), (9, 0)] [] m12 (d - 1) (fun k v18 m19 => Ok m12 m19 ∧ (k = 0 → (P 0 v18 m19)) ∧ (k ≠ 0 → P 1 v18 m19)))) ∧ ((m12 (m12 a1 0) 0) = 0 → (WV G mX6_find 0 [(1, a2), (0, (m12 a1 2)), (9, 0)] [] m12 (d - 1) (fun k v22 m23 => k = 0 ∧ Ok m12 m23 ∧ ((v22 ≠ 0 → ((m23 v22 (-1) = 17) ∧ (P 0 (m23 v22 1) m23))) ∧ (v22 = 0 → (P 0 (m23 a1 3) m23)))))) ∧ ((m12 (m12 a1 0) 0) = 1 → (P 0 (m12 a1 3) m12)) ∧ ((m12 (m12 a1 0) 0) = 2 → (WV G mX6_use 0 [(1, 22), (1, a1), (1, a2), (0, (wr (a3 + 1))), (9, 0), (9, 0), (9, 0), (9, 0), (9, 0), (9, 0)] [] m12 (d - 1) (fun k v27 m28 => Ok m12 m28 ∧ (k = 0 → (P 0 v27 m28)) ∧ (k ≠ 0 → P 1 v27 m28)))) ∧ ((m12 (m12 a1 0) 0) = 3 → (WV G mX6_reckon 0 [(1, 22), (1, a1), (1, a2), (0, (wr (a3 + 1))), (9, 0), (9, 0), (9, 0)] [] m12 (d - 1) (fun k v31 m32 => Ok m12 m32 ∧ (k = 0 → (P 0 v31 m32)) ∧ (k ≠ 0 → P 1 v31 m32)))) ∧ ((m12 (m12 a1 0) 0) = 4 → (WV G mX6_reckon 0 [(1, 22), (1, a1), (1, a2), (0, (wr (a3 + 1))), (9, 0), (9, 0), (9, 0)] [] m12 (d - 1) (fun k v35 m36 => Ok m12 m36 ∧ (k = 0 → (P 0 v35 m36)) ∧ (k ≠ 0 → P 1 v35 m36)))) ∧ ((m12 (m12 a1 0) 0) = 5 → (WV G mX6_match 0 [(1, 22), (1, a1), (1, a2), (0, (wr (a3 + 1))), (9, 0), (9, 0), (9, 0), (9, 0), (9, 0), (9, 0)] [] m12 (d - 1) (fun k v39 m40 => Ok m12 m40 ∧ (k = 0 → (P 0 v39 m40)) ∧ (k ≠ 0 → P 1 v39 m40)))) ∧ ((m12 (m12 a1 0) 0) = 6 → (WV G mX6_reckon 0 [(1, 22), (1, a1), (1, a2), (0, (wr (a3 + 1))), (9, 0), (9, 0), (9, 0)] [] m12 (d - 1) (fun k v43 m44 => Ok m12 m44 ∧ (k = 0 → (P 0 v43 m44)) ∧ (k ≠ 0 → P 1 v43 m44)))) ∧ ((m12 (m12 a1 0) 0) = 7 → (WV G mX6_reckon 0 [(1, 22), (1, a1), (1, a2), (0, (wr (a3 + 1))), (9, 0), (9, 0), (9, 0)] [] m12 (d - 1) (fun k v47 m48 => Ok m12 m48 ∧ (k = 0 → (P 0 v47 m48)) ∧ (k ≠ 0 → P 1 v47 m48)))) ∧ ((m12 (m12 a1 0) 0) = 8 → (WV G mX6_need 0 [(1, 22), (0, 0)] [] m12 (d - 1) (fun k v51 m52 => Ok m12 m52 ∧ (k = 0 → (P 0 (m52 a1 3) m52)) ∧ (k ≠ 0 → P 1 v51 m52)))))))))) ∧ (k ≠ 0 → P 1 v5 m6))))) :
    WV G mX6_step 0 [(1, 22), (1, a1), (1, a2), (0, a3), (9, 0)] [] m d P := by
  refine v_run 0 3 (pc' := 4) (ls' := [(1, 22), (1, a1), (1, a2), (0, a3), (9, 0)]) (st' := [(0, 30), (0, a3), (1, 22)]) rfl ?_
  obtain ⟨Q1, H, J4⟩ := H
  have J4 : ∀ v2, Q1 v2 → WV G mX6_step 21 [(1, 22), (1, a1), (1, a2), (0, a3), (9, 0)] [(0, v2), (1, 22)] m d P := by
    intro v2 q3
    have H := J4 v2 q3
    refine v_callV (j := 11) (M' := mX6_need) (as := [(0, v2)]) (st := []) rfl rfl rfl rfl rfl (Nat.le_of_ble_eq_true rfl) (Nat.le_of_ble_eq_true rfl) (by omega) (by decide) (K22_t K) (kvt (st' := fun v => []) rfl (fun _ => rfl) rfl) (H.mono (fun k v5 m6 H => ⟨fun z => ?_, H.2.2⟩))
    have O := H.1
    replace H := H.2.1 z
    have K7 := O.2.1 K
    refine v_run 12 2 (pc' := 26) (ls' := [(1, 22), (1, a1), (1, a2), (0, a3), (9, 0)]) (st' := [(1, 22), (1, 22)]) rfl ?_
    refine v_getf (j := 14) (c := 7) (f := 2) rfl rfl rfl rfl rfl rfl rfl rfl (K22_t K7) ?_
    refine v_run 15 2 (pc' := 31) (ls' := [(1, 22), (1, a1), (1, a2), (0, a3), (9, 0)]) (st' := [(0, (wr ((m6 22 2) + 1))), (1, 22)]) rfl ?_
    refine v_putf (j := 17) (c := 7) (f := 2) rfl rfl rfl rfl (by decide +kernel) rfl rfl rfl rfl (K22_t K7) trivial (fun m8 e9 => ?_)
    have O10 : Ok m6 m8 := Ok.wf e9 (K22_t K7) (by decide) (by decide)
    have K11 := O10.2.1 K7
    replace H := H m8 e9 O10
    refine v_run 18 2 (pc' := 36) (ls' := [(1, 22), (1, a1), (1, a2), (0, a3), (9, 0)]) (st' := [(1, 22), (1, 22)]) rfl ?_
    refine v_getf (j := 20) (c := 7) (f := 3) rfl rfl rfl rfl rfl rfl rfl rfl (K22_t K11) ?_
    refine v_run 21 2 (pc' := 41) (ls' := [(1, 22), (1, a1), (1, a2), (0, a3), (9, 0)]) (st' := [(0, (wr ((m8 22 3) + 1))), (1, 22)]) rfl ?_
    refine v_putf (j := 23) (c := 7) (f := 3) rfl rfl rfl rfl (by decide +kernel) rfl rfl rfl rfl (K22_t K11) trivial (fun m12 e13 => ?_)
    have O14 : Ok m8 m12 := Ok.wf e13 (K22_t K11) (by decide) (by decide)
    have K15 := O14.2.1 K11
    replace H := H m12 e13 O14
    refine v_run 24 1 (pc' := 45) (ls' := [(1, 22), (1, a1), (1, a2), (0, a3), (9, 0)]) (st' := [(1, a1)]) rfl ?_
    obtain ⟨t16, H⟩ := H
    refine v_getf (j := 25) (c := 22) (f := 0) rfl rfl rfl rfl rfl rfl rfl rfl (t16) ?_
    obtain ⟨t17, H⟩ := H
    refine vj_ord (j := 26) (jj := 0) rfl rfl rfl rfl rfl (by decide) (t17) (by omega) (by simp) ?_
    refine v_tsw (j := 27) (tdf := 163) (tg := [100, 128, 133, 163, 163, 143, 163, 163, 153]) rfl rfl rfl rfl (fun q => ?_) (fun k n hk q => ?_)
    · replace H := H.1 q
      refine v_run 66 6 (pc' := 169) (ls' := [(1, 22), (1, a1), (1, a2), (0, a3), (9, 0)]) (st' := [(0, (wr (a3 + 1))), (1, a2), (1, a1), (1, 22)]) rfl ?_
      refine v_callS (j := 72) (M' := mX6_reckon) (as := [(1, 22), (1, a1), (1, a2), (0, (wr (a3 + 1)))]) (st := []) rfl rfl rfl rfl rfl (Nat.le_of_ble_eq_true rfl) (Nat.le_of_ble_eq_true rfl) (by omega) (kvt (st' := fun v => [(1, v)]) rfl (fun _ => rfl) rfl) (H.mono (fun k v18 m19 H => ⟨fun z => ?_, H.2.2⟩))
      have O := H.1
      replace H := H.2.1 z
      have K20 := O.2.1 K15
      have t21 := Ok.tag O (t16) (by decide)
      exact v_aret (j := 73) rfl rfl rfl H
    · replace H := H.2
      match k, hk, q with
      | 0, hk, q =>
        cases hk
        replace H := H.1 q
        refine v_run 28 2 (pc' := 102) (ls' := [(1, 22), (1, a1), (1, a2), (0, a3), (9, 0)]) (st' := [(1, a1), (1, a2)]) rfl ?_
        refine v_getf (j := 30) (c := 22) (f := 2) rfl rfl rfl rfl rfl rfl rfl rfl (t16) ?_
        refine v_callS (j := 31) (M' := mX6_find) (as := [(1, a2), (0, (m12 a1 2))]) (st := []) rfl rfl rfl rfl rfl (Nat.le_of_ble_eq_true rfl) (Nat.le_of_ble_eq_true rfl) (by omega) (kv0 (st' := fun v => [(1, v)]) rfl (fun _ => rfl)) (H.mono (fun k v22 m23 H => ⟨H.1, ?_⟩))
        have K24 := H.2.1.2.1 K15
        have t25 := Ok.tag H.2.1 (t16) (by decide)
        replace H := H.2.2
        refine v_run 32 2 (pc' := 112) (ls' := [(1, 22), (1, a1), (1, a2), (0, a3), (1, v22)]) (st' := [(1, v22)]) rfl ?_
        refine v_nonnull (j := 34) rfl rfl rfl (fun q => ?_) (fun q => ?_)
        · replace H := H.1 q
          refine v_run 38 1 (pc' := 124) (ls' := [(1, 22), (1, a1), (1, a2), (0, a3), (1, v22)]) (st' := [(1, v22)]) rfl ?_
          obtain ⟨t26, H⟩ := H
          refine v_getf (j := 39) (c := 16) (f := 1) rfl rfl rfl rfl rfl rfl rfl rfl (t26) ?_
          exact v_aret (j := 40) rfl rfl rfl H
        · replace H := H.2 q
          refine v_run 35 1 (pc' := 116) (ls' := [(1, 22), (1, a1), (1, a2), (0, a3), (1, v22)]) (st' := [(1, a1)]) rfl ?_
          refine v_getf (j := 36) (c := 22) (f := 3) rfl rfl rfl rfl rfl rfl rfl rfl (t25) ?_
          refine v_goto (j := 37) (tgt := 127) rfl rfl ?_
          exact v_aret (j := 40) rfl rfl rfl H
      | 1, hk, q =>
        cases hk
        replace H := H.2.1 q
        refine v_run 41 1 (pc' := 129) (ls' := [(1, 22), (1, a1), (1, a2), (0, a3), (9, 0)]) (st' := [(1, a1)]) rfl ?_
        refine v_getf (j := 42) (c := 22) (f := 3) rfl rfl rfl rfl rfl rfl rfl rfl (t16) ?_
        exact v_aret (j := 43) rfl rfl rfl H
      | 2, hk, q =>
        cases hk
        replace H := H.2.2.1 q
        refine v_run 44 6 (pc' := 139) (ls' := [(1, 22), (1, a1), (1, a2), (0, a3), (9, 0)]) (st' := [(0, (wr (a3 + 1))), (1, a2), (1, a1), (1, 22)]) rfl ?_
        refine v_callS (j := 50) (M' := mX6_use) (as := [(1, 22), (1, a1), (1, a2), (0, (wr (a3 + 1)))]) (st := []) rfl rfl rfl rfl rfl (Nat.le_of_ble_eq_true rfl) (Nat.le_of_ble_eq_true rfl) (by omega) (kvt (st' := fun v => [(1, v)]) rfl (fun _ => rfl) rfl) (H.mono (fun k v27 m28 H => ⟨fun z => ?_, H.2.2⟩))
        have O := H.1
        replace H := H.2.1 z
        have K29 := O.2.1 K15
        have t30 := Ok.tag O (t16) (by decide)
        exact v_aret (j := 51) rfl rfl rfl H
      | 3, hk, q =>
        cases hk
        replace H := H.2.2.2.1 q
        refine v_run 66 6 (pc' := 169) (ls' := [(1, 22), (1, a1), (1, a2), (0, a3), (9, 0)]) (st' := [(0, (wr (a3 + 1))), (1, a2), (1, a1), (1, 22)]) rfl ?_
        refine v_callS (j := 72) (M' := mX6_reckon) (as := [(1, 22), (1, a1), (1, a2), (0, (wr (a3 + 1)))]) (st := []) rfl rfl rfl rfl rfl (Nat.le_of_ble_eq_true rfl) (Nat.le_of_ble_eq_true rfl) (by omega) (kvt (st' := fun v => [(1, v)]) rfl (fun _ => rfl) rfl) (H.mono (fun k v31 m32 H => ⟨fun z => ?_, H.2.2⟩))
        have O := H.1
        replace H := H.2.1 z
        have K33 := O.2.1 K15
        have t34 := Ok.tag O (t16) (by decide)
        exact v_aret (j := 73) rfl rfl rfl H
      | 4, hk, q =>
        cases hk
        replace H := H.2.2.2.2.1 q
        refine v_run 66 6 (pc' := 169) (ls' := [(1, 22), (1, a1), (1, a2), (0, a3), (9, 0)]) (st' := [(0, (wr (a3 + 1))), (1, a2), (1, a1), (1, 22)]) rfl ?_
        refine v_callS (j := 72) (M' := mX6_reckon) (as := [(1, 22), (1, a1), (1, a2), (0, (wr (a3 + 1)))]) (st := []) rfl rfl rfl rfl rfl (Nat.le_of_ble_eq_true rfl) (Nat.le_of_ble_eq_true rfl) (by omega) (kvt (st' := fun v => [(1, v)]) rfl (fun _ => rfl) rfl) (H.mono (fun k v35 m36 H => ⟨fun z => ?_, H.2.2⟩))
        have O := H.1
        replace H := H.2.1 z
        have K37 := O.2.1 K15
        have t38 := Ok.tag O (t16) (by decide)
        exact v_aret (j := 73) rfl rfl rfl H
      | 5, hk, q =>
        cases hk
        replace H := H.2.2.2.2.2.1 q
        refine v_run 52 6 (pc' := 149) (ls' := [(1, 22), (1, a1), (1, a2), (0, a3), (9, 0)]) (st' := [(0, (wr (a3 + 1))), (1, a2), (1, a1), (1, 22)]) rfl ?_
        refine v_callS (j := 58) (M' := mX6_match) (as := [(1, 22), (1, a1), (1, a2), (0, (wr (a3 + 1)))]) (st := []) rfl rfl rfl rfl rfl (Nat.le_of_ble_eq_true rfl) (Nat.le_of_ble_eq_true rfl) (by omega) (kvt (st' := fun v => [(1, v)]) rfl (fun _ => rfl) rfl) (H.mono (fun k v39 m40 H => ⟨fun z => ?_, H.2.2⟩))
        have O := H.1
        replace H := H.2.1 z
        have K41 := O.2.1 K15
        have t42 := Ok.tag O (t16) (by decide)
        exact v_aret (j := 59) rfl rfl rfl H
      | 6, hk, q =>
        cases hk
        replace H := H.2.2.2.2.2.2.1 q
        refine v_run 66 6 (pc' := 169) (ls' := [(1, 22), (1, a1), (1, a2), (0, a3), (9, 0)]) (st' := [(0, (wr (a3 + 1))), (1, a2), (1, a1), (1, 22)]) rfl ?_
        refine v_callS (j := 72) (M' := mX6_reckon) (as := [(1, 22), (1, a1), (1, a2), (0, (wr (a3 + 1)))]) (st := []) rfl rfl rfl rfl rfl (Nat.le_of_ble_eq_true rfl) (Nat.le_of_ble_eq_true rfl) (by omega) (kvt (st' := fun v => [(1, v)]) rfl (fun _ => rfl) rfl) (H.mono (fun k v43 m44 H => ⟨fun z => ?_, H.2.2⟩))
        have O := H.1
        replace H := H.2.1 z
        have K45 := O.2.1 K15
        have t46 := Ok.tag O (t16) (by decide)
        exact v_aret (j := 73) rfl rfl rfl H
      | 7, hk, q =>
        cases hk
        replace H := H.2.2.2.2.2.2.2.1 q
        refine v_run 66 6 (pc' := 169) (ls' := [(1, 22), (1, a1), (1, a2), (0, a3), (9, 0)]) (st' := [(0, (wr (a3 + 1))), (1, a2), (1, a1), (1, 22)]) rfl ?_
        refine v_callS (j := 72) (M' := mX6_reckon) (as := [(1, 22), (1, a1), (1, a2), (0, (wr (a3 + 1)))]) (st := []) rfl rfl rfl rfl rfl (Nat.le_of_ble_eq_true rfl) (Nat.le_of_ble_eq_true rfl) (by omega) (kvt (st' := fun v => [(1, v)]) rfl (fun _ => rfl) rfl) (H.mono (fun k v47 m48 H => ⟨fun z => ?_, H.2.2⟩))
        have O := H.1
        replace H := H.2.1 z
        have K49 := O.2.1 K15
        have t50 := Ok.tag O (t16) (by decide)
        exact v_aret (j := 73) rfl rfl rfl H
      | 8, hk, q =>
        cases hk
        replace H := H.2.2.2.2.2.2.2.2 q
        refine v_run 60 2 (pc' := 155) (ls' := [(1, 22), (1, a1), (1, a2), (0, a3), (9, 0)]) (st' := [(0, 0), (1, 22)]) rfl ?_
        refine v_callV (j := 62) (M' := mX6_need) (as := [(0, 0)]) (st := []) rfl rfl rfl rfl rfl (Nat.le_of_ble_eq_true rfl) (Nat.le_of_ble_eq_true rfl) (by omega) (by decide) (K22_t K15) (kvt (st' := fun v => []) rfl (fun _ => rfl) rfl) (H.mono (fun k v51 m52 H => ⟨fun z => ?_, H.2.2⟩))
        have O := H.1
        replace H := H.2.1 z
        have K53 := O.2.1 K15
        have t54 := Ok.tag O (t16) (by decide)
        refine v_run 63 1 (pc' := 159) (ls' := [(1, 22), (1, a1), (1, a2), (0, a3), (9, 0)]) (st' := [(1, a1)]) rfl ?_
        refine v_getf (j := 64) (c := 22) (f := 3) rfl rfl rfl rfl rfl rfl rfl rfl (t54) ?_
        exact v_aret (j := 65) rfl rfl rfl H
      | k + 9, hk, q => exact absurd hk (by simp)
  refine v_icmpgt (j := 3) rfl rfl rfl (fun q => ?_) (fun q => ?_)
  · replace H := H.1 q
    refine v_run 10 1 (pc' := 21) (ls' := [(1, 22), (1, a1), (1, a2), (0, a3), (9, 0)]) (st' := [(0, 0), (1, 22)]) rfl ?_
    exact J4 _ H
  · replace H := H.2 q
    refine v_run 4 1 (pc' := 8) (ls' := [(1, 22), (1, a1), (1, a2), (0, a3), (9, 0)]) (st' := [(1, 22), (1, 22)]) rfl ?_
    refine v_getf (j := 5) (c := 7) (f := 2) rfl rfl rfl rfl rfl rfl rfl rfl (K22_t K) ?_
    refine v_run 6 1 (pc' := 13) (ls' := [(1, 22), (1, a1), (1, a2), (0, a3), (9, 0)]) (st' := [(0, 100), (0, (m 22 2)), (1, 22)]) rfl ?_
    refine v_icmpge (j := 7) rfl rfl rfl (fun q => ?_) (fun q => ?_)
    · replace H := H.1 q
      refine v_run 10 1 (pc' := 21) (ls' := [(1, 22), (1, a1), (1, a2), (0, a3), (9, 0)]) (st' := [(0, 0), (1, 22)]) rfl ?_
      exact J4 _ H
    · replace H := H.2 q
      refine v_run 8 1 (pc' := 17) (ls' := [(1, 22), (1, a1), (1, a2), (0, a3), (9, 0)]) (st' := [(0, 1), (1, 22)]) rfl ?_
      refine v_goto (j := 9) (tgt := 21) rfl rfl ?_
      exact J4 _ H

set_option maxRecDepth 100000 in
set_option maxHeartbeats 4000000 in
theorem wX6_use {G : GM} {d : Nat} {P : Nat → Int → SM → Prop} {m : SM} {a1 a2 a3 : Int} (K : KI m) (hd : 12 ≤ d) 
    (H : WV G mX6_use 15 [(1, 22), (1, a1), (1, a2), (0, a3), (1, 3), (1, 0), (0, 0), (9, 0), (9, 0), (9, 0)] [] m d P) :
    WV G mX6_use 0 [(1, 22), (1, a1), (1, a2), (0, a3), (9, 0), (9, 0), (9, 0), (9, 0), (9, 0), (9, 0)] [] m d P := by
  refine v_run 0 1 (pc' := 1) (ls' := [(1, 22), (1, a1), (1, a2), (0, a3), (9, 0), (9, 0), (9, 0), (9, 0), (9, 0), (9, 0)]) (st' := [(1, 22)]) rfl ?_
  refine v_getK (j := 1) (c := 7) (f := 0) rfl rfl rfl rfl rfl rfl rfl rfl (K22_t K) (K22_0 K) ?_
  refine v_getK (j := 2) (c := 1) (f := 0) rfl rfl rfl rfl rfl rfl rfl rfl (K2_t K) (K2_0 K) ?_
  refine v_run 3 5 (pc' := 15) (ls' := [(1, 22), (1, a1), (1, a2), (0, a3), (1, 3), (1, 0), (0, 0), (9, 0), (9, 0), (9, 0)]) (st' := []) rfl ?_
  exact H

set_option maxRecDepth 100000 in
set_option maxHeartbeats 4000000 in
theorem wX6_use_15 {G : GM} {d : Nat} {P : Nat → Int → SM → Prop} {m : SM} {a1 a2 a3 a4 a5 a6 : Int} (K : KI m) (hd : 12 ≤ d) 
    (H : (m a1 (-1) = 23) ∧ ((m (m a1 4) (-1) = 4) ∧ (((m (m a1 4) (-2)) ≤ a6 → (WV G mX2_programOf 0 [(1, 2), (0, (m a1 2)), (9, 0)] [] m (d - 1) (fun k v3 m4 => k = 0 ∧ Ok m m4 ∧ ((v3 ≠ 0 → (WV G mX6_use 131 [(1, 22), (9, 0), (9, 0), (0, a3), (1, a4), (9, 0), (1, v3), (1, 0), (0, 0), (1, a5)] [] m4 d P)) ∧ (v3 = 0 → ((m4 a4 (-1) = 3) ∧ (WV G mX3_made 0 [(1, a4), (0, (m4 a1 2)), (1, a5), (9, 0)] [] m4 (d - 1) (fun k v8 m9 => k = 0 ∧ Ok m4 m9 ∧ (WV G mX7_nodes 0 [(1, 23), (1, v8), (0, 200), (9, 0)] [] m9 (d - 1) (fun k v13 m14 => k = 0 ∧ Ok m9 m14 ∧ (WV G mX6_need 0 [(1, 22), (0, (if (200 : Int) < v13 then 0 else 1))] [] m14 (d - 1) (fun k v18 m19 => Ok m14 m19 ∧ (k = 0 → (P 0 v8 m19)) ∧ (k ≠ 0 → P 1 v18 m19))))))))))))) ∧ (a6 < (m (m a1 4) (-2)) → ((0 ≤ a6) ∧ (a6 < m (m a1 4) (-2)) ∧ (((m (m a1 4) a6) = 0 ∨ m (m (m a1 4) a6) (-1) = 23) ∧ (WV G mX6_step 0 [(1, 22), (1, (m (m a1 4) a6)), (1, a2), (0, a3), (9, 0)] [] m (d - 1) (fun k v27 m28 => Ok m m28 ∧ (k = 0 → ((m28 a4 (-1) = 3) ∧ (WV G mX3_append 0 [(1, a4), (1, a5), (1, v27), (9, 0), (9, 0)] [] m28 (d - 1) (fun k v32 m33 => k = 0 ∧ Ok m28 m33 ∧ (WV G mX6_use 15 [(1, 22), (1, a1), (1, a2), (0, a3), (1, a4), (1, v32), (0, (wr (a6 + 1))), (9, 0), (9, 0), (9, 0)] [] m33 d P))))) ∧ (k ≠ 0 → P 1 v27 m28))))))))) :
    WV G mX6_use 15 [(1, 22), (1, a1), (1, a2), (0, a3), (1, a4), (1, a5), (0, a6), (9, 0), (9, 0), (9, 0)] [] m d P := by
  refine v_run 8 2 (pc' := 18) (ls' := [(1, 22), (1, a1), (1, a2), (0, a3), (1, a4), (1, a5), (0, a6), (9, 0), (9, 0), (9, 0)]) (st' := [(1, a1), (0, a6)]) rfl ?_
  obtain ⟨t1, H⟩ := H
  refine v_getf (j := 10) (c := 22) (f := 4) rfl rfl rfl rfl rfl rfl rfl rfl (t1) ?_
  obtain ⟨t2, H⟩ := H
  refine vj_size (j := 11) rfl rfl rfl rfl (t2) (by omega) (by simp) ?_
  refine v_icmpge (j := 12) rfl rfl rfl (fun q => ?_) (fun q => ?_)
  · replace H := H.1 q
    refine v_run 28 1 (pc' := 61) (ls' := [(1, 22), (1, a1), (1, a2), (0, a3), (1, a4), (1, a5), (0, a6), (9, 0), (9, 0), (9, 0)]) (st' := [(1, 22)]) rfl ?_
    refine v_getK (j := 29) (c := 7) (f := 0) rfl rfl rfl rfl rfl rfl rfl rfl (K22_t K) (K22_0 K) ?_
    refine v_run 30 1 (pc' := 65) (ls' := [(1, 22), (1, a1), (1, a2), (0, a3), (1, a4), (1, a5), (0, a6), (9, 0), (9, 0), (9, 0)]) (st' := [(1, a1), (1, 2)]) rfl ?_
    refine v_getf (j := 31) (c := 22) (f := 2) rfl rfl rfl rfl rfl rfl rfl rfl (t1) ?_
    refine v_callV (j := 32) (M' := mX2_programOf) (as := [(0, (m a1 2))]) (st := []) rfl rfl rfl rfl rfl (Nat.le_of_ble_eq_true rfl) (Nat.le_of_ble_eq_true rfl) (by omega) (by decide) (K2_t K) (kv0 (st' := fun v => [(1, v)]) rfl (fun _ => rfl)) (H.mono (fun k v3 m4 H => ⟨H.1, ?_⟩))
    have K5 := H.2.1.2.1 K
    have t6 := Ok.tag H.2.1 (t1) (by decide)
    replace H := H.2.2
    refine v_run 33 2 (pc' := 75) (ls' := [(1, 22), (1, a1), (1, a2), (0, a3), (1, a4), (1, a5), (1, v3), (9, 0), (9, 0), (9, 0)]) (st' := [(1, v3)]) rfl ?_
    refine v_nonnull (j := 35) rfl rfl rfl (fun q => ?_) (fun q => ?_)
    · replace H := H.1 q
      refine v_run 56 6 (pc' := 131) (ls' := [(1, 22), (1, a1), (1, a2), (0, a3), (1, a4), (1, a5), (1, v3), (1, 0), (0, 0), (1, a5)]) (st' := []) rfl ?_
      refine v_drp [true, false, false, true, true, false, true, true, true, true] ?_
      exact H
    · replace H := H.2 q
      refine v_run 36 2 (pc' := 81) (ls' := [(1, 22), (1, a1), (1, a2), (0, a3), (1, a4), (1, a5), (1, v3), (9, 0), (9, 0), (9, 0)]) (st' := [(1, a1), (1, a4)]) rfl ?_
      refine v_getf (j := 38) (c := 22) (f := 2) rfl rfl rfl rfl rfl rfl rfl rfl (t6) ?_
      refine v_run 39 1 (pc' := 86) (ls' := [(1, 22), (1, a1), (1, a2), (0, a3), (1, a4), (1, a5), (1, v3), (9, 0), (9, 0), (9, 0)]) (st' := [(1, a5), (0, (m4 a1 2)), (1, a4)]) rfl ?_
      obtain ⟨t7, H⟩ := H
      refine v_callV (j := 40) (M' := mX3_made) (as := [(0, (m4 a1 2)), (1, a5)]) (st := []) rfl rfl rfl rfl rfl (Nat.le_of_ble_eq_true rfl) (Nat.le_of_ble_eq_true rfl) (by omega) (by decide) (t7) (kv0 (st' := fun v => [(1, v)]) rfl (fun _ => rfl)) (H.mono (fun k v8 m9 H => ⟨H.1, ?_⟩))
      have K10 := H.2.1.2.1 K5
      have t11 := Ok.tag H.2.1 (t6) (by decide)
      have t12 := Ok.tag H.2.1 (t7) (by decide)
      replace H := H.2.2
      refine v_run 41 3 (pc' := 93) (ls' := [(1, 22), (1, a1), (1, a2), (0, a3), (1, a4), (1, a5), (1, v3), (1, v8), (9, 0), (9, 0)]) (st' := [(1, 22), (1, 22)]) rfl ?_
      refine v_getK (j := 44) (c := 7) (f := 1) rfl rfl rfl rfl rfl rfl rfl rfl (K22_t K10) (K22_1 K10) ?_
      refine v_run 45 2 (pc' := 101) (ls' := [(1, 22), (1, a1), (1, a2), (0, a3), (1, a4), (1, a5), (1, v3), (1, v8), (9, 0), (9, 0)]) (st' := [(0, 200), (1, v8), (1, 23), (1, 22)]) rfl ?_
      refine v_callV (j := 47) (M' := mX7_nodes) (as := [(1, v8), (0, 200)]) (st := [(1, 22)]) rfl rfl rfl rfl rfl (Nat.le_of_ble_eq_true rfl) (Nat.le_of_ble_eq_true rfl) (by omega) (by decide) (K23_t K10) (kv0 (st' := fun v => [(0, v), (1, 22)]) rfl (fun _ => rfl)) (H.mono (fun k v13 m14 H => ⟨H.1, ?_⟩))
      have K15 := H.2.1.2.1 K10
      have t16 := Ok.tag H.2.1 (t11) (by decide)
      have t17 := Ok.tag H.2.1 (t12) (by decide)
      replace H := H.2.2
      refine v_run 48 1 (pc' := 107) (ls' := [(1, 22), (1, a1), (1, a2), (0, a3), (1, a4), (1, a5), (1, v3), (1, v8), (9, 0), (9, 0)]) (st' := [(0, 200), (0, v13), (1, 22)]) rfl ?_
      have J23 : WV G mX6_use 115 [(1, 22), (1, a1), (1, a2), (0, a3), (1, a4), (1, a5), (1, v3), (1, v8), (9, 0), (9, 0)] [(0, (if (200 : Int) < v13 then 0 else 1)), (1, 22)] m14 d P := by
        refine v_callV (j := 53) (M' := mX6_need) (as := [(0, (if (200 : Int) < v13 then 0 else 1))]) (st := []) rfl rfl rfl rfl rfl (Nat.le_of_ble_eq_true rfl) (Nat.le_of_ble_eq_true rfl) (by omega) (by decide) (K22_t K15) (kvt (st' := fun v => []) rfl (fun _ => rfl) rfl) (H.mono (fun k v18 m19 H => ⟨fun z => ?_, H.2.2⟩))
        have O := H.1
        replace H := H.2.1 z
        have K20 := O.2.1 K15
        have t21 := Ok.tag O (t16) (by decide)
        have t22 := Ok.tag O (t17) (by decide)
        refine v_run 54 1 (pc' := 120) (ls' := [(1, 22), (1, a1), (1, a2), (0, a3), (1, a4), (1, a5), (1, v3), (1, v8), (9, 0), (9, 0)]) (st' := [(1, v8)]) rfl ?_
        exact v_aret (j := 55) rfl rfl rfl H
      refine v_icmpgt (j := 49) rfl rfl rfl (fun q => ?_) (fun q => ?_)
      · rw [show ((if (200 : Int) < v13 then 0 else 1) : Int) = 0 from if_pos q] at J23
        refine v_run 52 1 (pc' := 115) (ls' := [(1, 22), (1, a1), (1, a2), (0, a3), (1, a4), (1, a5), (1, v3), (1, v8), (9, 0), (9, 0)]) (st' := [(0, 0), (1, 22)]) rfl ?_
        exact J23
      · rw [show ((if (200 : Int) < v13 then 0 else 1) : Int) = 1 from if_neg (Int.not_lt.mpr q)] at J23
        refine v_run 50 1 (pc' := 111) (ls' := [(1, 22), (1, a1), (1, a2), (0, a3), (1, a4), (1, a5), (1, v3), (1, v8), (9, 0), (9, 0)]) (st' := [(0, 1), (1, 22)]) rfl ?_
        refine v_goto (j := 51) (tgt := 115) rfl rfl ?_
        exact J23
  · replace H := H.2 q
    refine v_run 13 4 (pc' := 33) (ls' := [(1, 22), (1, a1), (1, a2), (0, a3), (1, a4), (1, a5), (0, a6), (9, 0), (9, 0), (9, 0)]) (st' := [(1, a1), (1, 22), (1, a5), (1, a4)]) rfl ?_
    refine v_getf (j := 17) (c := 22) (f := 4) rfl rfl rfl rfl rfl rfl rfl rfl (t1) ?_
    refine v_run 18 1 (pc' := 38) (ls' := [(1, 22), (1, a1), (1, a2), (0, a3), (1, a4), (1, a5), (0, a6), (9, 0), (9, 0), (9, 0)]) (st' := [(0, a6), (1, (m a1 4)), (1, 22), (1, a5), (1, a4)]) rfl ?_
    obtain ⟨i24, i25, H⟩ := H
    refine vj_get (j := 19) rfl rfl rfl rfl (t2) (by omega) (by simp) i24 i25 ?_
    obtain ⟨c26, H⟩ := H
    refine v_cast (j := 20) (c := 22) rfl rfl rfl rfl rfl (c26) ?_
    refine v_run 21 2 (pc' := 46) (ls' := [(1, 22), (1, a1), (1, a2), (0, a3), (1, a4), (1, a5), (0, a6), (9, 0), (9, 0), (9, 0)]) (st' := [(0, a3), (1, a2), (1, (m (m a1 4) a6)), (1, 22), (1, a5), (1, a4)]) rfl ?_
    refine v_callS (j := 23) (M' := mX6_step) (as := [(1, 22), (1, (m (m a1 4) a6)), (1, a2), (0, a3)]) (st := [(1, a5), (1, a4)]) rfl rfl rfl rfl rfl (Nat.le_of_ble_eq_true rfl) (Nat.le_of_ble_eq_true rfl) (by omega) (kvt (st' := fun v => [(1, v), (1, a5), (1, a4)]) rfl (fun _ => rfl) rfl) (H.mono (fun k v27 m28 H => ⟨fun z => ?_, H.2.2⟩))
    have O := H.1
    replace H := H.2.1 z
    have K29 := O.2.1 K
    have t30 := Ok.tag O (t1) (by decide)
    obtain ⟨t31, H⟩ := H
    refine v_callV (j := 24) (M' := mX3_append) (as := [(1, a5), (1, v27)]) (st := []) rfl rfl rfl rfl rfl (Nat.le_of_ble_eq_true rfl) (Nat.le_of_ble_eq_true rfl) (by omega) (by decide) (t31) (kv0 (st' := fun v => [(1, v)]) rfl (fun _ => rfl)) (H.mono (fun k v32 m33 H => ⟨H.1, ?_⟩))
    have K34 := H.2.1.2.1 K29
    have t35 := Ok.tag H.2.1 (t30) (by decide)
    have t36 := Ok.tag H.2.1 (t31) (by decide)
    replace H := H.2.2
    refine v_run 25 2 (pc' := 57) (ls' := [(1, 22), (1, a1), (1, a2), (0, a3), (1, a4), (1, v32), (0, (wr (a6 + 1))), (9, 0), (9, 0), (9, 0)]) (st' := []) rfl ?_
    refine v_goto (j := 27) (tgt := 15) rfl rfl ?_
    exact H

set_option maxRecDepth 100000 in
set_option maxHeartbeats 4000000 in
theorem wX6_use_131 {G : GM} {d : Nat} {P : Nat → Int → SM → Prop} {m : SM} {a3 a4 a6 a7 a8 a9 : Int} (K : KI m) (hd : 12 ≤ d) 
    (H : (a9 = 0 → ((m a6 (-1) = 22) ∧ (WV G mX6_step 0 [(1, 22), (1, (m a6 1)), (1, a7), (0, a3), (9, 0)] [] m (d - 1) (fun k v2 m3 => Ok m m3 ∧ (k = 0 → (P 0 v2 m3)) ∧ (k ≠ 0 → P 1 v2 m3))))) ∧ (a9 ≠ 0 → ((m a6 (-1) = 22) ∧ ((m (m a6 0) (-1) = 13) ∧ (0 ≤ a8) ∧ (a8 < m (m a6 0) (-2)) ∧ ((m a9 (-1) = 16) ∧ ((m a4 (-1) = 3) ∧ (WV G mX3_bind 0 [(1, a4), (0, (m (m a6 0) a8)), (1, (m a9 0)), (1, a7), (9, 0)] [] m (d - 1) (fun k v12 m13 => k = 0 ∧ Ok m m13 ∧ (WV G mX6_use 131 [(1, 22), (9, 0), (9, 0), (0, a3), (1, a4), (9, 0), (1, a6), (1, v12), (0, (wr (a8 + 1))), (1, (m13 a9 1))] [] m13 d P))))))))) :
    WV G mX6_use 131 [(1, 22), (9, 0), (9, 0), (0, a3), (1, a4), (9, 0), (1, a6), (1, a7), (0, a8), (1, a9)] [] m d P := by
  refine v_run 62 1 (pc' := 133) (ls' := [(1, 22), (9, 0), (9, 0), (0, a3), (1, a4), (9, 0), (1, a6), (1, a7), (0, a8), (1, a9)]) (st' := [(1, a9)]) rfl ?_
  refine v_null (j := 63) rfl rfl rfl (fun q => ?_) (fun q => ?_)
  · replace H := H.1 q
    refine v_run 79 2 (pc' := 176) (ls' := [(1, 22), (9, 0), (9, 0), (0, a3), (1, a4), (9, 0), (1, a6), (1, a7), (0, a8), (1, a9)]) (st' := [(1, a6), (1, 22)]) rfl ?_
    obtain ⟨t1, H⟩ := H
    refine v_getf (j := 81) (c := 21) (f := 1) rfl rfl rfl rfl rfl rfl rfl rfl (t1) ?_
    refine v_run 82 2 (pc' := 182) (ls' := [(1, 22), (9, 0), (9, 0), (0, a3), (1, a4), (9, 0), (1, a6), (1, a7), (0, a8), (1, a9)]) (st' := [(0, a3), (1, a7), (1, (m a6 1)), (1, 22)]) rfl ?_
    refine v_callS (j := 84) (M' := mX6_step) (as := [(1, 22), (1, (m a6 1)), (1, a7), (0, a3)]) (st := []) rfl rfl rfl rfl rfl (Nat.le_of_ble_eq_true rfl) (Nat.le_of_ble_eq_true rfl) (by omega) (kvt (st' := fun v => [(1, v)]) rfl (fun _ => rfl) rfl) (H.mono (fun k v2 m3 H => ⟨fun z => ?_, H.2.2⟩))
    have O := H.1
    replace H := H.2.1 z
    have K4 := O.2.1 K
    have t5 := Ok.tag O (t1) (by decide)
    exact v_aret (j := 85) rfl rfl rfl H
  · replace H := H.2 q
    refine v_run 64 2 (pc' := 140) (ls' := [(1, 22), (9, 0), (9, 0), (0, a3), (1, a4), (9, 0), (1, a6), (1, a7), (0, a8), (1, a9)]) (st' := [(1, a6), (1, a4)]) rfl ?_
    obtain ⟨t6, H⟩ := H
    refine v_getf (j := 66) (c := 21) (f := 0) rfl rfl rfl rfl rfl rfl rfl rfl (t6) ?_
    refine v_run 67 2 (pc' := 148) (ls' := [(1, 22), (9, 0), (9, 0), (0, a3), (1, a4), (9, 0), (1, a6), (1, a7), (0, (wr (a8 + 1))), (1, a9)]) (st' := [(0, a8), (1, (m a6 0)), (1, a4)]) rfl ?_
    obtain ⟨t7, i8, i9, H⟩ := H
    refine vj_stat (j := 69) rfl rfl rfl rfl (t7) (by omega) (by simp) i8 i9 ?_
    refine v_run 70 1 (pc' := 153) (ls' := [(1, 22), (9, 0), (9, 0), (0, a3), (1, a4), (9, 0), (1, a6), (1, a7), (0, (wr (a8 + 1))), (1, a9)]) (st' := [(1, a9), (0, (m (m a6 0) a8)), (1, a4)]) rfl ?_
    obtain ⟨t10, H⟩ := H
    refine v_getf (j := 71) (c := 15) (f := 0) rfl rfl rfl rfl rfl rfl rfl rfl (t10) ?_
    refine v_run 72 1 (pc' := 158) (ls' := [(1, 22), (9, 0), (9, 0), (0, a3), (1, a4), (9, 0), (1, a6), (1, a7), (0, (wr (a8 + 1))), (1, a9)]) (st' := [(1, a7), (1, (m a9 0)), (0, (m (m a6 0) a8)), (1, a4)]) rfl ?_
    obtain ⟨t11, H⟩ := H
    refine v_callV (j := 73) (M' := mX3_bind) (as := [(0, (m (m a6 0) a8)), (1, (m a9 0)), (1, a7)]) (st := []) rfl rfl rfl rfl rfl (Nat.le_of_ble_eq_true rfl) (Nat.le_of_ble_eq_true rfl) (by omega) (by decide) (t11) (kv0 (st' := fun v => [(1, v)]) rfl (fun _ => rfl)) (H.mono (fun k v12 m13 H => ⟨H.1, ?_⟩))
    have K14 := H.2.1.2.1 K
    have t15 := Ok.tag H.2.1 (t6) (by decide)
    have t16 := Ok.tag H.2.1 (t10) (by decide)
    have t17 := Ok.tag H.2.1 (t11) (by decide)
    replace H := H.2.2
    refine v_run 74 2 (pc' := 165) (ls' := [(1, 22), (9, 0), (9, 0), (0, a3), (1, a4), (9, 0), (1, a6), (1, v12), (0, (wr (a8 + 1))), (1, a9)]) (st' := [(1, a9)]) rfl ?_
    refine v_getf (j := 76) (c := 15) (f := 1) rfl rfl rfl rfl rfl rfl rfl rfl (t16) ?_
    refine v_run 77 1 (pc' := 170) (ls' := [(1, 22), (9, 0), (9, 0), (0, a3), (1, a4), (9, 0), (1, a6), (1, v12), (0, (wr (a8 + 1))), (1, (m13 a9 1))]) (st' := []) rfl ?_
    refine v_goto (j := 78) (tgt := 131) rfl rfl ?_
    exact H

set_option maxRecDepth 100000 in
set_option maxHeartbeats 4000000 in
theorem wX6_match {G : GM} {d : Nat} {P : Nat → Int → SM → Prop} {m : SM} {a1 a2 a3 : Int} (K : KI m) (hd : 12 ≤ d) 
    (H : (m a1 (-1) = 23) ∧ ((m (m a1 4) (-1) = 4) ∧ ((0 : Int) ≤ 0) ∧ (0 < m (m a1 4) (-2)) ∧ (((m (m a1 4) 0) = 0 ∨ m (m (m a1 4) 0) (-1) = 23) ∧ (WV G mX6_step 0 [(1, 22), (1, (m (m a1 4) 0)), (1, a2), (0, a3), (9, 0)] [] m (d - 1) (fun k v6 m7 => Ok m m7 ∧ (k = 0 → ((m7 v6 (-1) = 11) ∧ (WV G mX9_seen 0 [(1, v6), (9, 0)] [] m7 (d - 1) (fun k v11 m12 => k = 0 ∧ Ok m7 m12 ∧ (WV G mX6_match 25 [(1, 22), (1, a1), (1, a2), (0, a3), (1, v11), (0, 0), (9, 0), (9, 0), (9, 0), (9, 0)] [] m12 d P))))) ∧ (k ≠ 0 → P 1 v6 m7)))))) :
    WV G mX6_match 0 [(1, 22), (1, a1), (1, a2), (0, a3), (9, 0), (9, 0), (9, 0), (9, 0), (9, 0), (9, 0)] [] m d P := by
  refine v_run 0 2 (pc' := 2) (ls' := [(1, 22), (1, a1), (1, a2), (0, a3), (9, 0), (9, 0), (9, 0), (9, 0), (9, 0), (9, 0)]) (st' := [(1, a1), (1, 22)]) rfl ?_
  obtain ⟨t1, H⟩ := H
  refine v_getf (j := 2) (c := 22) (f := 4) rfl rfl rfl rfl rfl rfl rfl rfl (t1) ?_
  refine v_run 3 1 (pc' := 6) (ls' := [(1, 22), (1, a1), (1, a2), (0, a3), (9, 0), (9, 0), (9, 0), (9, 0), (9, 0), (9, 0)]) (st' := [(0, 0), (1, (m a1 4)), (1, 22)]) rfl ?_
  obtain ⟨t2, i3, i4, H⟩ := H
  refine vj_get (j := 4) rfl rfl rfl rfl (t2) (by omega) (by simp) i3 i4 ?_
  obtain ⟨c5, H⟩ := H
  refine v_cast (j := 5) (c := 22) rfl rfl rfl rfl rfl (c5) ?_
  refine v_run 6 2 (pc' := 14) (ls' := [(1, 22), (1, a1), (1, a2), (0, a3), (9, 0), (9, 0), (9, 0), (9, 0), (9, 0), (9, 0)]) (st' := [(0, a3), (1, a2), (1, (m (m a1 4) 0)), (1, 22)]) rfl ?_
  refine v_callS (j := 8) (M' := mX6_step) (as := [(1, 22), (1, (m (m a1 4) 0)), (1, a2), (0, a3)]) (st := []) rfl rfl rfl rfl rfl (Nat.le_of_ble_eq_true rfl) (Nat.le_of_ble_eq_true rfl) (by omega) (kvt (st' := fun v => [(1, v)]) rfl (fun _ => rfl) rfl) (H.mono (fun k v6 m7 H => ⟨fun z => ?_, H.2.2⟩))
  have O := H.1
  replace H := H.2.1 z
  have K8 := O.2.1 K
  have t9 := Ok.tag O (t1) (by decide)
  obtain ⟨t10, H⟩ := H
  refine v_callV (j := 9) (M' := mX9_seen) (as := []) (st := []) rfl rfl rfl rfl rfl (Nat.le_of_ble_eq_true rfl) (Nat.le_of_ble_eq_true rfl) (by omega) (by decide) (t10) (kv0 (st' := fun v => [(1, v)]) rfl (fun _ => rfl)) (H.mono (fun k v11 m12 H => ⟨H.1, ?_⟩))
  have K13 := H.2.1.2.1 K8
  have t14 := Ok.tag H.2.1 (t9) (by decide)
  replace H := H.2.2
  refine v_run 10 3 (pc' := 25) (ls' := [(1, 22), (1, a1), (1, a2), (0, a3), (1, v11), (0, 0), (9, 0), (9, 0), (9, 0), (9, 0)]) (st' := []) rfl ?_
  exact H

set_option maxRecDepth 100000 in
set_option maxHeartbeats 4000000 in
theorem wX6_match_25 {G : GM} {d : Nat} {P : Nat → Int → SM → Prop} {m : SM} {a1 a2 a3 a4 a5 : Int} (K : KI m) (hd : 12 ≤ d) 
    (H : (m a1 (-1) = 23) ∧ ((m (m a1 5) (-1) = 4) ∧ (((m (m a1 5) (-2)) ≤ a5 → (WV G mX6_match 63 [(1, 22), (1, a1), (1, a2), (0, a3), (1, a4), (0, a5), (9, 0), (9, 0), (9, 0), (9, 0)] [] m d P)) ∧ (a5 < (m (m a1 5) (-2)) → ((0 ≤ a5) ∧ (a5 < m (m a1 5) (-2)) ∧ (((m (m a1 5) a5) = 0 ∨ m (m (m a1 5) a5) (-1) = 24) ∧ ((m (m (m a1 5) a5) (-1) = 24) ∧ (WV G mX19_fits 0 [(1, (m (m a1 5) a5)), (1, a4)] [] m (d - 1) (fun k v7 m8 => k = 0 ∧ Ok m m8 ∧ ((v7 ≠ (0 : Int) → (WV G mX6_match 63 [(1, 22), (1, a1), (1, a2), (0, a3), (1, a4), (0, a5), (9, 0), (9, 0), (9, 0), (9, 0)] [] m8 d P)) ∧ (v7 = (0 : Int) → (WV G mX6_match 25 [(1, 22), (1, a1), (1, a2), (0, a3), (1, a4), (0, (wr (a5 + 1))), (9, 0), (9, 0), (9, 0), (9, 0)] [] m8 d P)))))))))))) :
    WV G mX6_match 25 [(1, 22), (1, a1), (1, a2), (0, a3), (1, a4), (0, a5), (9, 0), (9, 0), (9, 0), (9, 0)] [] m d P := by
  refine v_run 13 2 (pc' := 28) (ls' := [(1, 22), (1, a1), (1, a2), (0, a3), (1, a4), (0, a5), (9, 0), (9, 0), (9, 0), (9, 0)]) (st' := [(1, a1), (0, a5)]) rfl ?_
  obtain ⟨t1, H⟩ := H
  refine v_getf (j := 15) (c := 22) (f := 5) rfl rfl rfl rfl rfl rfl rfl rfl (t1) ?_
  obtain ⟨t2, H⟩ := H
  refine vj_size (j := 16) rfl rfl rfl rfl (t2) (by omega) (by simp) ?_
  refine v_icmpge (j := 17) rfl rfl rfl (fun q => ?_) (fun q => ?_)
  · replace H := H.1 q
    exact H
  · replace H := H.2 q
    refine v_run 18 1 (pc' := 38) (ls' := [(1, 22), (1, a1), (1, a2), (0, a3), (1, a4), (0, a5), (9, 0), (9, 0), (9, 0), (9, 0)]) (st' := [(1, a1)]) rfl ?_
    refine v_getf (j := 19) (c := 22) (f := 5) rfl rfl rfl rfl rfl rfl rfl rfl (t1) ?_
    refine v_run 20 1 (pc' := 43) (ls' := [(1, 22), (1, a1), (1, a2), (0, a3), (1, a4), (0, a5), (9, 0), (9, 0), (9, 0), (9, 0)]) (st' := [(0, a5), (1, (m a1 5))]) rfl ?_
    obtain ⟨i3, i4, H⟩ := H
    refine vj_get (j := 21) rfl rfl rfl rfl (t2) (by omega) (by simp) i3 i4 ?_
    obtain ⟨c5, H⟩ := H
    refine v_cast (j := 22) (c := 23) rfl rfl rfl rfl rfl (c5) ?_
    refine v_run 23 1 (pc' := 51) (ls' := [(1, 22), (1, a1), (1, a2), (0, a3), (1, a4), (0, a5), (9, 0), (9, 0), (9, 0), (9, 0)]) (st' := [(1, a4), (1, (m (m a1 5) a5))]) rfl ?_
    obtain ⟨t6, H⟩ := H
    refine v_callV (j := 24) (M' := mX19_fits) (as := [(1, a4)]) (st := []) rfl rfl rfl rfl rfl (Nat.le_of_ble_eq_true rfl) (Nat.le_of_ble_eq_true rfl) (by omega) (by decide) (t6) (kv0 (st' := fun v => [(0, v)]) rfl (fun _ => rfl)) (H.mono (fun k v7 m8 H => ⟨H.1, ?_⟩))
    have K9 := H.2.1.2.1 K
    have t10 := Ok.tag H.2.1 (t1) (by decide)
    replace H := H.2.2
    refine v_ifne (j := 25) rfl rfl rfl (fun q => ?_) (fun q => ?_)
    · replace H := H.1 q
      exact H
    · replace H := H.2 q
      refine v_run 26 1 (pc' := 60) (ls' := [(1, 22), (1, a1), (1, a2), (0, a3), (1, a4), (0, (wr (a5 + 1))), (9, 0), (9, 0), (9, 0), (9, 0)]) (st' := []) rfl ?_
      refine v_goto (j := 27) (tgt := 25) rfl rfl ?_
      exact H

set_option maxRecDepth 100000 in
set_option maxHeartbeats 4000000 in
theorem wX6_match_63 {G : GM} {d : Nat} {P : Nat → Int → SM → Prop} {m : SM} {a1 a2 a3 a4 a5 : Int} (K : KI m) (hd : 12 ≤ d) 
    (H : (m a4 (-1) = 11) ∧ (((m a4 0) = (-18) → (WV G mX6_need 0 [(1, 22), (0, 0)] [] m (d - 1) (fun k v2 m3 => Ok m m3 ∧ (k = 0 → ((m3 a1 (-1) = 23) ∧ ((m3 (m3 a1 5) (-1) = 4) ∧ (0 ≤ a5) ∧ (a5 < m3 (m3 a1 5) (-2)) ∧ (((m3 (m3 a1 5) a5) = 0 ∨ m3 (m3 (m3 a1 5) a5) (-1) = 24) ∧ ((m3 (m3 (m3 a1 5) a5) (-1) = 24) ∧ (∃ Q12 : Int → Prop, (((m3 (m3 (m3 a1 5) a5) 2) ≠ (0 : Int) → (Q12 (m3 a4 3))) ∧ ((m3 (m3 (m3 a1 5) a5) 2) = (0 : Int) → (Q12 0))) ∧ (∀ v13, Q12 v13 → (WV G mX6_match 134 [(1, 22), (9, 0), (9, 0), (0, a3), (9, 0), (9, 0), (1, (m3 (m3 a1 5) a5)), (1, a2), (0, 0), (1, v13)] [] m3 d P)))))))) ∧ (k ≠ 0 → P 1 v2 m3)))) ∧ (¬ ((m a4 0) = (-18)) → ((m a1 (-1) = 23) ∧ ((m (m a1 5) (-1) = 4) ∧ (WV G mX6_need 0 [(1, 22), (0, (if (m (m a1 5) (-2)) ≤ a5 then 0 else 1))] [] m (d - 1) (fun k v18 m19 => Ok m m19 ∧ (k = 0 → ((m19 (m19 a1 5) (-1) = 4) ∧ (0 ≤ a5) ∧ (a5 < m19 (m19 a1 5) (-2)) ∧ (((m19 (m19 a1 5) a5) = 0 ∨ m19 (m19 (m19 a1 5) a5) (-1) = 24) ∧ ((m19 (m19 (m19 a1 5) a5) (-1) = 24) ∧ (∃ Q28 : Int → Prop, (((m19 (m19 (m19 a1 5) a5) 2) ≠ (0 : Int) → (Q28 (m19 a4 3))) ∧ ((m19 (m19 (m19 a1 5) a5) 2) = (0 : Int) → (Q28 0))) ∧ (∀ v29, Q28 v29 → (WV G mX6_match 134 [(1, 22), (9, 0), (9, 0), (0, a3), (9, 0), (9, 0), (1, (m19 (m19 a1 5) a5)), (1, a2), (0, 0), (1, v29)] [] m19 d P))))))) ∧ (k ≠ 0 → P 1 v18 m19)))))))) :
    WV G mX6_match 63 [(1, 22), (1, a1), (1, a2), (0, a3), (1, a4), (0, a5), (9, 0), (9, 0), (9, 0), (9, 0)] [] m d P := by
  refine v_run 28 2 (pc' := 66) (ls' := [(1, 22), (1, a1), (1, a2), (0, a3), (1, a4), (0, a5), (9, 0), (9, 0), (9, 0), (9, 0)]) (st' := [(1, a4), (1, 22)]) rfl ?_
  refine v_gets (j := 30) (g := 1) (v := (-18)) rfl rfl rfl rfl ?_
  obtain ⟨t1, H⟩ := H
  refine v_callV (j := 31) (M' := mX9_is) (as := [(1, (-18))]) (st := [(1, 22)]) rfl rfl rfl rfl rfl (Nat.le_of_ble_eq_true rfl) (Nat.le_of_ble_eq_true rfl) (by omega) (by decide) (t1) (kv0 (st' := fun v => [(0, v), (1, 22)]) rfl (fun _ => rfl)) (ipX9_is (t1) ⟨rfl, ?_⟩)
  refine v_ifne (j := 32) rfl rfl rfl (fun q => ?_) (fun q => ?_)
  · replace H := H.1 (ite1 q)
    refine v_run 40 1 (pc' := 92) (ls' := [(1, 22), (1, a1), (1, a2), (0, a3), (1, a4), (0, a5), (9, 0), (9, 0), (9, 0), (9, 0)]) (st' := [(0, 0), (1, 22)]) rfl ?_
    refine v_callV (j := 41) (M' := mX6_need) (as := [(0, 0)]) (st := []) rfl rfl rfl rfl rfl (Nat.le_of_ble_eq_true rfl) (Nat.le_of_ble_eq_true rfl) (by omega) (by decide) (K22_t K) (kvt (st' := fun v => []) rfl (fun _ => rfl) rfl) (H.mono (fun k v2 m3 H => ⟨fun z => ?_, H.2.2⟩))
    have O := H.1
    replace H := H.2.1 z
    have K4 := O.2.1 K
    have t5 := Ok.tag O (t1) (by decide)
    refine v_run 42 1 (pc' := 96) (ls' := [(1, 22), (1, a1), (1, a2), (0, a3), (1, a4), (0, a5), (9, 0), (9, 0), (9, 0), (9, 0)]) (st' := [(1, a1)]) rfl ?_
    obtain ⟨t6, H⟩ := H
    refine v_getf (j := 43) (c := 22) (f := 5) rfl rfl rfl rfl rfl rfl rfl rfl (t6) ?_
    refine v_run 44 1 (pc' := 101) (ls' := [(1, 22), (1, a1), (1, a2), (0, a3), (1, a4), (0, a5), (9, 0), (9, 0), (9, 0), (9, 0)]) (st' := [(0, a5), (1, (m3 a1 5))]) rfl ?_
    obtain ⟨t7, i8, i9, H⟩ := H
    refine vj_get (j := 45) rfl rfl rfl rfl (t7) (by omega) (by simp) i8 i9 ?_
    obtain ⟨c10, H⟩ := H
    refine v_cast (j := 46) (c := 23) rfl rfl rfl rfl rfl (c10) ?_
    refine v_run 47 6 (pc' := 117) (ls' := [(1, 22), (1, a1), (1, a2), (0, a3), (1, a4), (0, a5), (1, (m3 (m3 a1 5) a5)), (1, a2), (0, 0), (9, 0)]) (st' := [(1, (m3 (m3 a1 5) a5))]) rfl ?_
    obtain ⟨t11, H⟩ := H
    refine v_callV (j := 53) (M' := mX19_letter) (as := []) (st := []) rfl rfl rfl rfl rfl (Nat.le_of_ble_eq_true rfl) (Nat.le_of_ble_eq_true rfl) (by omega) (by decide) (t11) (kv0 (st' := fun v => [(0, v)]) rfl (fun _ => rfl)) (ipX19_letter (t11) ⟨rfl, ?_⟩)
    obtain ⟨Q12, H, J15⟩ := H
    have J15 : ∀ v13, Q12 v13 → WV G mX6_match 132 [(1, 22), (1, a1), (1, a2), (0, a3), (1, a4), (0, a5), (1, (m3 (m3 a1 5) a5)), (1, a2), (0, 0), (9, 0)] [(1, v13)] m3 d P := by
      intro v13 q14
      have H := J15 v13 q14
      refine v_run 59 1 (pc' := 134) (ls' := [(1, 22), (1, a1), (1, a2), (0, a3), (1, a4), (0, a5), (1, (m3 (m3 a1 5) a5)), (1, a2), (0, 0), (1, v13)]) (st' := []) rfl ?_
      refine v_drp [true, false, false, true, false, false, true, true, true, true] ?_
      exact H
    refine v_ifne (j := 54) rfl rfl rfl (fun q => ?_) (fun q => ?_)
    · replace H := H.1 q
      refine v_run 57 1 (pc' := 129) (ls' := [(1, 22), (1, a1), (1, a2), (0, a3), (1, a4), (0, a5), (1, (m3 (m3 a1 5) a5)), (1, a2), (0, 0), (9, 0)]) (st' := [(1, a4)]) rfl ?_
      refine v_getf (j := 58) (c := 10) (f := 3) rfl rfl rfl rfl rfl rfl rfl rfl (t5) ?_
      exact J15 _ H
    · replace H := H.2 q
      refine v_run 55 1 (pc' := 124) (ls' := [(1, 22), (1, a1), (1, a2), (0, a3), (1, a4), (0, a5), (1, (m3 (m3 a1 5) a5)), (1, a2), (0, 0), (9, 0)]) (st' := [(1, 0)]) rfl ?_
      refine v_goto (j := 56) (tgt := 132) rfl rfl ?_
      exact J15 _ H
  · replace H := H.2 (ite0 q)
    refine v_run 33 2 (pc' := 78) (ls' := [(1, 22), (1, a1), (1, a2), (0, a3), (1, a4), (0, a5), (9, 0), (9, 0), (9, 0), (9, 0)]) (st' := [(1, a1), (0, a5), (1, 22)]) rfl ?_
    obtain ⟨t16, H⟩ := H
    refine v_getf (j := 35) (c := 22) (f := 5) rfl rfl rfl rfl rfl rfl rfl rfl (t16) ?_
    obtain ⟨t17, H⟩ := H
    refine vj_size (j := 36) rfl rfl rfl rfl (t17) (by omega) (by simp) ?_
    have J32 : WV G mX6_match 92 [(1, 22), (1, a1), (1, a2), (0, a3), (1, a4), (0, a5), (9, 0), (9, 0), (9, 0), (9, 0)] [(0, (if (m (m a1 5) (-2)) ≤ a5 then 0 else 1)), (1, 22)] m d P := by
      refine v_callV (j := 41) (M' := mX6_need) (as := [(0, (if (m (m a1 5) (-2)) ≤ a5 then 0 else 1))]) (st := []) rfl rfl rfl rfl rfl (Nat.le_of_ble_eq_true rfl) (Nat.le_of_ble_eq_true rfl) (by omega) (by decide) (K22_t K) (kvt (st' := fun v => []) rfl (fun _ => rfl) rfl) (H.mono (fun k v18 m19 H => ⟨fun z => ?_, H.2.2⟩))
      have O := H.1
      replace H := H.2.1 z
      have K20 := O.2.1 K
      have t21 := Ok.tag O (t1) (by decide)
      have t22 := Ok.tag O (t16) (by decide)
      refine v_run 42 1 (pc' := 96) (ls' := [(1, 22), (1, a1), (1, a2), (0, a3), (1, a4), (0, a5), (9, 0), (9, 0), (9, 0), (9, 0)]) (st' := [(1, a1)]) rfl ?_
      refine v_getf (j := 43) (c := 22) (f := 5) rfl rfl rfl rfl rfl rfl rfl rfl (t22) ?_
      refine v_run 44 1 (pc' := 101) (ls' := [(1, 22), (1, a1), (1, a2), (0, a3), (1, a4), (0, a5), (9, 0), (9, 0), (9, 0), (9, 0)]) (st' := [(0, a5), (1, (m19 a1 5))]) rfl ?_
      obtain ⟨t23, i24, i25, H⟩ := H
      refine vj_get (j := 45) rfl rfl rfl rfl (t23) (by omega) (by simp) i24 i25 ?_
      obtain ⟨c26, H⟩ := H
      refine v_cast (j := 46) (c := 23) rfl rfl rfl rfl rfl (c26) ?_
      refine v_run 47 6 (pc' := 117) (ls' := [(1, 22), (1, a1), (1, a2), (0, a3), (1, a4), (0, a5), (1, (m19 (m19 a1 5) a5)), (1, a2), (0, 0), (9, 0)]) (st' := [(1, (m19 (m19 a1 5) a5))]) rfl ?_
      obtain ⟨t27, H⟩ := H
      refine v_callV (j := 53) (M' := mX19_letter) (as := []) (st := []) rfl rfl rfl rfl rfl (Nat.le_of_ble_eq_true rfl) (Nat.le_of_ble_eq_true rfl) (by omega) (by decide) (t27) (kv0 (st' := fun v => [(0, v)]) rfl (fun _ => rfl)) (ipX19_letter (t27) ⟨rfl, ?_⟩)
      obtain ⟨Q28, H, J31⟩ := H
      have J31 : ∀ v29, Q28 v29 → WV G mX6_match 132 [(1, 22), (1, a1), (1, a2), (0, a3), (1, a4), (0, a5), (1, (m19 (m19 a1 5) a5)), (1, a2), (0, 0), (9, 0)] [(1, v29)] m19 d P := by
        intro v29 q30
        have H := J31 v29 q30
        refine v_run 59 1 (pc' := 134) (ls' := [(1, 22), (1, a1), (1, a2), (0, a3), (1, a4), (0, a5), (1, (m19 (m19 a1 5) a5)), (1, a2), (0, 0), (1, v29)]) (st' := []) rfl ?_
        refine v_drp [true, false, false, true, false, false, true, true, true, true] ?_
        exact H
      refine v_ifne (j := 54) rfl rfl rfl (fun q => ?_) (fun q => ?_)
      · replace H := H.1 q
        refine v_run 57 1 (pc' := 129) (ls' := [(1, 22), (1, a1), (1, a2), (0, a3), (1, a4), (0, a5), (1, (m19 (m19 a1 5) a5)), (1, a2), (0, 0), (9, 0)]) (st' := [(1, a4)]) rfl ?_
        refine v_getf (j := 58) (c := 10) (f := 3) rfl rfl rfl rfl rfl rfl rfl rfl (t21) ?_
        exact J31 _ H
      · replace H := H.2 q
        refine v_run 55 1 (pc' := 124) (ls' := [(1, 22), (1, a1), (1, a2), (0, a3), (1, a4), (0, a5), (1, (m19 (m19 a1 5) a5)), (1, a2), (0, 0), (9, 0)]) (st' := [(1, 0)]) rfl ?_
        refine v_goto (j := 56) (tgt := 132) rfl rfl ?_
        exact J31 _ H
    refine v_icmpge (j := 37) rfl rfl rfl (fun q => ?_) (fun q => ?_)
    · rw [show ((if (m (m a1 5) (-2)) ≤ a5 then 0 else 1) : Int) = 0 from if_pos q] at J32
      refine v_run 40 1 (pc' := 92) (ls' := [(1, 22), (1, a1), (1, a2), (0, a3), (1, a4), (0, a5), (9, 0), (9, 0), (9, 0), (9, 0)]) (st' := [(0, 0), (1, 22)]) rfl ?_
      exact J32
    · rw [show ((if (m (m a1 5) (-2)) ≤ a5 then 0 else 1) : Int) = 1 from if_neg (Int.not_le.mpr q)] at J32
      refine v_run 38 1 (pc' := 88) (ls' := [(1, 22), (1, a1), (1, a2), (0, a3), (1, a4), (0, a5), (9, 0), (9, 0), (9, 0), (9, 0)]) (st' := [(0, 1), (1, 22)]) rfl ?_
      refine v_goto (j := 39) (tgt := 92) rfl rfl ?_
      exact J32

set_option maxRecDepth 100000 in
set_option maxHeartbeats 4000000 in
theorem wX6_match_134 {G : GM} {d : Nat} {P : Nat → Int → SM → Prop} {m : SM} {a3 a6 a7 a8 a9 : Int} (K : KI m) (hd : 12 ≤ d) 
    (H : (a9 = 0 → ((m a6 (-1) = 24) ∧ (WV G mX6_step 0 [(1, 22), (1, (m a6 4)), (1, a7), (0, a3), (9, 0)] [] m (d - 1) (fun k v2 m3 => Ok m m3 ∧ (k = 0 → (P 0 v2 m3)) ∧ (k ≠ 0 → P 1 v2 m3))))) ∧ (a9 ≠ 0 → ((m a6 (-1) = 24) ∧ ((m (m a6 3) (-1) = 13) ∧ (0 ≤ a8) ∧ (a8 < m (m a6 3) (-2)) ∧ ((m a9 (-1) = 16) ∧ (WV G mX3_bind 0 [(1, 3), (0, (m (m a6 3) a8)), (1, (m a9 0)), (1, a7), (9, 0)] [] m (d - 1) (fun k v11 m12 => k = 0 ∧ Ok m m12 ∧ (WV G mX6_match 134 [(1, 22), (9, 0), (9, 0), (0, a3), (9, 0), (9, 0), (1, a6), (1, v11), (0, (wr (a8 + 1))), (1, (m12 a9 1))] [] m12 d P)))))))) :
    WV G mX6_match 134 [(1, 22), (9, 0), (9, 0), (0, a3), (9, 0), (9, 0), (1, a6), (1, a7), (0, a8), (1, a9)] [] m d P := by
  refine v_run 60 1 (pc' := 136) (ls' := [(1, 22), (9, 0), (9, 0), (0, a3), (9, 0), (9, 0), (1, a6), (1, a7), (0, a8), (1, a9)]) (st' := [(1, a9)]) rfl ?_
  refine v_null (j := 61) rfl rfl rfl (fun q => ?_) (fun q => ?_)
  · replace H := H.1 q
    refine v_run 79 2 (pc' := 184) (ls' := [(1, 22), (9, 0), (9, 0), (0, a3), (9, 0), (9, 0), (1, a6), (1, a7), (0, a8), (1, a9)]) (st' := [(1, a6), (1, 22)]) rfl ?_
    obtain ⟨t1, H⟩ := H
    refine v_callV (j := 81) (M' := mX19_code) (as := []) (st := [(1, 22)]) rfl rfl rfl rfl rfl (Nat.le_of_ble_eq_true rfl) (Nat.le_of_ble_eq_true rfl) (by omega) (by decide) (t1) (kv0 (st' := fun v => [(1, v), (1, 22)]) rfl (fun _ => rfl)) (ipX19_code (t1) ⟨rfl, ?_⟩)
    refine v_run 82 2 (pc' := 190) (ls' := [(1, 22), (9, 0), (9, 0), (0, a3), (9, 0), (9, 0), (1, a6), (1, a7), (0, a8), (1, a9)]) (st' := [(0, a3), (1, a7), (1, (m a6 4)), (1, 22)]) rfl ?_
    refine v_callS (j := 84) (M' := mX6_step) (as := [(1, 22), (1, (m a6 4)), (1, a7), (0, a3)]) (st := []) rfl rfl rfl rfl rfl (Nat.le_of_ble_eq_true rfl) (Nat.le_of_ble_eq_true rfl) (by omega) (kvt (st' := fun v => [(1, v)]) rfl (fun _ => rfl) rfl) (H.mono (fun k v2 m3 H => ⟨fun z => ?_, H.2.2⟩))
    have O := H.1
    replace H := H.2.1 z
    have K4 := O.2.1 K
    have t5 := Ok.tag O (t1) (by decide)
    exact v_aret (j := 85) rfl rfl rfl H
  · replace H := H.2 q
    refine v_run 62 1 (pc' := 140) (ls' := [(1, 22), (9, 0), (9, 0), (0, a3), (9, 0), (9, 0), (1, a6), (1, a7), (0, a8), (1, a9)]) (st' := [(1, 22)]) rfl ?_
    refine v_getK (j := 63) (c := 7) (f := 0) rfl rfl rfl rfl rfl rfl rfl rfl (K22_t K) (K22_0 K) ?_
    refine v_getK (j := 64) (c := 1) (f := 0) rfl rfl rfl rfl rfl rfl rfl rfl (K2_t K) (K2_0 K) ?_
    refine v_run 65 1 (pc' := 148) (ls' := [(1, 22), (9, 0), (9, 0), (0, a3), (9, 0), (9, 0), (1, a6), (1, a7), (0, a8), (1, a9)]) (st' := [(1, a6), (1, 3)]) rfl ?_
    obtain ⟨t6, H⟩ := H
    refine v_callV (j := 66) (M' := mX19_names) (as := []) (st := [(1, 3)]) rfl rfl rfl rfl rfl (Nat.le_of_ble_eq_true rfl) (Nat.le_of_ble_eq_true rfl) (by omega) (by decide) (t6) (kv0 (st' := fun v => [(1, v), (1, 3)]) rfl (fun _ => rfl)) (ipX19_names (t6) ⟨rfl, ?_⟩)
    refine v_run 67 2 (pc' := 156) (ls' := [(1, 22), (9, 0), (9, 0), (0, a3), (9, 0), (9, 0), (1, a6), (1, a7), (0, (wr (a8 + 1))), (1, a9)]) (st' := [(0, a8), (1, (m a6 3)), (1, 3)]) rfl ?_
    obtain ⟨t7, i8, i9, H⟩ := H
    refine vj_stat (j := 69) rfl rfl rfl rfl (t7) (by omega) (by simp) i8 i9 ?_
    refine v_run 70 1 (pc' := 161) (ls' := [(1, 22), (9, 0), (9, 0), (0, a3), (9, 0), (9, 0), (1, a6), (1, a7), (0, (wr (a8 + 1))), (1, a9)]) (st' := [(1, a9), (0, (m (m a6 3) a8)), (1, 3)]) rfl ?_
    obtain ⟨t10, H⟩ := H
    refine v_getf (j := 71) (c := 15) (f := 0) rfl rfl rfl rfl rfl rfl rfl rfl (t10) ?_
    refine v_run 72 1 (pc' := 166) (ls' := [(1, 22), (9, 0), (9, 0), (0, a3), (9, 0), (9, 0), (1, a6), (1, a7), (0, (wr (a8 + 1))), (1, a9)]) (st' := [(1, a7), (1, (m a9 0)), (0, (m (m a6 3) a8)), (1, 3)]) rfl ?_
    refine v_callV (j := 73) (M' := mX3_bind) (as := [(0, (m (m a6 3) a8)), (1, (m a9 0)), (1, a7)]) (st := []) rfl rfl rfl rfl rfl (Nat.le_of_ble_eq_true rfl) (Nat.le_of_ble_eq_true rfl) (by omega) (by decide) (K3_t K) (kv0 (st' := fun v => [(1, v)]) rfl (fun _ => rfl)) (H.mono (fun k v11 m12 H => ⟨H.1, ?_⟩))
    have K13 := H.2.1.2.1 K
    have t14 := Ok.tag H.2.1 (t6) (by decide)
    have t15 := Ok.tag H.2.1 (t10) (by decide)
    replace H := H.2.2
    refine v_run 74 2 (pc' := 173) (ls' := [(1, 22), (9, 0), (9, 0), (0, a3), (9, 0), (9, 0), (1, a6), (1, v11), (0, (wr (a8 + 1))), (1, a9)]) (st' := [(1, a9)]) rfl ?_
    refine v_getf (j := 76) (c := 15) (f := 1) rfl rfl rfl rfl rfl rfl rfl rfl (t15) ?_
    refine v_run 77 1 (pc' := 178) (ls' := [(1, 22), (9, 0), (9, 0), (0, a3), (9, 0), (9, 0), (1, a6), (1, v11), (0, (wr (a8 + 1))), (1, (m12 a9 1))]) (st' := []) rfl ?_
    refine v_goto (j := 78) (tgt := 134) rfl rfl ?_
    exact H

set_option maxRecDepth 100000 in
set_option maxHeartbeats 4000000 in
theorem wX6_reckon {G : GM} {d : Nat} {P : Nat → Int → SM → Prop} {m : SM} {a1 a2 a3 : Int} (K : KI m) (hd : 12 ≤ d) 
    (H : (m a1 (-1) = 23) ∧ ((m (m a1 4) (-1) = 4) ∧ ((0 : Int) ≤ 0) ∧ (0 < m (m a1 4) (-2)) ∧ (((m (m a1 4) 0) = 0 ∨ m (m (m a1 4) 0) (-1) = 23) ∧ (WV G mX6_step 0 [(1, 22), (1, (m (m a1 4) 0)), (1, a2), (0, a3), (9, 0)] [] m (d - 1) (fun k v6 m7 => Ok m m7 ∧ (k = 0 → ((m7 v6 (-1) = 11) ∧ (WV G mX9_seen 0 [(1, v6), (9, 0)] [] m7 (d - 1) (fun k v11 m12 => k = 0 ∧ Ok m7 m12 ∧ ((m12 (m12 a1 4) (-1) = 4) ∧ ((0 : Int) ≤ 1) ∧ (1 < m12 (m12 a1 4) (-2)) ∧ (((m12 (m12 a1 4) 1) = 0 ∨ m12 (m12 (m12 a1 4) 1) (-1) = 23) ∧ (WV G mX6_step 0 [(1, 22), (1, (m12 (m12 a1 4) 1)), (1, a2), (0, a3), (9, 0)] [] m12 (d - 1) (fun k v19 m20 => Ok m12 m20 ∧ (k = 0 → ((m20 v19 (-1) = 11) ∧ (WV G mX9_seen 0 [(1, v19), (9, 0)] [] m20 (d - 1) (fun k v24 m25 => k = 0 ∧ Ok m20 m25 ∧ (((m25 a1 0) = (-7) → (WV G mX6_need 0 [(1, 22), (0, 1)] [] m25 (d - 1) (fun k v28 m29 => Ok m25 m29 ∧ (k = 0 → (WV G mX6_reckon 85 [(1, 22), (1, a1), (1, a2), (0, a3), (1, v11), (1, v24), (9, 0)] [] m29 d P)) ∧ (k ≠ 0 → P 1 v28 m29)))) ∧ ((m25 a1 0) ≠ (-7) → ((m25 v11 (-1) = 11) ∧ ((¬ ((m25 v11 0) = (-14)) → (WV G mX6_need 0 [(1, 22), (0, 0)] [] m25 (d - 1) (fun k v33 m34 => Ok m25 m34 ∧ (k = 0 → (WV G mX6_reckon 85 [(1, 22), (1, a1), (1, a2), (0, a3), (1, v11), (1, v24), (9, 0)] [] m34 d P)) ∧ (k ≠ 0 → P 1 v33 m34)))) ∧ ((m25 v11 0) = (-14) → ((m25 v24 (-1) = 11) ∧ (WV G mX6_need 0 [(1, 22), (0, (if (m25 v24 0) = (-14) then 1 else 0))] [] m25 (d - 1) (fun k v39 m40 => Ok m25 m40 ∧ (k = 0 → (WV G mX6_reckon 85 [(1, 22), (1, a1), (1, a2), (0, a3), (1, v11), (1, v24), (9, 0)] [] m40 d P)) ∧ (k ≠ 0 → P 1 v39 m40))))))))))))) ∧ (k ≠ 0 → P 1 v19 m20))))))))) ∧ (k ≠ 0 → P 1 v6 m7)))))) :
    WV G mX6_reckon 0 [(1, 22), (1, a1), (1, a2), (0, a3), (9, 0), (9, 0), (9, 0)] [] m d P := by
  refine v_run 0 2 (pc' := 2) (ls' := [(1, 22), (1, a1), (1, a2), (0, a3), (9, 0), (9, 0), (9, 0)]) (st' := [(1, a1), (1, 22)]) rfl ?_
  obtain ⟨t1, H⟩ := H
  refine v_getf (j := 2) (c := 22) (f := 4) rfl rfl rfl rfl rfl rfl rfl rfl (t1) ?_
  refine v_run 3 1 (pc' := 6) (ls' := [(1, 22), (1, a1), (1, a2), (0, a3), (9, 0), (9, 0), (9, 0)]) (st' := [(0, 0), (1, (m a1 4)), (1, 22)]) rfl ?_
  obtain ⟨t2, i3, i4, H⟩ := H
  refine vj_get (j := 4) rfl rfl rfl rfl (t2) (by omega) (by simp) i3 i4 ?_
  obtain ⟨c5, H⟩ := H
  refine v_cast (j := 5) (c := 22) rfl rfl rfl rfl rfl (c5) ?_
  refine v_run 6 2 (pc' := 14) (ls' := [(1, 22), (1, a1), (1, a2), (0, a3), (9, 0), (9, 0), (9, 0)]) (st' := [(0, a3), (1, a2), (1, (m (m a1 4) 0)), (1, 22)]) rfl ?_
  refine v_callS (j := 8) (M' := mX6_step) (as := [(1, 22), (1, (m (m a1 4) 0)), (1, a2), (0, a3)]) (st := []) rfl rfl rfl rfl rfl (Nat.le_of_ble_eq_true rfl) (Nat.le_of_ble_eq_true rfl) (by omega) (kvt (st' := fun v => [(1, v)]) rfl (fun _ => rfl) rfl) (H.mono (fun k v6 m7 H => ⟨fun z => ?_, H.2.2⟩))
  have O := H.1
  replace H := H.2.1 z
  have K8 := O.2.1 K
  have t9 := Ok.tag O (t1) (by decide)
  obtain ⟨t10, H⟩ := H
  refine v_callV (j := 9) (M' := mX9_seen) (as := []) (st := []) rfl rfl rfl rfl rfl (Nat.le_of_ble_eq_true rfl) (Nat.le_of_ble_eq_true rfl) (by omega) (by decide) (t10) (kv0 (st' := fun v => [(1, v)]) rfl (fun _ => rfl)) (H.mono (fun k v11 m12 H => ⟨H.1, ?_⟩))
  have K13 := H.2.1.2.1 K8
  have t14 := Ok.tag H.2.1 (t9) (by decide)
  replace H := H.2.2
  refine v_run 10 3 (pc' := 24) (ls' := [(1, 22), (1, a1), (1, a2), (0, a3), (1, v11), (9, 0), (9, 0)]) (st' := [(1, a1), (1, 22)]) rfl ?_
  refine v_getf (j := 13) (c := 22) (f := 4) rfl rfl rfl rfl rfl rfl rfl rfl (t14) ?_
  refine v_run 14 1 (pc' := 28) (ls' := [(1, 22), (1, a1), (1, a2), (0, a3), (1, v11), (9, 0), (9, 0)]) (st' := [(0, 1), (1, (m12 a1 4)), (1, 22)]) rfl ?_
  obtain ⟨t15, i16, i17, H⟩ := H
  refine vj_get (j := 15) rfl rfl rfl rfl (t15) (by omega) (by simp) i16 i17 ?_
  obtain ⟨c18, H⟩ := H
  refine v_cast (j := 16) (c := 22) rfl rfl rfl rfl rfl (c18) ?_
  refine v_run 17 2 (pc' := 36) (ls' := [(1, 22), (1, a1), (1, a2), (0, a3), (1, v11), (9, 0), (9, 0)]) (st' := [(0, a3), (1, a2), (1, (m12 (m12 a1 4) 1)), (1, 22)]) rfl ?_
  refine v_callS (j := 19) (M' := mX6_step) (as := [(1, 22), (1, (m12 (m12 a1 4) 1)), (1, a2), (0, a3)]) (st := []) rfl rfl rfl rfl rfl (Nat.le_of_ble_eq_true rfl) (Nat.le_of_ble_eq_true rfl) (by omega) (kvt (st' := fun v => [(1, v)]) rfl (fun _ => rfl) rfl) (H.mono (fun k v19 m20 H => ⟨fun z => ?_, H.2.2⟩))
  have O := H.1
  replace H := H.2.1 z
  have K21 := O.2.1 K13
  have t22 := Ok.tag O (t14) (by decide)
  obtain ⟨t23, H⟩ := H
  refine v_callV (j := 20) (M' := mX9_seen) (as := []) (st := []) rfl rfl rfl rfl rfl (Nat.le_of_ble_eq_true rfl) (Nat.le_of_ble_eq_true rfl) (by omega) (by decide) (t23) (kv0 (st' := fun v => [(1, v)]) rfl (fun _ => rfl)) (H.mono (fun k v24 m25 H => ⟨H.1, ?_⟩))
  have K26 := H.2.1.2.1 K21
  have t27 := Ok.tag H.2.1 (t22) (by decide)
  replace H := H.2.2
  refine v_run 21 3 (pc' := 46) (ls' := [(1, 22), (1, a1), (1, a2), (0, a3), (1, v11), (1, v24), (9, 0)]) (st' := [(1, a1), (1, 22)]) rfl ?_
  refine v_getf (j := 24) (c := 22) (f := 0) rfl rfl rfl rfl rfl rfl rfl rfl (t27) ?_
  refine v_gets (j := 25) (g := 1) (v := (-7)) rfl rfl rfl rfl ?_
  refine v_aeq (j := 26) rfl rfl rfl (fun q => ?_) (fun q => ?_)
  · replace H := H.1 q
    refine v_run 35 1 (pc' := 78) (ls' := [(1, 22), (1, a1), (1, a2), (0, a3), (1, v11), (1, v24), (9, 0)]) (st' := [(0, 1), (1, 22)]) rfl ?_
    refine v_goto (j := 36) (tgt := 82) rfl rfl ?_
    refine v_callV (j := 38) (M' := mX6_need) (as := [(0, 1)]) (st := []) rfl rfl rfl rfl rfl (Nat.le_of_ble_eq_true rfl) (Nat.le_of_ble_eq_true rfl) (by omega) (by decide) (K22_t K26) (kvt (st' := fun v => []) rfl (fun _ => rfl) rfl) (H.mono (fun k v28 m29 H => ⟨fun z => ?_, H.2.2⟩))
    have O := H.1
    replace H := H.2.1 z
    have K30 := O.2.1 K26
    have t31 := Ok.tag O (t27) (by decide)
    exact H
  · replace H := H.2 q
    refine v_run 27 1 (pc' := 57) (ls' := [(1, 22), (1, a1), (1, a2), (0, a3), (1, v11), (1, v24), (9, 0)]) (st' := [(1, v11), (1, 22)]) rfl ?_
    refine v_gets (j := 28) (g := 1) (v := (-14)) rfl rfl rfl rfl ?_
    obtain ⟨t32, H⟩ := H
    refine v_callV (j := 29) (M' := mX9_is) (as := [(1, (-14))]) (st := [(1, 22)]) rfl rfl rfl rfl rfl (Nat.le_of_ble_eq_true rfl) (Nat.le_of_ble_eq_true rfl) (by omega) (by decide) (t32) (kv0 (st' := fun v => [(0, v), (1, 22)]) rfl (fun _ => rfl)) (ipX9_is (t32) ⟨rfl, ?_⟩)
    refine v_ifeq (j := 30) rfl rfl rfl (fun q => ?_) (fun q => ?_)
    · replace H := H.1 (ite0 q)
      refine v_run 37 1 (pc' := 82) (ls' := [(1, 22), (1, a1), (1, a2), (0, a3), (1, v11), (1, v24), (9, 0)]) (st' := [(0, 0), (1, 22)]) rfl ?_
      refine v_callV (j := 38) (M' := mX6_need) (as := [(0, 0)]) (st := []) rfl rfl rfl rfl rfl (Nat.le_of_ble_eq_true rfl) (Nat.le_of_ble_eq_true rfl) (by omega) (by decide) (K22_t K26) (kvt (st' := fun v => []) rfl (fun _ => rfl) rfl) (H.mono (fun k v33 m34 H => ⟨fun z => ?_, H.2.2⟩))
      have O := H.1
      replace H := H.2.1 z
      have K35 := O.2.1 K26
      have t36 := Ok.tag O (t27) (by decide)
      have t37 := Ok.tag O (t32) (by decide)
      exact H
    · replace H := H.2 (ite1 q)
      refine v_run 31 1 (pc' := 68) (ls' := [(1, 22), (1, a1), (1, a2), (0, a3), (1, v11), (1, v24), (9, 0)]) (st' := [(1, v24), (1, 22)]) rfl ?_
      refine v_gets (j := 32) (g := 1) (v := (-14)) rfl rfl rfl rfl ?_
      obtain ⟨t38, H⟩ := H
      refine v_callV (j := 33) (M' := mX9_is) (as := [(1, (-14))]) (st := [(1, 22)]) rfl rfl rfl rfl rfl (Nat.le_of_ble_eq_true rfl) (Nat.le_of_ble_eq_true rfl) (by omega) (by decide) (t38) (kv0 (st' := fun v => [(0, v), (1, 22)]) rfl (fun _ => rfl)) (ipX9_is (t38) ⟨rfl, ?_⟩)
      have J45 : WV G mX6_reckon 82 [(1, 22), (1, a1), (1, a2), (0, a3), (1, v11), (1, v24), (9, 0)] [(0, (if (m25 v24 0) = (-14) then 1 else 0)), (1, 22)] m25 d P := by
        refine v_callV (j := 38) (M' := mX6_need) (as := [(0, (if (m25 v24 0) = (-14) then 1 else 0))]) (st := []) rfl rfl rfl rfl rfl (Nat.le_of_ble_eq_true rfl) (Nat.le_of_ble_eq_true rfl) (by omega) (by decide) (K22_t K26) (kvt (st' := fun v => []) rfl (fun _ => rfl) rfl) (H.mono (fun k v39 m40 H => ⟨fun z => ?_, H.2.2⟩))
        have O := H.1
        replace H := H.2.1 z
        have K41 := O.2.1 K26
        have t42 := Ok.tag O (t27) (by decide)
        have t43 := Ok.tag O (t32) (by decide)
        have t44 := Ok.tag O (t38) (by decide)
        exact H
      refine v_ifeq (j := 34) rfl rfl rfl (fun q => ?_) (fun q => ?_)
      · rw [show ((if (m25 v24 0) = (-14) then 1 else 0) : Int) = 0 from if_neg (ite0 q)] at J45
        refine v_run 37 1 (pc' := 82) (ls' := [(1, 22), (1, a1), (1, a2), (0, a3), (1, v11), (1, v24), (9, 0)]) (st' := [(0, 0), (1, 22)]) rfl ?_
        exact J45
      · rw [show ((if (m25 v24 0) = (-14) then 1 else 0) : Int) = 1 from if_pos (ite1 q)] at J45
        refine v_run 35 1 (pc' := 78) (ls' := [(1, 22), (1, a1), (1, a2), (0, a3), (1, v11), (1, v24), (9, 0)]) (st' := [(0, 1), (1, 22)]) rfl ?_
        refine v_goto (j := 36) (tgt := 82) rfl rfl ?_
        exact J45

set_option maxRecDepth 100000 in
set_option maxHeartbeats 4000000 in
theorem wX6_reckon_85 {G : GM} {d : Nat} {P : Nat → Int → SM → Prop} {m : SM} {a1 a2 a3 a4 a5 : Int} (K : KI m) (hd : 12 ≤ d) 
    (H : (m a1 (-1) = 23) ∧ (((m a1 0) ≠ (-4) → (((m a1 0) ≠ (-5) → (((m a1 0) ≠ (-8) → (WV G mX7_same 0 [(1, 23), (1, a4), (1, a5), (9, 0), (9, 0), (9, 0), (9, 0)] [] m (d - 1) (fun k v2 m3 => Ok m m3 ∧ (k = 0 → ((m3 (m3 a1 4) (-1) = 4) ∧ ((0 : Int) ≤ (if v2 = (0 : Int) then 3 else 2)) ∧ ((if v2 = (0 : Int) then 3 else 2) < m3 (m3 a1 4) (-2)) ∧ (((m3 (m3 a1 4) (if v2 = (0 : Int) then 3 else 2)) = 0 ∨ m3 (m3 (m3 a1 4) (if v2 = (0 : Int) then 3 else 2)) (-1) = 23) ∧ (WV G mX6_step 0 [(1, 22), (1, (m3 (m3 a1 4) (if v2 = (0 : Int) then 3 else 2))), (1, a2), (0, a3), (9, 0)] [] m3 (d - 1) (fun k v10 m11 => Ok m3 m11 ∧ (k = 0 → (P 0 v10 m11)) ∧ (k ≠ 0 → P 1 v10 m11)))))) ∧ (k ≠ 0 → P 1 v2 m3)))) ∧ ((m a1 0) = (-8) → ((m a4 (-1) = 11) ∧ ((m a5 (-1) = 11) ∧ ((m (m a1 4) (-1) = 4) ∧ ((0 : Int) ≤ (if ((if (m a5 1) ≤ (m a4 1) then 0 else 1) : Int) = 0 then 3 else 2)) ∧ ((if ((if (m a5 1) ≤ (m a4 1) then 0 else 1) : Int) = 0 then 3 else 2) < m (m a1 4) (-2)) ∧ (((m (m a1 4) (if ((if (m a5 1) ≤ (m a4 1) then 0 else 1) : Int) = 0 then 3 else 2)) = 0 ∨ m (m (m a1 4) (if ((if (m a5 1) ≤ (m a4 1) then 0 else 1) : Int) = 0 then 3 else 2)) (-1) = 23) ∧ (WV G mX6_step 0 [(1, 22), (1, (m (m a1 4) (if ((if (m a5 1) ≤ (m a4 1) then 0 else 1) : Int) = 0 then 3 else 2))), (1, a2), (0, a3), (9, 0)] [] m (d - 1) (fun k v21 m22 => Ok m m22 ∧ (k = 0 → (P 0 v21 m22)) ∧ (k ≠ 0 → P 1 v21 m22)))))))))) ∧ ((m a1 0) = (-5) → ((m a4 (-1) = 11) ∧ ((m a5 (-1) = 11) ∧ (WV G mX3_make 0 [(1, 3), (1, (-14)), (0, (wr ((m a4 1) - (m a5 1)))), (9, 0)] [] m (d - 1) (fun k v31 m32 => k = 0 ∧ Ok m m32 ∧ (P 0 v31 m32)))))))) ∧ ((m a1 0) = (-4) → ((m a4 (-1) = 11) ∧ ((m a5 (-1) = 11) ∧ (WV G mX3_make 0 [(1, 3), (1, (-14)), (0, (wr ((m a4 1) + (m a5 1)))), (9, 0)] [] m (d - 1) (fun k v39 m40 => k = 0 ∧ Ok m m40 ∧ (P 0 v39 m40)))))))) :
    WV G mX6_reckon 85 [(1, 22), (1, a1), (1, a2), (0, a3), (1, a4), (1, a5), (9, 0)] [] m d P := by
  refine v_run 39 1 (pc' := 86) (ls' := [(1, 22), (1, a1), (1, a2), (0, a3), (1, a4), (1, a5), (9, 0)]) (st' := [(1, a1)]) rfl ?_
  obtain ⟨t1, H⟩ := H
  refine v_getf (j := 40) (c := 22) (f := 0) rfl rfl rfl rfl rfl rfl rfl rfl (t1) ?_
  refine v_gets (j := 41) (g := 1) (v := (-4)) rfl rfl rfl rfl ?_
  refine v_ane (j := 42) rfl rfl rfl (fun q => ?_) (fun q => ?_)
  · replace H := H.1 q
    refine v_run 54 1 (pc' := 121) (ls' := [(1, 22), (1, a1), (1, a2), (0, a3), (1, a4), (1, a5), (9, 0)]) (st' := [(1, a1)]) rfl ?_
    refine v_getf (j := 55) (c := 22) (f := 0) rfl rfl rfl rfl rfl rfl rfl rfl (t1) ?_
    refine v_gets (j := 56) (g := 1) (v := (-5)) rfl rfl rfl rfl ?_
    refine v_ane (j := 57) rfl rfl rfl (fun q => ?_) (fun q => ?_)
    · replace H := H.1 q
      refine v_run 69 1 (pc' := 156) (ls' := [(1, 22), (1, a1), (1, a2), (0, a3), (1, a4), (1, a5), (9, 0)]) (st' := [(1, a1)]) rfl ?_
      refine v_getf (j := 70) (c := 22) (f := 0) rfl rfl rfl rfl rfl rfl rfl rfl (t1) ?_
      refine v_gets (j := 71) (g := 1) (v := (-8)) rfl rfl rfl rfl ?_
      refine v_ane (j := 72) rfl rfl rfl (fun q => ?_) (fun q => ?_)
      · replace H := H.1 q
        refine v_run 82 1 (pc' := 187) (ls' := [(1, 22), (1, a1), (1, a2), (0, a3), (1, a4), (1, a5), (9, 0)]) (st' := [(1, 22)]) rfl ?_
        refine v_getK (j := 83) (c := 7) (f := 1) rfl rfl rfl rfl rfl rfl rfl rfl (K22_t K) (K22_1 K) ?_
        refine v_run 84 2 (pc' := 194) (ls' := [(1, 22), (1, a1), (1, a2), (0, a3), (1, a4), (1, a5), (9, 0)]) (st' := [(1, a5), (1, a4), (1, 23)]) rfl ?_
        refine v_callV (j := 86) (M' := mX7_same) (as := [(1, a4), (1, a5)]) (st := []) rfl rfl rfl rfl rfl (Nat.le_of_ble_eq_true rfl) (Nat.le_of_ble_eq_true rfl) (by omega) (by decide) (K23_t K) (kvt (st' := fun v => [(0, v)]) rfl (fun _ => rfl) rfl) (H.mono (fun k v2 m3 H => ⟨fun z => ?_, H.2.2⟩))
        have O := H.1
        replace H := H.2.1 z
        have K4 := O.2.1 K
        have t5 := Ok.tag O (t1) (by decide)
        refine v_run 87 3 (pc' := 201) (ls' := [(1, 22), (1, a1), (1, a2), (0, a3), (1, a4), (1, a5), (0, v2)]) (st' := [(1, a1), (1, 22)]) rfl ?_
        refine v_getf (j := 90) (c := 22) (f := 4) rfl rfl rfl rfl rfl rfl rfl rfl (t5) ?_
        refine v_run 91 1 (pc' := 206) (ls' := [(1, 22), (1, a1), (1, a2), (0, a3), (1, a4), (1, a5), (0, v2)]) (st' := [(0, v2), (1, (m3 a1 4)), (1, 22)]) rfl ?_
        have J14 : WV G mX6_reckon 214 [(1, 22), (1, a1), (1, a2), (0, a3), (1, a4), (1, a5), (0, v2)] [(0, (if v2 = (0 : Int) then 3 else 2)), (1, (m3 a1 4)), (1, 22)] m3 d P := by
          obtain ⟨t6, i7, i8, H⟩ := H
          refine vj_get (j := 96) rfl rfl rfl rfl (t6) (by omega) (by simp) i7 i8 ?_
          obtain ⟨c9, H⟩ := H
          refine v_cast (j := 97) (c := 22) rfl rfl rfl rfl rfl (c9) ?_
          refine v_run 98 2 (pc' := 222) (ls' := [(1, 22), (1, a1), (1, a2), (0, a3), (1, a4), (1, a5), (0, v2)]) (st' := [(0, a3), (1, a2), (1, (m3 (m3 a1 4) (if v2 = (0 : Int) then 3 else 2))), (1, 22)]) rfl ?_
          refine v_callS (j := 100) (M' := mX6_step) (as := [(1, 22), (1, (m3 (m3 a1 4) (if v2 = (0 : Int) then 3 else 2))), (1, a2), (0, a3)]) (st := []) rfl rfl rfl rfl rfl (Nat.le_of_ble_eq_true rfl) (Nat.le_of_ble_eq_true rfl) (by omega) (kvt (st' := fun v => [(1, v)]) rfl (fun _ => rfl) rfl) (H.mono (fun k v10 m11 H => ⟨fun z => ?_, H.2.2⟩))
          have O := H.1
          replace H := H.2.1 z
          have K12 := O.2.1 K4
          have t13 := Ok.tag O (t5) (by decide)
          exact v_aret (j := 101) rfl rfl rfl H
        refine v_ifeq (j := 92) rfl rfl rfl (fun q => ?_) (fun q => ?_)
        · rw [show ((if v2 = (0 : Int) then 3 else 2) : Int) = 3 from if_pos q] at J14
          refine v_run 95 1 (pc' := 214) (ls' := [(1, 22), (1, a1), (1, a2), (0, a3), (1, a4), (1, a5), (0, v2)]) (st' := [(0, 3), (1, (m3 a1 4)), (1, 22)]) rfl ?_
          exact J14
        · rw [show ((if v2 = (0 : Int) then 3 else 2) : Int) = 2 from if_neg q] at J14
          refine v_run 93 1 (pc' := 210) (ls' := [(1, 22), (1, a1), (1, a2), (0, a3), (1, a4), (1, a5), (0, v2)]) (st' := [(0, 2), (1, (m3 a1 4)), (1, 22)]) rfl ?_
          refine v_goto (j := 94) (tgt := 214) rfl rfl ?_
          exact J14
      · replace H := H.2 q
        refine v_run 73 1 (pc' := 167) (ls' := [(1, 22), (1, a1), (1, a2), (0, a3), (1, a4), (1, a5), (9, 0)]) (st' := [(1, a4)]) rfl ?_
        obtain ⟨t15, H⟩ := H
        refine v_getf (j := 74) (c := 10) (f := 1) rfl rfl rfl rfl rfl rfl rfl rfl (t15) ?_
        refine v_run 75 1 (pc' := 172) (ls' := [(1, 22), (1, a1), (1, a2), (0, a3), (1, a4), (1, a5), (9, 0)]) (st' := [(1, a5), (0, (m a4 1))]) rfl ?_
        obtain ⟨t16, H⟩ := H
        refine v_getf (j := 76) (c := 10) (f := 1) rfl rfl rfl rfl rfl rfl rfl rfl (t16) ?_
        have J28 : WV G mX6_reckon 197 [(1, 22), (1, a1), (1, a2), (0, a3), (1, a4), (1, a5), (9, 0)] [(0, (if (m a5 1) ≤ (m a4 1) then 0 else 1))] m d P := by
          refine v_run 87 3 (pc' := 201) (ls' := [(1, 22), (1, a1), (1, a2), (0, a3), (1, a4), (1, a5), (0, (if (m a5 1) ≤ (m a4 1) then 0 else 1))]) (st' := [(1, a1), (1, 22)]) rfl ?_
          refine v_getf (j := 90) (c := 22) (f := 4) rfl rfl rfl rfl rfl rfl rfl rfl (t1) ?_
          refine v_run 91 1 (pc' := 206) (ls' := [(1, 22), (1, a1), (1, a2), (0, a3), (1, a4), (1, a5), (0, (if (m a5 1) ≤ (m a4 1) then 0 else 1))]) (st' := [(0, (if (m a5 1) ≤ (m a4 1) then 0 else 1)), (1, (m a1 4)), (1, 22)]) rfl ?_
          have J27 : WV G mX6_reckon 214 [(1, 22), (1, a1), (1, a2), (0, a3), (1, a4), (1, a5), (0, (if (m a5 1) ≤ (m a4 1) then 0 else 1))] [(0, (if ((if (m a5 1) ≤ (m a4 1) then 0 else 1) : Int) = 0 then 3 else 2)), (1, (m a1 4)), (1, 22)] m d P := by
            obtain ⟨t17, i18, i19, H⟩ := H
            refine vj_get (j := 96) rfl rfl rfl rfl (t17) (by omega) (by simp) i18 i19 ?_
            obtain ⟨c20, H⟩ := H
            refine v_cast (j := 97) (c := 22) rfl rfl rfl rfl rfl (c20) ?_
            refine v_run 98 2 (pc' := 222) (ls' := [(1, 22), (1, a1), (1, a2), (0, a3), (1, a4), (1, a5), (0, (if (m a5 1) ≤ (m a4 1) then 0 else 1))]) (st' := [(0, a3), (1, a2), (1, (m (m a1 4) (if ((if (m a5 1) ≤ (m a4 1) then 0 else 1) : Int) = 0 then 3 else 2))), (1, 22)]) rfl ?_
            refine v_callS (j := 100) (M' := mX6_step) (as := [(1, 22), (1, (m (m a1 4) (if ((if (m a5 1) ≤ (m a4 1) then 0 else 1) : Int) = 0 then 3 else 2))), (1, a2), (0, a3)]) (st := []) rfl rfl rfl rfl rfl (Nat.le_of_ble_eq_true rfl) (Nat.le_of_ble_eq_true rfl) (by omega) (kvt (st' := fun v => [(1, v)]) rfl (fun _ => rfl) rfl) (H.mono (fun k v21 m22 H => ⟨fun z => ?_, H.2.2⟩))
            have O := H.1
            replace H := H.2.1 z
            have K23 := O.2.1 K
            have t24 := Ok.tag O (t1) (by decide)
            have t25 := Ok.tag O (t15) (by decide)
            have t26 := Ok.tag O (t16) (by decide)
            exact v_aret (j := 101) rfl rfl rfl H
          refine v_ifeq (j := 92) rfl rfl rfl (fun q => ?_) (fun q => ?_)
          · rw [show ((if ((if (m a5 1) ≤ (m a4 1) then 0 else 1) : Int) = 0 then 3 else 2) : Int) = 3 from if_pos q] at J27
            refine v_run 95 1 (pc' := 214) (ls' := [(1, 22), (1, a1), (1, a2), (0, a3), (1, a4), (1, a5), (0, (if (m a5 1) ≤ (m a4 1) then 0 else 1))]) (st' := [(0, 3), (1, (m a1 4)), (1, 22)]) rfl ?_
            exact J27
          · rw [show ((if ((if (m a5 1) ≤ (m a4 1) then 0 else 1) : Int) = 0 then 3 else 2) : Int) = 2 from if_neg q] at J27
            refine v_run 93 1 (pc' := 210) (ls' := [(1, 22), (1, a1), (1, a2), (0, a3), (1, a4), (1, a5), (0, (if (m a5 1) ≤ (m a4 1) then 0 else 1))]) (st' := [(0, 2), (1, (m a1 4)), (1, 22)]) rfl ?_
            refine v_goto (j := 94) (tgt := 214) rfl rfl ?_
            exact J27
        refine v_icmpge (j := 77) rfl rfl rfl (fun q => ?_) (fun q => ?_)
        · rw [show ((if (m a5 1) ≤ (m a4 1) then 0 else 1) : Int) = 0 from if_pos q] at J28
          refine v_run 80 1 (pc' := 183) (ls' := [(1, 22), (1, a1), (1, a2), (0, a3), (1, a4), (1, a5), (9, 0)]) (st' := [(0, 0)]) rfl ?_
          refine v_goto (j := 81) (tgt := 197) rfl rfl ?_
          exact J28
        · rw [show ((if (m a5 1) ≤ (m a4 1) then 0 else 1) : Int) = 1 from if_neg (Int.not_le.mpr q)] at J28
          refine v_run 78 1 (pc' := 179) (ls' := [(1, 22), (1, a1), (1, a2), (0, a3), (1, a4), (1, a5), (9, 0)]) (st' := [(0, 1)]) rfl ?_
          refine v_goto (j := 79) (tgt := 197) rfl rfl ?_
          exact J28
    · replace H := H.2 q
      refine v_run 58 1 (pc' := 131) (ls' := [(1, 22), (1, a1), (1, a2), (0, a3), (1, a4), (1, a5), (9, 0)]) (st' := [(1, 22)]) rfl ?_
      refine v_getK (j := 59) (c := 7) (f := 0) rfl rfl rfl rfl rfl rfl rfl rfl (K22_t K) (K22_0 K) ?_
      refine v_getK (j := 60) (c := 1) (f := 0) rfl rfl rfl rfl rfl rfl rfl rfl (K2_t K) (K2_0 K) ?_
      refine v_gets (j := 61) (g := 1) (v := (-14)) rfl rfl rfl rfl ?_
      refine v_run 62 1 (pc' := 142) (ls' := [(1, 22), (1, a1), (1, a2), (0, a3), (1, a4), (1, a5), (9, 0)]) (st' := [(1, a4), (1, (-14)), (1, 3)]) rfl ?_
      obtain ⟨t29, H⟩ := H
      refine v_getf (j := 63) (c := 10) (f := 1) rfl rfl rfl rfl rfl rfl rfl rfl (t29) ?_
      refine v_run 64 1 (pc' := 147) (ls' := [(1, 22), (1, a1), (1, a2), (0, a3), (1, a4), (1, a5), (9, 0)]) (st' := [(1, a5), (0, (m a4 1)), (1, (-14)), (1, 3)]) rfl ?_
      obtain ⟨t30, H⟩ := H
      refine v_getf (j := 65) (c := 10) (f := 1) rfl rfl rfl rfl rfl rfl rfl rfl (t30) ?_
      refine v_run 66 1 (pc' := 151) (ls' := [(1, 22), (1, a1), (1, a2), (0, a3), (1, a4), (1, a5), (9, 0)]) (st' := [(0, (wr ((m a4 1) - (m a5 1)))), (1, (-14)), (1, 3)]) rfl ?_
      refine v_callV (j := 67) (M' := mX3_make) (as := [(1, (-14)), (0, (wr ((m a4 1) - (m a5 1))))]) (st := []) rfl rfl rfl rfl rfl (Nat.le_of_ble_eq_true rfl) (Nat.le_of_ble_eq_true rfl) (by omega) (by decide) (K3_t K) (kv0 (st' := fun v => [(1, v)]) rfl (fun _ => rfl)) (H.mono (fun k v31 m32 H => ⟨H.1, ?_⟩))
      have K33 := H.2.1.2.1 K
      have t34 := Ok.tag H.2.1 (t1) (by decide)
      have t35 := Ok.tag H.2.1 (t29) (by decide)
      have t36 := Ok.tag H.2.1 (t30) (by decide)
      replace H := H.2.2
      exact v_aret (j := 68) rfl rfl rfl H
  · replace H := H.2 q
    refine v_run 43 1 (pc' := 96) (ls' := [(1, 22), (1, a1), (1, a2), (0, a3), (1, a4), (1, a5), (9, 0)]) (st' := [(1, 22)]) rfl ?_
    refine v_getK (j := 44) (c := 7) (f := 0) rfl rfl rfl rfl rfl rfl rfl rfl (K22_t K) (K22_0 K) ?_
    refine v_getK (j := 45) (c := 1) (f := 0) rfl rfl rfl rfl rfl rfl rfl rfl (K2_t K) (K2_0 K) ?_
    refine v_gets (j := 46) (g := 1) (v := (-14)) rfl rfl rfl rfl ?_
    refine v_run 47 1 (pc' := 107) (ls' := [(1, 22), (1, a1), (1, a2), (0, a3), (1, a4), (1, a5), (9, 0)]) (st' := [(1, a4), (1, (-14)), (1, 3)]) rfl ?_
    obtain ⟨t37, H⟩ := H
    refine v_getf (j := 48) (c := 10) (f := 1) rfl rfl rfl rfl rfl rfl rfl rfl (t37) ?_
    refine v_run 49 1 (pc' := 112) (ls' := [(1, 22), (1, a1), (1, a2), (0, a3), (1, a4), (1, a5), (9, 0)]) (st' := [(1, a5), (0, (m a4 1)), (1, (-14)), (1, 3)]) rfl ?_
    obtain ⟨t38, H⟩ := H
    refine v_getf (j := 50) (c := 10) (f := 1) rfl rfl rfl rfl rfl rfl rfl rfl (t38) ?_
    refine v_run 51 1 (pc' := 116) (ls' := [(1, 22), (1, a1), (1, a2), (0, a3), (1, a4), (1, a5), (9, 0)]) (st' := [(0, (wr ((m a4 1) + (m a5 1)))), (1, (-14)), (1, 3)]) rfl ?_
    refine v_callV (j := 52) (M' := mX3_make) (as := [(1, (-14)), (0, (wr ((m a4 1) + (m a5 1))))]) (st := []) rfl rfl rfl rfl rfl (Nat.le_of_ble_eq_true rfl) (Nat.le_of_ble_eq_true rfl) (by omega) (by decide) (K3_t K) (kv0 (st' := fun v => [(1, v)]) rfl (fun _ => rfl)) (H.mono (fun k v39 m40 H => ⟨H.1, ?_⟩))
    have K41 := H.2.1.2.1 K
    have t42 := Ok.tag H.2.1 (t1) (by decide)
    have t43 := Ok.tag H.2.1 (t37) (by decide)
    have t44 := Ok.tag H.2.1 (t38) (by decide)
    replace H := H.2.2
    exact v_aret (j := 53) rfl rfl rfl H

set_option maxRecDepth 100000 in
set_option maxHeartbeats 4000000 in
theorem wX6_has {G : GM} {d : Nat} {P : Nat → Int → SM → Prop} {m : SM} {a0 a1 : Int} (K : KI m) (hd : 12 ≤ d) 
    (H : WV G mX6_has 4 [(1, a0), (0, a1), (0, 0), (0, 0)] [] m d P) :
    WV G mX6_has 0 [(1, a0), (0, a1), (9, 0), (9, 0)] [] m d P := by
  refine v_run 0 4 (pc' := 4) (ls' := [(1, a0), (0, a1), (0, 0), (0, 0)]) (st' := []) rfl ?_
  exact H

set_option maxRecDepth 100000 in
set_option maxHeartbeats 4000000 in
theorem wX6_has_4 {G : GM} {d : Nat} {P : Nat → Int → SM → Prop} {m : SM} {a0 a1 a2 a3 : Int} (K : KI m) (hd : 12 ≤ d) 
    (H : (m a0 (-1) = 6) ∧ (((m a0 (-2)) ≤ a3 → ((a2 = 0 ∨ a2 = 1) ∧ (P 0 a2 m))) ∧ (a3 < (m a0 (-2)) → ((0 ≤ a3) ∧ (a3 < m a0 (-2)) ∧ (WV G mX6_has 4 [(1, a0), (0, a1), (0, (bOr a2 (if (m a0 a3) ≠ a1 then 0 else 1))), (0, (wr (a3 + 1)))] [] m d P))))) :
    WV G mX6_has 4 [(1, a0), (0, a1), (0, a2), (0, a3)] [] m d P := by
  refine v_run 4 2 (pc' := 6) (ls' := [(1, a0), (0, a1), (0, a2), (0, a3)]) (st' := [(1, a0), (0, a3)]) rfl ?_
  obtain ⟨t1, H⟩ := H
  refine vj_sblen (j := 6) rfl rfl rfl rfl (t1) (by omega) (by simp) ?_
  refine v_icmpge (j := 7) rfl rfl rfl (fun q => ?_) (fun q => ?_)
  · replace H := H.1 q
    refine v_run 21 1 (pc' := 36) (ls' := [(1, a0), (0, a1), (0, a2), (0, a3)]) (st' := [(0, a2)]) rfl ?_
    obtain ⟨r2, H⟩ := H
    exact v_iret (j := 22) rfl rfl rfl r2 H
  · replace H := H.2 q
    refine v_run 8 3 (pc' := 15) (ls' := [(1, a0), (0, a1), (0, a2), (0, a3)]) (st' := [(0, a3), (1, a0), (0, a2)]) rfl ?_
    obtain ⟨i3, i4, H⟩ := H
    refine vj_sbat (j := 11) rfl rfl rfl rfl (t1) (by omega) (by simp) i3 i4 ?_
    refine v_run 12 1 (pc' := 19) (ls' := [(1, a0), (0, a1), (0, a2), (0, a3)]) (st' := [(0, a1), (0, (m a0 a3)), (0, a2)]) rfl ?_
    have J5 : WV G mX6_has 27 [(1, a0), (0, a1), (0, a2), (0, a3)] [(0, (if (m a0 a3) ≠ a1 then 0 else 1)), (0, a2)] m d P := by
      refine v_run 17 3 (pc' := 32) (ls' := [(1, a0), (0, a1), (0, (bOr a2 (if (m a0 a3) ≠ a1 then 0 else 1))), (0, (wr (a3 + 1)))]) (st' := []) rfl ?_
      refine v_goto (j := 20) (tgt := 4) rfl rfl ?_
      exact H
    refine v_icmpne (j := 13) rfl rfl rfl (fun q => ?_) (fun q => ?_)
    · rw [show ((if (m a0 a3) ≠ a1 then 0 else 1) : Int) = 0 from if_pos q] at J5
      refine v_run 16 1 (pc' := 27) (ls' := [(1, a0), (0, a1), (0, a2), (0, a3)]) (st' := [(0, 0), (0, a2)]) rfl ?_
      exact J5
    · rw [show ((if (m a0 a3) ≠ a1 then 0 else 1) : Int) = 1 from if_neg (fun z => z q)] at J5
      refine v_run 14 1 (pc' := 23) (ls' := [(1, a0), (0, a1), (0, a2), (0, a3)]) (st' := [(0, 1), (0, a2)]) rfl ?_
      refine v_goto (j := 15) (tgt := 27) rfl rfl ?_
      exact J5

set_option maxRecDepth 100000 in
set_option maxHeartbeats 4000000 in
theorem wX6_look {G : GM} {d : Nat} {P : Nat → Int → SM → Prop} {m : SM} {a1 a2 : Int} (K : KI m) (hd : 12 ≤ d) 
    (H : (m a1 (-1) = 23) ∧ (((m a1 0) ≠ (-1) → (WV G mX6_look 26 [(1, 26), (1, a1), (1, a2), (9, 0), (9, 0), (9, 0)] [] m d P)) ∧ ((m a1 0) = (-1) → (WV G mX6_has 0 [(1, a2), (0, (m a1 2)), (9, 0), (9, 0)] [] m (d - 1) (fun k v2 m3 => k = 0 ∧ Ok m m3 ∧ (WV G mX8_need 0 [(1, 26), (0, v2), (0, (m3 a1 1))] [] m3 (d - 1) (fun k v6 m7 => Ok m3 m7 ∧ (k = 0 → (WV G mX6_look 26 [(1, 26), (1, a1), (1, a2), (9, 0), (9, 0), (9, 0)] [] m7 d P)) ∧ (k ≠ 0 → P 1 v6 m7)))))))) :
    WV G mX6_look 0 [(1, 26), (1, a1), (1, a2), (9, 0), (9, 0), (9, 0)] [] m d P := by
  refine v_run 0 1 (pc' := 1) (ls' := [(1, 26), (1, a1), (1, a2), (9, 0), (9, 0), (9, 0)]) (st' := [(1, a1)]) rfl ?_
  obtain ⟨t1, H⟩ := H
  refine v_getf (j := 1) (c := 22) (f := 0) rfl rfl rfl rfl rfl rfl rfl rfl (t1) ?_
  refine v_gets (j := 2) (g := 1) (v := (-1)) rfl rfl rfl rfl ?_
  refine v_ane (j := 3) rfl rfl rfl (fun q => ?_) (fun q => ?_)
  · replace H := H.1 q
    exact H
  · replace H := H.2 q
    refine v_run 4 3 (pc' := 13) (ls' := [(1, 26), (1, a1), (1, a2), (9, 0), (9, 0), (9, 0)]) (st' := [(1, a1), (1, a2), (1, 26)]) rfl ?_
    refine v_getf (j := 7) (c := 22) (f := 2) rfl rfl rfl rfl rfl rfl rfl rfl (t1) ?_
    refine v_callS (j := 8) (M' := mX6_has) (as := [(1, a2), (0, (m a1 2))]) (st := [(1, 26)]) rfl rfl rfl rfl rfl (Nat.le_of_ble_eq_true rfl) (Nat.le_of_ble_eq_true rfl) (by omega) (kv0 (st' := fun v => [(0, v), (1, 26)]) rfl (fun _ => rfl)) (H.mono (fun k v2 m3 H => ⟨H.1, ?_⟩))
    have K4 := H.2.1.2.1 K
    have t5 := Ok.tag H.2.1 (t1) (by decide)
    replace H := H.2.2
    refine v_run 9 1 (pc' := 20) (ls' := [(1, 26), (1, a1), (1, a2), (9, 0), (9, 0), (9, 0)]) (st' := [(1, a1), (0, v2), (1, 26)]) rfl ?_
    refine v_getf (j := 10) (c := 22) (f := 1) rfl rfl rfl rfl rfl rfl rfl rfl (t5) ?_
    refine v_callV (j := 11) (M' := mX8_need) (as := [(0, v2), (0, (m3 a1 1))]) (st := []) rfl rfl rfl rfl rfl (Nat.le_of_ble_eq_true rfl) (Nat.le_of_ble_eq_true rfl) (by omega) (by decide) (K26_t K4) (kvt (st' := fun v => []) rfl (fun _ => rfl) rfl) (H.mono (fun k v6 m7 H => ⟨fun z => ?_, H.2.2⟩))
    have O := H.1
    replace H := H.2.1 z
    have K8 := O.2.1 K4
    have t9 := Ok.tag O (t5) (by decide)
    exact H

set_option maxRecDepth 100000 in
set_option maxHeartbeats 4000000 in
theorem wX6_look_26 {G : GM} {d : Nat} {P : Nat → Int → SM → Prop} {m : SM} {a1 a2 : Int} (K : KI m) (hd : 12 ≤ d) 
    (H : (m a1 (-1) = 23) ∧ (((m a1 0) ≠ (-3) → (WV G mX6_look 83 [(1, 26), (1, a1), (1, a2), (0, 0), (9, 0), (9, 0)] [] m d P)) ∧ ((m a1 0) = (-3) → (WV G mX2_meaning 0 [(1, 2), (0, (m a1 2))] [] m (d - 1) (fun k v2 m3 => k = 0 ∧ Ok m m3 ∧ ((v2 = 0 → (WV G mX8_need 0 [(1, 26), (0, 0), (0, (m3 a1 1))] [] m3 (d - 1) (fun k v6 m7 => Ok m3 m7 ∧ (k = 0 → (WV G mX6_look 83 [(1, 26), (1, a1), (1, a2), (0, 0), (9, 0), (9, 0)] [] m7 d P)) ∧ (k ≠ 0 → P 1 v6 m7)))) ∧ (v2 ≠ 0 → ((m3 v2 (-1) = 21 ∨ m3 v2 (-1) = 22) ∧ ((m3 v2 (-1) = 21 → WV G mX13_parameters 0 [(1, v2)] [] m3 (d - 1) (fun k v11 m12 => k = 0 ∧ Ok m3 m12 ∧ ((m12 (m12 a1 4) (-1) = 4) ∧ (WV G mX8_need 0 [(1, 26), (0, (if v11 ≠ (m12 (m12 a1 4) (-2)) then 0 else 1)), (0, (m12 a1 1))] [] m12 (d - 1) (fun k v16 m17 => Ok m12 m17 ∧ (k = 0 → (WV G mX6_look 83 [(1, 26), (1, a1), (1, a2), (0, 0), (9, 0), (9, 0)] [] m17 d P)) ∧ (k ≠ 0 → P 1 v16 m17)))))) ∧ (m3 v2 (-1) = 22 → WV G mX17_parameters 0 [(1, v2)] [] m3 (d - 1) (fun k v11 m12 => k = 0 ∧ Ok m3 m12 ∧ ((m12 (m12 a1 4) (-1) = 4) ∧ (WV G mX8_need 0 [(1, 26), (0, (if v11 ≠ (m12 (m12 a1 4) (-2)) then 0 else 1)), (0, (m12 a1 1))] [] m12 (d - 1) (fun k v24 m25 => Ok m12 m25 ∧ (k = 0 → (WV G mX6_look 83 [(1, 26), (1, a1), (1, a2), (0, 0), (9, 0), (9, 0)] [] m25 d P)) ∧ (k ≠ 0 → P 1 v24 m25))))))))))))))) :
    WV G mX6_look 26 [(1, 26), (1, a1), (1, a2), (9, 0), (9, 0), (9, 0)] [] m d P := by
  refine v_run 12 1 (pc' := 27) (ls' := [(1, 26), (1, a1), (1, a2), (9, 0), (9, 0), (9, 0)]) (st' := [(1, a1)]) rfl ?_
  obtain ⟨t1, H⟩ := H
  refine v_getf (j := 13) (c := 22) (f := 0) rfl rfl rfl rfl rfl rfl rfl rfl (t1) ?_
  refine v_gets (j := 14) (g := 1) (v := (-3)) rfl rfl rfl rfl ?_
  refine v_ane (j := 15) rfl rfl rfl (fun q => ?_) (fun q => ?_)
  · replace H := H.1 q
    refine v_run 37 2 (pc' := 83) (ls' := [(1, 26), (1, a1), (1, a2), (0, 0), (9, 0), (9, 0)]) (st' := []) rfl ?_
    exact H
  · replace H := H.2 q
    refine v_run 16 1 (pc' := 37) (ls' := [(1, 26), (1, a1), (1, a2), (9, 0), (9, 0), (9, 0)]) (st' := [(1, 26)]) rfl ?_
    refine v_getK (j := 17) (c := 9) (f := 0) rfl rfl rfl rfl rfl rfl rfl rfl (K26_t K) (K26_0 K) ?_
    refine v_run 18 1 (pc' := 41) (ls' := [(1, 26), (1, a1), (1, a2), (9, 0), (9, 0), (9, 0)]) (st' := [(1, a1), (1, 2)]) rfl ?_
    refine v_getf (j := 19) (c := 22) (f := 2) rfl rfl rfl rfl rfl rfl rfl rfl (t1) ?_
    refine v_callV (j := 20) (M' := mX2_meaning) (as := [(0, (m a1 2))]) (st := []) rfl rfl rfl rfl rfl (Nat.le_of_ble_eq_true rfl) (Nat.le_of_ble_eq_true rfl) (by omega) (by decide) (K2_t K) (kv0 (st' := fun v => [(1, v)]) rfl (fun _ => rfl)) (H.mono (fun k v2 m3 H => ⟨H.1, ?_⟩))
    have K4 := H.2.1.2.1 K
    have t5 := Ok.tag H.2.1 (t1) (by decide)
    replace H := H.2.2
    refine v_run 21 3 (pc' := 50) (ls' := [(1, 26), (1, a1), (1, a2), (1, v2), (9, 0), (9, 0)]) (st' := [(1, v2), (1, 26)]) rfl ?_
    refine v_null (j := 24) rfl rfl rfl (fun q => ?_) (fun q => ?_)
    · replace H := H.1 q
      refine v_run 33 2 (pc' := 75) (ls' := [(1, 26), (1, a1), (1, a2), (1, v2), (9, 0), (9, 0)]) (st' := [(1, a1), (0, 0), (1, 26)]) rfl ?_
      refine v_getf (j := 35) (c := 22) (f := 1) rfl rfl rfl rfl rfl rfl rfl rfl (t5) ?_
      refine v_callV (j := 36) (M' := mX8_need) (as := [(0, 0), (0, (m3 a1 1))]) (st := []) rfl rfl rfl rfl rfl (Nat.le_of_ble_eq_true rfl) (Nat.le_of_ble_eq_true rfl) (by omega) (by decide) (K26_t K4) (kvt (st' := fun v => []) rfl (fun _ => rfl) rfl) (H.mono (fun k v6 m7 H => ⟨fun z => ?_, H.2.2⟩))
      have O := H.1
      replace H := H.2.1 z
      have K8 := O.2.1 K4
      have t9 := Ok.tag O (t5) (by decide)
      refine v_run 37 2 (pc' := 83) (ls' := [(1, 26), (1, a1), (1, a2), (0, 0), (9, 0), (9, 0)]) (st' := []) rfl ?_
      exact H
    · replace H := H.2 q
      refine v_run 25 1 (pc' := 54) (ls' := [(1, 26), (1, a1), (1, a2), (1, v2), (9, 0), (9, 0)]) (st' := [(1, v2), (1, 26)]) rfl ?_
      obtain ⟨c10, H⟩ := H
      refine v_callF (j := 26) rfl rfl (M' := mX13_parameters) (M2 := mX17_parameters) rfl rfl rfl (Nat.le_of_ble_eq_true rfl) (Nat.le_of_ble_eq_true rfl) (Nat.le_of_ble_eq_true rfl) (Nat.le_of_ble_eq_true rfl) (by omega) c10 (kv0 (st' := fun v => [(0, v), (1, 26)]) rfl (fun _ => rfl)) (kv0 (st' := fun v => [(0, v), (1, 26)]) rfl (fun _ => rfl)) (fun q => (H.1 q).mono (fun k v11 m12 H => ⟨H.1, ?_⟩)) (fun q => (H.2 q).mono (fun k v11 m12 H => ⟨H.1, ?_⟩))
      · have K13 := H.2.1.2.1 K4
        have t14 := Ok.tag H.2.1 (t5) (by decide)
        replace H := H.2.2
        refine v_run 27 1 (pc' := 60) (ls' := [(1, 26), (1, a1), (1, a2), (1, v2), (9, 0), (9, 0)]) (st' := [(1, a1), (0, v11), (1, 26)]) rfl ?_
        refine v_getf (j := 28) (c := 22) (f := 4) rfl rfl rfl rfl rfl rfl rfl rfl (t14) ?_
        obtain ⟨t15, H⟩ := H
        refine vj_size (j := 29) rfl rfl rfl rfl (t15) (by omega) (by simp) ?_
        have J20 : WV G mX6_look 74 [(1, 26), (1, a1), (1, a2), (1, v2), (9, 0), (9, 0)] [(0, (if v11 ≠ (m12 (m12 a1 4) (-2)) then 0 else 1)), (1, 26)] m12 d P := by
          refine v_run 34 1 (pc' := 75) (ls' := [(1, 26), (1, a1), (1, a2), (1, v2), (9, 0), (9, 0)]) (st' := [(1, a1), (0, (if v11 ≠ (m12 (m12 a1 4) (-2)) then 0 else 1)), (1, 26)]) rfl ?_
          refine v_getf (j := 35) (c := 22) (f := 1) rfl rfl rfl rfl rfl rfl rfl rfl (t14) ?_
          refine v_callV (j := 36) (M' := mX8_need) (as := [(0, (if v11 ≠ (m12 (m12 a1 4) (-2)) then 0 else 1)), (0, (m12 a1 1))]) (st := []) rfl rfl rfl rfl rfl (Nat.le_of_ble_eq_true rfl) (Nat.le_of_ble_eq_true rfl) (by omega) (by decide) (K26_t K13) (kvt (st' := fun v => []) rfl (fun _ => rfl) rfl) (H.mono (fun k v16 m17 H => ⟨fun z => ?_, H.2.2⟩))
          have O := H.1
          replace H := H.2.1 z
          have K18 := O.2.1 K13
          have t19 := Ok.tag O (t14) (by decide)
          refine v_run 37 2 (pc' := 83) (ls' := [(1, 26), (1, a1), (1, a2), (0, 0), (9, 0), (9, 0)]) (st' := []) rfl ?_
          exact H
        refine v_icmpne (j := 30) rfl rfl rfl (fun q => ?_) (fun q => ?_)
        · rw [show ((if v11 ≠ (m12 (m12 a1 4) (-2)) then 0 else 1) : Int) = 0 from if_pos q] at J20
          refine v_run 33 1 (pc' := 74) (ls' := [(1, 26), (1, a1), (1, a2), (1, v2), (9, 0), (9, 0)]) (st' := [(0, 0), (1, 26)]) rfl ?_
          exact J20
        · rw [show ((if v11 ≠ (m12 (m12 a1 4) (-2)) then 0 else 1) : Int) = 1 from if_neg (fun z => z q)] at J20
          refine v_run 31 1 (pc' := 70) (ls' := [(1, 26), (1, a1), (1, a2), (1, v2), (9, 0), (9, 0)]) (st' := [(0, 1), (1, 26)]) rfl ?_
          refine v_goto (j := 32) (tgt := 74) rfl rfl ?_
          exact J20
      · have K21 := H.2.1.2.1 K4
        have t22 := Ok.tag H.2.1 (t5) (by decide)
        replace H := H.2.2
        refine v_run 27 1 (pc' := 60) (ls' := [(1, 26), (1, a1), (1, a2), (1, v2), (9, 0), (9, 0)]) (st' := [(1, a1), (0, v11), (1, 26)]) rfl ?_
        refine v_getf (j := 28) (c := 22) (f := 4) rfl rfl rfl rfl rfl rfl rfl rfl (t22) ?_
        obtain ⟨t23, H⟩ := H
        refine vj_size (j := 29) rfl rfl rfl rfl (t23) (by omega) (by simp) ?_
        have J28 : WV G mX6_look 74 [(1, 26), (1, a1), (1, a2), (1, v2), (9, 0), (9, 0)] [(0, (if v11 ≠ (m12 (m12 a1 4) (-2)) then 0 else 1)), (1, 26)] m12 d P := by
          refine v_run 34 1 (pc' := 75) (ls' := [(1, 26), (1, a1), (1, a2), (1, v2), (9, 0), (9, 0)]) (st' := [(1, a1), (0, (if v11 ≠ (m12 (m12 a1 4) (-2)) then 0 else 1)), (1, 26)]) rfl ?_
          refine v_getf (j := 35) (c := 22) (f := 1) rfl rfl rfl rfl rfl rfl rfl rfl (t22) ?_
          refine v_callV (j := 36) (M' := mX8_need) (as := [(0, (if v11 ≠ (m12 (m12 a1 4) (-2)) then 0 else 1)), (0, (m12 a1 1))]) (st := []) rfl rfl rfl rfl rfl (Nat.le_of_ble_eq_true rfl) (Nat.le_of_ble_eq_true rfl) (by omega) (by decide) (K26_t K21) (kvt (st' := fun v => []) rfl (fun _ => rfl) rfl) (H.mono (fun k v24 m25 H => ⟨fun z => ?_, H.2.2⟩))
          have O := H.1
          replace H := H.2.1 z
          have K26 := O.2.1 K21
          have t27 := Ok.tag O (t22) (by decide)
          refine v_run 37 2 (pc' := 83) (ls' := [(1, 26), (1, a1), (1, a2), (0, 0), (9, 0), (9, 0)]) (st' := []) rfl ?_
          exact H
        refine v_icmpne (j := 30) rfl rfl rfl (fun q => ?_) (fun q => ?_)
        · rw [show ((if v11 ≠ (m12 (m12 a1 4) (-2)) then 0 else 1) : Int) = 0 from if_pos q] at J28
          refine v_run 33 1 (pc' := 74) (ls' := [(1, 26), (1, a1), (1, a2), (1, v2), (9, 0), (9, 0)]) (st' := [(0, 0), (1, 26)]) rfl ?_
          exact J28
        · rw [show ((if v11 ≠ (m12 (m12 a1 4) (-2)) then 0 else 1) : Int) = 1 from if_neg (fun z => z q)] at J28
          refine v_run 31 1 (pc' := 70) (ls' := [(1, 26), (1, a1), (1, a2), (1, v2), (9, 0), (9, 0)]) (st' := [(0, 1), (1, 26)]) rfl ?_
          refine v_goto (j := 32) (tgt := 74) rfl rfl ?_
          exact J28

set_option maxRecDepth 100000 in
set_option maxHeartbeats 4000000 in
theorem wX6_look_83 {G : GM} {d : Nat} {P : Nat → Int → SM → Prop} {m : SM} {a1 a2 a3 : Int} (K : KI m) (hd : 12 ≤ d) 
    (H : (m a1 (-1) = 23) ∧ ((m (m a1 4) (-1) = 4) ∧ (((m (m a1 4) (-2)) ≤ a3 → (WV G mX6_look 118 [(1, 26), (1, a1), (1, a2), (0, 0), (9, 0), (9, 0)] [] m d P)) ∧ (a3 < (m (m a1 4) (-2)) → ((0 ≤ a3) ∧ (a3 < m (m a1 4) (-2)) ∧ (((m (m a1 4) a3) = 0 ∨ m (m (m a1 4) a3) (-1) = 23) ∧ (WV G mX6_look 0 [(1, 26), (1, (m (m a1 4) a3)), (1, a2), (9, 0), (9, 0), (9, 0)] [] m (d - 1) (fun k v6 m7 => Ok m m7 ∧ (k = 0 → (WV G mX6_look 83 [(1, 26), (1, a1), (1, a2), (0, (wr (a3 + 1))), (9, 0), (9, 0)] [] m7 d P)) ∧ (k ≠ 0 → P 1 v6 m7))))))))) :
    WV G mX6_look 83 [(1, 26), (1, a1), (1, a2), (0, a3), (9, 0), (9, 0)] [] m d P := by
  refine v_run 39 2 (pc' := 85) (ls' := [(1, 26), (1, a1), (1, a2), (0, a3), (9, 0), (9, 0)]) (st' := [(1, a1), (0, a3)]) rfl ?_
  obtain ⟨t1, H⟩ := H
  refine v_getf (j := 41) (c := 22) (f := 4) rfl rfl rfl rfl rfl rfl rfl rfl (t1) ?_
  obtain ⟨t2, H⟩ := H
  refine vj_size (j := 42) rfl rfl rfl rfl (t2) (by omega) (by simp) ?_
  refine v_icmpge (j := 43) rfl rfl rfl (fun q => ?_) (fun q => ?_)
  · replace H := H.1 q
    refine v_run 54 2 (pc' := 118) (ls' := [(1, 26), (1, a1), (1, a2), (0, 0), (9, 0), (9, 0)]) (st' := []) rfl ?_
    exact H
  · replace H := H.2 q
    refine v_run 44 2 (pc' := 96) (ls' := [(1, 26), (1, a1), (1, a2), (0, a3), (9, 0), (9, 0)]) (st' := [(1, a1), (1, 26)]) rfl ?_
    refine v_getf (j := 46) (c := 22) (f := 4) rfl rfl rfl rfl rfl rfl rfl rfl (t1) ?_
    refine v_run 47 1 (pc' := 100) (ls' := [(1, 26), (1, a1), (1, a2), (0, a3), (9, 0), (9, 0)]) (st' := [(0, a3), (1, (m a1 4)), (1, 26)]) rfl ?_
    obtain ⟨i3, i4, H⟩ := H
    refine vj_get (j := 48) rfl rfl rfl rfl (t2) (by omega) (by simp) i3 i4 ?_
    obtain ⟨c5, H⟩ := H
    refine v_cast (j := 49) (c := 22) rfl rfl rfl rfl rfl (c5) ?_
    refine v_run 50 1 (pc' := 107) (ls' := [(1, 26), (1, a1), (1, a2), (0, a3), (9, 0), (9, 0)]) (st' := [(1, a2), (1, (m (m a1 4) a3)), (1, 26)]) rfl ?_
    refine v_callS (j := 51) (M' := mX6_look) (as := [(1, 26), (1, (m (m a1 4) a3)), (1, a2)]) (st := []) rfl rfl rfl rfl rfl (Nat.le_of_ble_eq_true rfl) (Nat.le_of_ble_eq_true rfl) (by omega) (kvt (st' := fun v => []) rfl (fun _ => rfl) rfl) (H.mono (fun k v6 m7 H => ⟨fun z => ?_, H.2.2⟩))
    have O := H.1
    replace H := H.2.1 z
    have K8 := O.2.1 K
    have t9 := Ok.tag O (t1) (by decide)
    refine v_run 52 1 (pc' := 113) (ls' := [(1, 26), (1, a1), (1, a2), (0, (wr (a3 + 1))), (9, 0), (9, 0)]) (st' := []) rfl ?_
    refine v_goto (j := 53) (tgt := 83) rfl rfl ?_
    exact H

set_option maxRecDepth 100000 in
set_option maxHeartbeats 4000000 in
theorem wX6_look_118 {G : GM} {d : Nat} {P : Nat → Int → SM → Prop} {m : SM} {a1 a2 a3 : Int} (K : KI m) (hd : 12 ≤ d) 
    (H : (m a1 (-1) = 23) ∧ ((m (m a1 5) (-1) = 4) ∧ (((m (m a1 5) (-2)) ≤ a3 → (P 0 0 m)) ∧ (a3 < (m (m a1 5) (-2)) → ((0 ≤ a3) ∧ (a3 < m (m a1 5) (-2)) ∧ (((m (m a1 5) a3) = 0 ∨ m (m (m a1 5) a3) (-1) = 24) ∧ ((m (m (m a1 5) a3) (-1) = 24) ∧ (((m (m (m a1 5) a3) 2) = (0 : Int) → (WV G mX6_look 199 [(1, 26), (1, a1), (1, a2), (0, a3), (1, (m (m a1 5) a3)), (9, 0)] [] m d P)) ∧ ((m (m (m a1 5) a3) 2) ≠ (0 : Int) → (WV G mX2_constant 0 [(1, 2), (0, (m (m (m a1 5) a3) 2)), (9, 0)] [] m (d - 1) (fun k v7 m8 => k = 0 ∧ Ok m m8 ∧ ((v7 = 0 → (WV G mX8_need 0 [(1, 26), (0, 0), (0, (m8 (m (m a1 5) a3) 0))] [] m8 (d - 1) (fun k v12 m13 => Ok m8 m13 ∧ (k = 0 → (WV G mX6_look 199 [(1, 26), (1, a1), (1, a2), (0, a3), (1, (m (m a1 5) a3)), (9, 0)] [] m13 d P)) ∧ (k ≠ 0 → P 1 v12 m13)))) ∧ (v7 ≠ 0 → ((m8 v7 (-1) = 21) ∧ (WV G mX13_parameters 0 [(1, v7)] [] m8 (d - 1) (fun k v18 m19 => k = 0 ∧ Ok m8 m19 ∧ ((m19 (m19 (m (m a1 5) a3) 3) (-1) = 13) ∧ (WV G mX8_need 0 [(1, 26), (0, (if v18 ≠ (m19 (m19 (m (m a1 5) a3) 3) (-2)) then 0 else 1)), (0, (m19 (m (m a1 5) a3) 0))] [] m19 (d - 1) (fun k v25 m26 => Ok m19 m26 ∧ (k = 0 → (WV G mX6_look 199 [(1, 26), (1, a1), (1, a2), (0, a3), (1, (m (m a1 5) a3)), (9, 0)] [] m26 d P)) ∧ (k ≠ 0 → P 1 v25 m26)))))))))))))))))))) :
    WV G mX6_look 118 [(1, 26), (1, a1), (1, a2), (0, a3), (9, 0), (9, 0)] [] m d P := by
  refine v_run 56 2 (pc' := 120) (ls' := [(1, 26), (1, a1), (1, a2), (0, a3), (9, 0), (9, 0)]) (st' := [(1, a1), (0, a3)]) rfl ?_
  obtain ⟨t1, H⟩ := H
  refine v_getf (j := 58) (c := 22) (f := 5) rfl rfl rfl rfl rfl rfl rfl rfl (t1) ?_
  obtain ⟨t2, H⟩ := H
  refine vj_size (j := 59) rfl rfl rfl rfl (t2) (by omega) (by simp) ?_
  refine v_icmpge (j := 60) rfl rfl rfl (fun q => ?_) (fun q => ?_)
  · replace H := H.1 q
    exact v_vret (j := 109) rfl rfl H
  · replace H := H.2 q
    refine v_run 61 1 (pc' := 130) (ls' := [(1, 26), (1, a1), (1, a2), (0, a3), (9, 0), (9, 0)]) (st' := [(1, a1)]) rfl ?_
    refine v_getf (j := 62) (c := 22) (f := 5) rfl rfl rfl rfl rfl rfl rfl rfl (t1) ?_
    refine v_run 63 1 (pc' := 134) (ls' := [(1, 26), (1, a1), (1, a2), (0, a3), (9, 0), (9, 0)]) (st' := [(0, a3), (1, (m a1 5))]) rfl ?_
    obtain ⟨i3, i4, H⟩ := H
    refine vj_get (j := 64) rfl rfl rfl rfl (t2) (by omega) (by simp) i3 i4 ?_
    obtain ⟨c5, H⟩ := H
    refine v_cast (j := 65) (c := 23) rfl rfl rfl rfl rfl (c5) ?_
    refine v_run 66 2 (pc' := 144) (ls' := [(1, 26), (1, a1), (1, a2), (0, a3), (1, (m (m a1 5) a3)), (9, 0)]) (st' := [(1, (m (m a1 5) a3))]) rfl ?_
    obtain ⟨t6, H⟩ := H
    refine v_callV (j := 68) (M' := mX19_letter) (as := []) (st := []) rfl rfl rfl rfl rfl (Nat.le_of_ble_eq_true rfl) (Nat.le_of_ble_eq_true rfl) (by omega) (by decide) (t6) (kv0 (st' := fun v => [(0, v)]) rfl (fun _ => rfl)) (ipX19_letter (t6) ⟨rfl, ?_⟩)
    refine v_ifeq (j := 69) rfl rfl rfl (fun q => ?_) (fun q => ?_)
    · replace H := H.1 q
      exact H
    · replace H := H.2 q
      refine v_run 70 1 (pc' := 151) (ls' := [(1, 26), (1, a1), (1, a2), (0, a3), (1, (m (m a1 5) a3)), (9, 0)]) (st' := [(1, 26)]) rfl ?_
      refine v_getK (j := 71) (c := 9) (f := 0) rfl rfl rfl rfl rfl rfl rfl rfl (K26_t K) (K26_0 K) ?_
      refine v_run 72 1 (pc' := 156) (ls' := [(1, 26), (1, a1), (1, a2), (0, a3), (1, (m (m a1 5) a3)), (9, 0)]) (st' := [(1, (m (m a1 5) a3)), (1, 2)]) rfl ?_
      refine v_callV (j := 73) (M' := mX19_letter) (as := []) (st := [(1, 2)]) rfl rfl rfl rfl rfl (Nat.le_of_ble_eq_true rfl) (Nat.le_of_ble_eq_true rfl) (by omega) (by decide) (t6) (kv0 (st' := fun v => [(0, v), (1, 2)]) rfl (fun _ => rfl)) (ipX19_letter (t6) ⟨rfl, ?_⟩)
      refine v_callV (j := 74) (M' := mX2_constant) (as := [(0, (m (m (m a1 5) a3) 2))]) (st := []) rfl rfl rfl rfl rfl (Nat.le_of_ble_eq_true rfl) (Nat.le_of_ble_eq_true rfl) (by omega) (by decide) (K2_t K) (kv0 (st' := fun v => [(1, v)]) rfl (fun _ => rfl)) (H.mono (fun k v7 m8 H => ⟨H.1, ?_⟩))
      have K9 := H.2.1.2.1 K
      have t10 := Ok.tag H.2.1 (t1) (by decide)
      have t11 := Ok.tag H.2.1 (t6) (by decide)
      replace H := H.2.2
      refine v_run 75 3 (pc' := 167) (ls' := [(1, 26), (1, a1), (1, a2), (0, a3), (1, (m (m a1 5) a3)), (1, v7)]) (st' := [(1, v7), (1, 26)]) rfl ?_
      refine v_null (j := 78) rfl rfl rfl (fun q => ?_) (fun q => ?_)
      · replace H := H.1 q
        refine v_run 87 2 (pc' := 193) (ls' := [(1, 26), (1, a1), (1, a2), (0, a3), (1, (m (m a1 5) a3)), (1, v7)]) (st' := [(1, (m (m a1 5) a3)), (0, 0), (1, 26)]) rfl ?_
        refine v_callV (j := 89) (M' := mX19_place) (as := []) (st := [(0, 0), (1, 26)]) rfl rfl rfl rfl rfl (Nat.le_of_ble_eq_true rfl) (Nat.le_of_ble_eq_true rfl) (by omega) (by decide) (t11) (kv0 (st' := fun v => [(0, v), (0, 0), (1, 26)]) rfl (fun _ => rfl)) (ipX19_place (t11) ⟨rfl, ?_⟩)
        refine v_callV (j := 90) (M' := mX8_need) (as := [(0, 0), (0, (m8 (m (m a1 5) a3) 0))]) (st := []) rfl rfl rfl rfl rfl (Nat.le_of_ble_eq_true rfl) (Nat.le_of_ble_eq_true rfl) (by omega) (by decide) (K26_t K9) (kvt (st' := fun v => []) rfl (fun _ => rfl) rfl) (H.mono (fun k v12 m13 H => ⟨fun z => ?_, H.2.2⟩))
        have O := H.1
        replace H := H.2.1 z
        have K14 := O.2.1 K9
        have t15 := Ok.tag O (t10) (by decide)
        have t16 := Ok.tag O (t11) (by decide)
        refine v_drp [true, true, true, true, true, false] ?_
        exact H
      · replace H := H.2 q
        refine v_run 79 1 (pc' := 172) (ls' := [(1, 26), (1, a1), (1, a2), (0, a3), (1, (m (m a1 5) a3)), (1, v7)]) (st' := [(1, v7), (1, 26)]) rfl ?_
        obtain ⟨t17, H⟩ := H
        refine v_callV (j := 80) (M' := mX13_parameters) (as := []) (st := [(1, 26)]) rfl rfl rfl rfl rfl (Nat.le_of_ble_eq_true rfl) (Nat.le_of_ble_eq_true rfl) (by omega) (by decide) (t17) (kv0 (st' := fun v => [(0, v), (1, 26)]) rfl (fun _ => rfl)) (H.mono (fun k v18 m19 H => ⟨H.1, ?_⟩))
        have K20 := H.2.1.2.1 K9
        have t21 := Ok.tag H.2.1 (t10) (by decide)
        have t22 := Ok.tag H.2.1 (t11) (by decide)
        have t23 := Ok.tag H.2.1 (t17) (by decide)
        replace H := H.2.2
        refine v_run 81 1 (pc' := 177) (ls' := [(1, 26), (1, a1), (1, a2), (0, a3), (1, (m (m a1 5) a3)), (1, v7)]) (st' := [(1, (m (m a1 5) a3)), (0, v18), (1, 26)]) rfl ?_
        refine v_callV (j := 82) (M' := mX19_names) (as := []) (st := [(0, v18), (1, 26)]) rfl rfl rfl rfl rfl (Nat.le_of_ble_eq_true rfl) (Nat.le_of_ble_eq_true rfl) (by omega) (by decide) (t22) (kv0 (st' := fun v => [(1, v), (0, v18), (1, 26)]) rfl (fun _ => rfl)) (ipX19_names (t22) ⟨rfl, ?_⟩)
        obtain ⟨t24, H⟩ := H
        refine vj_stlen (j := 83) rfl rfl rfl rfl (t24) (by omega) (by simp) ?_
        have J31 : WV G mX6_look 191 [(1, 26), (1, a1), (1, a2), (0, a3), (1, (m (m a1 5) a3)), (1, v7)] [(0, (if v18 ≠ (m19 (m19 (m (m a1 5) a3) 3) (-2)) then 0 else 1)), (1, 26)] m19 d P := by
          refine v_run 88 1 (pc' := 193) (ls' := [(1, 26), (1, a1), (1, a2), (0, a3), (1, (m (m a1 5) a3)), (1, v7)]) (st' := [(1, (m (m a1 5) a3)), (0, (if v18 ≠ (m19 (m19 (m (m a1 5) a3) 3) (-2)) then 0 else 1)), (1, 26)]) rfl ?_
          refine v_callV (j := 89) (M' := mX19_place) (as := []) (st := [(0, (if v18 ≠ (m19 (m19 (m (m a1 5) a3) 3) (-2)) then 0 else 1)), (1, 26)]) rfl rfl rfl rfl rfl (Nat.le_of_ble_eq_true rfl) (Nat.le_of_ble_eq_true rfl) (by omega) (by decide) (t22) (kv0 (st' := fun v => [(0, v), (0, (if v18 ≠ (m19 (m19 (m (m a1 5) a3) 3) (-2)) then 0 else 1)), (1, 26)]) rfl (fun _ => rfl)) (ipX19_place (t22) ⟨rfl, ?_⟩)
          refine v_callV (j := 90) (M' := mX8_need) (as := [(0, (if v18 ≠ (m19 (m19 (m (m a1 5) a3) 3) (-2)) then 0 else 1)), (0, (m19 (m (m a1 5) a3) 0))]) (st := []) rfl rfl rfl rfl rfl (Nat.le_of_ble_eq_true rfl) (Nat.le_of_ble_eq_true rfl) (by omega) (by decide) (K26_t K20) (kvt (st' := fun v => []) rfl (fun _ => rfl) rfl) (H.mono (fun k v25 m26 H => ⟨fun z => ?_, H.2.2⟩))
          have O := H.1
          replace H := H.2.1 z
          have K27 := O.2.1 K20
          have t28 := Ok.tag O (t21) (by decide)
          have t29 := Ok.tag O (t22) (by decide)
          have t30 := Ok.tag O (t23) (by decide)
          refine v_drp [true, true, true, true, true, false] ?_
          exact H
        refine v_icmpne (j := 84) rfl rfl rfl (fun q => ?_) (fun q => ?_)
        · rw [show ((if v18 ≠ (m19 (m19 (m (m a1 5) a3) 3) (-2)) then 0 else 1) : Int) = 0 from if_pos q] at J31
          refine v_run 87 1 (pc' := 191) (ls' := [(1, 26), (1, a1), (1, a2), (0, a3), (1, (m (m a1 5) a3)), (1, v7)]) (st' := [(0, 0), (1, 26)]) rfl ?_
          exact J31
        · rw [show ((if v18 ≠ (m19 (m19 (m (m a1 5) a3) 3) (-2)) then 0 else 1) : Int) = 1 from if_neg (fun z => z q)] at J31
          refine v_run 85 1 (pc' := 187) (ls' := [(1, 26), (1, a1), (1, a2), (0, a3), (1, (m (m a1 5) a3)), (1, v7)]) (st' := [(0, 1), (1, 26)]) rfl ?_
          refine v_goto (j := 86) (tgt := 191) rfl rfl ?_
          exact J31

set_option maxRecDepth 100000 in
set_option maxHeartbeats 4000000 in
theorem wX6_look_199 {G : GM} {d : Nat} {P : Nat → Int → SM → Prop} {m : SM} {a1 a2 a3 a4 : Int} (K : KI m) (hd : 12 ≤ d) 
    (H : (m a2 (-1) = 6) ∧ ((m a4 (-1) = 24) ∧ ((m (m a4 3) (-1) = 13) ∧ (m a2 (-2) < 50000) ∧ (m (m a4 3) (-2) < 50000) ∧ (m 0 0 ≤ 1203200) ∧ (m 0 1 + 2 * m a2 (-2) + 2 * m (m a4 3) (-2) + 60 ≤ 5491882) ∧ (∀ m3, Rapp m a2 (txtM m (m a4 3)) m3 → Ok m m3 → (WV G mX6_look 0 [(1, 26), (1, (m3 a4 4)), (1, a2), (9, 0), (9, 0), (9, 0)] [] m3 (d - 1) (fun k v14 m15 => Ok m3 m15 ∧ (k = 0 → ((0 ≤ (m a2 (-2))) ∧ ((m a2 (-2)) ≤ m15 a2 (-2)) ∧ (∀ m19, Rclr m15 a2 (m a2 (-2)) m19 → Ok m15 m19 → (WV G mX6_look 118 [(1, 26), (1, a1), (1, a2), (0, (wr (a3 + 1))), (9, 0), (9, 0)] [] m19 d P)))) ∧ (k ≠ 0 → P 1 v14 m15))))))) :
    WV G mX6_look 199 [(1, 26), (1, a1), (1, a2), (0, a3), (1, a4), (9, 0)] [] m d P := by
  refine v_run 91 1 (pc' := 200) (ls' := [(1, 26), (1, a1), (1, a2), (0, a3), (1, a4), (9, 0)]) (st' := [(1, a2)]) rfl ?_
  obtain ⟨t1, H⟩ := H
  refine vj_sblen (j := 92) rfl rfl rfl rfl (t1) (by omega) (by simp) ?_
  refine v_run 93 3 (pc' := 208) (ls' := [(1, 26), (1, a1), (1, a2), (0, a3), (1, a4), (0, (m a2 (-2)))]) (st' := [(1, a4), (1, a2)]) rfl ?_
  obtain ⟨t2, H⟩ := H
  refine v_callV (j := 96) (M' := mX19_names) (as := []) (st := [(1, a2)]) rfl rfl rfl rfl rfl (Nat.le_of_ble_eq_true rfl) (Nat.le_of_ble_eq_true rfl) (by omega) (by decide) (t2) (kv0 (st' := fun v => [(1, v), (1, a2)]) rfl (fun _ => rfl)) (ipX19_names (t2) ⟨rfl, ?_⟩)
  obtain ⟨t5, i6, i7, r8, r9, H⟩ := H
  refine vj_sbaddS (j := 97) rfl rfl rfl rfl (t1) (by omega) (by simp) (t5) i6 i7 r8 r9 (fun m3 e4 => ?_)
  have O10 : Ok m m3 := e4.1.ok (t1) (by decide)
  have K11 := O10.2.1 K
  have t12 := Ok.tag O10 (t1) (by decide)
  have t13 := Ok.tag O10 (t2) (by decide)
  replace H := H m3 e4 O10
  refine v_run 98 3 (pc' := 218) (ls' := [(1, 26), (1, a1), (1, a2), (0, a3), (1, a4), (0, (m a2 (-2)))]) (st' := [(1, a4), (1, 26)]) rfl ?_
  refine v_callV (j := 101) (M' := mX19_code) (as := []) (st := [(1, 26)]) rfl rfl rfl rfl rfl (Nat.le_of_ble_eq_true rfl) (Nat.le_of_ble_eq_true rfl) (by omega) (by decide) (t13) (kv0 (st' := fun v => [(1, v), (1, 26)]) rfl (fun _ => rfl)) (ipX19_code (t13) ⟨rfl, ?_⟩)
  refine v_run 102 1 (pc' := 222) (ls' := [(1, 26), (1, a1), (1, a2), (0, a3), (1, a4), (0, (m a2 (-2)))]) (st' := [(1, a2), (1, (m3 a4 4)), (1, 26)]) rfl ?_
  refine v_callS (j := 103) (M' := mX6_look) (as := [(1, 26), (1, (m3 a4 4)), (1, a2)]) (st := []) rfl rfl rfl rfl rfl (Nat.le_of_ble_eq_true rfl) (Nat.le_of_ble_eq_true rfl) (by omega) (kvt (st' := fun v => []) rfl (fun _ => rfl) rfl) (H.mono (fun k v14 m15 H => ⟨fun z => ?_, H.2.2⟩))
  have O := H.1
  replace H := H.2.1 z
  have K16 := O.2.1 K11
  have t17 := Ok.tag O (t12) (by decide)
  have t18 := Ok.tag O (t13) (by decide)
  refine v_run 104 2 (pc' := 228) (ls' := [(1, 26), (1, a1), (1, a2), (0, a3), (1, a4), (0, (m a2 (-2)))]) (st' := [(0, (m a2 (-2))), (1, a2)]) rfl ?_
  obtain ⟨i21, i22, H⟩ := H
  refine vj_sbset (j := 106) rfl rfl rfl rfl (t17) (by omega) (by simp) i21 i22 (fun m19 e20 => ?_)
  have O23 : Ok m15 m19 := e20.1.ok (t17) (by decide)
  have K24 := O23.2.1 K16
  have t25 := Ok.tag O23 (t17) (by decide)
  have t26 := Ok.tag O23 (t18) (by decide)
  replace H := H m19 e20 O23
  refine v_run 107 1 (pc' := 234) (ls' := [(1, 26), (1, a1), (1, a2), (0, (wr (a3 + 1))), (1, a4), (0, (m a2 (-2)))]) (st' := []) rfl ?_
  refine v_goto (j := 108) (tgt := 118) rfl rfl ?_
  refine v_drp [true, true, true, true, false, false] ?_
  exact H

set_option maxRecDepth 100000 in
set_option maxHeartbeats 4000000 in
theorem wX19_fits {G : GM} {d : Nat} {P : Nat → Int → SM → Prop} {m : SM} {a0 a1 : Int} (K : KI m) (hd : 12 ≤ d) 
    (H : (m a0 (-1) = 24) ∧ (((m a0 1) = 0 → (((m a0 2) = (0 : Int) → (P 0 1 m)) ∧ ((m a0 2) ≠ (0 : Int) → ((m a1 (-1) = 11) ∧ ((¬ ((m a1 0) = (-19)) → (P 0 0 m)) ∧ ((m a1 0) = (-19) → (((m a1 2) ≠ (m a0 2) → (P 0 0 m)) ∧ ((m a1 2) = (m a0 2) → (P 0 1 m))))))))) ∧ ((m a0 1) ≠ 0 → ((m a1 (-1) = 11) ∧ ((¬ ((m a1 0) = (-14)) → (P 0 0 m)) ∧ ((m a1 0) = (-14) → ((m (m a0 1) (-1) = 11) ∧ (((m a1 1) ≠ (m (m a0 1) 1) → (P 0 0 m)) ∧ ((m a1 1) = (m (m a0 1) 1) → (P 0 1 m)))))))))) :
    WV G mX19_fits 0 [(1, a0), (1, a1)] [] m d P := by
  refine v_run 0 1 (pc' := 1) (ls' := [(1, a0), (1, a1)]) (st' := [(1, a0)]) rfl ?_
  obtain ⟨t1, H⟩ := H
  refine v_getf (j := 1) (c := 23) (f := 1) rfl rfl rfl rfl rfl rfl rfl rfl (t1) ?_
  refine v_null (j := 2) rfl rfl rfl (fun q => ?_) (fun q => ?_)
  · replace H := H.1 q
    refine v_run 17 1 (pc' := 38) (ls' := [(1, a0), (1, a1)]) (st' := [(1, a0)]) rfl ?_
    refine v_getf (j := 18) (c := 23) (f := 2) rfl rfl rfl rfl rfl rfl rfl rfl (t1) ?_
    refine v_ifeq (j := 19) rfl rfl rfl (fun q => ?_) (fun q => ?_)
    · replace H := H.1 q
      refine v_run 29 1 (pc' := 66) (ls' := [(1, a0), (1, a1)]) (st' := [(0, 1)]) rfl ?_
      refine v_goto (j := 30) (tgt := 70) rfl rfl ?_
      exact v_iret (j := 32) rfl rfl rfl (Or.inr rfl) H
    · replace H := H.2 q
      refine v_run 20 1 (pc' := 45) (ls' := [(1, a0), (1, a1)]) (st' := [(1, a1)]) rfl ?_
      refine v_gets (j := 21) (g := 1) (v := (-19)) rfl rfl rfl rfl ?_
      obtain ⟨t2, H⟩ := H
      refine v_callV (j := 22) (M' := mX9_is) (as := [(1, (-19))]) (st := []) rfl rfl rfl rfl rfl (Nat.le_of_ble_eq_true rfl) (Nat.le_of_ble_eq_true rfl) (by omega) (by decide) (t2) (kv0 (st' := fun v => [(0, v)]) rfl (fun _ => rfl)) (ipX9_is (t2) ⟨rfl, ?_⟩)
      refine v_ifeq (j := 23) rfl rfl rfl (fun q => ?_) (fun q => ?_)
      · replace H := H.1 (ite0 q)
        refine v_run 31 1 (pc' := 70) (ls' := [(1, a0), (1, a1)]) (st' := [(0, 0)]) rfl ?_
        exact v_iret (j := 32) rfl rfl rfl (Or.inl rfl) H
      · replace H := H.2 (ite1 q)
        refine v_run 24 1 (pc' := 55) (ls' := [(1, a0), (1, a1)]) (st' := [(1, a1)]) rfl ?_
        refine v_getf (j := 25) (c := 10) (f := 2) rfl rfl rfl rfl rfl rfl rfl rfl (t2) ?_
        refine v_run 26 1 (pc' := 59) (ls' := [(1, a0), (1, a1)]) (st' := [(1, a0), (0, (m a1 2))]) rfl ?_
        refine v_getf (j := 27) (c := 23) (f := 2) rfl rfl rfl rfl rfl rfl rfl rfl (t1) ?_
        refine v_icmpne (j := 28) rfl rfl rfl (fun q => ?_) (fun q => ?_)
        · replace H := H.1 q
          refine v_run 31 1 (pc' := 70) (ls' := [(1, a0), (1, a1)]) (st' := [(0, 0)]) rfl ?_
          exact v_iret (j := 32) rfl rfl rfl (Or.inl rfl) H
        · replace H := H.2 q
          refine v_run 29 1 (pc' := 66) (ls' := [(1, a0), (1, a1)]) (st' := [(0, 1)]) rfl ?_
          refine v_goto (j := 30) (tgt := 70) rfl rfl ?_
          exact v_iret (j := 32) rfl rfl rfl (Or.inr rfl) H
  · replace H := H.2 q
    refine v_run 3 1 (pc' := 8) (ls' := [(1, a0), (1, a1)]) (st' := [(1, a1)]) rfl ?_
    refine v_gets (j := 4) (g := 1) (v := (-14)) rfl rfl rfl rfl ?_
    obtain ⟨t3, H⟩ := H
    refine v_callV (j := 5) (M' := mX9_is) (as := [(1, (-14))]) (st := []) rfl rfl rfl rfl rfl (Nat.le_of_ble_eq_true rfl) (Nat.le_of_ble_eq_true rfl) (by omega) (by decide) (t3) (kv0 (st' := fun v => [(0, v)]) rfl (fun _ => rfl)) (ipX9_is (t3) ⟨rfl, ?_⟩)
    refine v_ifeq (j := 6) rfl rfl rfl (fun q => ?_) (fun q => ?_)
    · replace H := H.1 (ite0 q)
      refine v_run 15 1 (pc' := 36) (ls' := [(1, a0), (1, a1)]) (st' := [(0, 0)]) rfl ?_
      exact v_iret (j := 16) rfl rfl rfl (Or.inl rfl) H
    · replace H := H.2 (ite1 q)
      refine v_run 7 1 (pc' := 18) (ls' := [(1, a0), (1, a1)]) (st' := [(1, a1)]) rfl ?_
      refine v_getf (j := 8) (c := 10) (f := 1) rfl rfl rfl rfl rfl rfl rfl rfl (t3) ?_
      refine v_run 9 1 (pc' := 22) (ls' := [(1, a0), (1, a1)]) (st' := [(1, a0), (0, (m a1 1))]) rfl ?_
      refine v_getf (j := 10) (c := 23) (f := 1) rfl rfl rfl rfl rfl rfl rfl rfl (t1) ?_
      obtain ⟨t4, H⟩ := H
      refine v_getf (j := 11) (c := 10) (f := 1) rfl rfl rfl rfl rfl rfl rfl rfl (t4) ?_
      refine v_icmpne (j := 12) rfl rfl rfl (fun q => ?_) (fun q => ?_)
      · replace H := H.1 q
        refine v_run 15 1 (pc' := 36) (ls' := [(1, a0), (1, a1)]) (st' := [(0, 0)]) rfl ?_
        exact v_iret (j := 16) rfl rfl rfl (Or.inl rfl) H
      · replace H := H.2 q
        refine v_run 13 1 (pc' := 32) (ls' := [(1, a0), (1, a1)]) (st' := [(0, 1)]) rfl ?_
        refine v_goto (j := 14) (tgt := 36) rfl rfl ?_
        exact v_iret (j := 16) rfl rfl rfl (Or.inr rfl) H
