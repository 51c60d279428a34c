/-! walks (made by gen_w.py) -/
set_option maxRecDepth 100000 in
set_option maxHeartbeats 4000000 in
theorem wX9_init {G : GM} {d : Nat} {P : Nat → Int → SM → Prop} {m : SM} {a0 : Int} (K : KI m) (hd : 12 ≤ d) 
    (H : (a0 ≠ 0) ∧ (P 0 0 m)) :
    WV G mX9_init 0 [(1, a0)] [] m d P := by
  refine v_run 0 1 (pc' := 1) (ls' := [(1, a0)]) (st' := [(1, a0)]) rfl ?_
  obtain ⟨z1, H⟩ := H
  refine v_obj (j := 1) rfl rfl rfl rfl z1 (by omega) (by simp) ?_
  exact v_vret (j := 2) rfl rfl H

set_option maxRecDepth 100000 in
set_option maxHeartbeats 4000000 in
theorem wX11_init {G : GM} {d : Nat} {P : Nat → Int → SM → Prop} {m : SM} {a0 a1 a2 a3 a4 a5 : Int} (K : KI m) (hd : 12 ≤ d) 
    (H : (a0 ≠ 0) ∧ ((m a0 (-1) = 14) ∧ (∀ m3, m3 = up m a0 0 a1 → Ok m m3 → (∀ m8, m8 = up m3 a0 1 a2 → Ok m3 m8 → ((0 ≤ a3 ∧ a3 ≤ 65535) ∧ (∀ m14, m14 = up m8 a0 2 a3 → Ok m8 m14 → (∀ m19, m19 = up m14 a0 3 a4 → Ok m14 m19 → (∀ m24, m24 = up m19 a0 4 a5 → Ok m19 m24 → (P 0 0 m24))))))))) :
    WV G mX11_init 0 [(1, a0), (1, a1), (0, a2), (0, a3), (1, a4), (1, a5)] [] m d P := by
  refine v_run 0 1 (pc' := 1) (ls' := [(1, a0), (1, a1), (0, a2), (0, a3), (1, a4), (1, a5)]) (st' := [(1, a0)]) rfl ?_
  obtain ⟨z1, H⟩ := H
  refine v_obj (j := 1) rfl rfl rfl rfl z1 (by omega) (by simp) ?_
  refine v_run 2 2 (pc' := 6) (ls' := [(1, a0), (1, a1), (0, a2), (0, a3), (1, a4), (1, a5)]) (st' := [(1, a1), (1, a0)]) rfl ?_
  obtain ⟨t2, H⟩ := H
  refine v_putf (j := 4) (c := 13) (f := 0) rfl rfl rfl rfl (by decide +kernel) rfl rfl rfl rfl (t2) trivial (fun m3 e4 => ?_)
  have O5 : Ok m m3 := Ok.wf e4 (t2) (by decide) (by decide)
  have K6 := O5.2.1 K
  have t7 := Ok.tag O5 (t2) (by decide)
  replace H := H m3 e4 O5
  refine v_run 5 2 (pc' := 11) (ls' := [(1, a0), (1, a1), (0, a2), (0, a3), (1, a4), (1, a5)]) (st' := [(0, a2), (1, a0)]) rfl ?_
  refine v_putf (j := 7) (c := 13) (f := 1) rfl rfl rfl rfl (by decide +kernel) rfl rfl rfl rfl (t7) trivial (fun m8 e9 => ?_)
  have O10 : Ok m3 m8 := Ok.wf e9 (t7) (by decide) (by decide)
  have K11 := O10.2.1 K6
  have t12 := Ok.tag O10 (t7) (by decide)
  replace H := H m8 e9 O10
  refine v_run 8 2 (pc' := 16) (ls' := [(1, a0), (1, a1), (0, a2), (0, a3), (1, a4), (1, a5)]) (st' := [(0, a3), (1, a0)]) rfl ?_
  obtain ⟨r13, H⟩ := H
  refine v_putf (j := 10) (c := 13) (f := 2) rfl rfl rfl rfl (by decide +kernel) rfl rfl rfl rfl (t12) r13 (fun m14 e15 => ?_)
  have O16 : Ok m8 m14 := Ok.wf e15 (t12) (by decide) (by decide)
  have K17 := O16.2.1 K11
  have t18 := Ok.tag O16 (t12) (by decide)
  replace H := H m14 e15 O16
  refine v_run 11 2 (pc' := 22) (ls' := [(1, a0), (1, a1), (0, a2), (0, a3), (1, a4), (1, a5)]) (st' := [(1, a4), (1, a0)]) rfl ?_
  refine v_putf (j := 13) (c := 13) (f := 3) rfl rfl rfl rfl (by decide +kernel) rfl rfl rfl rfl (t18) trivial (fun m19 e20 => ?_)
  have O21 : Ok m14 m19 := Ok.wf e20 (t18) (by decide) (by decide)
  have K22 := O21.2.1 K17
  have t23 := Ok.tag O21 (t18) (by decide)
  replace H := H m19 e20 O21
  refine v_run 14 2 (pc' := 28) (ls' := [(1, a0), (1, a1), (0, a2), (0, a3), (1, a4), (1, a5)]) (st' := [(1, a5), (1, a0)]) rfl ?_
  refine v_putf (j := 16) (c := 13) (f := 4) rfl rfl rfl rfl (by decide +kernel) rfl rfl rfl rfl (t23) trivial (fun m24 e25 => ?_)
  have O26 : Ok m19 m24 := Ok.wf e25 (t23) (by decide) (by decide)
  have K27 := O26.2.1 K22
  have t28 := Ok.tag O26 (t23) (by decide)
  replace H := H m24 e25 O26
  exact v_vret (j := 17) rfl rfl H

set_option maxRecDepth 100000 in
set_option maxHeartbeats 4000000 in
theorem wX4_peek {G : GM} {d : Nat} {P : Nat → Int → SM → Prop} {m : SM} (K : KI m) (hd : 12 ≤ d) 
    (H : ((m 9 (-2)) ≤ (m 8 5) → ((0 ≤ (0 : Int) ∧ (0 : Int) ≤ 65535) ∧ (P 0 0 m))) ∧ ((m 8 5) < (m 9 (-2)) → ((0 ≤ (m 8 5)) ∧ ((m 8 5) < m 9 (-2)) ∧ ((0 ≤ (m 9 (m 8 5)) ∧ (m 9 (m 8 5)) ≤ 65535) ∧ (P 0 (m 9 (m 8 5)) m))))) :
    WV G mX4_peek 0 [(1, 8)] [] m d P := by
  refine v_run 0 1 (pc' := 1) (ls' := [(1, 8)]) (st' := [(1, 8)]) rfl ?_
  refine v_getf (j := 1) (c := 4) (f := 5) rfl rfl rfl rfl rfl rfl rfl rfl (K8_t K) ?_
  refine v_run 2 1 (pc' := 5) (ls' := [(1, 8)]) (st' := [(1, 8), (0, (m 8 5))]) rfl ?_
  refine v_getK (j := 3) (c := 4) (f := 0) rfl rfl rfl rfl rfl rfl rfl rfl (K8_t K) (K8_0 K) ?_
  refine vj_sblen (j := 4) rfl rfl rfl rfl (K9_t K) (by omega) (by simp) ?_
  refine v_icmpge (j := 5) rfl rfl rfl (fun q => ?_) (fun q => ?_)
  · replace H := H.1 q
    refine v_run 12 1 (pc' := 29) (ls' := [(1, 8)]) (st' := [(0, 0)]) rfl ?_
    obtain ⟨r1, H⟩ := H
    exact v_iret (j := 13) rfl rfl rfl r1 H
  · replace H := H.2 q
    refine v_run 6 1 (pc' := 15) (ls' := [(1, 8)]) (st' := [(1, 8)]) rfl ?_
    refine v_getK (j := 7) (c := 4) (f := 0) rfl rfl rfl rfl rfl rfl rfl rfl (K8_t K) (K8_0 K) ?_
    refine v_run 8 1 (pc' := 19) (ls' := [(1, 8)]) (st' := [(1, 8), (1, 9)]) rfl ?_
    refine v_getf (j := 9) (c := 4) (f := 5) rfl rfl rfl rfl rfl rfl rfl rfl (K8_t K) ?_
    obtain ⟨i2, i3, H⟩ := H
    refine vj_sbat (j := 10) rfl rfl rfl rfl (K9_t K) (by omega) (by simp) i2 i3 ?_
    refine v_goto (j := 11) (tgt := 29) rfl rfl ?_
    obtain ⟨r4, H⟩ := H
    exact v_iret (j := 13) rfl rfl rfl r4 H

set_option maxRecDepth 100000 in
set_option maxHeartbeats 4000000 in
theorem wX4_isNext {G : GM} {d : Nat} {P : Nat → Int → SM → Prop} {m : SM} {a1 a2 : Int} (K : KI m) (hd : 12 ≤ d) 
    (H : WV G mX4_peek 0 [(1, 8)] [] m (d - 1) (fun k v1 m2 => k = 0 ∧ Ok m m2 ∧ ((v1 < a1 → (P 0 0 m2)) ∧ (a1 ≤ v1 → (WV G mX4_peek 0 [(1, 8)] [] m2 (d - 1) (fun k v4 m5 => k = 0 ∧ Ok m2 m5 ∧ ((a2 < v4 → (P 0 0 m5)) ∧ (v4 ≤ a2 → (P 0 1 m5))))))))) :
    WV G mX4_isNext 0 [(1, 8), (0, a1), (0, a2)] [] m d P := by
  refine v_run 0 1 (pc' := 1) (ls' := [(1, 8), (0, a1), (0, a2)]) (st' := [(1, 8)]) rfl ?_
  refine v_callV (j := 1) (M' := mX4_peek) (as := []) (st := []) rfl rfl rfl rfl rfl (Nat.le_of_ble_eq_true rfl) (Nat.le_of_ble_eq_true rfl) (by omega) (by decide) (K8_t K) (kv0 (st' := fun v => [(0, v)]) rfl (fun _ => rfl)) (H.mono (fun k v1 m2 H => ⟨H.1, ?_⟩))
  have K3 := H.2.1.2.1 K
  replace H := H.2.2
  refine v_run 2 1 (pc' := 5) (ls' := [(1, 8), (0, a1), (0, a2)]) (st' := [(0, a1), (0, v1)]) rfl ?_
  refine v_icmplt (j := 3) rfl rfl rfl (fun q => ?_) (fun q => ?_)
  · replace H := H.1 q
    refine v_run 10 1 (pc' := 21) (ls' := [(1, 8), (0, a1), (0, a2)]) (st' := [(0, 0)]) rfl ?_
    exact v_iret (j := 11) rfl rfl rfl (Or.inl rfl) H
  · replace H := H.2 q
    refine v_run 4 1 (pc' := 9) (ls' := [(1, 8), (0, a1), (0, a2)]) (st' := [(1, 8)]) rfl ?_
    refine v_callV (j := 5) (M' := mX4_peek) (as := []) (st := []) rfl rfl rfl rfl rfl (Nat.le_of_ble_eq_true rfl) (Nat.le_of_ble_eq_true rfl) (by omega) (by decide) (K8_t K3) (kv0 (st' := fun v => [(0, v)]) rfl (fun _ => rfl)) (H.mono (fun k v4 m5 H => ⟨H.1, ?_⟩))
    have K6 := H.2.1.2.1 K3
    replace H := H.2.2
    refine v_run 6 1 (pc' := 13) (ls' := [(1, 8), (0, a1), (0, a2)]) (st' := [(0, a2), (0, v4)]) rfl ?_
    refine v_icmpgt (j := 7) rfl rfl rfl (fun q => ?_) (fun q => ?_)
    · replace H := H.1 q
      refine v_run 10 1 (pc' := 21) (ls' := [(1, 8), (0, a1), (0, a2)]) (st' := [(0, 0)]) rfl ?_
      exact v_iret (j := 11) rfl rfl rfl (Or.inl rfl) H
    · replace H := H.2 q
      refine v_run 8 1 (pc' := 17) (ls' := [(1, 8), (0, a1), (0, a2)]) (st' := [(0, 1)]) rfl ?_
      refine v_goto (j := 9) (tgt := 21) rfl rfl ?_
      exact v_iret (j := 11) rfl rfl rfl (Or.inr rfl) H

set_option maxRecDepth 100000 in
set_option maxHeartbeats 4000000 in
theorem wX4_need {G : GM} {d : Nat} {P : Nat → Int → SM → Prop} {m : SM} {a1 : Int} (K : KI m) (hd : 12 ≤ d) 
    (H : (a1 ≠ (0 : Int) → (P 0 0 m)) ∧ (a1 = (0 : Int) → ((m 0 0 ≤ 1203200) ∧ (m 0 1 + 6 ≤ 5491882) ∧ (∀ m3, m3 = al m 12 0 6 → Ok m m3 → P 1 (m 0 0) m3)))) :
    WV G mX4_need 0 [(1, 8), (0, a1)] [] m d P := by
  refine v_run 0 1 (pc' := 1) (ls' := [(1, 8), (0, a1)]) (st' := [(0, a1)]) rfl ?_
  refine v_ifne (j := 1) rfl rfl rfl (fun q => ?_) (fun q => ?_)
  · replace H := H.1 q
    exact v_vret (j := 6) rfl rfl H
  · replace H := H.2 q
    obtain ⟨r1, r2, H⟩ := H
    refine v_throw (j := 2) (j1 := 3) (j2 := 4) (j3 := 5) (c := 11) (ic := 56) rfl rfl rfl rfl rfl rfl rfl (by decide) rfl rfl rfl (by omega) (by simp) r1 r2 (fun B m3 e4 => ?_)
    exact H m3 e4 (Ok.nw B e4)

set_option maxRecDepth 100000 in
set_option maxHeartbeats 4000000 in
theorem wX4_take {G : GM} {d : Nat} {P : Nat → Int → SM → Prop} {m : SM} {a1 a2 : Int} (K : KI m) (hd : 12 ≤ d) 
    (H : WV G mX4_isNext 0 [(1, 8), (0, a1), (0, a2)] [] m (d - 1) (fun k v1 m2 => k = 0 ∧ Ok m m2 ∧ (WV G mX4_need 0 [(1, 8), (0, v1)] [] m2 (d - 1) (fun k v4 m5 => Ok m2 m5 ∧ (k = 0 → (∀ m7, m7 = up m5 8 5 (wr ((m5 8 5) + 1)) → Ok m5 m7 → ((0 ≤ (m5 8 5)) ∧ ((m5 8 5) < m7 9 (-2)) ∧ ((0 ≤ (m7 9 (m5 8 5)) ∧ (m7 9 (m5 8 5)) ≤ 65535) ∧ (P 0 (m7 9 (m5 8 5)) m7))))) ∧ (k ≠ 0 → P 1 v4 m5))))) :
    WV G mX4_take 0 [(1, 8), (0, a1), (0, a2)] [] m d P := by
  refine v_run 0 4 (pc' := 4) (ls' := [(1, 8), (0, a1), (0, a2)]) (st' := [(0, a2), (0, a1), (1, 8), (1, 8)]) rfl ?_
  refine v_callV (j := 4) (M' := mX4_isNext) (as := [(0, a1), (0, a2)]) (st := [(1, 8)]) rfl rfl rfl rfl rfl (Nat.le_of_ble_eq_true rfl) (Nat.le_of_ble_eq_true rfl) (by omega) (by decide) (K8_t K) (kv0 (st' := fun v => [(0, v), (1, 8)]) rfl (fun _ => rfl)) (H.mono (fun k v1 m2 H => ⟨H.1, ?_⟩))
  have K3 := H.2.1.2.1 K
  replace H := H.2.2
  refine v_callV (j := 5) (M' := mX4_need) (as := [(0, v1)]) (st := []) rfl rfl rfl rfl rfl (Nat.le_of_ble_eq_true rfl) (Nat.le_of_ble_eq_true rfl) (by omega) (by decide) (K8_t K3) (kvt (st' := fun v => []) rfl (fun _ => rfl) rfl) (H.mono (fun k v4 m5 H => ⟨fun z => ?_, H.2.2⟩))
  have O := H.1
  replace H := H.2.1 z
  have K6 := O.2.1 K3
  refine v_run 6 1 (pc' := 11) (ls' := [(1, 8), (0, a1), (0, a2)]) (st' := [(1, 8)]) rfl ?_
  refine v_getK (j := 7) (c := 4) (f := 0) rfl rfl rfl rfl rfl rfl rfl rfl (K8_t K6) (K8_0 K6) ?_
  refine v_run 8 2 (pc' := 16) (ls' := [(1, 8), (0, a1), (0, a2)]) (st' := [(1, 8), (1, 8), (1, 9)]) rfl ?_
  refine v_getf (j := 10) (c := 4) (f := 5) rfl rfl rfl rfl rfl rfl rfl rfl (K8_t K6) ?_
  refine v_run 11 3 (pc' := 22) (ls' := [(1, 8), (0, a1), (0, a2)]) (st' := [(0, (wr ((m5 8 5) + 1))), (1, 8), (0, (m5 8 5)), (1, 9)]) rfl ?_
  refine v_putf (j := 14) (c := 4) (f := 5) rfl rfl rfl rfl (by decide +kernel) rfl rfl rfl rfl (K8_t K6) trivial (fun m7 e8 => ?_)
  have O9 : Ok m5 m7 := Ok.wf e8 (K8_t K6) (by decide) (by decide)
  have K10 := O9.2.1 K6
  replace H := H m7 e8 O9
  obtain ⟨i11, i12, H⟩ := H
  refine vj_sbat (j := 15) rfl rfl rfl rfl (K9_t K10) (by omega) (by simp) i11 i12 ?_
  obtain ⟨r13, H⟩ := H
  exact v_iret (j := 16) rfl rfl rfl r13 H

set_option maxRecDepth 100000 in
set_option maxHeartbeats 4000000 in
theorem wX4_passes {G : GM} {d : Nat} {P : Nat → Int → SM → Prop} {m : SM} {a1 : Int} (K : KI m) (hd : 12 ≤ d) 
    (H : WV G mX4_peek 0 [(1, 8)] [] m (d - 1) (fun k v1 m2 => k = 0 ∧ Ok m m2 ∧ ((((if v1 ≠ a1 then 0 else 1) : Int) = 0 → ((((if v1 ≠ a1 then 0 else 1) : Int) = 0 ∨ ((if v1 ≠ a1 then 0 else 1) : Int) = 1) ∧ (P 0 (if v1 ≠ a1 then 0 else 1) m2))) ∧ (((if v1 ≠ a1 then 0 else 1) : Int) ≠ 0 → (∀ m5, m5 = up m2 8 5 (wr ((m2 8 5) + 1)) → Ok m2 m5 → ((((if v1 ≠ a1 then 0 else 1) : Int) = 0 ∨ ((if v1 ≠ a1 then 0 else 1) : Int) = 1) ∧ (P 0 (if v1 ≠ a1 then 0 else 1) m5))))))) :
    WV G mX4_passes 0 [(1, 8), (0, a1), (9, 0)] [] m d P := by
  refine v_run 0 1 (pc' := 1) (ls' := [(1, 8), (0, a1), (9, 0)]) (st' := [(1, 8)]) rfl ?_
  refine v_callV (j := 1) (M' := mX4_peek) (as := []) (st := []) rfl rfl rfl rfl rfl (Nat.le_of_ble_eq_true rfl) (Nat.le_of_ble_eq_true rfl) (by omega) (by decide) (K8_t K) (kv0 (st' := fun v => [(0, v)]) rfl (fun _ => rfl)) (H.mono (fun k v1 m2 H => ⟨H.1, ?_⟩))
  have K3 := H.2.1.2.1 K
  replace H := H.2.2
  refine v_run 2 1 (pc' := 5) (ls' := [(1, 8), (0, a1), (9, 0)]) (st' := [(0, a1), (0, v1)]) rfl ?_
  have J10 : WV G mX4_passes 13 [(1, 8), (0, a1), (9, 0)] [(0, (if v1 ≠ a1 then 0 else 1))] m2 d P := by
    refine v_run 7 2 (pc' := 15) (ls' := [(1, 8), (0, a1), (0, (if v1 ≠ a1 then 0 else 1))]) (st' := [(0, (if v1 ≠ a1 then 0 else 1))]) rfl ?_
    refine v_ifeq (j := 9) rfl rfl rfl (fun q => ?_) (fun q => ?_)
    · replace H := H.1 q
      refine v_run 16 1 (pc' := 29) (ls' := [(1, 8), (0, a1), (0, (if v1 ≠ a1 then 0 else 1))]) (st' := [(0, (if v1 ≠ a1 then 0 else 1))]) rfl ?_
      obtain ⟨r4, H⟩ := H
      exact v_iret (j := 17) rfl rfl rfl r4 H
    · replace H := H.2 q
      refine v_run 10 2 (pc' := 20) (ls' := [(1, 8), (0, a1), (0, (if v1 ≠ a1 then 0 else 1))]) (st' := [(1, 8), (1, 8)]) rfl ?_
      refine v_getf (j := 12) (c := 4) (f := 5) rfl rfl rfl rfl rfl rfl rfl rfl (K8_t K3) ?_
      refine v_run 13 2 (pc' := 25) (ls' := [(1, 8), (0, a1), (0, (if v1 ≠ a1 then 0 else 1))]) (st' := [(0, (wr ((m2 8 5) + 1))), (1, 8)]) rfl ?_
      refine v_putf (j := 15) (c := 4) (f := 5) rfl rfl rfl rfl (by decide +kernel) rfl rfl rfl rfl (K8_t K3) trivial (fun m5 e6 => ?_)
      have O7 : Ok m2 m5 := Ok.wf e6 (K8_t K3) (by decide) (by decide)
      have K8 := O7.2.1 K3
      replace H := H m5 e6 O7
      refine v_run 16 1 (pc' := 29) (ls' := [(1, 8), (0, a1), (0, (if v1 ≠ a1 then 0 else 1))]) (st' := [(0, (if v1 ≠ a1 then 0 else 1))]) rfl ?_
      obtain ⟨r9, H⟩ := H
      exact v_iret (j := 17) rfl rfl rfl r9 H
  refine v_icmpne (j := 3) rfl rfl rfl (fun q => ?_) (fun q => ?_)
  · rw [if_pos q] at J10
    refine v_run 6 1 (pc' := 13) (ls' := [(1, 8), (0, a1), (9, 0)]) (st' := [(0, 0)]) rfl ?_
    exact J10
  · rw [if_neg (fun z => z q)] at J10
    refine v_run 4 1 (pc' := 9) (ls' := [(1, 8), (0, a1), (9, 0)]) (st' := [(0, 1)]) rfl ?_
    refine v_goto (j := 5) (tgt := 13) rfl rfl ?_
    exact J10

set_option maxRecDepth 100000 in
set_option maxHeartbeats 4000000 in
theorem wX4_digit {G : GM} {d : Nat} {P : Nat → Int → SM → Prop} {m : SM} (K : KI m) (hd : 12 ≤ d) 
    (H : (m 0 0 ≤ 1203200) ∧ (m 0 1 + 5 ≤ 5491882) ∧ (Bs m → ∀ m3, m3 = al m 11 0 5 → Ok m m3 → (((m 0 0) ≠ 0) ∧ (WV G mX9_init 0 [(1, (m 0 0))] [] m3 (d - 1) (fun k v9 m10 => k = 0 ∧ Ok m3 m10 ∧ (∀ m13, m13 = up m10 (m 0 0) 0 (-14) → Ok m10 m13 → (WV G mX4_take 0 [(1, 8), (0, 48), (0, 57)] [] m13 (d - 1) (fun k v18 m19 => Ok m13 m19 ∧ (k = 0 → (∀ m22, m22 = up m19 (m 0 0) 1 (wr (v18 - 48)) → Ok m19 m22 → (P 0 (m 0 0) m22))) ∧ (k ≠ 0 → P 1 v18 m19))))))))) :
    WV G mX4_digit 0 [(1, 8), (9, 0)] [] m d P := by
  obtain ⟨r1, r2, H⟩ := H
  refine v_new (j := 0) (c := 10) rfl rfl rfl rfl rfl rfl rfl r1 r2 (fun B m3 e4 => ?_)
  have O5 : Ok m m3 := Ok.nw B e4
  have K6 := O5.2.1 K
  replace H := H B m3 e4 O5
  have t7 := al_tag B e4
  refine v_run 1 1 (pc' := 4) (ls' := [(1, 8), (9, 0)]) (st' := [(1, (m 0 0)), (1, (m 0 0))]) rfl ?_
  obtain ⟨z8, H⟩ := H
  refine v_callI (j := 2) (M' := mX9_init) (as := []) (st := [(1, (m 0 0))]) rfl rfl rfl rfl rfl (Nat.le_of_ble_eq_true rfl) (Nat.le_of_ble_eq_true rfl) (by omega) z8 (kv0 (st' := fun v => [(1, (m 0 0))]) rfl (fun _ => rfl)) (H.mono (fun k v9 m10 H => ⟨H.1, ?_⟩))
  have K11 := H.2.1.2.1 K6
  have t12 := Ok.tag H.2.1 (t7) (by decide)
  replace H := H.2.2
  refine v_run 3 2 (pc' := 9) (ls' := [(1, 8), (1, (m 0 0))]) (st' := [(1, (m 0 0))]) rfl ?_
  refine v_gets (j := 5) (g := 1) (v := (-14)) rfl rfl rfl rfl ?_
  refine v_putf (j := 6) (c := 10) (f := 0) rfl rfl rfl rfl (by decide +kernel) rfl rfl rfl rfl (t12) trivial (fun m13 e14 => ?_)
  have O15 : Ok m10 m13 := Ok.wf e14 (t12) (by decide) (by decide)
  have K16 := O15.2.1 K11
  have t17 := Ok.tag O15 (t12) (by decide)
  replace H := H m13 e14 O15
  refine v_run 7 4 (pc' := 21) (ls' := [(1, 8), (1, (m 0 0))]) (st' := [(0, 57), (0, 48), (1, 8), (1, (m 0 0))]) rfl ?_
  refine v_callV (j := 11) (M' := mX4_take) (as := [(0, 48), (0, 57)]) (st := [(1, (m 0 0))]) rfl rfl rfl rfl rfl (Nat.le_of_ble_eq_true rfl) (Nat.le_of_ble_eq_true rfl) (by omega) (by decide) (K8_t K16) (kvt (st' := fun v => [(0, v), (1, (m 0 0))]) rfl (fun _ => rfl) rfl) (H.mono (fun k v18 m19 H => ⟨fun z => ?_, H.2.2⟩))
  have O := H.1
  replace H := H.2.1 z
  have K20 := O.2.1 K16
  have t21 := Ok.tag O (t17) (by decide)
  refine v_run 12 2 (pc' := 27) (ls' := [(1, 8), (1, (m 0 0))]) (st' := [(0, (wr (v18 - 48))), (1, (m 0 0))]) rfl ?_
  refine v_putf (j := 14) (c := 10) (f := 1) rfl rfl rfl rfl (by decide +kernel) rfl rfl rfl rfl (t21) trivial (fun m22 e23 => ?_)
  have O24 : Ok m19 m22 := Ok.wf e23 (t21) (by decide) (by decide)
  have K25 := O24.2.1 K20
  have t26 := Ok.tag O24 (t21) (by decide)
  replace H := H m22 e23 O24
  refine v_run 15 1 (pc' := 31) (ls' := [(1, 8), (1, (m 0 0))]) (st' := [(1, (m 0 0))]) rfl ?_
  exact v_aret (j := 16) rfl rfl rfl H

set_option maxRecDepth 100000 in
set_option maxHeartbeats 4000000 in
theorem wX4_isTerm {G : GM} {d : Nat} {P : Nat → Int → SM → Prop} {m : SM} (K : KI m) (hd : 12 ≤ d) 
    (H : WV G mX4_isNext 0 [(1, 8), (0, 97), (0, 122)] [] m (d - 1) (fun k v1 m2 => k = 0 ∧ Ok m m2 ∧ ((v1 ≠ (0 : Int) → (P 0 1 m2)) ∧ (v1 = (0 : Int) → (WV G mX4_isNext 0 [(1, 8), (0, 65), (0, 90)] [] m2 (d - 1) (fun k v4 m5 => k = 0 ∧ Ok m2 m5 ∧ ((v4 ≠ (0 : Int) → (P 0 1 m5)) ∧ (v4 = (0 : Int) → (WV G mX4_isNext 0 [(1, 8), (0, 48), (0, 57)] [] m5 (d - 1) (fun k v7 m8 => k = 0 ∧ Ok m5 m8 ∧ ((v7 ≠ (0 : Int) → (P 0 1 m8)) ∧ (v7 = (0 : Int) → (WV G mX4_peek 0 [(1, 8)] [] m8 (d - 1) (fun k v10 m11 => k = 0 ∧ Ok m8 m11 ∧ ((v10 = (35 : Int) → (P 0 1 m11)) ∧ (v10 ≠ (35 : Int) → (((m11 8 6) = (0 : Int) → (P 0 0 m11)) ∧ ((m11 8 6) ≠ (0 : Int) → (WV G mX4_peek 0 [(1, 8)] [] m11 (d - 1) (fun k v13 m14 => k = 0 ∧ Ok m11 m14 ∧ ((v13 ≠ (95 : Int) → (P 0 0 m14)) ∧ (v13 = (95 : Int) → (P 0 1 m14))))))))))))))))))))))) :
    WV G mX4_isTerm 0 [(1, 8)] [] m d P := by
  refine v_run 0 3 (pc' := 5) (ls' := [(1, 8)]) (st' := [(0, 122), (0, 97), (1, 8)]) rfl ?_
  refine v_callV (j := 3) (M' := mX4_isNext) (as := [(0, 97), (0, 122)]) (st := []) rfl rfl rfl rfl rfl (Nat.le_of_ble_eq_true rfl) (Nat.le_of_ble_eq_true rfl) (by omega) (by decide) (K8_t K) (kv0 (st' := fun v => [(0, v)]) rfl (fun _ => rfl)) (H.mono (fun k v1 m2 H => ⟨H.1, ?_⟩))
  have K3 := H.2.1.2.1 K
  replace H := H.2.2
  refine v_ifne (j := 4) rfl rfl rfl (fun q => ?_) (fun q => ?_)
  · replace H := H.1 q
    refine v_run 26 1 (pc' := 59) (ls' := [(1, 8)]) (st' := [(0, 1)]) rfl ?_
    refine v_goto (j := 27) (tgt := 63) rfl rfl ?_
    exact v_iret (j := 29) rfl rfl rfl (Or.inr rfl) H
  · replace H := H.2 q
    refine v_run 5 3 (pc' := 16) (ls' := [(1, 8)]) (st' := [(0, 90), (0, 65), (1, 8)]) rfl ?_
    refine v_callV (j := 8) (M' := mX4_isNext) (as := [(0, 65), (0, 90)]) (st := []) rfl rfl rfl rfl rfl (Nat.le_of_ble_eq_true rfl) (Nat.le_of_ble_eq_true rfl) (by omega) (by decide) (K8_t K3) (kv0 (st' := fun v => [(0, v)]) rfl (fun _ => rfl)) (H.mono (fun k v4 m5 H => ⟨H.1, ?_⟩))
    have K6 := H.2.1.2.1 K3
    replace H := H.2.2
    refine v_ifne (j := 9) rfl rfl rfl (fun q => ?_) (fun q => ?_)
    · replace H := H.1 q
      refine v_run 26 1 (pc' := 59) (ls' := [(1, 8)]) (st' := [(0, 1)]) rfl ?_
      refine v_goto (j := 27) (tgt := 63) rfl rfl ?_
      exact v_iret (j := 29) rfl rfl rfl (Or.inr rfl) H
    · replace H := H.2 q
      refine v_run 10 3 (pc' := 27) (ls' := [(1, 8)]) (st' := [(0, 57), (0, 48), (1, 8)]) rfl ?_
      refine v_callV (j := 13) (M' := mX4_isNext) (as := [(0, 48), (0, 57)]) (st := []) rfl rfl rfl rfl rfl (Nat.le_of_ble_eq_true rfl) (Nat.le_of_ble_eq_true rfl) (by omega) (by decide) (K8_t K6) (kv0 (st' := fun v => [(0, v)]) rfl (fun _ => rfl)) (H.mono (fun k v7 m8 H => ⟨H.1, ?_⟩))
      have K9 := H.2.1.2.1 K6
      replace H := H.2.2
      refine v_ifne (j := 14) rfl rfl rfl (fun q => ?_) (fun q => ?_)
      · replace H := H.1 q
        refine v_run 26 1 (pc' := 59) (ls' := [(1, 8)]) (st' := [(0, 1)]) rfl ?_
        refine v_goto (j := 27) (tgt := 63) rfl rfl ?_
        exact v_iret (j := 29) rfl rfl rfl (Or.inr rfl) H
      · replace H := H.2 q
        refine v_run 15 1 (pc' := 34) (ls' := [(1, 8)]) (st' := [(1, 8)]) rfl ?_
        refine v_callV (j := 16) (M' := mX4_peek) (as := []) (st := []) rfl rfl rfl rfl rfl (Nat.le_of_ble_eq_true rfl) (Nat.le_of_ble_eq_true rfl) (by omega) (by decide) (K8_t K9) (kv0 (st' := fun v => [(0, v)]) rfl (fun _ => rfl)) (H.mono (fun k v10 m11 H => ⟨H.1, ?_⟩))
        have K12 := H.2.1.2.1 K9
        replace H := H.2.2
        refine v_run 17 1 (pc' := 39) (ls' := [(1, 8)]) (st' := [(0, 35), (0, v10)]) rfl ?_
        refine v_icmpeq (j := 18) rfl rfl rfl (fun q => ?_) (fun q => ?_)
        · replace H := H.1 q
          refine v_run 26 1 (pc' := 59) (ls' := [(1, 8)]) (st' := [(0, 1)]) rfl ?_
          refine v_goto (j := 27) (tgt := 63) rfl rfl ?_
          exact v_iret (j := 29) rfl rfl rfl (Or.inr rfl) H
        · replace H := H.2 q
          refine v_run 19 1 (pc' := 43) (ls' := [(1, 8)]) (st' := [(1, 8)]) rfl ?_
          refine v_getf (j := 20) (c := 4) (f := 6) rfl rfl rfl rfl rfl rfl rfl rfl (K8_t K12) ?_
          refine v_ifeq (j := 21) rfl rfl rfl (fun q => ?_) (fun q => ?_)
          · replace H := H.1 q
            refine v_run 28 1 (pc' := 63) (ls' := [(1, 8)]) (st' := [(0, 0)]) rfl ?_
            exact v_iret (j := 29) rfl rfl rfl (Or.inl rfl) H
          · replace H := H.2 q
            refine v_run 22 1 (pc' := 50) (ls' := [(1, 8)]) (st' := [(1, 8)]) rfl ?_
            refine v_callV (j := 23) (M' := mX4_peek) (as := []) (st := []) rfl rfl rfl rfl rfl (Nat.le_of_ble_eq_true rfl) (Nat.le_of_ble_eq_true rfl) (by omega) (by decide) (K8_t K12) (kv0 (st' := fun v => [(0, v)]) rfl (fun _ => rfl)) (H.mono (fun k v13 m14 H => ⟨H.1, ?_⟩))
            have K15 := H.2.1.2.1 K12
            replace H := H.2.2
            refine v_run 24 1 (pc' := 55) (ls' := [(1, 8)]) (st' := [(0, 95), (0, v13)]) rfl ?_
            refine v_icmpne (j := 25) rfl rfl rfl (fun q => ?_) (fun q => ?_)
            · replace H := H.1 q
              refine v_run 28 1 (pc' := 63) (ls' := [(1, 8)]) (st' := [(0, 0)]) rfl ?_
              exact v_iret (j := 29) rfl rfl rfl (Or.inl rfl) H
            · replace H := H.2 q
              refine v_run 26 1 (pc' := 59) (ls' := [(1, 8)]) (st' := [(0, 1)]) rfl ?_
              refine v_goto (j := 27) (tgt := 63) rfl rfl ?_
              exact v_iret (j := 29) rfl rfl rfl (Or.inr rfl) H

set_option maxRecDepth 100000 in
set_option maxHeartbeats 4000000 in
theorem wX4_begin {G : GM} {d : Nat} {P : Nat → Int → SM → Prop} {m : SM} {a1 : Int} (K : KI m) (hd : 12 ≤ d) 
    (H : ∀ m1, m1 = up m 8 5 0 → Ok m m1 → ((a1 = 0 ∨ a1 = 1) ∧ (∀ m6, m6 = up m1 8 6 a1 → Ok m1 m6 → (P 0 0 m6)))) :
    WV G mX4_begin 0 [(1, 8), (0, a1)] [] m d P := by
  refine v_run 0 2 (pc' := 2) (ls' := [(1, 8), (0, a1)]) (st' := [(0, 0), (1, 8)]) rfl ?_
  refine v_putf (j := 2) (c := 4) (f := 5) rfl rfl rfl rfl (by decide +kernel) rfl rfl rfl rfl (K8_t K) trivial (fun m1 e2 => ?_)
  have O3 : Ok m m1 := Ok.wf e2 (K8_t K) (by decide) (by decide)
  have K4 := O3.2.1 K
  replace H := H m1 e2 O3
  refine v_run 3 2 (pc' := 7) (ls' := [(1, 8), (0, a1)]) (st' := [(0, a1), (1, 8)]) rfl ?_
  obtain ⟨r5, H⟩ := H
  refine v_putf (j := 5) (c := 4) (f := 6) rfl rfl rfl rfl (by decide +kernel) rfl rfl rfl rfl (K8_t K4) r5 (fun m6 e7 => ?_)
  have O8 : Ok m1 m6 := Ok.wf e7 (K8_t K4) (by decide) (by decide)
  have K9 := O8.2.1 K4
  replace H := H m6 e7 O8
  exact v_vret (j := 6) rfl rfl H

set_option maxRecDepth 100000 in
set_option maxHeartbeats 4000000 in
theorem wX4_term {G : GM} {d : Nat} {P : Nat → Int → SM → Prop} {m : SM} {a1 : Int} (K : KI m) (hd : 12 ≤ d) 
    (H : WV G mX4_isNext 0 [(1, 8), (0, 97), (0, 122)] [] m (d - 1) (fun k v1 m2 => k = 0 ∧ Ok m m2 ∧ ((v1 = (0 : Int) → (WV G mX4_isNext 0 [(1, 8), (0, 48), (0, 57)] [] m2 (d - 1) (fun k v4 m5 => k = 0 ∧ Ok m2 m5 ∧ ((v4 = (0 : Int) → (WV G mX4_passes 0 [(1, 8), (0, 35), (9, 0)] [] m5 (d - 1) (fun k v7 m8 => k = 0 ∧ Ok m5 m8 ∧ ((v7 = (0 : Int) → (((m8 8 6) = (0 : Int) → (WV G mX4_term 152 [(1, 8), (0, a1), (0, (m 8 5)), (9, 0)] [] m8 d P)) ∧ ((m8 8 6) ≠ (0 : Int) → (WV G mX4_passes 0 [(1, 8), (0, 95), (9, 0)] [] m8 (d - 1) (fun k v10 m11 => k = 0 ∧ Ok m8 m11 ∧ ((v10 = (0 : Int) → (WV G mX4_term 152 [(1, 8), (0, a1), (0, (m 8 5)), (9, 0)] [] m11 d P)) ∧ (v10 ≠ (0 : Int) → ((m11 0 0 ≤ 1203200) ∧ (m11 0 1 + 6 ≤ 5491882) ∧ (Bs m11 → ∀ m15, m15 = al m11 14 0 6 → Ok m11 m15 → (((m11 0 0) ≠ 0) ∧ (WV G mX11_init 0 [(1, (m11 0 0)), (1, (-12)), (0, (m 8 5)), (0, 32), (1, 0), (1, 13)] [] m15 (d - 1) (fun k v21 m22 => k = 0 ∧ Ok m15 m22 ∧ (P 0 (m11 0 0) m22))))))))))))) ∧ (v7 ≠ (0 : Int) → ((m8 0 0 ≤ 1203200) ∧ (m8 0 1 + 5 ≤ 5491882) ∧ (Bs m8 → ∀ m27, m27 = al m8 11 0 5 → Ok m8 m27 → (((m8 0 0) ≠ 0) ∧ (WV G mX9_init 0 [(1, (m8 0 0))] [] m27 (d - 1) (fun k v33 m34 => k = 0 ∧ Ok m27 m34 ∧ (∀ m37, m37 = up m34 (m8 0 0) 0 (-16) → Ok m34 m37 → ((m37 0 0 ≤ 1203200) ∧ (m37 0 1 + 6 ≤ 5491882) ∧ (Bs m37 → ∀ m44, m44 = al m37 14 0 6 → Ok m37 m44 → (((m37 0 0) ≠ 0) ∧ (WV G mX11_init 0 [(1, (m37 0 0)), (1, (-11)), (0, (m 8 5)), (0, 32), (1, (m8 0 0)), (1, 13)] [] m44 (d - 1) (fun k v51 m52 => k = 0 ∧ Ok m44 m52 ∧ (P 0 (m37 0 0) m52))))))))))))))))) ∧ (v4 ≠ (0 : Int) → ((m5 0 0 ≤ 1203200) ∧ (m5 0 1 + 6 ≤ 5491882) ∧ (Bs m5 → ∀ m58, m58 = al m5 14 0 6 → Ok m5 m58 → (WV G mX4_digit 0 [(1, 8), (9, 0)] [] m58 (d - 1) (fun k v63 m64 => Ok m58 m64 ∧ (k = 0 → (((m5 0 0) ≠ 0) ∧ (WV G mX11_init 0 [(1, (m5 0 0)), (1, (-11)), (0, (m 8 5)), (0, 32), (1, v63), (1, 13)] [] m64 (d - 1) (fun k v68 m69 => k = 0 ∧ Ok m64 m69 ∧ (P 0 (m5 0 0) m69))))) ∧ (k ≠ 0 → P 1 v63 m64)))))))))) ∧ (v1 ≠ (0 : Int) → ((m2 0 0 ≤ 1203200) ∧ (m2 0 1 + 6 ≤ 5491882) ∧ (Bs m2 → ∀ m74, m74 = al m2 14 0 6 → Ok m2 m74 → (WV G mX4_take 0 [(1, 8), (0, 97), (0, 122)] [] m74 (d - 1) (fun k v79 m80 => Ok m74 m80 ∧ (k = 0 → (((m2 0 0) ≠ 0) ∧ (WV G mX11_init 0 [(1, (m2 0 0)), (1, (-10)), (0, (m 8 5)), (0, v79), (1, 0), (1, 13)] [] m80 (d - 1) (fun k v84 m85 => k = 0 ∧ Ok m80 m85 ∧ (P 0 (m2 0 0) m85))))) ∧ (k ≠ 0 → P 1 v79 m80))))))))) :
    WV G mX4_term 0 [(1, 8), (0, a1), (9, 0), (9, 0)] [] m d P := by
  refine v_run 0 1 (pc' := 1) (ls' := [(1, 8), (0, a1), (9, 0), (9, 0)]) (st' := [(1, 8)]) rfl ?_
  refine v_getf (j := 1) (c := 4) (f := 5) rfl rfl rfl rfl rfl rfl rfl rfl (K8_t K) ?_
  refine v_run 2 4 (pc' := 10) (ls' := [(1, 8), (0, a1), (0, (m 8 5)), (9, 0)]) (st' := [(0, 122), (0, 97), (1, 8)]) rfl ?_
  refine v_callV (j := 6) (M' := mX4_isNext) (as := [(0, 97), (0, 122)]) (st := []) rfl rfl rfl rfl rfl (Nat.le_of_ble_eq_true rfl) (Nat.le_of_ble_eq_true rfl) (by omega) (by decide) (K8_t K) (kv0 (st' := fun v => [(0, v)]) rfl (fun _ => rfl)) (H.mono (fun k v1 m2 H => ⟨H.1, ?_⟩))
  have K3 := H.2.1.2.1 K
  replace H := H.2.2
  refine v_ifeq (j := 7) rfl rfl rfl (fun q => ?_) (fun q => ?_)
  · replace H := H.1 q
    refine v_run 21 3 (pc' := 46) (ls' := [(1, 8), (0, a1), (0, (m 8 5)), (9, 0)]) (st' := [(0, 57), (0, 48), (1, 8)]) rfl ?_
    refine v_callV (j := 24) (M' := mX4_isNext) (as := [(0, 48), (0, 57)]) (st := []) rfl rfl rfl rfl rfl (Nat.le_of_ble_eq_true rfl) (Nat.le_of_ble_eq_true rfl) (by omega) (by decide) (K8_t K3) (kv0 (st' := fun v => [(0, v)]) rfl (fun _ => rfl)) (H.mono (fun k v4 m5 H => ⟨H.1, ?_⟩))
    have K6 := H.2.1.2.1 K3
    replace H := H.2.2
    refine v_ifeq (j := 25) rfl rfl rfl (fun q => ?_) (fun q => ?_)
    · replace H := H.1 q
      refine v_run 37 2 (pc' := 77) (ls' := [(1, 8), (0, a1), (0, (m 8 5)), (9, 0)]) (st' := [(0, 35), (1, 8)]) rfl ?_
      refine v_callV (j := 39) (M' := mX4_passes) (as := [(0, 35)]) (st := []) rfl rfl rfl rfl rfl (Nat.le_of_ble_eq_true rfl) (Nat.le_of_ble_eq_true rfl) (by omega) (by decide) (K8_t K6) (kv0 (st' := fun v => [(0, v)]) rfl (fun _ => rfl)) (H.mono (fun k v7 m8 H => ⟨H.1, ?_⟩))
      have K9 := H.2.1.2.1 K6
      replace H := H.2.2
      refine v_ifeq (j := 40) rfl rfl rfl (fun q => ?_) (fun q => ?_)
      · replace H := H.1 q
        refine v_run 58 1 (pc' := 118) (ls' := [(1, 8), (0, a1), (0, (m 8 5)), (9, 0)]) (st' := [(1, 8)]) rfl ?_
        refine v_getf (j := 59) (c := 4) (f := 6) rfl rfl rfl rfl rfl rfl rfl rfl (K8_t K9) ?_
        refine v_ifeq (j := 60) rfl rfl rfl (fun q => ?_) (fun q => ?_)
        · replace H := H.1 q
          exact H
        · replace H := H.2 q
          refine v_run 61 2 (pc' := 127) (ls' := [(1, 8), (0, a1), (0, (m 8 5)), (9, 0)]) (st' := [(0, 95), (1, 8)]) rfl ?_
          refine v_callV (j := 63) (M' := mX4_passes) (as := [(0, 95)]) (st := []) rfl rfl rfl rfl rfl (Nat.le_of_ble_eq_true rfl) (Nat.le_of_ble_eq_true rfl) (by omega) (by decide) (K8_t K9) (kv0 (st' := fun v => [(0, v)]) rfl (fun _ => rfl)) (H.mono (fun k v10 m11 H => ⟨H.1, ?_⟩))
          have K12 := H.2.1.2.1 K9
          replace H := H.2.2
          refine v_ifeq (j := 64) rfl rfl rfl (fun q => ?_) (fun q => ?_)
          · replace H := H.1 q
            exact H
          · replace H := H.2 q
            obtain ⟨r13, r14, H⟩ := H
            refine v_new (j := 65) (c := 13) rfl rfl rfl rfl rfl rfl rfl r13 r14 (fun B m15 e16 => ?_)
            have O17 : Ok m11 m15 := Ok.nw B e16
            have K18 := O17.2.1 K12
            replace H := H B m15 e16 O17
            have t19 := al_tag B e16
            refine v_run 66 1 (pc' := 137) (ls' := [(1, 8), (0, a1), (0, (m 8 5)), (9, 0)]) (st' := [(1, (m11 0 0)), (1, (m11 0 0))]) rfl ?_
            refine v_gets (j := 67) (g := 1) (v := (-12)) rfl rfl rfl rfl ?_
            refine v_run 68 4 (pc' := 145) (ls' := [(1, 8), (0, a1), (0, (m 8 5)), (9, 0)]) (st' := [(1, 8), (1, 0), (0, 32), (0, (m 8 5)), (1, (-12)), (1, (m11 0 0)), (1, (m11 0 0))]) rfl ?_
            refine v_getK (j := 72) (c := 4) (f := 2) rfl rfl rfl rfl rfl rfl rfl rfl (K8_t K18) (K8_2 K18) ?_
            obtain ⟨z20, H⟩ := H
            refine v_callI (j := 73) (M' := mX11_init) (as := [(1, (-12)), (0, (m 8 5)), (0, 32), (1, 0), (1, 13)]) (st := [(1, (m11 0 0))]) rfl rfl rfl rfl rfl (Nat.le_of_ble_eq_true rfl) (Nat.le_of_ble_eq_true rfl) (by omega) z20 (kv0 (st' := fun v => [(1, (m11 0 0))]) rfl (fun _ => rfl)) (H.mono (fun k v21 m22 H => ⟨H.1, ?_⟩))
            have K23 := H.2.1.2.1 K18
            have t24 := Ok.tag H.2.1 (t19) (by decide)
            replace H := H.2.2
            exact v_aret (j := 74) rfl rfl rfl H
      · replace H := H.2 q
        obtain ⟨r25, r26, H⟩ := H
        refine v_new (j := 41) (c := 10) rfl rfl rfl rfl rfl rfl rfl r25 r26 (fun B m27 e28 => ?_)
        have O29 : Ok m8 m27 := Ok.nw B e28
        have K30 := O29.2.1 K9
        replace H := H B m27 e28 O29
        have t31 := al_tag B e28
        refine v_run 42 1 (pc' := 87) (ls' := [(1, 8), (0, a1), (0, (m 8 5)), (9, 0)]) (st' := [(1, (m8 0 0)), (1, (m8 0 0))]) rfl ?_
        obtain ⟨z32, H⟩ := H
        refine v_callI (j := 43) (M' := mX9_init) (as := []) (st := [(1, (m8 0 0))]) rfl rfl rfl rfl rfl (Nat.le_of_ble_eq_true rfl) (Nat.le_of_ble_eq_true rfl) (by omega) z32 (kv0 (st' := fun v => [(1, (m8 0 0))]) rfl (fun _ => rfl)) (H.mono (fun k v33 m34 H => ⟨H.1, ?_⟩))
        have K35 := H.2.1.2.1 K30
        have t36 := Ok.tag H.2.1 (t31) (by decide)
        replace H := H.2.2
        refine v_run 44 2 (pc' := 92) (ls' := [(1, 8), (0, a1), (0, (m 8 5)), (1, (m8 0 0))]) (st' := [(1, (m8 0 0))]) rfl ?_
        refine v_gets (j := 46) (g := 1) (v := (-16)) rfl rfl rfl rfl ?_
        refine v_putf (j := 47) (c := 10) (f := 0) rfl rfl rfl rfl (by decide +kernel) rfl rfl rfl rfl (t36) trivial (fun m37 e38 => ?_)
        have O39 : Ok m34 m37 := Ok.wf e38 (t36) (by decide) (by decide)
        have K40 := O39.2.1 K35
        have t41 := Ok.tag O39 (t36) (by decide)
        replace H := H m37 e38 O39
        obtain ⟨r42, r43, H⟩ := H
        refine v_new (j := 48) (c := 13) rfl rfl rfl rfl rfl rfl rfl r42 r43 (fun B m44 e45 => ?_)
        have O46 : Ok m37 m44 := Ok.nw B e45
        have K47 := O46.2.1 K40
        have t48 := Ok.tag O46 (t41) (by decide)
        replace H := H B m44 e45 O46
        have t49 := al_tag B e45
        refine v_run 49 1 (pc' := 102) (ls' := [(1, 8), (0, a1), (0, (m 8 5)), (1, (m8 0 0))]) (st' := [(1, (m37 0 0)), (1, (m37 0 0))]) rfl ?_
        refine v_gets (j := 50) (g := 1) (v := (-11)) rfl rfl rfl rfl ?_
        refine v_run 51 4 (pc' := 110) (ls' := [(1, 8), (0, a1), (0, (m 8 5)), (1, (m8 0 0))]) (st' := [(1, 8), (1, (m8 0 0)), (0, 32), (0, (m 8 5)), (1, (-11)), (1, (m37 0 0)), (1, (m37 0 0))]) rfl ?_
        refine v_getK (j := 55) (c := 4) (f := 2) rfl rfl rfl rfl rfl rfl rfl rfl (K8_t K47) (K8_2 K47) ?_
        obtain ⟨z50, H⟩ := H
        refine v_callI (j := 56) (M' := mX11_init) (as := [(1, (-11)), (0, (m 8 5)), (0, 32), (1, (m8 0 0)), (1, 13)]) (st := [(1, (m37 0 0))]) rfl rfl rfl rfl rfl (Nat.le_of_ble_eq_true rfl) (Nat.le_of_ble_eq_true rfl) (by omega) z50 (kv0 (st' := fun v => [(1, (m37 0 0))]) rfl (fun _ => rfl)) (H.mono (fun k v51 m52 H => ⟨H.1, ?_⟩))
        have K53 := H.2.1.2.1 K47
        have t54 := Ok.tag H.2.1 (t48) (by decide)
        have t55 := Ok.tag H.2.1 (t49) (by decide)
        replace H := H.2.2
        exact v_aret (j := 57) rfl rfl rfl H
    · replace H := H.2 q
      obtain ⟨r56, r57, H⟩ := H
      refine v_new (j := 26) (c := 13) rfl rfl rfl rfl rfl rfl rfl r56 r57 (fun B m58 e59 => ?_)
      have O60 : Ok m5 m58 := Ok.nw B e59
      have K61 := O60.2.1 K6
      replace H := H B m58 e59 O60
      have t62 := al_tag B e59
      refine v_run 27 1 (pc' := 56) (ls' := [(1, 8), (0, a1), (0, (m 8 5)), (9, 0)]) (st' := [(1, (m5 0 0)), (1, (m5 0 0))]) rfl ?_
      refine v_gets (j := 28) (g := 1) (v := (-11)) rfl rfl rfl rfl ?_
      refine v_run 29 3 (pc' := 63) (ls' := [(1, 8), (0, a1), (0, (m 8 5)), (9, 0)]) (st' := [(1, 8), (0, 32), (0, (m 8 5)), (1, (-11)), (1, (m5 0 0)), (1, (m5 0 0))]) rfl ?_
      refine v_callV (j := 32) (M' := mX4_digit) (as := []) (st := [(0, 32), (0, (m 8 5)), (1, (-11)), (1, (m5 0 0)), (1, (m5 0 0))]) rfl rfl rfl rfl rfl (Nat.le_of_ble_eq_true rfl) (Nat.le_of_ble_eq_true rfl) (by omega) (by decide) (K8_t K61) (kvt (st' := fun v => [(1, v), (0, 32), (0, (m 8 5)), (1, (-11)), (1, (m5 0 0)), (1, (m5 0 0))]) rfl (fun _ => rfl) rfl) (H.mono (fun k v63 m64 H => ⟨fun z => ?_, H.2.2⟩))
      have O := H.1
      replace H := H.2.1 z
      have K65 := O.2.1 K61
      have t66 := Ok.tag O (t62) (by decide)
      refine v_run 33 1 (pc' := 67) (ls' := [(1, 8), (0, a1), (0, (m 8 5)), (9, 0)]) (st' := [(1, 8), (1, v63), (0, 32), (0, (m 8 5)), (1, (-11)), (1, (m5 0 0)), (1, (m5 0 0))]) rfl ?_
      refine v_getK (j := 34) (c := 4) (f := 2) rfl rfl rfl rfl rfl rfl rfl rfl (K8_t K65) (K8_2 K65) ?_
      obtain ⟨z67, H⟩ := H
      refine v_callI (j := 35) (M' := mX11_init) (as := [(1, (-11)), (0, (m 8 5)), (0, 32), (1, v63), (1, 13)]) (st := [(1, (m5 0 0))]) rfl rfl rfl rfl rfl (Nat.le_of_ble_eq_true rfl) (Nat.le_of_ble_eq_true rfl) (by omega) z67 (kv0 (st' := fun v => [(1, (m5 0 0))]) rfl (fun _ => rfl)) (H.mono (fun k v68 m69 H => ⟨H.1, ?_⟩))
      have K70 := H.2.1.2.1 K65
      have t71 := Ok.tag H.2.1 (t66) (by decide)
      replace H := H.2.2
      exact v_aret (j := 36) rfl rfl rfl H
  · replace H := H.2 q
    obtain ⟨r72, r73, H⟩ := H
    refine v_new (j := 8) (c := 13) rfl rfl rfl rfl rfl rfl rfl r72 r73 (fun B m74 e75 => ?_)
    have O76 : Ok m2 m74 := Ok.nw B e75
    have K77 := O76.2.1 K3
    replace H := H B m74 e75 O76
    have t78 := al_tag B e75
    refine v_run 9 1 (pc' := 20) (ls' := [(1, 8), (0, a1), (0, (m 8 5)), (9, 0)]) (st' := [(1, (m2 0 0)), (1, (m2 0 0))]) rfl ?_
    refine v_gets (j := 10) (g := 1) (v := (-10)) rfl rfl rfl rfl ?_
    refine v_run 11 4 (pc' := 29) (ls' := [(1, 8), (0, a1), (0, (m 8 5)), (9, 0)]) (st' := [(0, 122), (0, 97), (1, 8), (0, (m 8 5)), (1, (-10)), (1, (m2 0 0)), (1, (m2 0 0))]) rfl ?_
    refine v_callV (j := 15) (M' := mX4_take) (as := [(0, 97), (0, 122)]) (st := [(0, (m 8 5)), (1, (-10)), (1, (m2 0 0)), (1, (m2 0 0))]) rfl rfl rfl rfl rfl (Nat.le_of_ble_eq_true rfl) (Nat.le_of_ble_eq_true rfl) (by omega) (by decide) (K8_t K77) (kvt (st' := fun v => [(0, v), (0, (m 8 5)), (1, (-10)), (1, (m2 0 0)), (1, (m2 0 0))]) rfl (fun _ => rfl) rfl) (H.mono (fun k v79 m80 H => ⟨fun z => ?_, H.2.2⟩))
    have O := H.1
    replace H := H.2.1 z
    have K81 := O.2.1 K77
    have t82 := Ok.tag O (t78) (by decide)
    refine v_run 16 2 (pc' := 34) (ls' := [(1, 8), (0, a1), (0, (m 8 5)), (9, 0)]) (st' := [(1, 8), (1, 0), (0, v79), (0, (m 8 5)), (1, (-10)), (1, (m2 0 0)), (1, (m2 0 0))]) rfl ?_
    refine v_getK (j := 18) (c := 4) (f := 2) rfl rfl rfl rfl rfl rfl rfl rfl (K8_t K81) (K8_2 K81) ?_
    obtain ⟨z83, H⟩ := H
    refine v_callI (j := 19) (M' := mX11_init) (as := [(1, (-10)), (0, (m 8 5)), (0, v79), (1, 0), (1, 13)]) (st := [(1, (m2 0 0))]) rfl rfl rfl rfl rfl (Nat.le_of_ble_eq_true rfl) (Nat.le_of_ble_eq_true rfl) (by omega) z83 (kv0 (st' := fun v => [(1, (m2 0 0))]) rfl (fun _ => rfl)) (H.mono (fun k v84 m85 H => ⟨H.1, ?_⟩))
    have K86 := H.2.1.2.1 K81
    have t87 := Ok.tag H.2.1 (t82) (by decide)
    replace H := H.2.2
    exact v_aret (j := 20) rfl rfl rfl H

set_option maxRecDepth 100000 in
set_option maxHeartbeats 4000000 in
theorem wX4_term_152 {G : GM} {d : Nat} {P : Nat → Int → SM → Prop} {m : SM} {a1 a2 : Int} (K : KI m) (hd : 12 ≤ d) 
    (H : WV G mX4_take 0 [(1, 8), (0, 65), (0, 90)] [] m (d - 1) (fun k v1 m2 => Ok m m2 ∧ (k = 0 → ((m2 0 0 ≤ 1203200) ∧ (m2 0 1 + 6 ≤ 5491882) ∧ (Bs m2 → ∀ m6, m6 = al m2 14 0 6 → Ok m2 m6 → (((8 : Int) ≤ a1 → (((m2 0 0) ≠ 0) ∧ (WV G mX11_init 0 [(1, (m2 0 0)), (1, (-13)), (0, a2), (0, v1), (1, 0), (1, 13)] [] m6 (d - 1) (fun k v12 m13 => k = 0 ∧ Ok m6 m13 ∧ (P 0 (m2 0 0) m13))))) ∧ (a1 < (8 : Int) → (WV G mX4_passes 0 [(1, 8), (0, 40), (9, 0)] [] m6 (d - 1) (fun k v16 m17 => k = 0 ∧ Ok m6 m17 ∧ ((v16 = (0 : Int) → (((m2 0 0) ≠ 0) ∧ (WV G mX11_init 0 [(1, (m2 0 0)), (1, (-13)), (0, a2), (0, v1), (1, 0), (1, 13)] [] m17 (d - 1) (fun k v21 m22 => k = 0 ∧ Ok m17 m22 ∧ (P 0 (m2 0 0) m22))))) ∧ (v16 ≠ (0 : Int) → (WV G mX4_terms 0 [(1, 8), (0, (wr (a1 + 1))), (9, 0)] [] m17 (d - 1) (fun k v25 m26 => Ok m17 m26 ∧ (k = 0 → (((m2 0 0) ≠ 0) ∧ (WV G mX11_init 0 [(1, (m2 0 0)), (1, (-13)), (0, a2), (0, v1), (1, 0), (1, v25)] [] m26 (d - 1) (fun k v30 m31 => k = 0 ∧ Ok m26 m31 ∧ (P 0 (m2 0 0) m31))))) ∧ (k ≠ 0 → P 1 v25 m26)))))))))))) ∧ (k ≠ 0 → P 1 v1 m2))) :
    WV G mX4_term 152 [(1, 8), (0, a1), (0, a2), (9, 0)] [] m d P := by
  refine v_run 75 3 (pc' := 157) (ls' := [(1, 8), (0, a1), (0, a2), (9, 0)]) (st' := [(0, 90), (0, 65), (1, 8)]) rfl ?_
  refine v_callV (j := 78) (M' := mX4_take) (as := [(0, 65), (0, 90)]) (st := []) rfl rfl rfl rfl rfl (Nat.le_of_ble_eq_true rfl) (Nat.le_of_ble_eq_true rfl) (by omega) (by decide) (K8_t K) (kvt (st' := fun v => [(0, v)]) rfl (fun _ => rfl) rfl) (H.mono (fun k v1 m2 H => ⟨fun z => ?_, H.2.2⟩))
  have O := H.1
  replace H := H.2.1 z
  have K3 := O.2.1 K
  refine v_run 79 1 (pc' := 161) (ls' := [(1, 8), (0, a1), (0, a2), (0, v1)]) (st' := []) rfl ?_
  obtain ⟨r4, r5, H⟩ := H
  refine v_new (j := 80) (c := 13) rfl rfl rfl rfl rfl rfl rfl r4 r5 (fun B m6 e7 => ?_)
  have O8 : Ok m2 m6 := Ok.nw B e7
  have K9 := O8.2.1 K3
  replace H := H B m6 e7 O8
  have t10 := al_tag B e7
  refine v_run 81 1 (pc' := 165) (ls' := [(1, 8), (0, a1), (0, a2), (0, v1)]) (st' := [(1, (m2 0 0)), (1, (m2 0 0))]) rfl ?_
  refine v_gets (j := 82) (g := 1) (v := (-13)) rfl rfl rfl rfl ?_
  refine v_run 83 5 (pc' := 174) (ls' := [(1, 8), (0, a1), (0, a2), (0, v1)]) (st' := [(0, 8), (0, a1), (1, 0), (0, v1), (0, a2), (1, (-13)), (1, (m2 0 0)), (1, (m2 0 0))]) rfl ?_
  refine v_icmpge (j := 88) rfl rfl rfl (fun q => ?_) (fun q => ?_)
  · replace H := H.1 q
    refine v_run 99 1 (pc' := 197) (ls' := [(1, 8), (0, a1), (0, a2), (0, v1)]) (st' := [(1, 8), (1, 0), (0, v1), (0, a2), (1, (-13)), (1, (m2 0 0)), (1, (m2 0 0))]) rfl ?_
    refine v_getK (j := 100) (c := 4) (f := 2) rfl rfl rfl rfl rfl rfl rfl rfl (K8_t K9) (K8_2 K9) ?_
    obtain ⟨z11, H⟩ := H
    refine v_callI (j := 101) (M' := mX11_init) (as := [(1, (-13)), (0, a2), (0, v1), (1, 0), (1, 13)]) (st := [(1, (m2 0 0))]) rfl rfl rfl rfl rfl (Nat.le_of_ble_eq_true rfl) (Nat.le_of_ble_eq_true rfl) (by omega) z11 (kv0 (st' := fun v => [(1, (m2 0 0))]) rfl (fun _ => rfl)) (H.mono (fun k v12 m13 H => ⟨H.1, ?_⟩))
    have K14 := H.2.1.2.1 K9
    have t15 := Ok.tag H.2.1 (t10) (by decide)
    replace H := H.2.2
    exact v_aret (j := 102) rfl rfl rfl H
  · replace H := H.2 q
    refine v_run 89 2 (pc' := 180) (ls' := [(1, 8), (0, a1), (0, a2), (0, v1)]) (st' := [(0, 40), (1, 8), (1, 0), (0, v1), (0, a2), (1, (-13)), (1, (m2 0 0)), (1, (m2 0 0))]) rfl ?_
    refine v_callV (j := 91) (M' := mX4_passes) (as := [(0, 40)]) (st := [(1, 0), (0, v1), (0, a2), (1, (-13)), (1, (m2 0 0)), (1, (m2 0 0))]) rfl rfl rfl rfl rfl (Nat.le_of_ble_eq_true rfl) (Nat.le_of_ble_eq_true rfl) (by omega) (by decide) (K8_t K9) (kv0 (st' := fun v => [(0, v), (1, 0), (0, v1), (0, a2), (1, (-13)), (1, (m2 0 0)), (1, (m2 0 0))]) rfl (fun _ => rfl)) (H.mono (fun k v16 m17 H => ⟨H.1, ?_⟩))
    have K18 := H.2.1.2.1 K9
    have t19 := Ok.tag H.2.1 (t10) (by decide)
    replace H := H.2.2
    refine v_ifeq (j := 92) rfl rfl rfl (fun q => ?_) (fun q => ?_)
    · replace H := H.1 q
      refine v_run 99 1 (pc' := 197) (ls' := [(1, 8), (0, a1), (0, a2), (0, v1)]) (st' := [(1, 8), (1, 0), (0, v1), (0, a2), (1, (-13)), (1, (m2 0 0)), (1, (m2 0 0))]) rfl ?_
      refine v_getK (j := 100) (c := 4) (f := 2) rfl rfl rfl rfl rfl rfl rfl rfl (K8_t K18) (K8_2 K18) ?_
      obtain ⟨z20, H⟩ := H
      refine v_callI (j := 101) (M' := mX11_init) (as := [(1, (-13)), (0, a2), (0, v1), (1, 0), (1, 13)]) (st := [(1, (m2 0 0))]) rfl rfl rfl rfl rfl (Nat.le_of_ble_eq_true rfl) (Nat.le_of_ble_eq_true rfl) (by omega) z20 (kv0 (st' := fun v => [(1, (m2 0 0))]) rfl (fun _ => rfl)) (H.mono (fun k v21 m22 H => ⟨H.1, ?_⟩))
      have K23 := H.2.1.2.1 K18
      have t24 := Ok.tag H.2.1 (t19) (by decide)
      replace H := H.2.2
      exact v_aret (j := 102) rfl rfl rfl H
    · replace H := H.2 q
      refine v_run 93 4 (pc' := 190) (ls' := [(1, 8), (0, a1), (0, a2), (0, v1)]) (st' := [(0, (wr (a1 + 1))), (1, 8), (1, 0), (0, v1), (0, a2), (1, (-13)), (1, (m2 0 0)), (1, (m2 0 0))]) rfl ?_
      refine v_callS (j := 97) (M' := mX4_terms) (as := [(1, 8), (0, (wr (a1 + 1)))]) (st := [(1, 0), (0, v1), (0, a2), (1, (-13)), (1, (m2 0 0)), (1, (m2 0 0))]) rfl rfl rfl rfl rfl (Nat.le_of_ble_eq_true rfl) (Nat.le_of_ble_eq_true rfl) (by omega) (kvt (st' := fun v => [(1, v), (1, 0), (0, v1), (0, a2), (1, (-13)), (1, (m2 0 0)), (1, (m2 0 0))]) rfl (fun _ => rfl) rfl) (H.mono (fun k v25 m26 H => ⟨fun z => ?_, H.2.2⟩))
      have O := H.1
      replace H := H.2.1 z
      have K27 := O.2.1 K18
      have t28 := Ok.tag O (t19) (by decide)
      refine v_goto (j := 98) (tgt := 200) rfl rfl ?_
      obtain ⟨z29, H⟩ := H
      refine v_callI (j := 101) (M' := mX11_init) (as := [(1, (-13)), (0, a2), (0, v1), (1, 0), (1, v25)]) (st := [(1, (m2 0 0))]) rfl rfl rfl rfl rfl (Nat.le_of_ble_eq_true rfl) (Nat.le_of_ble_eq_true rfl) (by omega) z29 (kv0 (st' := fun v => [(1, (m2 0 0))]) rfl (fun _ => rfl)) (H.mono (fun k v30 m31 H => ⟨H.1, ?_⟩))
      have K32 := H.2.1.2.1 K27
      have t33 := Ok.tag H.2.1 (t28) (by decide)
      replace H := H.2.2
      exact v_aret (j := 102) rfl rfl rfl H

set_option maxRecDepth 100000 in
set_option maxHeartbeats 4000000 in
theorem wX4_terms {G : GM} {d : Nat} {P : Nat → Int → SM → Prop} {m : SM} {a1 : Int} (K : KI m) (hd : 12 ≤ d) 
    (H : (m 0 0 + 2 ≤ 1203200) ∧ (m 0 1 + 20 ≤ 5491882) ∧ (∀ m3, NAL m m3 → Ok m m3 → (WV G mX4_term 0 [(1, 8), (0, a1), (9, 0), (9, 0)] [] m3 (d - 1) (fun k v8 m9 => Ok m3 m9 ∧ (k = 0 → ((elOK m9 v8) ∧ (m9 (m 0 0) (-2) < 100000) ∧ (m9 0 0 ≤ 1203200) ∧ (m9 0 1 + 2 * m9 (m 0 0) (-2) + 20 ≤ 5491882) ∧ (∀ m12, Radd m9 (m 0 0) v8 m12 → Ok m9 m12 → (WV G mX4_terms 18 [(1, 8), (0, a1), (1, (m 0 0))] [] m12 d P)))) ∧ (k ≠ 0 → P 1 v8 m9))))) :
    WV G mX4_terms 0 [(1, 8), (0, a1), (9, 0)] [] m d P := by
  obtain ⟨r1, r2, H⟩ := H
  refine vj_newAL (j := 0) (ic := 23) rfl rfl rfl rfl rfl rfl rfl r1 r2 (by omega) (by simp) (fun m3 e4 => ?_)
  have O6 : Ok m m3 := e4.ok
  have K7 := O6.2.1 K
  replace H := H m3 e4 O6
  refine v_run 3 4 (pc' := 11) (ls' := [(1, 8), (0, a1), (1, (m 0 0))]) (st' := [(0, a1), (1, 8), (1, (m 0 0))]) rfl ?_
  refine v_callS (j := 7) (M' := mX4_term) (as := [(1, 8), (0, a1)]) (st := [(1, (m 0 0))]) rfl rfl rfl rfl rfl (Nat.le_of_ble_eq_true rfl) (Nat.le_of_ble_eq_true rfl) (by omega) (kvt (st' := fun v => [(1, v), (1, (m 0 0))]) rfl (fun _ => rfl) rfl) (H.mono (fun k v8 m9 H => ⟨fun z => ?_, H.2.2⟩))
  have O := H.1
  replace H := H.2.1 z
  have K10 := O.2.1 K7
  have t11 := Ok.tag O (e4.tag) (by decide)
  obtain ⟨v14, i15, r16, r17, H⟩ := H
  refine vj_add (j := 8) rfl rfl rfl rfl (t11) (by omega) (by simp) v14 i15 r16 r17 (fun m12 e13 => ?_)
  have O18 : Ok m9 m12 := e13.1.ok (t11) (by decide)
  have K19 := O18.2.1 K10
  have t20 := Ok.tag O18 (t11) (by decide)
  replace H := H m12 e13 O18
  refine v_run 9 1 (pc' := 18) (ls' := [(1, 8), (0, a1), (1, (m 0 0))]) (st' := []) rfl ?_
  exact H

set_option maxRecDepth 100000 in
set_option maxHeartbeats 4000000 in
theorem wX4_terms_18 {G : GM} {d : Nat} {P : Nat → Int → SM → Prop} {m : SM} {a1 a2 : Int} (K : KI m) (hd : 12 ≤ d) 
    (H : (m a2 (-1) = 4) ∧ (((6 : Int) ≤ (m a2 (-2)) → (WV G mX4_take 0 [(1, 8), (0, 41), (0, 41)] [] m (d - 1) (fun k v2 m3 => Ok m m3 ∧ (k = 0 → (P 0 a2 m3)) ∧ (k ≠ 0 → P 1 v2 m3)))) ∧ ((m a2 (-2)) < (6 : Int) → (WV G mX4_isTerm 0 [(1, 8)] [] m (d - 1) (fun k v6 m7 => k = 0 ∧ Ok m m7 ∧ ((v6 = (0 : Int) → (WV G mX4_take 0 [(1, 8), (0, 41), (0, 41)] [] m7 (d - 1) (fun k v10 m11 => Ok m7 m11 ∧ (k = 0 → (P 0 a2 m11)) ∧ (k ≠ 0 → P 1 v10 m11)))) ∧ (v6 ≠ (0 : Int) → (WV G mX4_term 0 [(1, 8), (0, a1), (9, 0), (9, 0)] [] m7 (d - 1) (fun k v14 m15 => Ok m7 m15 ∧ (k = 0 → ((elOK m15 v14) ∧ (m15 a2 (-2) < 100000) ∧ (m15 0 0 ≤ 1203200) ∧ (m15 0 1 + 2 * m15 a2 (-2) + 20 ≤ 5491882) ∧ (∀ m18, Radd m15 a2 v14 m18 → Ok m15 m18 → (WV G mX4_terms 18 [(1, 8), (0, a1), (1, a2)] [] m18 d P)))) ∧ (k ≠ 0 → P 1 v14 m15)))))))))) :
    WV G mX4_terms 18 [(1, 8), (0, a1), (1, a2)] [] m d P := by
  refine v_run 10 1 (pc' := 19) (ls' := [(1, 8), (0, a1), (1, a2)]) (st' := [(1, a2)]) rfl ?_
  obtain ⟨t1, H⟩ := H
  refine vj_size (j := 11) rfl rfl rfl rfl (t1) (by omega) (by simp) ?_
  refine v_run 12 1 (pc' := 24) (ls' := [(1, 8), (0, a1), (1, a2)]) (st' := [(0, 6), (0, (m a2 (-2)))]) rfl ?_
  refine v_icmpge (j := 13) rfl rfl rfl (fun q => ?_) (fun q => ?_)
  · replace H := H.1 q
    refine v_run 24 3 (pc' := 52) (ls' := [(1, 8), (0, a1), (1, a2)]) (st' := [(0, 41), (0, 41), (1, 8)]) rfl ?_
    refine v_callV (j := 27) (M' := mX4_take) (as := [(0, 41), (0, 41)]) (st := []) rfl rfl rfl rfl rfl (Nat.le_of_ble_eq_true rfl) (Nat.le_of_ble_eq_true rfl) (by omega) (by decide) (K8_t K) (kvt (st' := fun v => [(0, v)]) rfl (fun _ => rfl) rfl) (H.mono (fun k v2 m3 H => ⟨fun z => ?_, H.2.2⟩))
    have O := H.1
    replace H := H.2.1 z
    have K4 := O.2.1 K
    have t5 := Ok.tag O (t1) (by decide)
    refine v_run 28 2 (pc' := 57) (ls' := [(1, 8), (0, a1), (1, a2)]) (st' := [(1, a2)]) rfl ?_
    exact v_aret (j := 30) rfl rfl rfl H
  · replace H := H.2 q
    refine v_run 14 1 (pc' := 28) (ls' := [(1, 8), (0, a1), (1, a2)]) (st' := [(1, 8)]) rfl ?_
    refine v_callV (j := 15) (M' := mX4_isTerm) (as := []) (st := []) rfl rfl rfl rfl rfl (Nat.le_of_ble_eq_true rfl) (Nat.le_of_ble_eq_true rfl) (by omega) (by decide) (K8_t K) (kv0 (st' := fun v => [(0, v)]) rfl (fun _ => rfl)) (H.mono (fun k v6 m7 H => ⟨H.1, ?_⟩))
    have K8 := H.2.1.2.1 K
    have t9 := Ok.tag H.2.1 (t1) (by decide)
    replace H := H.2.2
    refine v_ifeq (j := 16) rfl rfl rfl (fun q => ?_) (fun q => ?_)
    · replace H := H.1 q
      refine v_run 24 3 (pc' := 52) (ls' := [(1, 8), (0, a1), (1, a2)]) (st' := [(0, 41), (0, 41), (1, 8)]) rfl ?_
      refine v_callV (j := 27) (M' := mX4_take) (as := [(0, 41), (0, 41)]) (st := []) rfl rfl rfl rfl rfl (Nat.le_of_ble_eq_true rfl) (Nat.le_of_ble_eq_true rfl) (by omega) (by decide) (K8_t K8) (kvt (st' := fun v => [(0, v)]) rfl (fun _ => rfl) rfl) (H.mono (fun k v10 m11 H => ⟨fun z => ?_, H.2.2⟩))
      have O := H.1
      replace H := H.2.1 z
      have K12 := O.2.1 K8
      have t13 := Ok.tag O (t9) (by decide)
      refine v_run 28 2 (pc' := 57) (ls' := [(1, 8), (0, a1), (1, a2)]) (st' := [(1, a2)]) rfl ?_
      exact v_aret (j := 30) rfl rfl rfl H
    · replace H := H.2 q
      refine v_run 17 3 (pc' := 37) (ls' := [(1, 8), (0, a1), (1, a2)]) (st' := [(0, a1), (1, 8), (1, a2)]) rfl ?_
      refine v_callS (j := 20) (M' := mX4_term) (as := [(1, 8), (0, a1)]) (st := [(1, a2)]) rfl rfl rfl rfl rfl (Nat.le_of_ble_eq_true rfl) (Nat.le_of_ble_eq_true rfl) (by omega) (kvt (st' := fun v => [(1, v), (1, a2)]) rfl (fun _ => rfl) rfl) (H.mono (fun k v14 m15 H => ⟨fun z => ?_, H.2.2⟩))
      have O := H.1
      replace H := H.2.1 z
      have K16 := O.2.1 K8
      have t17 := Ok.tag O (t9) (by decide)
      obtain ⟨v20, i21, r22, r23, H⟩ := H
      refine vj_add (j := 21) rfl rfl rfl rfl (t17) (by omega) (by simp) v20 i21 r22 r23 (fun m18 e19 => ?_)
      have O24 : Ok m15 m18 := e19.1.ok (t17) (by decide)
      have K25 := O24.2.1 K16
      have t26 := Ok.tag O24 (t17) (by decide)
      replace H := H m18 e19 O24
      refine v_run 22 1 (pc' := 44) (ls' := [(1, 8), (0, a1), (1, a2)]) (st' := []) rfl ?_
      refine v_goto (j := 23) (tgt := 18) rfl rfl ?_
      exact H

set_option maxRecDepth 100000 in
set_option maxHeartbeats 4000000 in
theorem wX4_row {G : GM} {d : Nat} {P : Nat → Int → SM → Prop} {m : SM} {a1 : Int} (K : KI m) (hd : 12 ≤ d) 
    (H : (m 0 0 + 2 ≤ 1203200) ∧ (m 0 1 + 20 ≤ 5491882) ∧ (∀ m3, NAL m m3 → Ok m m3 → (WV G mX4_term 0 [(1, 8), (0, 1), (9, 0), (9, 0)] [] m3 (d - 1) (fun k v8 m9 => Ok m3 m9 ∧ (k = 0 → ((elOK m9 v8) ∧ (m9 (m 0 0) (-2) < 100000) ∧ (m9 0 0 ≤ 1203200) ∧ (m9 0 1 + 2 * m9 (m 0 0) (-2) + 20 ≤ 5491882) ∧ (∀ m12, Radd m9 (m 0 0) v8 m12 → Ok m9 m12 → (WV G mX4_row 18 [(1, 8), (0, a1), (1, (m 0 0))] [] m12 d P)))) ∧ (k ≠ 0 → P 1 v8 m9))))) :
    WV G mX4_row 0 [(1, 8), (0, a1), (9, 0)] [] m d P := by
  obtain ⟨r1, r2, H⟩ := H
  refine vj_newAL (j := 0) (ic := 23) rfl rfl rfl rfl rfl rfl rfl r1 r2 (by omega) (by simp) (fun m3 e4 => ?_)
  have O6 : Ok m m3 := e4.ok
  have K7 := O6.2.1 K
  replace H := H m3 e4 O6
  refine v_run 3 4 (pc' := 11) (ls' := [(1, 8), (0, a1), (1, (m 0 0))]) (st' := [(0, 1), (1, 8), (1, (m 0 0))]) rfl ?_
  refine v_callS (j := 7) (M' := mX4_term) (as := [(1, 8), (0, 1)]) (st := [(1, (m 0 0))]) rfl rfl rfl rfl rfl (Nat.le_of_ble_eq_true rfl) (Nat.le_of_ble_eq_true rfl) (by omega) (kvt (st' := fun v => [(1, v), (1, (m 0 0))]) rfl (fun _ => rfl) rfl) (H.mono (fun k v8 m9 H => ⟨fun z => ?_, H.2.2⟩))
  have O := H.1
  replace H := H.2.1 z
  have K10 := O.2.1 K7
  have t11 := Ok.tag O (e4.tag) (by decide)
  obtain ⟨v14, i15, r16, r17, H⟩ := H
  refine vj_add (j := 8) rfl rfl rfl rfl (t11) (by omega) (by simp) v14 i15 r16 r17 (fun m12 e13 => ?_)
  have O18 : Ok m9 m12 := e13.1.ok (t11) (by decide)
  have K19 := O18.2.1 K10
  have t20 := Ok.tag O18 (t11) (by decide)
  replace H := H m12 e13 O18
  refine v_run 9 1 (pc' := 18) (ls' := [(1, 8), (0, a1), (1, (m 0 0))]) (st' := []) rfl ?_
  exact H

set_option maxRecDepth 100000 in
set_option maxHeartbeats 4000000 in
theorem wX4_row_18 {G : GM} {d : Nat} {P : Nat → Int → SM → Prop} {m : SM} {a1 a2 : Int} (K : KI m) (hd : 12 ≤ d) 
    (H : (m a2 (-1) = 4) ∧ ((a1 ≤ (m a2 (-2)) → (WV G mX4_row 46 [(1, 8), (9, 0), (1, a2)] [] m d P)) ∧ ((m a2 (-2)) < a1 → (WV G mX4_isTerm 0 [(1, 8)] [] m (d - 1) (fun k v2 m3 => k = 0 ∧ Ok m m3 ∧ ((v2 = (0 : Int) → (WV G mX4_row 46 [(1, 8), (9, 0), (1, a2)] [] m3 d P)) ∧ (v2 ≠ (0 : Int) → (WV G mX4_term 0 [(1, 8), (0, 1), (9, 0), (9, 0)] [] m3 (d - 1) (fun k v6 m7 => Ok m3 m7 ∧ (k = 0 → ((elOK m7 v6) ∧ (m7 a2 (-2) < 100000) ∧ (m7 0 0 ≤ 1203200) ∧ (m7 0 1 + 2 * m7 a2 (-2) + 20 ≤ 5491882) ∧ (∀ m10, Radd m7 a2 v6 m10 → Ok m7 m10 → (WV G mX4_row 18 [(1, 8), (0, a1), (1, a2)] [] m10 d P)))) ∧ (k ≠ 0 → P 1 v6 m7)))))))))) :
    WV G mX4_row 18 [(1, 8), (0, a1), (1, a2)] [] m d P := by
  refine v_run 10 1 (pc' := 19) (ls' := [(1, 8), (0, a1), (1, a2)]) (st' := [(1, a2)]) rfl ?_
  obtain ⟨t1, H⟩ := H
  refine vj_size (j := 11) rfl rfl rfl rfl (t1) (by omega) (by simp) ?_
  refine v_run 12 1 (pc' := 23) (ls' := [(1, 8), (0, a1), (1, a2)]) (st' := [(0, a1), (0, (m a2 (-2)))]) rfl ?_
  refine v_icmpge (j := 13) rfl rfl rfl (fun q => ?_) (fun q => ?_)
  · replace H := H.1 q
    refine v_drp [true, false, true] ?_
    exact H
  · replace H := H.2 q
    refine v_run 14 1 (pc' := 27) (ls' := [(1, 8), (0, a1), (1, a2)]) (st' := [(1, 8)]) rfl ?_
    refine v_callV (j := 15) (M' := mX4_isTerm) (as := []) (st := []) rfl rfl rfl rfl rfl (Nat.le_of_ble_eq_true rfl) (Nat.le_of_ble_eq_true rfl) (by omega) (by decide) (K8_t K) (kv0 (st' := fun v => [(0, v)]) rfl (fun _ => rfl)) (H.mono (fun k v2 m3 H => ⟨H.1, ?_⟩))
    have K4 := H.2.1.2.1 K
    have t5 := Ok.tag H.2.1 (t1) (by decide)
    replace H := H.2.2
    refine v_ifeq (j := 16) rfl rfl rfl (fun q => ?_) (fun q => ?_)
    · replace H := H.1 q
      refine v_drp [true, false, true] ?_
      exact H
    · replace H := H.2 q
      refine v_run 17 3 (pc' := 36) (ls' := [(1, 8), (0, a1), (1, a2)]) (st' := [(0, 1), (1, 8), (1, a2)]) rfl ?_
      refine v_callS (j := 20) (M' := mX4_term) (as := [(1, 8), (0, 1)]) (st := [(1, a2)]) rfl rfl rfl rfl rfl (Nat.le_of_ble_eq_true rfl) (Nat.le_of_ble_eq_true rfl) (by omega) (kvt (st' := fun v => [(1, v), (1, a2)]) rfl (fun _ => rfl) rfl) (H.mono (fun k v6 m7 H => ⟨fun z => ?_, H.2.2⟩))
      have O := H.1
      replace H := H.2.1 z
      have K8 := O.2.1 K4
      have t9 := Ok.tag O (t5) (by decide)
      obtain ⟨v12, i13, r14, r15, H⟩ := H
      refine vj_add (j := 21) rfl rfl rfl rfl (t9) (by omega) (by simp) v12 i13 r14 r15 (fun m10 e11 => ?_)
      have O16 : Ok m7 m10 := e11.1.ok (t9) (by decide)
      have K17 := O16.2.1 K8
      have t18 := Ok.tag O16 (t9) (by decide)
      replace H := H m10 e11 O16
      refine v_run 22 1 (pc' := 43) (ls' := [(1, 8), (0, a1), (1, a2)]) (st' := []) rfl ?_
      refine v_goto (j := 23) (tgt := 18) rfl rfl ?_
      exact H

set_option maxRecDepth 100000 in
set_option maxHeartbeats 4000000 in
theorem wX4_row_46 {G : GM} {d : Nat} {P : Nat → Int → SM → Prop} {m : SM} {a2 : Int} (K : KI m) (hd : 12 ≤ d) 
    (H : WV G mX4_need 0 [(1, 8), (0, (if (m 8 5) ≠ (m 9 (-2)) then 0 else 1))] [] m (d - 1) (fun k v1 m2 => Ok m m2 ∧ (k = 0 → (P 0 a2 m2)) ∧ (k ≠ 0 → P 1 v1 m2))) :
    WV G mX4_row 46 [(1, 8), (9, 0), (1, a2)] [] m d P := by
  refine v_run 24 2 (pc' := 48) (ls' := [(1, 8), (9, 0), (1, a2)]) (st' := [(1, 8), (1, 8)]) rfl ?_
  refine v_getf (j := 26) (c := 4) (f := 5) rfl rfl rfl rfl rfl rfl rfl rfl (K8_t K) ?_
  refine v_run 27 1 (pc' := 52) (ls' := [(1, 8), (9, 0), (1, a2)]) (st' := [(1, 8), (0, (m 8 5)), (1, 8)]) rfl ?_
  refine v_getK (j := 28) (c := 4) (f := 0) rfl rfl rfl rfl rfl rfl rfl rfl (K8_t K) (K8_0 K) ?_
  refine vj_sblen (j := 29) rfl rfl rfl rfl (K9_t K) (by omega) (by simp) ?_
  have J4 : WV G mX4_row 66 [(1, 8), (9, 0), (1, a2)] [(0, (if (m 8 5) ≠ (m 9 (-2)) then 0 else 1)), (1, 8)] m d P := by
    refine v_callV (j := 34) (M' := mX4_need) (as := [(0, (if (m 8 5) ≠ (m 9 (-2)) then 0 else 1))]) (st := []) rfl rfl rfl rfl rfl (Nat.le_of_ble_eq_true rfl) (Nat.le_of_ble_eq_true rfl) (by omega) (by decide) (K8_t K) (kvt (st' := fun v => []) rfl (fun _ => rfl) rfl) (H.mono (fun k v1 m2 H => ⟨fun z => ?_, H.2.2⟩))
    have O := H.1
    replace H := H.2.1 z
    have K3 := O.2.1 K
    refine v_run 35 1 (pc' := 70) (ls' := [(1, 8), (9, 0), (1, a2)]) (st' := [(1, a2)]) rfl ?_
    exact v_aret (j := 36) rfl rfl rfl H
  refine v_icmpne (j := 30) rfl rfl rfl (fun q => ?_) (fun q => ?_)
  · rw [if_pos q] at J4
    refine v_run 33 1 (pc' := 66) (ls' := [(1, 8), (9, 0), (1, a2)]) (st' := [(0, 0), (1, 8)]) rfl ?_
    exact J4
  · rw [if_neg (fun z => z q)] at J4
    refine v_run 31 1 (pc' := 62) (ls' := [(1, 8), (9, 0), (1, a2)]) (st' := [(0, 1), (1, 8)]) rfl ?_
    refine v_goto (j := 32) (tgt := 66) rfl rfl ?_
    exact J4

set_option maxRecDepth 100000 in
set_option maxHeartbeats 4000000 in
theorem wX4_part {G : GM} {d : Nat} {P : Nat → Int → SM → Prop} {m : SM} (K : KI m) (hd : 12 ≤ d) 
    (H : WV G mX4_passes 0 [(1, 8), (0, 63), (9, 0)] [] m (d - 1) (fun k v1 m2 => k = 0 ∧ Ok m m2 ∧ ((v1 = (0 : Int) → (WV G mX4_isNext 0 [(1, 8), (0, 97), (0, 122)] [] m2 (d - 1) (fun k v4 m5 => k = 0 ∧ Ok m2 m5 ∧ ((v4 = (0 : Int) → (WV G mX4_isNext 0 [(1, 8), (0, 65), (0, 90)] [] m5 (d - 1) (fun k v7 m8 => k = 0 ∧ Ok m5 m8 ∧ ((v7 ≠ (0 : Int) → (WV G mX4_need 0 [(1, 8), (0, 1)] [] m8 (d - 1) (fun k v10 m11 => Ok m8 m11 ∧ (k = 0 → ((m11 0 0 ≤ 1203200) ∧ (m11 0 1 + 5 ≤ 5491882) ∧ (Bs m11 → ∀ m15, m15 = al m11 20 0 5 → Ok m11 m15 → (WV G mX4_term 0 [(1, 8), (0, 1), (9, 0), (9, 0)] [] m15 (d - 1) (fun k v20 m21 => Ok m15 m21 ∧ (k = 0 → (((m11 0 0) ≠ 0) ∧ (WV G mX12_init 0 [(1, (m11 0 0)), (0, 0), (0, (m15 8 5)), (0, 0), (1, v20), (1, 13)] [] m21 (d - 1) (fun k v25 m26 => k = 0 ∧ Ok m21 m26 ∧ (P 0 (m11 0 0) m26))))) ∧ (k ≠ 0 → P 1 v20 m21)))))) ∧ (k ≠ 0 → P 1 v10 m11)))) ∧ (v7 = (0 : Int) → (WV G mX4_peek 0 [(1, 8)] [] m8 (d - 1) (fun k v29 m30 => k = 0 ∧ Ok m8 m30 ∧ (WV G mX4_need 0 [(1, 8), (0, (if v29 ≠ (35 : Int) then 0 else 1))] [] m30 (d - 1) (fun k v32 m33 => Ok m30 m33 ∧ (k = 0 → ((m33 0 0 ≤ 1203200) ∧ (m33 0 1 + 5 ≤ 5491882) ∧ (Bs m33 → ∀ m37, m37 = al m33 20 0 5 → Ok m33 m37 → (WV G mX4_term 0 [(1, 8), (0, 1), (9, 0), (9, 0)] [] m37 (d - 1) (fun k v42 m43 => Ok m37 m43 ∧ (k = 0 → (((m33 0 0) ≠ 0) ∧ (WV G mX12_init 0 [(1, (m33 0 0)), (0, 0), (0, (m37 8 5)), (0, 0), (1, v42), (1, 13)] [] m43 (d - 1) (fun k v47 m48 => k = 0 ∧ Ok m43 m48 ∧ (P 0 (m33 0 0) m48))))) ∧ (k ≠ 0 → P 1 v42 m43)))))) ∧ (k ≠ 0 → P 1 v32 m33)))))))))) ∧ (v4 ≠ (0 : Int) → (WV G mX4_take 0 [(1, 8), (0, 97), (0, 122)] [] m5 (d - 1) (fun k v52 m53 => Ok m5 m53 ∧ (k = 0 → (WV G mX4_take 0 [(1, 8), (0, 58), (0, 58)] [] m53 (d - 1) (fun k v55 m56 => Ok m53 m56 ∧ (k = 0 → ((m56 0 0 ≤ 1203200) ∧ (m56 0 1 + 5 ≤ 5491882) ∧ (Bs m56 → ∀ m60, m60 = al m56 20 0 5 → Ok m56 m60 → (WV G mX4_term 0 [(1, 8), (0, 1), (9, 0), (9, 0)] [] m60 (d - 1) (fun k v65 m66 => Ok m60 m66 ∧ (k = 0 → (((m56 0 0) ≠ 0) ∧ (WV G mX12_init 0 [(1, (m56 0 0)), (0, 0), (0, (m60 8 5)), (0, v52), (1, v65), (1, 13)] [] m66 (d - 1) (fun k v70 m71 => k = 0 ∧ Ok m66 m71 ∧ (P 0 (m56 0 0) m71))))) ∧ (k ≠ 0 → P 1 v65 m66)))))) ∧ (k ≠ 0 → P 1 v55 m56)))) ∧ (k ≠ 0 → P 1 v52 m53)))))))) ∧ (v1 ≠ (0 : Int) → (WV G mX4_take 0 [(1, 8), (0, 65), (0, 90)] [] m2 (d - 1) (fun k v74 m75 => Ok m2 m75 ∧ (k = 0 → (WV G mX4_take 0 [(1, 8), (0, 40), (0, 40)] [] m75 (d - 1) (fun k v77 m78 => Ok m75 m78 ∧ (k = 0 → (WV G mX4_terms 0 [(1, 8), (0, 1), (9, 0)] [] m78 (d - 1) (fun k v80 m81 => Ok m78 m81 ∧ (k = 0 → (WV G mX4_take 0 [(1, 8), (0, 61), (0, 61)] [] m81 (d - 1) (fun k v83 m84 => Ok m81 m84 ∧ (k = 0 → (WV G mX4_term 0 [(1, 8), (0, 1), (9, 0), (9, 0)] [] m84 (d - 1) (fun k v86 m87 => Ok m84 m87 ∧ (k = 0 → ((m87 v80 (-1) = 4) ∧ (elOK m87 v86) ∧ (m87 v80 (-2) < 100000) ∧ (m87 0 0 ≤ 1203200) ∧ (m87 0 1 + 2 * m87 v80 (-2) + 20 ≤ 5491882) ∧ (∀ m90, Radd m87 v80 v86 m90 → Ok m87 m90 → ((m90 0 0 ≤ 1203200) ∧ (m90 0 1 + 5 ≤ 5491882) ∧ (Bs m90 → ∀ m101, m101 = al m90 20 0 5 → Ok m90 m101 → (((m90 0 0) ≠ 0) ∧ (WV G mX12_init 0 [(1, (m90 0 0)), (0, 1), (0, (m2 8 5)), (0, v74), (1, 0), (1, v80)] [] m101 (d - 1) (fun k v108 m109 => k = 0 ∧ Ok m101 m109 ∧ (P 0 (m90 0 0) m109))))))))) ∧ (k ≠ 0 → P 1 v86 m87)))) ∧ (k ≠ 0 → P 1 v83 m84)))) ∧ (k ≠ 0 → P 1 v80 m81)))) ∧ (k ≠ 0 → P 1 v77 m78)))) ∧ (k ≠ 0 → P 1 v74 m75))))))) :
    WV G mX4_part 0 [(1, 8), (9, 0), (9, 0), (9, 0)] [] m d P := by
  refine v_run 0 2 (pc' := 3) (ls' := [(1, 8), (9, 0), (9, 0), (9, 0)]) (st' := [(0, 63), (1, 8)]) rfl ?_
  refine v_callV (j := 2) (M' := mX4_passes) (as := [(0, 63)]) (st := []) rfl rfl rfl rfl rfl (Nat.le_of_ble_eq_true rfl) (Nat.le_of_ble_eq_true rfl) (by omega) (by decide) (K8_t K) (kv0 (st' := fun v => [(0, v)]) rfl (fun _ => rfl)) (H.mono (fun k v1 m2 H => ⟨H.1, ?_⟩))
  have K3 := H.2.1.2.1 K
  replace H := H.2.2
  refine v_ifeq (j := 3) rfl rfl rfl (fun q => ?_) (fun q => ?_)
  · replace H := H.1 q
    refine v_run 41 3 (pc' := 75) (ls' := [(1, 8), (9, 0), (9, 0), (9, 0)]) (st' := [(0, 122), (0, 97), (1, 8)]) rfl ?_
    refine v_callV (j := 44) (M' := mX4_isNext) (as := [(0, 97), (0, 122)]) (st := []) rfl rfl rfl rfl rfl (Nat.le_of_ble_eq_true rfl) (Nat.le_of_ble_eq_true rfl) (by omega) (by decide) (K8_t K3) (kv0 (st' := fun v => [(0, v)]) rfl (fun _ => rfl)) (H.mono (fun k v4 m5 H => ⟨H.1, ?_⟩))
    have K6 := H.2.1.2.1 K3
    replace H := H.2.2
    refine v_ifeq (j := 45) rfl rfl rfl (fun q => ?_) (fun q => ?_)
    · replace H := H.1 q
      refine v_run 69 4 (pc' := 128) (ls' := [(1, 8), (9, 0), (9, 0), (9, 0)]) (st' := [(0, 90), (0, 65), (1, 8), (1, 8)]) rfl ?_
      refine v_callV (j := 73) (M' := mX4_isNext) (as := [(0, 65), (0, 90)]) (st := [(1, 8)]) rfl rfl rfl rfl rfl (Nat.le_of_ble_eq_true rfl) (Nat.le_of_ble_eq_true rfl) (by omega) (by decide) (K8_t K6) (kv0 (st' := fun v => [(0, v), (1, 8)]) rfl (fun _ => rfl)) (H.mono (fun k v7 m8 H => ⟨H.1, ?_⟩))
      have K9 := H.2.1.2.1 K6
      replace H := H.2.2
      refine v_ifne (j := 74) rfl rfl rfl (fun q => ?_) (fun q => ?_)
      · replace H := H.1 q
        refine v_run 79 1 (pc' := 144) (ls' := [(1, 8), (9, 0), (9, 0), (9, 0)]) (st' := [(0, 1), (1, 8)]) rfl ?_
        refine v_goto (j := 80) (tgt := 148) rfl rfl ?_
        refine v_callV (j := 82) (M' := mX4_need) (as := [(0, 1)]) (st := []) rfl rfl rfl rfl rfl (Nat.le_of_ble_eq_true rfl) (Nat.le_of_ble_eq_true rfl) (by omega) (by decide) (K8_t K9) (kvt (st' := fun v => []) rfl (fun _ => rfl) rfl) (H.mono (fun k v10 m11 H => ⟨fun z => ?_, H.2.2⟩))
        have O := H.1
        replace H := H.2.1 z
        have K12 := O.2.1 K9
        obtain ⟨r13, r14, H⟩ := H
        refine v_new (j := 83) (c := 19) rfl rfl rfl rfl rfl rfl rfl r13 r14 (fun B m15 e16 => ?_)
        have O17 : Ok m11 m15 := Ok.nw B e16
        have K18 := O17.2.1 K12
        replace H := H B m15 e16 O17
        have t19 := al_tag B e16
        refine v_run 84 3 (pc' := 157) (ls' := [(1, 8), (9, 0), (9, 0), (9, 0)]) (st' := [(1, 8), (0, 0), (1, (m11 0 0)), (1, (m11 0 0))]) rfl ?_
        refine v_getf (j := 87) (c := 4) (f := 5) rfl rfl rfl rfl rfl rfl rfl rfl (K8_t K18) ?_
        refine v_run 88 3 (pc' := 163) (ls' := [(1, 8), (9, 0), (9, 0), (9, 0)]) (st' := [(0, 1), (1, 8), (0, 0), (0, (m15 8 5)), (0, 0), (1, (m11 0 0)), (1, (m11 0 0))]) rfl ?_
        refine v_callS (j := 91) (M' := mX4_term) (as := [(1, 8), (0, 1)]) (st := [(0, 0), (0, (m15 8 5)), (0, 0), (1, (m11 0 0)), (1, (m11 0 0))]) rfl rfl rfl rfl rfl (Nat.le_of_ble_eq_true rfl) (Nat.le_of_ble_eq_true rfl) (by omega) (kvt (st' := fun v => [(1, v), (0, 0), (0, (m15 8 5)), (0, 0), (1, (m11 0 0)), (1, (m11 0 0))]) rfl (fun _ => rfl) rfl) (H.mono (fun k v20 m21 H => ⟨fun z => ?_, H.2.2⟩))
        have O := H.1
        replace H := H.2.1 z
        have K22 := O.2.1 K18
        have t23 := Ok.tag O (t19) (by decide)
        refine v_run 92 1 (pc' := 167) (ls' := [(1, 8), (9, 0), (9, 0), (9, 0)]) (st' := [(1, 8), (1, v20), (0, 0), (0, (m15 8 5)), (0, 0), (1, (m11 0 0)), (1, (m11 0 0))]) rfl ?_
        refine v_getK (j := 93) (c := 4) (f := 2) rfl rfl rfl rfl rfl rfl rfl rfl (K8_t K22) (K8_2 K22) ?_
        obtain ⟨z24, H⟩ := H
        refine v_callI (j := 94) (M' := mX12_init) (as := [(0, 0), (0, (m15 8 5)), (0, 0), (1, v20), (1, 13)]) (st := [(1, (m11 0 0))]) rfl rfl rfl rfl rfl (Nat.le_of_ble_eq_true rfl) (Nat.le_of_ble_eq_true rfl) (by omega) z24 (kv0 (st' := fun v => [(1, (m11 0 0))]) rfl (fun _ => rfl)) (H.mono (fun k v25 m26 H => ⟨H.1, ?_⟩))
        have K27 := H.2.1.2.1 K22
        have t28 := Ok.tag H.2.1 (t23) (by decide)
        replace H := H.2.2
        exact v_aret (j := 95) rfl rfl rfl H
      · replace H := H.2 q
        refine v_run 75 1 (pc' := 135) (ls' := [(1, 8), (9, 0), (9, 0), (9, 0)]) (st' := [(1, 8), (1, 8)]) rfl ?_
        refine v_callV (j := 76) (M' := mX4_peek) (as := []) (st := [(1, 8)]) rfl rfl rfl rfl rfl (Nat.le_of_ble_eq_true rfl) (Nat.le_of_ble_eq_true rfl) (by omega) (by decide) (K8_t K9) (kv0 (st' := fun v => [(0, v), (1, 8)]) rfl (fun _ => rfl)) (H.mono (fun k v29 m30 H => ⟨H.1, ?_⟩))
        have K31 := H.2.1.2.1 K9
        replace H := H.2.2
        refine v_run 77 1 (pc' := 140) (ls' := [(1, 8), (9, 0), (9, 0), (9, 0)]) (st' := [(0, 35), (0, v29), (1, 8)]) rfl ?_
        have J51 : WV G mX4_part 148 [(1, 8), (9, 0), (9, 0), (9, 0)] [(0, (if v29 ≠ (35 : Int) then 0 else 1)), (1, 8)] m30 d P := by
          refine v_callV (j := 82) (M' := mX4_need) (as := [(0, (if v29 ≠ (35 : Int) then 0 else 1))]) (st := []) rfl rfl rfl rfl rfl (Nat.le_of_ble_eq_true rfl) (Nat.le_of_ble_eq_true rfl) (by omega) (by decide) (K8_t K31) (kvt (st' := fun v => []) rfl (fun _ => rfl) rfl) (H.mono (fun k v32 m33 H => ⟨fun z => ?_, H.2.2⟩))
          have O := H.1
          replace H := H.2.1 z
          have K34 := O.2.1 K31
          obtain ⟨r35, r36, H⟩ := H
          refine v_new (j := 83) (c := 19) rfl rfl rfl rfl rfl rfl rfl r35 r36 (fun B m37 e38 => ?_)
          have O39 : Ok m33 m37 := Ok.nw B e38
          have K40 := O39.2.1 K34
          replace H := H B m37 e38 O39
          have t41 := al_tag B e38
          refine v_run 84 3 (pc' := 157) (ls' := [(1, 8), (9, 0), (9, 0), (9, 0)]) (st' := [(1, 8), (0, 0), (1, (m33 0 0)), (1, (m33 0 0))]) rfl ?_
          refine v_getf (j := 87) (c := 4) (f := 5) rfl rfl rfl rfl rfl rfl rfl rfl (K8_t K40) ?_
          refine v_run 88 3 (pc' := 163) (ls' := [(1, 8), (9, 0), (9, 0), (9, 0)]) (st' := [(0, 1), (1, 8), (0, 0), (0, (m37 8 5)), (0, 0), (1, (m33 0 0)), (1, (m33 0 0))]) rfl ?_
          refine v_callS (j := 91) (M' := mX4_term) (as := [(1, 8), (0, 1)]) (st := [(0, 0), (0, (m37 8 5)), (0, 0), (1, (m33 0 0)), (1, (m33 0 0))]) rfl rfl rfl rfl rfl (Nat.le_of_ble_eq_true rfl) (Nat.le_of_ble_eq_true rfl) (by omega) (kvt (st' := fun v => [(1, v), (0, 0), (0, (m37 8 5)), (0, 0), (1, (m33 0 0)), (1, (m33 0 0))]) rfl (fun _ => rfl) rfl) (H.mono (fun k v42 m43 H => ⟨fun z => ?_, H.2.2⟩))
          have O := H.1
          replace H := H.2.1 z
          have K44 := O.2.1 K40
          have t45 := Ok.tag O (t41) (by decide)
          refine v_run 92 1 (pc' := 167) (ls' := [(1, 8), (9, 0), (9, 0), (9, 0)]) (st' := [(1, 8), (1, v42), (0, 0), (0, (m37 8 5)), (0, 0), (1, (m33 0 0)), (1, (m33 0 0))]) rfl ?_
          refine v_getK (j := 93) (c := 4) (f := 2) rfl rfl rfl rfl rfl rfl rfl rfl (K8_t K44) (K8_2 K44) ?_
          obtain ⟨z46, H⟩ := H
          refine v_callI (j := 94) (M' := mX12_init) (as := [(0, 0), (0, (m37 8 5)), (0, 0), (1, v42), (1, 13)]) (st := [(1, (m33 0 0))]) rfl rfl rfl rfl rfl (Nat.le_of_ble_eq_true rfl) (Nat.le_of_ble_eq_true rfl) (by omega) z46 (kv0 (st' := fun v => [(1, (m33 0 0))]) rfl (fun _ => rfl)) (H.mono (fun k v47 m48 H => ⟨H.1, ?_⟩))
          have K49 := H.2.1.2.1 K44
          have t50 := Ok.tag H.2.1 (t45) (by decide)
          replace H := H.2.2
          exact v_aret (j := 95) rfl rfl rfl H
        refine v_icmpne (j := 78) rfl rfl rfl (fun q => ?_) (fun q => ?_)
        · rw [if_pos q] at J51
          refine v_run 81 1 (pc' := 148) (ls' := [(1, 8), (9, 0), (9, 0), (9, 0)]) (st' := [(0, 0), (1, 8)]) rfl ?_
          exact J51
        · rw [if_neg (fun z => z q)] at J51
          refine v_run 79 1 (pc' := 144) (ls' := [(1, 8), (9, 0), (9, 0), (9, 0)]) (st' := [(0, 1), (1, 8)]) rfl ?_
          refine v_goto (j := 80) (tgt := 148) rfl rfl ?_
          exact J51
    · replace H := H.2 q
      refine v_run 46 3 (pc' := 86) (ls' := [(1, 8), (9, 0), (9, 0), (9, 0)]) (st' := [(0, 122), (0, 97), (1, 8)]) rfl ?_
      refine v_callV (j := 49) (M' := mX4_take) (as := [(0, 97), (0, 122)]) (st := []) rfl rfl rfl rfl rfl (Nat.le_of_ble_eq_true rfl) (Nat.le_of_ble_eq_true rfl) (by omega) (by decide) (K8_t K6) (kvt (st' := fun v => [(0, v)]) rfl (fun _ => rfl) rfl) (H.mono (fun k v52 m53 H => ⟨fun z => ?_, H.2.2⟩))
      have O := H.1
      replace H := H.2.1 z
      have K54 := O.2.1 K6
      refine v_run 50 4 (pc' := 95) (ls' := [(1, 8), (0, v52), (9, 0), (9, 0)]) (st' := [(0, 58), (0, 58), (1, 8)]) rfl ?_
      refine v_callV (j := 54) (M' := mX4_take) (as := [(0, 58), (0, 58)]) (st := []) rfl rfl rfl rfl rfl (Nat.le_of_ble_eq_true rfl) (Nat.le_of_ble_eq_true rfl) (by omega) (by decide) (K8_t K54) (kvt (st' := fun v => [(0, v)]) rfl (fun _ => rfl) rfl) (H.mono (fun k v55 m56 H => ⟨fun z => ?_, H.2.2⟩))
      have O := H.1
      replace H := H.2.1 z
      have K57 := O.2.1 K54
      refine v_run 55 1 (pc' := 99) (ls' := [(1, 8), (0, v52), (9, 0), (9, 0)]) (st' := []) rfl ?_
      obtain ⟨r58, r59, H⟩ := H
      refine v_new (j := 56) (c := 19) rfl rfl rfl rfl rfl rfl rfl r58 r59 (fun B m60 e61 => ?_)
      have O62 : Ok m56 m60 := Ok.nw B e61
      have K63 := O62.2.1 K57
      replace H := H B m60 e61 O62
      have t64 := al_tag B e61
      refine v_run 57 3 (pc' := 105) (ls' := [(1, 8), (0, v52), (9, 0), (9, 0)]) (st' := [(1, 8), (0, 0), (1, (m56 0 0)), (1, (m56 0 0))]) rfl ?_
      refine v_getf (j := 60) (c := 4) (f := 5) rfl rfl rfl rfl rfl rfl rfl rfl (K8_t K63) ?_
      refine v_run 61 3 (pc' := 111) (ls' := [(1, 8), (0, v52), (9, 0), (9, 0)]) (st' := [(0, 1), (1, 8), (0, v52), (0, (m60 8 5)), (0, 0), (1, (m56 0 0)), (1, (m56 0 0))]) rfl ?_
      refine v_callS (j := 64) (M' := mX4_term) (as := [(1, 8), (0, 1)]) (st := [(0, v52), (0, (m60 8 5)), (0, 0), (1, (m56 0 0)), (1, (m56 0 0))]) rfl rfl rfl rfl rfl (Nat.le_of_ble_eq_true rfl) (Nat.le_of_ble_eq_true rfl) (by omega) (kvt (st' := fun v => [(1, v), (0, v52), (0, (m60 8 5)), (0, 0), (1, (m56 0 0)), (1, (m56 0 0))]) rfl (fun _ => rfl) rfl) (H.mono (fun k v65 m66 H => ⟨fun z => ?_, H.2.2⟩))
      have O := H.1
      replace H := H.2.1 z
      have K67 := O.2.1 K63
      have t68 := Ok.tag O (t64) (by decide)
      refine v_run 65 1 (pc' := 115) (ls' := [(1, 8), (0, v52), (9, 0), (9, 0)]) (st' := [(1, 8), (1, v65), (0, v52), (0, (m60 8 5)), (0, 0), (1, (m56 0 0)), (1, (m56 0 0))]) rfl ?_
      refine v_getK (j := 66) (c := 4) (f := 2) rfl rfl rfl rfl rfl rfl rfl rfl (K8_t K67) (K8_2 K67) ?_
      obtain ⟨z69, H⟩ := H
      refine v_callI (j := 67) (M' := mX12_init) (as := [(0, 0), (0, (m60 8 5)), (0, v52), (1, v65), (1, 13)]) (st := [(1, (m56 0 0))]) rfl rfl rfl rfl rfl (Nat.le_of_ble_eq_true rfl) (Nat.le_of_ble_eq_true rfl) (by omega) z69 (kv0 (st' := fun v => [(1, (m56 0 0))]) rfl (fun _ => rfl)) (H.mono (fun k v70 m71 H => ⟨H.1, ?_⟩))
      have K72 := H.2.1.2.1 K67
      have t73 := Ok.tag H.2.1 (t68) (by decide)
      replace H := H.2.2
      exact v_aret (j := 68) rfl rfl rfl H
  · replace H := H.2 q
    refine v_run 4 1 (pc' := 10) (ls' := [(1, 8), (9, 0), (9, 0), (9, 0)]) (st' := [(1, 8)]) rfl ?_
    refine v_getf (j := 5) (c := 4) (f := 5) rfl rfl rfl rfl rfl rfl rfl rfl (K8_t K3) ?_
    refine v_run 6 4 (pc' := 19) (ls' := [(1, 8), (0, (m2 8 5)), (9, 0), (9, 0)]) (st' := [(0, 90), (0, 65), (1, 8)]) rfl ?_
    refine v_callV (j := 10) (M' := mX4_take) (as := [(0, 65), (0, 90)]) (st := []) rfl rfl rfl rfl rfl (Nat.le_of_ble_eq_true rfl) (Nat.le_of_ble_eq_true rfl) (by omega) (by decide) (K8_t K3) (kvt (st' := fun v => [(0, v)]) rfl (fun _ => rfl) rfl) (H.mono (fun k v74 m75 H => ⟨fun z => ?_, H.2.2⟩))
    have O := H.1
    replace H := H.2.1 z
    have K76 := O.2.1 K3
    refine v_run 11 4 (pc' := 28) (ls' := [(1, 8), (0, (m2 8 5)), (0, v74), (9, 0)]) (st' := [(0, 40), (0, 40), (1, 8)]) rfl ?_
    refine v_callV (j := 15) (M' := mX4_take) (as := [(0, 40), (0, 40)]) (st := []) rfl rfl rfl rfl rfl (Nat.le_of_ble_eq_true rfl) (Nat.le_of_ble_eq_true rfl) (by omega) (by decide) (K8_t K76) (kvt (st' := fun v => [(0, v)]) rfl (fun _ => rfl) rfl) (H.mono (fun k v77 m78 H => ⟨fun z => ?_, H.2.2⟩))
    have O := H.1
    replace H := H.2.1 z
    have K79 := O.2.1 K76
    refine v_run 16 3 (pc' := 34) (ls' := [(1, 8), (0, (m2 8 5)), (0, v74), (9, 0)]) (st' := [(0, 1), (1, 8)]) rfl ?_
    refine v_callS (j := 19) (M' := mX4_terms) (as := [(1, 8), (0, 1)]) (st := []) rfl rfl rfl rfl rfl (Nat.le_of_ble_eq_true rfl) (Nat.le_of_ble_eq_true rfl) (by omega) (kvt (st' := fun v => [(1, v)]) rfl (fun _ => rfl) rfl) (H.mono (fun k v80 m81 H => ⟨fun z => ?_, H.2.2⟩))
    have O := H.1
    replace H := H.2.1 z
    have K82 := O.2.1 K79
    refine v_run 20 4 (pc' := 43) (ls' := [(1, 8), (0, (m2 8 5)), (0, v74), (1, v80)]) (st' := [(0, 61), (0, 61), (1, 8)]) rfl ?_
    refine v_callV (j := 24) (M' := mX4_take) (as := [(0, 61), (0, 61)]) (st := []) rfl rfl rfl rfl rfl (Nat.le_of_ble_eq_true rfl) (Nat.le_of_ble_eq_true rfl) (by omega) (by decide) (K8_t K82) (kvt (st' := fun v => [(0, v)]) rfl (fun _ => rfl) rfl) (H.mono (fun k v83 m84 H => ⟨fun z => ?_, H.2.2⟩))
    have O := H.1
    replace H := H.2.1 z
    have K85 := O.2.1 K82
    refine v_run 25 4 (pc' := 50) (ls' := [(1, 8), (0, (m2 8 5)), (0, v74), (1, v80)]) (st' := [(0, 1), (1, 8), (1, v80)]) rfl ?_
    refine v_callS (j := 29) (M' := mX4_term) (as := [(1, 8), (0, 1)]) (st := [(1, v80)]) rfl rfl rfl rfl rfl (Nat.le_of_ble_eq_true rfl) (Nat.le_of_ble_eq_true rfl) (by omega) (kvt (st' := fun v => [(1, v), (1, v80)]) rfl (fun _ => rfl) rfl) (H.mono (fun k v86 m87 H => ⟨fun z => ?_, H.2.2⟩))
    have O := H.1
    replace H := H.2.1 z
    have K88 := O.2.1 K85
    obtain ⟨t89, v92, i93, r94, r95, H⟩ := H
    refine vj_add (j := 30) rfl rfl rfl rfl (t89) (by omega) (by simp) v92 i93 r94 r95 (fun m90 e91 => ?_)
    have O96 : Ok m87 m90 := e91.1.ok (t89) (by decide)
    have K97 := O96.2.1 K88
    have t98 := Ok.tag O96 (t89) (by decide)
    replace H := H m90 e91 O96
    refine v_run 31 1 (pc' := 57) (ls' := [(1, 8), (0, (m2 8 5)), (0, v74), (1, v80)]) (st' := []) rfl ?_
    obtain ⟨r99, r100, H⟩ := H
    refine v_new (j := 32) (c := 19) rfl rfl rfl rfl rfl rfl rfl r99 r100 (fun B m101 e102 => ?_)
    have O103 : Ok m90 m101 := Ok.nw B e102
    have K104 := O103.2.1 K97
    have t105 := Ok.tag O103 (t98) (by decide)
    replace H := H B m101 e102 O103
    have t106 := al_tag B e102
    refine v_run 33 6 (pc' := 66) (ls' := [(1, 8), (0, (m2 8 5)), (0, v74), (1, v80)]) (st' := [(1, v80), (1, 0), (0, v74), (0, (m2 8 5)), (0, 1), (1, (m90 0 0)), (1, (m90 0 0))]) rfl ?_
    obtain ⟨z107, H⟩ := H
    refine v_callI (j := 39) (M' := mX12_init) (as := [(0, 1), (0, (m2 8 5)), (0, v74), (1, 0), (1, v80)]) (st := [(1, (m90 0 0))]) rfl rfl rfl rfl rfl (Nat.le_of_ble_eq_true rfl) (Nat.le_of_ble_eq_true rfl) (by omega) z107 (kv0 (st' := fun v => [(1, (m90 0 0))]) rfl (fun _ => rfl)) (H.mono (fun k v108 m109 H => ⟨H.1, ?_⟩))
    have K110 := H.2.1.2.1 K104
    have t111 := Ok.tag H.2.1 (t105) (by decide)
    have t112 := Ok.tag H.2.1 (t106) (by decide)
    replace H := H.2.2
    exact v_aret (j := 40) rfl rfl rfl H

set_option maxRecDepth 100000 in
set_option maxHeartbeats 4000000 in
theorem wX4_declaration {G : GM} {d : Nat} {P : Nat → Int → SM → Prop} {m : SM} (K : KI m) (hd : 12 ≤ d) 
    (H : (m 0 0 + 2 ≤ 1203200) ∧ (m 0 1 + 20 ≤ 5491882) ∧ (∀ m3, NAL m m3 → Ok m m3 → (WV G mX4_peek 0 [(1, 8)] [] m3 (d - 1) (fun k v8 m9 => k = 0 ∧ Ok m3 m9 ∧ ((v8 = (62 : Int) → (WV G mX4_declaration 56 [(1, 8), (1, (m 0 0)), (9, 0), (9, 0)] [] m9 d P)) ∧ (v8 ≠ (62 : Int) → (WV G mX4_part 0 [(1, 8), (9, 0), (9, 0), (9, 0)] [] m9 (d - 1) (fun k v12 m13 => Ok m9 m13 ∧ (k = 0 → ((elOK m13 v12) ∧ (m13 (m 0 0) (-2) < 100000) ∧ (m13 0 0 ≤ 1203200) ∧ (m13 0 1 + 2 * m13 (m 0 0) (-2) + 20 ≤ 5491882) ∧ (∀ m16, Radd m13 (m 0 0) v12 m16 → Ok m13 m16 → (WV G mX4_declaration 26 [(1, 8), (1, (m 0 0)), (9, 0), (9, 0)] [] m16 d P)))) ∧ (k ≠ 0 → P 1 v12 m13))))))))) :
    WV G mX4_declaration 0 [(1, 8), (9, 0), (9, 0), (9, 0)] [] m d P := by
  obtain ⟨r1, r2, H⟩ := H
  refine vj_newAL (j := 0) (ic := 23) rfl rfl rfl rfl rfl rfl rfl r1 r2 (by omega) (by simp) (fun m3 e4 => ?_)
  have O6 : Ok m m3 := e4.ok
  have K7 := O6.2.1 K
  replace H := H m3 e4 O6
  refine v_run 3 2 (pc' := 9) (ls' := [(1, 8), (1, (m 0 0)), (9, 0), (9, 0)]) (st' := [(1, 8)]) rfl ?_
  refine v_callV (j := 5) (M' := mX4_peek) (as := []) (st := []) rfl rfl rfl rfl rfl (Nat.le_of_ble_eq_true rfl) (Nat.le_of_ble_eq_true rfl) (by omega) (by decide) (K8_t K7) (kv0 (st' := fun v => [(0, v)]) rfl (fun _ => rfl)) (H.mono (fun k v8 m9 H => ⟨H.1, ?_⟩))
  have K10 := H.2.1.2.1 K7
  have t11 := Ok.tag H.2.1 (e4.tag) (by decide)
  replace H := H.2.2
  refine v_run 6 1 (pc' := 14) (ls' := [(1, 8), (1, (m 0 0)), (9, 0), (9, 0)]) (st' := [(0, 62), (0, v8)]) rfl ?_
  refine v_icmpeq (j := 7) rfl rfl rfl (fun q => ?_) (fun q => ?_)
  · replace H := H.1 q
    exact H
  · replace H := H.2 q
    refine v_run 8 2 (pc' := 19) (ls' := [(1, 8), (1, (m 0 0)), (9, 0), (9, 0)]) (st' := [(1, 8), (1, (m 0 0))]) rfl ?_
    refine v_callV (j := 10) (M' := mX4_part) (as := []) (st := [(1, (m 0 0))]) rfl rfl rfl rfl rfl (Nat.le_of_ble_eq_true rfl) (Nat.le_of_ble_eq_true rfl) (by omega) (by decide) (K8_t K10) (kvt (st' := fun v => [(1, v), (1, (m 0 0))]) rfl (fun _ => rfl) rfl) (H.mono (fun k v12 m13 H => ⟨fun z => ?_, H.2.2⟩))
    have O := H.1
    replace H := H.2.1 z
    have K14 := O.2.1 K10
    have t15 := Ok.tag O (t11) (by decide)
    obtain ⟨v18, i19, r20, r21, H⟩ := H
    refine vj_add (j := 11) rfl rfl rfl rfl (t15) (by omega) (by simp) v18 i19 r20 r21 (fun m16 e17 => ?_)
    have O22 : Ok m13 m16 := e17.1.ok (t15) (by decide)
    have K23 := O22.2.1 K14
    have t24 := Ok.tag O22 (t15) (by decide)
    replace H := H m16 e17 O22
    refine v_run 12 1 (pc' := 26) (ls' := [(1, 8), (1, (m 0 0)), (9, 0), (9, 0)]) (st' := []) rfl ?_
    exact H

set_option maxRecDepth 100000 in
set_option maxHeartbeats 4000000 in
theorem wX4_declaration_26 {G : GM} {d : Nat} {P : Nat → Int → SM → Prop} {m : SM} {a1 : Int} (K : KI m) (hd : 12 ≤ d) 
    (H : (m a1 (-1) = 4) ∧ (((6 : Int) ≤ (m a1 (-2)) → (WV G mX4_declaration 56 [(1, 8), (1, a1), (9, 0), (9, 0)] [] m d P)) ∧ ((m a1 (-2)) < (6 : Int) → (WV G mX4_passes 0 [(1, 8), (0, 44), (9, 0)] [] m (d - 1) (fun k v2 m3 => k = 0 ∧ Ok m m3 ∧ ((v2 = (0 : Int) → (WV G mX4_declaration 56 [(1, 8), (1, a1), (9, 0), (9, 0)] [] m3 d P)) ∧ (v2 ≠ (0 : Int) → (WV G mX4_part 0 [(1, 8), (9, 0), (9, 0), (9, 0)] [] m3 (d - 1) (fun k v6 m7 => Ok m3 m7 ∧ (k = 0 → ((elOK m7 v6) ∧ (m7 a1 (-2) < 100000) ∧ (m7 0 0 ≤ 1203200) ∧ (m7 0 1 + 2 * m7 a1 (-2) + 20 ≤ 5491882) ∧ (∀ m10, Radd m7 a1 v6 m10 → Ok m7 m10 → (WV G mX4_declaration 26 [(1, 8), (1, a1), (9, 0), (9, 0)] [] m10 d P)))) ∧ (k ≠ 0 → P 1 v6 m7)))))))))) :
    WV G mX4_declaration 26 [(1, 8), (1, a1), (9, 0), (9, 0)] [] m d P := by
  refine v_run 13 1 (pc' := 27) (ls' := [(1, 8), (1, a1), (9, 0), (9, 0)]) (st' := [(1, a1)]) rfl ?_
  obtain ⟨t1, H⟩ := H
  refine vj_size (j := 14) rfl rfl rfl rfl (t1) (by omega) (by simp) ?_
  refine v_run 15 1 (pc' := 32) (ls' := [(1, 8), (1, a1), (9, 0), (9, 0)]) (st' := [(0, 6), (0, (m a1 (-2)))]) rfl ?_
  refine v_icmpge (j := 16) rfl rfl rfl (fun q => ?_) (fun q => ?_)
  · replace H := H.1 q
    exact H
  · replace H := H.2 q
    refine v_run 17 2 (pc' := 38) (ls' := [(1, 8), (1, a1), (9, 0), (9, 0)]) (st' := [(0, 44), (1, 8)]) rfl ?_
    refine v_callV (j := 19) (M' := mX4_passes) (as := [(0, 44)]) (st := []) rfl rfl rfl rfl rfl (Nat.le_of_ble_eq_true rfl) (Nat.le_of_ble_eq_true rfl) (by omega) (by decide) (K8_t K) (kv0 (st' := fun v => [(0, v)]) rfl (fun _ => rfl)) (H.mono (fun k v2 m3 H => ⟨H.1, ?_⟩))
    have K4 := H.2.1.2.1 K
    have t5 := Ok.tag H.2.1 (t1) (by decide)
    replace H := H.2.2
    refine v_ifeq (j := 20) rfl rfl rfl (fun q => ?_) (fun q => ?_)
    · replace H := H.1 q
      exact H
    · replace H := H.2 q
      refine v_run 21 2 (pc' := 46) (ls' := [(1, 8), (1, a1), (9, 0), (9, 0)]) (st' := [(1, 8), (1, a1)]) rfl ?_
      refine v_callV (j := 23) (M' := mX4_part) (as := []) (st := [(1, a1)]) rfl rfl rfl rfl rfl (Nat.le_of_ble_eq_true rfl) (Nat.le_of_ble_eq_true rfl) (by omega) (by decide) (K8_t K4) (kvt (st' := fun v => [(1, v), (1, a1)]) rfl (fun _ => rfl) rfl) (H.mono (fun k v6 m7 H => ⟨fun z => ?_, H.2.2⟩))
      have O := H.1
      replace H := H.2.1 z
      have K8 := O.2.1 K4
      have t9 := Ok.tag O (t5) (by decide)
      obtain ⟨v12, i13, r14, r15, H⟩ := H
      refine vj_add (j := 24) rfl rfl rfl rfl (t9) (by omega) (by simp) v12 i13 r14 r15 (fun m10 e11 => ?_)
      have O16 : Ok m7 m10 := e11.1.ok (t9) (by decide)
      have K17 := O16.2.1 K8
      have t18 := Ok.tag O16 (t9) (by decide)
      replace H := H m10 e11 O16
      refine v_run 25 1 (pc' := 53) (ls' := [(1, 8), (1, a1), (9, 0), (9, 0)]) (st' := []) rfl ?_
      refine v_goto (j := 26) (tgt := 26) rfl rfl ?_
      exact H

set_option maxRecDepth 100000 in
set_option maxHeartbeats 4000000 in
theorem wX4_declaration_56 {G : GM} {d : Nat} {P : Nat → Int → SM → Prop} {m : SM} {a1 : Int} (K : KI m) (hd : 12 ≤ d) 
    (H : WV G mX4_take 0 [(1, 8), (0, 62), (0, 62)] [] m (d - 1) (fun k v1 m2 => Ok m m2 ∧ (k = 0 → ((m2 0 0 ≤ 1203200) ∧ (m2 0 1 + 5 ≤ 5491882) ∧ (Bs m2 → ∀ m6, m6 = al m2 11 0 5 → Ok m2 m6 → (((m2 0 0) ≠ 0) ∧ (WV G mX9_init 0 [(1, (m2 0 0))] [] m6 (d - 1) (fun k v12 m13 => k = 0 ∧ Ok m6 m13 ∧ (∀ m16, m16 = up m13 (m2 0 0) 0 (-15) → Ok m13 m16 → ((m16 0 0 ≤ 1203200) ∧ (m16 0 1 + 4 ≤ 5491882) ∧ (Bs m16 → ∀ m23, m23 = al m16 21 0 4 → Ok m16 m23 → (WV G mX4_passes 0 [(1, 8), (0, 42), (9, 0)] [] m23 (d - 1) (fun k v29 m30 => k = 0 ∧ Ok m23 m30 ∧ ((v29 = (0 : Int) → (WV G mX4_term 0 [(1, 8), (0, 1), (9, 0), (9, 0)] [] m30 (d - 1) (fun k v34 m35 => Ok m30 m35 ∧ (k = 0 → (((m16 0 0) ≠ 0) ∧ (WV G mX13_init 0 [(1, (m16 0 0)), (1, a1), (1, v34), (1, (m2 0 0)), (9, 0)] [] m35 (d - 1) (fun k v40 m41 => k = 0 ∧ Ok m35 m41 ∧ (WV G mX4_need 0 [(1, 8), (0, (if (m41 8 5) ≠ (m41 9 (-2)) then 0 else 1))] [] m41 (d - 1) (fun k v45 m46 => Ok m41 m46 ∧ (k = 0 → (P 0 (m16 0 0) m46)) ∧ (k ≠ 0 → P 1 v45 m46))))))) ∧ (k ≠ 0 → P 1 v34 m35)))) ∧ (v29 ≠ (0 : Int) → (((m16 0 0) ≠ 0) ∧ (WV G mX13_init 0 [(1, (m16 0 0)), (1, a1), (1, 0), (1, (m2 0 0)), (9, 0)] [] m30 (d - 1) (fun k v52 m53 => k = 0 ∧ Ok m30 m53 ∧ (WV G mX4_need 0 [(1, 8), (0, (if (m53 8 5) ≠ (m53 9 (-2)) then 0 else 1))] [] m53 (d - 1) (fun k v57 m58 => Ok m53 m58 ∧ (k = 0 → (P 0 (m16 0 0) m58)) ∧ (k ≠ 0 → P 1 v57 m58))))))))))))))))))) ∧ (k ≠ 0 → P 1 v1 m2))) :
    WV G mX4_declaration 56 [(1, 8), (1, a1), (9, 0), (9, 0)] [] m d P := by
  refine v_run 27 3 (pc' := 61) (ls' := [(1, 8), (1, a1), (9, 0), (9, 0)]) (st' := [(0, 62), (0, 62), (1, 8)]) rfl ?_
  refine v_callV (j := 30) (M' := mX4_take) (as := [(0, 62), (0, 62)]) (st := []) rfl rfl rfl rfl rfl (Nat.le_of_ble_eq_true rfl) (Nat.le_of_ble_eq_true rfl) (by omega) (by decide) (K8_t K) (kvt (st' := fun v => [(0, v)]) rfl (fun _ => rfl) rfl) (H.mono (fun k v1 m2 H => ⟨fun z => ?_, H.2.2⟩))
  have O := H.1
  replace H := H.2.1 z
  have K3 := O.2.1 K
  refine v_run 31 1 (pc' := 65) (ls' := [(1, 8), (1, a1), (9, 0), (9, 0)]) (st' := []) rfl ?_
  obtain ⟨r4, r5, H⟩ := H
  refine v_new (j := 32) (c := 10) rfl rfl rfl rfl rfl rfl rfl r4 r5 (fun B m6 e7 => ?_)
  have O8 : Ok m2 m6 := Ok.nw B e7
  have K9 := O8.2.1 K3
  replace H := H B m6 e7 O8
  have t10 := al_tag B e7
  refine v_run 33 1 (pc' := 69) (ls' := [(1, 8), (1, a1), (9, 0), (9, 0)]) (st' := [(1, (m2 0 0)), (1, (m2 0 0))]) rfl ?_
  obtain ⟨z11, H⟩ := H
  refine v_callI (j := 34) (M' := mX9_init) (as := []) (st := [(1, (m2 0 0))]) rfl rfl rfl rfl rfl (Nat.le_of_ble_eq_true rfl) (Nat.le_of_ble_eq_true rfl) (by omega) z11 (kv0 (st' := fun v => [(1, (m2 0 0))]) rfl (fun _ => rfl)) (H.mono (fun k v12 m13 H => ⟨H.1, ?_⟩))
  have K14 := H.2.1.2.1 K9
  have t15 := Ok.tag H.2.1 (t10) (by decide)
  replace H := H.2.2
  refine v_run 35 2 (pc' := 74) (ls' := [(1, 8), (1, a1), (1, (m2 0 0)), (9, 0)]) (st' := [(1, (m2 0 0))]) rfl ?_
  refine v_gets (j := 37) (g := 1) (v := (-15)) rfl rfl rfl rfl ?_
  refine v_putf (j := 38) (c := 10) (f := 0) rfl rfl rfl rfl (by decide +kernel) rfl rfl rfl rfl (t15) trivial (fun m16 e17 => ?_)
  have O18 : Ok m13 m16 := Ok.wf e17 (t15) (by decide) (by decide)
  have K19 := O18.2.1 K14
  have t20 := Ok.tag O18 (t15) (by decide)
  replace H := H m16 e17 O18
  obtain ⟨r21, r22, H⟩ := H
  refine v_new (j := 39) (c := 20) rfl rfl rfl rfl rfl rfl rfl r21 r22 (fun B m23 e24 => ?_)
  have O25 : Ok m16 m23 := Ok.nw B e24
  have K26 := O25.2.1 K19
  have t27 := Ok.tag O25 (t20) (by decide)
  replace H := H B m23 e24 O25
  have t28 := al_tag B e24
  refine v_run 40 4 (pc' := 88) (ls' := [(1, 8), (1, a1), (1, (m2 0 0)), (9, 0)]) (st' := [(0, 42), (1, 8), (1, a1), (1, (m16 0 0)), (1, (m16 0 0))]) rfl ?_
  refine v_callV (j := 44) (M' := mX4_passes) (as := [(0, 42)]) (st := [(1, a1), (1, (m16 0 0)), (1, (m16 0 0))]) rfl rfl rfl rfl rfl (Nat.le_of_ble_eq_true rfl) (Nat.le_of_ble_eq_true rfl) (by omega) (by decide) (K8_t K26) (kv0 (st' := fun v => [(0, v), (1, a1), (1, (m16 0 0)), (1, (m16 0 0))]) rfl (fun _ => rfl)) (H.mono (fun k v29 m30 H => ⟨H.1, ?_⟩))
  have K31 := H.2.1.2.1 K26
  have t32 := Ok.tag H.2.1 (t27) (by decide)
  have t33 := Ok.tag H.2.1 (t28) (by decide)
  replace H := H.2.2
  refine v_ifeq (j := 45) rfl rfl rfl (fun q => ?_) (fun q => ?_)
  · replace H := H.1 q
    refine v_run 48 2 (pc' := 100) (ls' := [(1, 8), (1, a1), (1, (m2 0 0)), (9, 0)]) (st' := [(0, 1), (1, 8), (1, a1), (1, (m16 0 0)), (1, (m16 0 0))]) rfl ?_
    refine v_callS (j := 50) (M' := mX4_term) (as := [(1, 8), (0, 1)]) (st := [(1, a1), (1, (m16 0 0)), (1, (m16 0 0))]) rfl rfl rfl rfl rfl (Nat.le_of_ble_eq_true rfl) (Nat.le_of_ble_eq_true rfl) (by omega) (kvt (st' := fun v => [(1, v), (1, a1), (1, (m16 0 0)), (1, (m16 0 0))]) rfl (fun _ => rfl) rfl) (H.mono (fun k v34 m35 H => ⟨fun z => ?_, H.2.2⟩))
    have O := H.1
    replace H := H.2.1 z
    have K36 := O.2.1 K31
    have t37 := Ok.tag O (t32) (by decide)
    have t38 := Ok.tag O (t33) (by decide)
    refine v_run 51 1 (pc' := 104) (ls' := [(1, 8), (1, a1), (1, (m2 0 0)), (9, 0)]) (st' := [(1, (m2 0 0)), (1, v34), (1, a1), (1, (m16 0 0)), (1, (m16 0 0))]) rfl ?_
    obtain ⟨z39, H⟩ := H
    refine v_callI (j := 52) (M' := mX13_init) (as := [(1, a1), (1, v34), (1, (m2 0 0))]) (st := [(1, (m16 0 0))]) rfl rfl rfl rfl rfl (Nat.le_of_ble_eq_true rfl) (Nat.le_of_ble_eq_true rfl) (by omega) z39 (kv0 (st' := fun v => [(1, (m16 0 0))]) rfl (fun _ => rfl)) (H.mono (fun k v40 m41 H => ⟨H.1, ?_⟩))
    have K42 := H.2.1.2.1 K36
    have t43 := Ok.tag H.2.1 (t37) (by decide)
    have t44 := Ok.tag H.2.1 (t38) (by decide)
    replace H := H.2.2
    refine v_run 53 3 (pc' := 110) (ls' := [(1, 8), (1, a1), (1, (m2 0 0)), (1, (m16 0 0))]) (st' := [(1, 8), (1, 8)]) rfl ?_
    refine v_getf (j := 56) (c := 4) (f := 5) rfl rfl rfl rfl rfl rfl rfl rfl (K8_t K42) ?_
    refine v_run 57 1 (pc' := 114) (ls' := [(1, 8), (1, a1), (1, (m2 0 0)), (1, (m16 0 0))]) (st' := [(1, 8), (0, (m41 8 5)), (1, 8)]) rfl ?_
    refine v_getK (j := 58) (c := 4) (f := 0) rfl rfl rfl rfl rfl rfl rfl rfl (K8_t K42) (K8_0 K42) ?_
    refine vj_sblen (j := 59) rfl rfl rfl rfl (K9_t K42) (by omega) (by simp) ?_
    have J50 : WV G mX4_declaration 128 [(1, 8), (1, a1), (1, (m2 0 0)), (1, (m16 0 0))] [(0, (if (m41 8 5) ≠ (m41 9 (-2)) then 0 else 1)), (1, 8)] m41 d P := by
      refine v_callV (j := 64) (M' := mX4_need) (as := [(0, (if (m41 8 5) ≠ (m41 9 (-2)) then 0 else 1))]) (st := []) rfl rfl rfl rfl rfl (Nat.le_of_ble_eq_true rfl) (Nat.le_of_ble_eq_true rfl) (by omega) (by decide) (K8_t K42) (kvt (st' := fun v => []) rfl (fun _ => rfl) rfl) (H.mono (fun k v45 m46 H => ⟨fun z => ?_, H.2.2⟩))
      have O := H.1
      replace H := H.2.1 z
      have K47 := O.2.1 K42
      have t48 := Ok.tag O (t43) (by decide)
      have t49 := Ok.tag O (t44) (by decide)
      refine v_run 65 1 (pc' := 132) (ls' := [(1, 8), (1, a1), (1, (m2 0 0)), (1, (m16 0 0))]) (st' := [(1, (m16 0 0))]) rfl ?_
      exact v_aret (j := 66) rfl rfl rfl H
    refine v_icmpne (j := 60) rfl rfl rfl (fun q => ?_) (fun q => ?_)
    · rw [if_pos q] at J50
      refine v_run 63 1 (pc' := 128) (ls' := [(1, 8), (1, a1), (1, (m2 0 0)), (1, (m16 0 0))]) (st' := [(0, 0), (1, 8)]) rfl ?_
      exact J50
    · rw [if_neg (fun z => z q)] at J50
      refine v_run 61 1 (pc' := 124) (ls' := [(1, 8), (1, a1), (1, (m2 0 0)), (1, (m16 0 0))]) (st' := [(0, 1), (1, 8)]) rfl ?_
      refine v_goto (j := 62) (tgt := 128) rfl rfl ?_
      exact J50
  · replace H := H.2 q
    refine v_run 46 1 (pc' := 95) (ls' := [(1, 8), (1, a1), (1, (m2 0 0)), (9, 0)]) (st' := [(1, 0), (1, a1), (1, (m16 0 0)), (1, (m16 0 0))]) rfl ?_
    refine v_goto (j := 47) (tgt := 103) rfl rfl ?_
    refine v_run 51 1 (pc' := 104) (ls' := [(1, 8), (1, a1), (1, (m2 0 0)), (9, 0)]) (st' := [(1, (m2 0 0)), (1, 0), (1, a1), (1, (m16 0 0)), (1, (m16 0 0))]) rfl ?_
    obtain ⟨z51, H⟩ := H
    refine v_callI (j := 52) (M' := mX13_init) (as := [(1, a1), (1, 0), (1, (m2 0 0))]) (st := [(1, (m16 0 0))]) rfl rfl rfl rfl rfl (Nat.le_of_ble_eq_true rfl) (Nat.le_of_ble_eq_true rfl) (by omega) z51 (kv0 (st' := fun v => [(1, (m16 0 0))]) rfl (fun _ => rfl)) (H.mono (fun k v52 m53 H => ⟨H.1, ?_⟩))
    have K54 := H.2.1.2.1 K31
    have t55 := Ok.tag H.2.1 (t32) (by decide)
    have t56 := Ok.tag H.2.1 (t33) (by decide)
    replace H := H.2.2
    refine v_run 53 3 (pc' := 110) (ls' := [(1, 8), (1, a1), (1, (m2 0 0)), (1, (m16 0 0))]) (st' := [(1, 8), (1, 8)]) rfl ?_
    refine v_getf (j := 56) (c := 4) (f := 5) rfl rfl rfl rfl rfl rfl rfl rfl (K8_t K54) ?_
    refine v_run 57 1 (pc' := 114) (ls' := [(1, 8), (1, a1), (1, (m2 0 0)), (1, (m16 0 0))]) (st' := [(1, 8), (0, (m53 8 5)), (1, 8)]) rfl ?_
    refine v_getK (j := 58) (c := 4) (f := 0) rfl rfl rfl rfl rfl rfl rfl rfl (K8_t K54) (K8_0 K54) ?_
    refine vj_sblen (j := 59) rfl rfl rfl rfl (K9_t K54) (by omega) (by simp) ?_
    have J62 : WV G mX4_declaration 128 [(1, 8), (1, a1), (1, (m2 0 0)), (1, (m16 0 0))] [(0, (if (m53 8 5) ≠ (m53 9 (-2)) then 0 else 1)), (1, 8)] m53 d P := by
      refine v_callV (j := 64) (M' := mX4_need) (as := [(0, (if (m53 8 5) ≠ (m53 9 (-2)) then 0 else 1))]) (st := []) rfl rfl rfl rfl rfl (Nat.le_of_ble_eq_true rfl) (Nat.le_of_ble_eq_true rfl) (by omega) (by decide) (K8_t K54) (kvt (st' := fun v => []) rfl (fun _ => rfl) rfl) (H.mono (fun k v57 m58 H => ⟨fun z => ?_, H.2.2⟩))
      have O := H.1
      replace H := H.2.1 z
      have K59 := O.2.1 K54
      have t60 := Ok.tag O (t55) (by decide)
      have t61 := Ok.tag O (t56) (by decide)
      refine v_run 65 1 (pc' := 132) (ls' := [(1, 8), (1, a1), (1, (m2 0 0)), (1, (m16 0 0))]) (st' := [(1, (m16 0 0))]) rfl ?_
      exact v_aret (j := 66) rfl rfl rfl H
    refine v_icmpne (j := 60) rfl rfl rfl (fun q => ?_) (fun q => ?_)
    · rw [if_pos q] at J62
      refine v_run 63 1 (pc' := 128) (ls' := [(1, 8), (1, a1), (1, (m2 0 0)), (1, (m16 0 0))]) (st' := [(0, 0), (1, 8)]) rfl ?_
      exact J62
    · rw [if_neg (fun z => z q)] at J62
      refine v_run 61 1 (pc' := 124) (ls' := [(1, 8), (1, a1), (1, (m2 0 0)), (1, (m16 0 0))]) (st' := [(0, 1), (1, 8)]) rfl ?_
      refine v_goto (j := 62) (tgt := 128) rfl rfl ?_
      exact J62

set_option maxRecDepth 100000 in
set_option maxHeartbeats 4000000 in
theorem wX4_variables {G : GM} {d : Nat} {P : Nat → Int → SM → Prop} {m : SM} {a1 : Int} (K : KI m) (hd : 12 ≤ d) 
    (H : ((0 : Int) ≤ 0) ∧ (0 ≤ m 11 (-2)) ∧ (∀ m1, Rclr m 11 0 m1 → Ok m m1 → (WV G mX4_take 0 [(1, 8), (0, 97), (0, 122)] [] m1 (d - 1) (fun k v7 m8 => Ok m1 m8 ∧ (k = 0 → ((0 ≤ v7) ∧ (v7 ≤ 127) ∧ (m8 11 (-2) < 100000) ∧ (m8 0 0 ≤ 1203200) ∧ (m8 0 1 + 2 * m8 11 (-2) + 50 ≤ 5491882) ∧ (∀ m10, Radd m8 11 v7 m10 → Ok m8 m10 → (WV G mX4_variables 24 [(1, 8), (0, a1)] [] m10 d P)))) ∧ (k ≠ 0 → P 1 v7 m8))))) :
    WV G mX4_variables 0 [(1, 8), (0, a1)] [] m d P := by
  refine v_run 0 1 (pc' := 1) (ls' := [(1, 8), (0, a1)]) (st' := [(1, 8)]) rfl ?_
  refine v_getK (j := 1) (c := 4) (f := 1) rfl rfl rfl rfl rfl rfl rfl rfl (K8_t K) (K8_1 K) ?_
  refine v_run 2 1 (pc' := 5) (ls' := [(1, 8), (0, a1)]) (st' := [(0, 0), (1, 11)]) rfl ?_
  obtain ⟨i3, i4, H⟩ := H
  refine vj_sbset (j := 3) rfl rfl rfl rfl (K11_t K) (by omega) (by simp) i3 i4 (fun m1 e2 => ?_)
  have O5 : Ok m m1 := e2.1.ok (K11_t K) (by decide)
  have K6 := O5.2.1 K
  replace H := H m1 e2 O5
  refine v_run 4 1 (pc' := 9) (ls' := [(1, 8), (0, a1)]) (st' := [(1, 8)]) rfl ?_
  refine v_getK (j := 5) (c := 4) (f := 1) rfl rfl rfl rfl rfl rfl rfl rfl (K8_t K6) (K8_1 K6) ?_
  refine v_run 6 3 (pc' := 17) (ls' := [(1, 8), (0, a1)]) (st' := [(0, 122), (0, 97), (1, 8), (1, 11)]) rfl ?_
  refine v_callV (j := 9) (M' := mX4_take) (as := [(0, 97), (0, 122)]) (st := [(1, 11)]) rfl rfl rfl rfl rfl (Nat.le_of_ble_eq_true rfl) (Nat.le_of_ble_eq_true rfl) (by omega) (by decide) (K8_t K6) (kvt (st' := fun v => [(0, v), (1, 11)]) rfl (fun _ => rfl) rfl) (H.mono (fun k v7 m8 H => ⟨fun z => ?_, H.2.2⟩))
  have O := H.1
  replace H := H.2.1 z
  have K9 := O.2.1 K6
  obtain ⟨v12, v13, i14, r15, r16, H⟩ := H
  refine vj_sbaddC (j := 10) rfl rfl rfl rfl (K11_t K9) (by omega) (by simp) v12 v13 i14 r15 r16 (fun m10 e11 => ?_)
  have O17 : Ok m8 m10 := e11.1.ok (K11_t K9) (by decide)
  have K18 := O17.2.1 K9
  replace H := H m10 e11 O17
  refine v_run 11 1 (pc' := 24) (ls' := [(1, 8), (0, a1)]) (st' := []) rfl ?_
  exact H

set_option maxRecDepth 100000 in
set_option maxHeartbeats 4000000 in
theorem wX4_variables_24 {G : GM} {d : Nat} {P : Nat → Int → SM → Prop} {m : SM} {a1 : Int} (K : KI m) (hd : 12 ≤ d) 
    (H : (a1 ≤ (m 11 (-2)) → ((m 11 (-2) < m 11 (-3)) ∧ (m 0 0 + 1 ≤ 1203200) ∧ (m 0 1 + m 11 (-2) + 10 ≤ 5491882) ∧ (∀ v6 m1, Rstr m 11 v6 m1 → Ok m m1 → (P 0 v6 m1)))) ∧ ((m 11 (-2)) < a1 → (WV G mX4_isNext 0 [(1, 8), (0, 97), (0, 122)] [] m (d - 1) (fun k v9 m10 => k = 0 ∧ Ok m m10 ∧ ((v9 = (0 : Int) → ((m10 11 (-2) < m10 11 (-3)) ∧ (m10 0 0 + 1 ≤ 1203200) ∧ (m10 0 1 + m10 11 (-2) + 10 ≤ 5491882) ∧ (∀ v17 m12, Rstr m10 11 v17 m12 → Ok m10 m12 → (P 0 v17 m12)))) ∧ (v9 ≠ (0 : Int) → (WV G mX4_take 0 [(1, 8), (0, 97), (0, 122)] [] m10 (d - 1) (fun k v20 m21 => Ok m10 m21 ∧ (k = 0 → ((0 ≤ v20) ∧ (v20 ≤ 127) ∧ (m21 11 (-2) < 100000) ∧ (m21 0 0 ≤ 1203200) ∧ (m21 0 1 + 2 * m21 11 (-2) + 50 ≤ 5491882) ∧ (∀ m23, Radd m21 11 v20 m23 → Ok m21 m23 → (WV G mX4_variables 24 [(1, 8), (0, a1)] [] m23 d P)))) ∧ (k ≠ 0 → P 1 v20 m21))))))))) :
    WV G mX4_variables 24 [(1, 8), (0, a1)] [] m d P := by
  refine v_run 12 1 (pc' := 25) (ls' := [(1, 8), (0, a1)]) (st' := [(1, 8)]) rfl ?_
  refine v_getK (j := 13) (c := 4) (f := 1) rfl rfl rfl rfl rfl rfl rfl rfl (K8_t K) (K8_1 K) ?_
  refine vj_sblen (j := 14) rfl rfl rfl rfl (K11_t K) (by omega) (by simp) ?_
  refine v_run 15 1 (pc' := 32) (ls' := [(1, 8), (0, a1)]) (st' := [(0, a1), (0, (m 11 (-2)))]) rfl ?_
  refine v_icmpge (j := 16) rfl rfl rfl (fun q => ?_) (fun q => ?_)
  · replace H := H.1 q
    refine v_run 31 1 (pc' := 66) (ls' := [(1, 8), (0, a1)]) (st' := [(1, 8)]) rfl ?_
    refine v_getK (j := 32) (c := 4) (f := 1) rfl rfl rfl rfl rfl rfl rfl rfl (K8_t K) (K8_1 K) ?_
    obtain ⟨i3, r4, r5, H⟩ := H
    refine vj_sbstr (j := 33) rfl rfl rfl rfl (K11_t K) (by omega) (by simp) i3 r4 r5 (fun v6 m1 e2 => ?_)
    have O7 : Ok m m1 := e2.ok
    have K8 := O7.2.1 K
    replace H := H v6 m1 e2 O7
    exact v_aret (j := 34) rfl rfl rfl H
  · replace H := H.2 q
    refine v_run 17 3 (pc' := 40) (ls' := [(1, 8), (0, a1)]) (st' := [(0, 122), (0, 97), (1, 8)]) rfl ?_
    refine v_callV (j := 20) (M' := mX4_isNext) (as := [(0, 97), (0, 122)]) (st := []) rfl rfl rfl rfl rfl (Nat.le_of_ble_eq_true rfl) (Nat.le_of_ble_eq_true rfl) (by omega) (by decide) (K8_t K) (kv0 (st' := fun v => [(0, v)]) rfl (fun _ => rfl)) (H.mono (fun k v9 m10 H => ⟨H.1, ?_⟩))
    have K11 := H.2.1.2.1 K
    replace H := H.2.2
    refine v_ifeq (j := 21) rfl rfl rfl (fun q => ?_) (fun q => ?_)
    · replace H := H.1 q
      refine v_run 31 1 (pc' := 66) (ls' := [(1, 8), (0, a1)]) (st' := [(1, 8)]) rfl ?_
      refine v_getK (j := 32) (c := 4) (f := 1) rfl rfl rfl rfl rfl rfl rfl rfl (K8_t K11) (K8_1 K11) ?_
      obtain ⟨i14, r15, r16, H⟩ := H
      refine vj_sbstr (j := 33) rfl rfl rfl rfl (K11_t K11) (by omega) (by simp) i14 r15 r16 (fun v17 m12 e13 => ?_)
      have O18 : Ok m10 m12 := e13.ok
      have K19 := O18.2.1 K11
      replace H := H v17 m12 e13 O18
      exact v_aret (j := 34) rfl rfl rfl H
    · replace H := H.2 q
      refine v_run 22 1 (pc' := 47) (ls' := [(1, 8), (0, a1)]) (st' := [(1, 8)]) rfl ?_
      refine v_getK (j := 23) (c := 4) (f := 1) rfl rfl rfl rfl rfl rfl rfl rfl (K8_t K11) (K8_1 K11) ?_
      refine v_run 24 3 (pc' := 55) (ls' := [(1, 8), (0, a1)]) (st' := [(0, 122), (0, 97), (1, 8), (1, 11)]) rfl ?_
      refine v_callV (j := 27) (M' := mX4_take) (as := [(0, 97), (0, 122)]) (st := [(1, 11)]) rfl rfl rfl rfl rfl (Nat.le_of_ble_eq_true rfl) (Nat.le_of_ble_eq_true rfl) (by omega) (by decide) (K8_t K11) (kvt (st' := fun v => [(0, v), (1, 11)]) rfl (fun _ => rfl) rfl) (H.mono (fun k v20 m21 H => ⟨fun z => ?_, H.2.2⟩))
      have O := H.1
      replace H := H.2.1 z
      have K22 := O.2.1 K11
      obtain ⟨v25, v26, i27, r28, r29, H⟩ := H
      refine vj_sbaddC (j := 28) rfl rfl rfl rfl (K11_t K22) (by omega) (by simp) v25 v26 i27 r28 r29 (fun m23 e24 => ?_)
      have O30 : Ok m21 m23 := e24.1.ok (K11_t K22) (by decide)
      have K31 := O30.2.1 K22
      replace H := H m23 e24 O30
      refine v_run 29 1 (pc' := 62) (ls' := [(1, 8), (0, a1)]) (st' := []) rfl ?_
      refine v_goto (j := 30) (tgt := 24) rfl rfl ?_
      exact H

set_option maxRecDepth 100000 in
set_option maxHeartbeats 4000000 in
theorem wX4_program {G : GM} {d : Nat} {P : Nat → Int → SM → Prop} {m : SM} (K : KI m) (hd : 12 ≤ d) 
    (H : WV G mX4_variables 0 [(1, 8), (0, 4)] [] m (d - 1) (fun k v1 m2 => Ok m m2 ∧ (k = 0 → (WV G mX4_take 0 [(1, 8), (0, 61), (0, 61)] [] m2 (d - 1) (fun k v4 m5 => Ok m2 m5 ∧ (k = 0 → ((m5 0 0 ≤ 1203200) ∧ (m5 0 1 + 2 ≤ 5491882) ∧ (Bs m5 → ∀ m9, m9 = al m5 22 0 2 → Ok m5 m9 → (WV G mX4_code 0 [(1, 8), (0, 1), (9, 0), (9, 0), (9, 0)] [] m9 (d - 1) (fun k v14 m15 => Ok m9 m15 ∧ (k = 0 → (((m5 0 0) ≠ 0) ∧ (WV G mX17_init 0 [(1, (m5 0 0)), (1, v1), (1, v14)] [] m15 (d - 1) (fun k v19 m20 => k = 0 ∧ Ok m15 m20 ∧ (WV G mX4_need 0 [(1, 8), (0, (if (m20 8 5) ≠ (m20 9 (-2)) then 0 else 1))] [] m20 (d - 1) (fun k v23 m24 => Ok m20 m24 ∧ (k = 0 → (P 0 (m5 0 0) m24)) ∧ (k ≠ 0 → P 1 v23 m24))))))) ∧ (k ≠ 0 → P 1 v14 m15)))))) ∧ (k ≠ 0 → P 1 v4 m5)))) ∧ (k ≠ 0 → P 1 v1 m2))) :
    WV G mX4_program 0 [(1, 8), (9, 0), (9, 0)] [] m d P := by
  refine v_run 0 2 (pc' := 2) (ls' := [(1, 8), (9, 0), (9, 0)]) (st' := [(0, 4), (1, 8)]) rfl ?_
  refine v_callV (j := 2) (M' := mX4_variables) (as := [(0, 4)]) (st := []) rfl rfl rfl rfl rfl (Nat.le_of_ble_eq_true rfl) (Nat.le_of_ble_eq_true rfl) (by omega) (by decide) (K8_t K) (kvt (st' := fun v => [(1, v)]) rfl (fun _ => rfl) rfl) (H.mono (fun k v1 m2 H => ⟨fun z => ?_, H.2.2⟩))
  have O := H.1
  replace H := H.2.1 z
  have K3 := O.2.1 K
  refine v_run 3 4 (pc' := 11) (ls' := [(1, 8), (1, v1), (9, 0)]) (st' := [(0, 61), (0, 61), (1, 8)]) rfl ?_
  refine v_callV (j := 7) (M' := mX4_take) (as := [(0, 61), (0, 61)]) (st := []) rfl rfl rfl rfl rfl (Nat.le_of_ble_eq_true rfl) (Nat.le_of_ble_eq_true rfl) (by omega) (by decide) (K8_t K3) (kvt (st' := fun v => [(0, v)]) rfl (fun _ => rfl) rfl) (H.mono (fun k v4 m5 H => ⟨fun z => ?_, H.2.2⟩))
  have O := H.1
  replace H := H.2.1 z
  have K6 := O.2.1 K3
  refine v_run 8 1 (pc' := 15) (ls' := [(1, 8), (1, v1), (9, 0)]) (st' := []) rfl ?_
  obtain ⟨r7, r8, H⟩ := H
  refine v_new (j := 9) (c := 21) rfl rfl rfl rfl rfl rfl rfl r7 r8 (fun B m9 e10 => ?_)
  have O11 : Ok m5 m9 := Ok.nw B e10
  have K12 := O11.2.1 K6
  replace H := H B m9 e10 O11
  have t13 := al_tag B e10
  refine v_run 10 4 (pc' := 22) (ls' := [(1, 8), (1, v1), (9, 0)]) (st' := [(0, 1), (1, 8), (1, v1), (1, (m5 0 0)), (1, (m5 0 0))]) rfl ?_
  refine v_callS (j := 14) (M' := mX4_code) (as := [(1, 8), (0, 1)]) (st := [(1, v1), (1, (m5 0 0)), (1, (m5 0 0))]) rfl rfl rfl rfl rfl (Nat.le_of_ble_eq_true rfl) (Nat.le_of_ble_eq_true rfl) (by omega) (kvt (st' := fun v => [(1, v), (1, v1), (1, (m5 0 0)), (1, (m5 0 0))]) rfl (fun _ => rfl) rfl) (H.mono (fun k v14 m15 H => ⟨fun z => ?_, H.2.2⟩))
  have O := H.1
  replace H := H.2.1 z
  have K16 := O.2.1 K12
  have t17 := Ok.tag O (t13) (by decide)
  obtain ⟨z18, H⟩ := H
  refine v_callI (j := 15) (M' := mX17_init) (as := [(1, v1), (1, v14)]) (st := [(1, (m5 0 0))]) rfl rfl rfl rfl rfl (Nat.le_of_ble_eq_true rfl) (Nat.le_of_ble_eq_true rfl) (by omega) z18 (kv0 (st' := fun v => [(1, (m5 0 0))]) rfl (fun _ => rfl)) (H.mono (fun k v19 m20 H => ⟨H.1, ?_⟩))
  have K21 := H.2.1.2.1 K16
  have t22 := Ok.tag H.2.1 (t17) (by decide)
  replace H := H.2.2
  refine v_run 16 3 (pc' := 31) (ls' := [(1, 8), (1, v1), (1, (m5 0 0))]) (st' := [(1, 8), (1, 8)]) rfl ?_
  refine v_getf (j := 19) (c := 4) (f := 5) rfl rfl rfl rfl rfl rfl rfl rfl (K8_t K21) ?_
  refine v_run 20 1 (pc' := 35) (ls' := [(1, 8), (1, v1), (1, (m5 0 0))]) (st' := [(1, 8), (0, (m20 8 5)), (1, 8)]) rfl ?_
  refine v_getK (j := 21) (c := 4) (f := 0) rfl rfl rfl rfl rfl rfl rfl rfl (K8_t K21) (K8_0 K21) ?_
  refine vj_sblen (j := 22) rfl rfl rfl rfl (K9_t K21) (by omega) (by simp) ?_
  have J27 : WV G mX4_program 49 [(1, 8), (1, v1), (1, (m5 0 0))] [(0, (if (m20 8 5) ≠ (m20 9 (-2)) then 0 else 1)), (1, 8)] m20 d P := by
    refine v_callV (j := 27) (M' := mX4_need) (as := [(0, (if (m20 8 5) ≠ (m20 9 (-2)) then 0 else 1))]) (st := []) rfl rfl rfl rfl rfl (Nat.le_of_ble_eq_true rfl) (Nat.le_of_ble_eq_true rfl) (by omega) (by decide) (K8_t K21) (kvt (st' := fun v => []) rfl (fun _ => rfl) rfl) (H.mono (fun k v23 m24 H => ⟨fun z => ?_, H.2.2⟩))
    have O := H.1
    replace H := H.2.1 z
    have K25 := O.2.1 K21
    have t26 := Ok.tag O (t22) (by decide)
    refine v_run 28 1 (pc' := 53) (ls' := [(1, 8), (1, v1), (1, (m5 0 0))]) (st' := [(1, (m5 0 0))]) rfl ?_
    exact v_aret (j := 29) rfl rfl rfl H
  refine v_icmpne (j := 23) rfl rfl rfl (fun q => ?_) (fun q => ?_)
  · rw [if_pos q] at J27
    refine v_run 26 1 (pc' := 49) (ls' := [(1, 8), (1, v1), (1, (m5 0 0))]) (st' := [(0, 0), (1, 8)]) rfl ?_
    exact J27
  · rw [if_neg (fun z => z q)] at J27
    refine v_run 24 1 (pc' := 45) (ls' := [(1, 8), (1, v1), (1, (m5 0 0))]) (st' := [(0, 1), (1, 8)]) rfl ?_
    refine v_goto (j := 25) (tgt := 49) rfl rfl ?_
    exact J27

set_option maxRecDepth 100000 in
set_option maxHeartbeats 4000000 in
theorem wX4_isCode {G : GM} {d : Nat} {P : Nat → Int → SM → Prop} {m : SM} (K : KI m) (hd : 12 ≤ d) 
    (H : WV G mX4_isNext 0 [(1, 8), (0, 97), (0, 122)] [] m (d - 1) (fun k v1 m2 => k = 0 ∧ Ok m m2 ∧ ((v1 ≠ (0 : Int) → (P 0 1 m2)) ∧ (v1 = (0 : Int) → (WV G mX4_isNext 0 [(1, 8), (0, 65), (0, 90)] [] m2 (d - 1) (fun k v4 m5 => k = 0 ∧ Ok m2 m5 ∧ ((v4 ≠ (0 : Int) → (P 0 1 m5)) ∧ (v4 = (0 : Int) → (WV G mX4_isNext 0 [(1, 8), (0, 48), (0, 57)] [] m5 (d - 1) (fun k v7 m8 => k = 0 ∧ Ok m5 m8 ∧ ((v7 ≠ (0 : Int) → (P 0 1 m8)) ∧ (v7 = (0 : Int) → (WV G mX4_peek 0 [(1, 8)] [] m8 (d - 1) (fun k v10 m11 => k = 0 ∧ Ok m8 m11 ∧ ((v10 = (43 : Int) → (P 0 1 m11)) ∧ (v10 ≠ (43 : Int) → (WV G mX4_peek 0 [(1, 8)] [] m11 (d - 1) (fun k v13 m14 => k = 0 ∧ Ok m11 m14 ∧ ((v13 = (45 : Int) → (P 0 1 m14)) ∧ (v13 ≠ (45 : Int) → (WV G mX4_peek 0 [(1, 8)] [] m14 (d - 1) (fun k v16 m17 => k = 0 ∧ Ok m14 m17 ∧ ((v16 = (123 : Int) → (P 0 1 m17)) ∧ (v16 ≠ (123 : Int) → (WV G mX4_peek 0 [(1, 8)] [] m17 (d - 1) (fun k v19 m20 => k = 0 ∧ Ok m17 m20 ∧ ((v19 = (91 : Int) → (P 0 1 m20)) ∧ (v19 ≠ (91 : Int) → (WV G mX4_peek 0 [(1, 8)] [] m20 (d - 1) (fun k v22 m23 => k = 0 ∧ Ok m20 m23 ∧ ((v22 ≠ (126 : Int) → (P 0 0 m23)) ∧ (v22 = (126 : Int) → (P 0 1 m23))))))))))))))))))))))))))))))))) :
    WV G mX4_isCode 0 [(1, 8)] [] m d P := by
  refine v_run 0 3 (pc' := 5) (ls' := [(1, 8)]) (st' := [(0, 122), (0, 97), (1, 8)]) rfl ?_
  refine v_callV (j := 3) (M' := mX4_isNext) (as := [(0, 97), (0, 122)]) (st := []) rfl rfl rfl rfl rfl (Nat.le_of_ble_eq_true rfl) (Nat.le_of_ble_eq_true rfl) (by omega) (by decide) (K8_t K) (kv0 (st' := fun v => [(0, v)]) rfl (fun _ => rfl)) (H.mono (fun k v1 m2 H => ⟨H.1, ?_⟩))
  have K3 := H.2.1.2.1 K
  replace H := H.2.2
  refine v_ifne (j := 4) rfl rfl rfl (fun q => ?_) (fun q => ?_)
  · replace H := H.1 q
    refine v_run 35 1 (pc' := 79) (ls' := [(1, 8)]) (st' := [(0, 1)]) rfl ?_
    refine v_goto (j := 36) (tgt := 83) rfl rfl ?_
    exact v_iret (j := 38) rfl rfl rfl (Or.inr rfl) H
  · replace H := H.2 q
    refine v_run 5 3 (pc' := 16) (ls' := [(1, 8)]) (st' := [(0, 90), (0, 65), (1, 8)]) rfl ?_
    refine v_callV (j := 8) (M' := mX4_isNext) (as := [(0, 65), (0, 90)]) (st := []) rfl rfl rfl rfl rfl (Nat.le_of_ble_eq_true rfl) (Nat.le_of_ble_eq_true rfl) (by omega) (by decide) (K8_t K3) (kv0 (st' := fun v => [(0, v)]) rfl (fun _ => rfl)) (H.mono (fun k v4 m5 H => ⟨H.1, ?_⟩))
    have K6 := H.2.1.2.1 K3
    replace H := H.2.2
    refine v_ifne (j := 9) rfl rfl rfl (fun q => ?_) (fun q => ?_)
    · replace H := H.1 q
      refine v_run 35 1 (pc' := 79) (ls' := [(1, 8)]) (st' := [(0, 1)]) rfl ?_
      refine v_goto (j := 36) (tgt := 83) rfl rfl ?_
      exact v_iret (j := 38) rfl rfl rfl (Or.inr rfl) H
    · replace H := H.2 q
      refine v_run 10 3 (pc' := 27) (ls' := [(1, 8)]) (st' := [(0, 57), (0, 48), (1, 8)]) rfl ?_
      refine v_callV (j := 13) (M' := mX4_isNext) (as := [(0, 48), (0, 57)]) (st := []) rfl rfl rfl rfl rfl (Nat.le_of_ble_eq_true rfl) (Nat.le_of_ble_eq_true rfl) (by omega) (by decide) (K8_t K6) (kv0 (st' := fun v => [(0, v)]) rfl (fun _ => rfl)) (H.mono (fun k v7 m8 H => ⟨H.1, ?_⟩))
      have K9 := H.2.1.2.1 K6
      replace H := H.2.2
      refine v_ifne (j := 14) rfl rfl rfl (fun q => ?_) (fun q => ?_)
      · replace H := H.1 q
        refine v_run 35 1 (pc' := 79) (ls' := [(1, 8)]) (st' := [(0, 1)]) rfl ?_
        refine v_goto (j := 36) (tgt := 83) rfl rfl ?_
        exact v_iret (j := 38) rfl rfl rfl (Or.inr rfl) H
      · replace H := H.2 q
        refine v_run 15 1 (pc' := 34) (ls' := [(1, 8)]) (st' := [(1, 8)]) rfl ?_
        refine v_callV (j := 16) (M' := mX4_peek) (as := []) (st := []) rfl rfl rfl rfl rfl (Nat.le_of_ble_eq_true rfl) (Nat.le_of_ble_eq_true rfl) (by omega) (by decide) (K8_t K9) (kv0 (st' := fun v => [(0, v)]) rfl (fun _ => rfl)) (H.mono (fun k v10 m11 H => ⟨H.1, ?_⟩))
        have K12 := H.2.1.2.1 K9
        replace H := H.2.2
        refine v_run 17 1 (pc' := 39) (ls' := [(1, 8)]) (st' := [(0, 43), (0, v10)]) rfl ?_
        refine v_icmpeq (j := 18) rfl rfl rfl (fun q => ?_) (fun q => ?_)
        · replace H := H.1 q
          refine v_run 35 1 (pc' := 79) (ls' := [(1, 8)]) (st' := [(0, 1)]) rfl ?_
          refine v_goto (j := 36) (tgt := 83) rfl rfl ?_
          exact v_iret (j := 38) rfl rfl rfl (Or.inr rfl) H
        · replace H := H.2 q
          refine v_run 19 1 (pc' := 43) (ls' := [(1, 8)]) (st' := [(1, 8)]) rfl ?_
          refine v_callV (j := 20) (M' := mX4_peek) (as := []) (st := []) rfl rfl rfl rfl rfl (Nat.le_of_ble_eq_true rfl) (Nat.le_of_ble_eq_true rfl) (by omega) (by decide) (K8_t K12) (kv0 (st' := fun v => [(0, v)]) rfl (fun _ => rfl)) (H.mono (fun k v13 m14 H => ⟨H.1, ?_⟩))
          have K15 := H.2.1.2.1 K12
          replace H := H.2.2
          refine v_run 21 1 (pc' := 48) (ls' := [(1, 8)]) (st' := [(0, 45), (0, v13)]) rfl ?_
          refine v_icmpeq (j := 22) rfl rfl rfl (fun q => ?_) (fun q => ?_)
          · replace H := H.1 q
            refine v_run 35 1 (pc' := 79) (ls' := [(1, 8)]) (st' := [(0, 1)]) rfl ?_
            refine v_goto (j := 36) (tgt := 83) rfl rfl ?_
            exact v_iret (j := 38) rfl rfl rfl (Or.inr rfl) H
          · replace H := H.2 q
            refine v_run 23 1 (pc' := 52) (ls' := [(1, 8)]) (st' := [(1, 8)]) rfl ?_
            refine v_callV (j := 24) (M' := mX4_peek) (as := []) (st := []) rfl rfl rfl rfl rfl (Nat.le_of_ble_eq_true rfl) (Nat.le_of_ble_eq_true rfl) (by omega) (by decide) (K8_t K15) (kv0 (st' := fun v => [(0, v)]) rfl (fun _ => rfl)) (H.mono (fun k v16 m17 H => ⟨H.1, ?_⟩))
            have K18 := H.2.1.2.1 K15
            replace H := H.2.2
            refine v_run 25 1 (pc' := 57) (ls' := [(1, 8)]) (st' := [(0, 123), (0, v16)]) rfl ?_
            refine v_icmpeq (j := 26) rfl rfl rfl (fun q => ?_) (fun q => ?_)
            · replace H := H.1 q
              refine v_run 35 1 (pc' := 79) (ls' := [(1, 8)]) (st' := [(0, 1)]) rfl ?_
              refine v_goto (j := 36) (tgt := 83) rfl rfl ?_
              exact v_iret (j := 38) rfl rfl rfl (Or.inr rfl) H
            · replace H := H.2 q
              refine v_run 27 1 (pc' := 61) (ls' := [(1, 8)]) (st' := [(1, 8)]) rfl ?_
              refine v_callV (j := 28) (M' := mX4_peek) (as := []) (st := []) rfl rfl rfl rfl rfl (Nat.le_of_ble_eq_true rfl) (Nat.le_of_ble_eq_true rfl) (by omega) (by decide) (K8_t K18) (kv0 (st' := fun v => [(0, v)]) rfl (fun _ => rfl)) (H.mono (fun k v19 m20 H => ⟨H.1, ?_⟩))
              have K21 := H.2.1.2.1 K18
              replace H := H.2.2
              refine v_run 29 1 (pc' := 66) (ls' := [(1, 8)]) (st' := [(0, 91), (0, v19)]) rfl ?_
              refine v_icmpeq (j := 30) rfl rfl rfl (fun q => ?_) (fun q => ?_)
              · replace H := H.1 q
                refine v_run 35 1 (pc' := 79) (ls' := [(1, 8)]) (st' := [(0, 1)]) rfl ?_
                refine v_goto (j := 36) (tgt := 83) rfl rfl ?_
                exact v_iret (j := 38) rfl rfl rfl (Or.inr rfl) H
              · replace H := H.2 q
                refine v_run 31 1 (pc' := 70) (ls' := [(1, 8)]) (st' := [(1, 8)]) rfl ?_
                refine v_callV (j := 32) (M' := mX4_peek) (as := []) (st := []) rfl rfl rfl rfl rfl (Nat.le_of_ble_eq_true rfl) (Nat.le_of_ble_eq_true rfl) (by omega) (by decide) (K8_t K21) (kv0 (st' := fun v => [(0, v)]) rfl (fun _ => rfl)) (H.mono (fun k v22 m23 H => ⟨H.1, ?_⟩))
                have K24 := H.2.1.2.1 K21
                replace H := H.2.2
                refine v_run 33 1 (pc' := 75) (ls' := [(1, 8)]) (st' := [(0, 126), (0, v22)]) rfl ?_
                refine v_icmpne (j := 34) rfl rfl rfl (fun q => ?_) (fun q => ?_)
                · replace H := H.1 q
                  refine v_run 37 1 (pc' := 83) (ls' := [(1, 8)]) (st' := [(0, 0)]) rfl ?_
                  exact v_iret (j := 38) rfl rfl rfl (Or.inl rfl) H
                · replace H := H.2 q
                  refine v_run 35 1 (pc' := 79) (ls' := [(1, 8)]) (st' := [(0, 1)]) rfl ?_
                  refine v_goto (j := 36) (tgt := 83) rfl rfl ?_
                  exact v_iret (j := 38) rfl rfl rfl (Or.inr rfl) H

set_option maxRecDepth 100000 in
set_option maxHeartbeats 4000000 in
theorem wX4_leaf {G : GM} {d : Nat} {P : Nat → Int → SM → Prop} {m : SM} {a1 a2 a3 a4 : Int} (K : KI m) (hd : 12 ≤ d) 
    (H : (m 0 0 ≤ 1203200) ∧ (m 0 1 + 6 ≤ 5491882) ∧ (Bs m → ∀ m3, m3 = al m 23 0 6 → Ok m m3 → (((m 0 0) ≠ 0) ∧ (WV G mX18_init 0 [(1, (m 0 0)), (1, a1), (0, a2), (0, a3), (1, a4), (1, 14), (1, 15)] [] m3 (d - 1) (fun k v9 m10 => k = 0 ∧ Ok m3 m10 ∧ (P 0 (m 0 0) m10)))))) :
    WV G mX4_leaf 0 [(1, 8), (1, a1), (0, a2), (0, a3), (1, a4)] [] m d P := by
  obtain ⟨r1, r2, H⟩ := H
  refine v_new (j := 0) (c := 22) rfl rfl rfl rfl rfl rfl rfl r1 r2 (fun B m3 e4 => ?_)
  have O5 : Ok m m3 := Ok.nw B e4
  have K6 := O5.2.1 K
  replace H := H B m3 e4 O5
  have t7 := al_tag B e4
  refine v_run 1 6 (pc' := 10) (ls' := [(1, 8), (1, a1), (0, a2), (0, a3), (1, a4)]) (st' := [(1, 8), (1, a4), (0, a3), (0, a2), (1, a1), (1, (m 0 0)), (1, (m 0 0))]) rfl ?_
  refine v_getK (j := 7) (c := 4) (f := 3) rfl rfl rfl rfl rfl rfl rfl rfl (K8_t K6) (K8_3 K6) ?_
  refine v_run 8 1 (pc' := 14) (ls' := [(1, 8), (1, a1), (0, a2), (0, a3), (1, a4)]) (st' := [(1, 8), (1, 14), (1, a4), (0, a3), (0, a2), (1, a1), (1, (m 0 0)), (1, (m 0 0))]) rfl ?_
  refine v_getK (j := 9) (c := 4) (f := 4) rfl rfl rfl rfl rfl rfl rfl rfl (K8_t K6) (K8_4 K6) ?_
  obtain ⟨z8, H⟩ := H
  refine v_callI (j := 10) (M' := mX18_init) (as := [(1, a1), (0, a2), (0, a3), (1, a4), (1, 14), (1, 15)]) (st := [(1, (m 0 0))]) rfl rfl rfl rfl rfl (Nat.le_of_ble_eq_true rfl) (Nat.le_of_ble_eq_true rfl) (by omega) z8 (kv0 (st' := fun v => [(1, (m 0 0))]) rfl (fun _ => rfl)) (H.mono (fun k v9 m10 H => ⟨H.1, ?_⟩))
  have K11 := H.2.1.2.1 K6
  have t12 := Ok.tag H.2.1 (t7) (by decide)
  replace H := H.2.2
  exact v_aret (j := 11) rfl rfl rfl H

set_option maxRecDepth 100000 in
set_option maxHeartbeats 4000000 in
theorem wX4_code {G : GM} {d : Nat} {P : Nat → Int → SM → Prop} {m : SM} {a1 : Int} (K : KI m) (hd : 12 ≤ d) 
    (H : WV G mX4_isNext 0 [(1, 8), (0, 97), (0, 122)] [] m (d - 1) (fun k v1 m2 => k = 0 ∧ Ok m m2 ∧ ((v1 = (0 : Int) → (WV G mX4_isNext 0 [(1, 8), (0, 48), (0, 57)] [] m2 (d - 1) (fun k v4 m5 => k = 0 ∧ Ok m2 m5 ∧ ((v4 = (0 : Int) → (WV G mX4_passes 0 [(1, 8), (0, 126), (9, 0)] [] m5 (d - 1) (fun k v7 m8 => k = 0 ∧ Ok m5 m8 ∧ ((v7 = (0 : Int) → (WV G mX4_isNext 0 [(1, 8), (0, 65), (0, 90)] [] m8 (d - 1) (fun k v10 m11 => k = 0 ∧ Ok m8 m11 ∧ ((v10 = (0 : Int) → (WV G mX4_need 0 [(1, 8), (0, (if (12 : Int) ≤ a1 then 0 else 1))] [] m11 (d - 1) (fun k v13 m14 => Ok m11 m14 ∧ (k = 0 → (WV G mX4_passes 0 [(1, 8), (0, 123), (9, 0)] [] m14 (d - 1) (fun k v16 m17 => k = 0 ∧ Ok m14 m17 ∧ ((v16 = (0 : Int) → ((m17 0 0 + 2 ≤ 1203200) ∧ (m17 0 1 + 20 ≤ 5491882) ∧ (∀ m21, NAL m17 m21 → Ok m17 m21 → (WV G mX4_passes 0 [(1, 8), (0, 91), (9, 0)] [] m21 (d - 1) (fun k v26 m27 => k = 0 ∧ Ok m21 m27 ∧ ((v26 = (0 : Int) → (WV G mX4_peek 0 [(1, 8)] [] m27 (d - 1) (fun k v30 m31 => k = 0 ∧ Ok m27 m31 ∧ (WV G mX4_passes 0 [(1, 8), (0, 43), (9, 0)] [] m31 (d - 1) (fun k v34 m35 => k = 0 ∧ Ok m31 m35 ∧ ((v34 ≠ (0 : Int) → (WV G mX4_need 0 [(1, 8), (0, 1)] [] m35 (d - 1) (fun k v38 m39 => Ok m35 m39 ∧ (k = 0 → (WV G mX4_code 0 [(1, 8), (0, (wr (a1 + 1))), (9, 0), (9, 0), (9, 0)] [] m39 (d - 1) (fun k v42 m43 => Ok m39 m43 ∧ (k = 0 → ((elOK m43 v42) ∧ (m43 (m17 0 0) (-2) < 100000) ∧ (m43 0 0 ≤ 1203200) ∧ (m43 0 1 + 2 * m43 (m17 0 0) (-2) + 20 ≤ 5491882) ∧ (∀ m46, Radd m43 (m17 0 0) v42 m46 → Ok m43 m46 → (WV G mX4_code 0 [(1, 8), (0, (wr (a1 + 1))), (9, 0), (9, 0), (9, 0)] [] m46 (d - 1) (fun k v55 m56 => Ok m46 m56 ∧ (k = 0 → ((elOK m56 v55) ∧ (m56 (m17 0 0) (-2) < 100000) ∧ (m56 0 0 ≤ 1203200) ∧ (m56 0 1 + 2 * m56 (m17 0 0) (-2) + 20 ≤ 5491882) ∧ (∀ m59, Radd m56 (m17 0 0) v55 m59 → Ok m56 m59 → ((m59 0 0 ≤ 1203200) ∧ (m59 0 1 + 6 ≤ 5491882) ∧ (Bs m59 → ∀ m70, m70 = al m59 23 0 6 → Ok m59 m70 → (((m59 0 0) ≠ 0) ∧ (WV G mX18_init 0 [(1, (m59 0 0)), (1, (if v30 ≠ (45 : Int) then (-4) else (-5))), (0, (m 8 5)), (0, 32), (1, 0), (1, (m17 0 0)), (1, 15)] [] m70 (d - 1) (fun k v77 m78 => k = 0 ∧ Ok m70 m78 ∧ (P 0 (m59 0 0) m78))))))))) ∧ (k ≠ 0 → P 1 v55 m56)))))) ∧ (k ≠ 0 → P 1 v42 m43)))) ∧ (k ≠ 0 → P 1 v38 m39)))) ∧ (v34 = (0 : Int) → (WV G mX4_passes 0 [(1, 8), (0, 45), (9, 0)] [] m35 (d - 1) (fun k v82 m83 => k = 0 ∧ Ok m35 m83 ∧ (WV G mX4_need 0 [(1, 8), (0, (if v82 = (0 : Int) then 0 else 1))] [] m83 (d - 1) (fun k v86 m87 => Ok m83 m87 ∧ (k = 0 → (WV G mX4_code 0 [(1, 8), (0, (wr (a1 + 1))), (9, 0), (9, 0), (9, 0)] [] m87 (d - 1) (fun k v90 m91 => Ok m87 m91 ∧ (k = 0 → ((elOK m91 v90) ∧ (m91 (m17 0 0) (-2) < 100000) ∧ (m91 0 0 ≤ 1203200) ∧ (m91 0 1 + 2 * m91 (m17 0 0) (-2) + 20 ≤ 5491882) ∧ (∀ m94, Radd m91 (m17 0 0) v90 m94 → Ok m91 m94 → (WV G mX4_code 0 [(1, 8), (0, (wr (a1 + 1))), (9, 0), (9, 0), (9, 0)] [] m94 (d - 1) (fun k v103 m104 => Ok m94 m104 ∧ (k = 0 → ((elOK m104 v103) ∧ (m104 (m17 0 0) (-2) < 100000) ∧ (m104 0 0 ≤ 1203200) ∧ (m104 0 1 + 2 * m104 (m17 0 0) (-2) + 20 ≤ 5491882) ∧ (∀ m107, Radd m104 (m17 0 0) v103 m107 → Ok m104 m107 → ((m107 0 0 ≤ 1203200) ∧ (m107 0 1 + 6 ≤ 5491882) ∧ (Bs m107 → ∀ m118, m118 = al m107 23 0 6 → Ok m107 m118 → (((m107 0 0) ≠ 0) ∧ (WV G mX18_init 0 [(1, (m107 0 0)), (1, (if v30 ≠ (45 : Int) then (-4) else (-5))), (0, (m 8 5)), (0, 32), (1, 0), (1, (m17 0 0)), (1, 15)] [] m118 (d - 1) (fun k v125 m126 => k = 0 ∧ Ok m118 m126 ∧ (P 0 (m107 0 0) m126))))))))) ∧ (k ≠ 0 → P 1 v103 m104)))))) ∧ (k ≠ 0 → P 1 v90 m91)))) ∧ (k ≠ 0 → P 1 v86 m87)))))))))))) ∧ (v26 ≠ (0 : Int) → (WV G mX4_test 0 [(1, 8), (0, (m 8 5)), (0, (wr (a1 + 1))), (1, (m17 0 0)), (9, 0)] [] m27 (d - 1) (fun k v132 m133 => Ok m27 m133 ∧ (k = 0 → (P 0 v132 m133)) ∧ (k ≠ 0 → P 1 v132 m133)))))))))) ∧ (v16 ≠ (0 : Int) → (WV G mX4_match 0 [(1, 8), (0, (m 8 5)), (0, (wr (a1 + 1))), (9, 0), (9, 0)] [] m17 (d - 1) (fun k v136 m137 => Ok m17 m137 ∧ (k = 0 → (P 0 v136 m137)) ∧ (k ≠ 0 → P 1 v136 m137)))))))) ∧ (k ≠ 0 → P 1 v13 m14)))) ∧ (v10 ≠ (0 : Int) → (WV G mX4_take 0 [(1, 8), (0, 65), (0, 90)] [] m11 (d - 1) (fun k v140 m141 => Ok m11 m141 ∧ (k = 0 → ((m141 0 0 ≤ 1203200) ∧ (m141 0 1 + 6 ≤ 5491882) ∧ (Bs m141 → ∀ m145, m145 = al m141 23 0 6 → Ok m141 m145 → (((12 : Int) ≤ a1 → (((m141 0 0) ≠ 0) ∧ (WV G mX18_init 0 [(1, (m141 0 0)), (1, (-3)), (0, (m 8 5)), (0, v140), (1, 0), (1, 14), (1, 15)] [] m145 (d - 1) (fun k v151 m152 => k = 0 ∧ Ok m145 m152 ∧ (P 0 (m141 0 0) m152))))) ∧ (a1 < (12 : Int) → (WV G mX4_passes 0 [(1, 8), (0, 40), (9, 0)] [] m145 (d - 1) (fun k v155 m156 => k = 0 ∧ Ok m145 m156 ∧ ((v155 = (0 : Int) → (((m141 0 0) ≠ 0) ∧ (WV G mX18_init 0 [(1, (m141 0 0)), (1, (-3)), (0, (m 8 5)), (0, v140), (1, 0), (1, 14), (1, 15)] [] m156 (d - 1) (fun k v160 m161 => k = 0 ∧ Ok m156 m161 ∧ (P 0 (m141 0 0) m161))))) ∧ (v155 ≠ (0 : Int) → (WV G mX4_codes 0 [(1, 8), (0, (wr (a1 + 1))), (9, 0)] [] m156 (d - 1) (fun k v164 m165 => Ok m156 m165 ∧ (k = 0 → (((m141 0 0) ≠ 0) ∧ (WV G mX18_init 0 [(1, (m141 0 0)), (1, (-3)), (0, (m 8 5)), (0, v140), (1, 0), (1, v164), (1, 15)] [] m165 (d - 1) (fun k v169 m170 => k = 0 ∧ Ok m165 m170 ∧ (P 0 (m141 0 0) m170))))) ∧ (k ≠ 0 → P 1 v164 m165)))))))))))) ∧ (k ≠ 0 → P 1 v140 m141)))))))) ∧ (v7 ≠ (0 : Int) → (WV G mX4_leaf 0 [(1, 8), (1, (-9)), (0, (m 8 5)), (0, 32), (1, 0)] [] m8 (d - 1) (fun k v173 m174 => k = 0 ∧ Ok m8 m174 ∧ (P 0 v173 m174)))))))) ∧ (v4 ≠ (0 : Int) → (WV G mX4_digit 0 [(1, 8), (9, 0)] [] m5 (d - 1) (fun k v176 m177 => Ok m5 m177 ∧ (k = 0 → (WV G mX4_leaf 0 [(1, 8), (1, (-2)), (0, (m 8 5)), (0, 32), (1, v176)] [] m177 (d - 1) (fun k v179 m180 => k = 0 ∧ Ok m177 m180 ∧ (P 0 v179 m180)))) ∧ (k ≠ 0 → P 1 v176 m177)))))))) ∧ (v1 ≠ (0 : Int) → (WV G mX4_take 0 [(1, 8), (0, 97), (0, 122)] [] m2 (d - 1) (fun k v182 m183 => Ok m2 m183 ∧ (k = 0 → (WV G mX4_leaf 0 [(1, 8), (1, (-1)), (0, (m 8 5)), (0, v182), (1, 0)] [] m183 (d - 1) (fun k v185 m186 => k = 0 ∧ Ok m183 m186 ∧ (P 0 v185 m186)))) ∧ (k ≠ 0 → P 1 v182 m183))))))) :
    WV G mX4_code 0 [(1, 8), (0, a1), (9, 0), (9, 0), (9, 0)] [] m d P := by
  refine v_run 0 1 (pc' := 1) (ls' := [(1, 8), (0, a1), (9, 0), (9, 0), (9, 0)]) (st' := [(1, 8)]) rfl ?_
  refine v_getf (j := 1) (c := 4) (f := 5) rfl rfl rfl rfl rfl rfl rfl rfl (K8_t K) ?_
  refine v_run 2 4 (pc' := 10) (ls' := [(1, 8), (0, a1), (0, (m 8 5)), (9, 0), (9, 0)]) (st' := [(0, 122), (0, 97), (1, 8)]) rfl ?_
  refine v_callV (j := 6) (M' := mX4_isNext) (as := [(0, 97), (0, 122)]) (st := []) rfl rfl rfl rfl rfl (Nat.le_of_ble_eq_true rfl) (Nat.le_of_ble_eq_true rfl) (by omega) (by decide) (K8_t K) (kv0 (st' := fun v => [(0, v)]) rfl (fun _ => rfl)) (H.mono (fun k v1 m2 H => ⟨H.1, ?_⟩))
  have K3 := H.2.1.2.1 K
  replace H := H.2.2
  refine v_ifeq (j := 7) rfl rfl rfl (fun q => ?_) (fun q => ?_)
  · replace H := H.1 q
    refine v_run 18 3 (pc' := 39) (ls' := [(1, 8), (0, a1), (0, (m 8 5)), (9, 0), (9, 0)]) (st' := [(0, 57), (0, 48), (1, 8)]) rfl ?_
    refine v_callV (j := 21) (M' := mX4_isNext) (as := [(0, 48), (0, 57)]) (st := []) rfl rfl rfl rfl rfl (Nat.le_of_ble_eq_true rfl) (Nat.le_of_ble_eq_true rfl) (by omega) (by decide) (K8_t K3) (kv0 (st' := fun v => [(0, v)]) rfl (fun _ => rfl)) (H.mono (fun k v4 m5 H => ⟨H.1, ?_⟩))
    have K6 := H.2.1.2.1 K3
    replace H := H.2.2
    refine v_ifeq (j := 22) rfl rfl rfl (fun q => ?_) (fun q => ?_)
    · replace H := H.1 q
      refine v_run 31 2 (pc' := 63) (ls' := [(1, 8), (0, a1), (0, (m 8 5)), (9, 0), (9, 0)]) (st' := [(0, 126), (1, 8)]) rfl ?_
      refine v_callV (j := 33) (M' := mX4_passes) (as := [(0, 126)]) (st := []) rfl rfl rfl rfl rfl (Nat.le_of_ble_eq_true rfl) (Nat.le_of_ble_eq_true rfl) (by omega) (by decide) (K8_t K6) (kv0 (st' := fun v => [(0, v)]) rfl (fun _ => rfl)) (H.mono (fun k v7 m8 H => ⟨H.1, ?_⟩))
      have K9 := H.2.1.2.1 K6
      replace H := H.2.2
      refine v_ifeq (j := 34) rfl rfl rfl (fun q => ?_) (fun q => ?_)
      · replace H := H.1 q
        refine v_run 42 3 (pc' := 86) (ls' := [(1, 8), (0, a1), (0, (m 8 5)), (9, 0), (9, 0)]) (st' := [(0, 90), (0, 65), (1, 8)]) rfl ?_
        refine v_callV (j := 45) (M' := mX4_isNext) (as := [(0, 65), (0, 90)]) (st := []) rfl rfl rfl rfl rfl (Nat.le_of_ble_eq_true rfl) (Nat.le_of_ble_eq_true rfl) (by omega) (by decide) (K8_t K9) (kv0 (st' := fun v => [(0, v)]) rfl (fun _ => rfl)) (H.mono (fun k v10 m11 H => ⟨H.1, ?_⟩))
        have K12 := H.2.1.2.1 K9
        replace H := H.2.2
        refine v_ifeq (j := 46) rfl rfl rfl (fun q => ?_) (fun q => ?_)
        · replace H := H.1 q
          refine v_run 77 3 (pc' := 152) (ls' := [(1, 8), (0, a1), (0, (m 8 5)), (9, 0), (9, 0)]) (st' := [(0, 12), (0, a1), (1, 8)]) rfl ?_
          have J139 : WV G mX4_code 160 [(1, 8), (0, a1), (0, (m 8 5)), (9, 0), (9, 0)] [(0, (if (12 : Int) ≤ a1 then 0 else 1)), (1, 8)] m11 d P := by
            refine v_callV (j := 84) (M' := mX4_need) (as := [(0, (if (12 : Int) ≤ a1 then 0 else 1))]) (st := []) rfl rfl rfl rfl rfl (Nat.le_of_ble_eq_true rfl) (Nat.le_of_ble_eq_true rfl) (by omega) (by decide) (K8_t K12) (kvt (st' := fun v => []) rfl (fun _ => rfl) rfl) (H.mono (fun k v13 m14 H => ⟨fun z => ?_, H.2.2⟩))
            have O := H.1
            replace H := H.2.1 z
            have K15 := O.2.1 K12
            refine v_run 85 2 (pc' := 166) (ls' := [(1, 8), (0, a1), (0, (m 8 5)), (9, 0), (9, 0)]) (st' := [(0, 123), (1, 8)]) rfl ?_
            refine v_callV (j := 87) (M' := mX4_passes) (as := [(0, 123)]) (st := []) rfl rfl rfl rfl rfl (Nat.le_of_ble_eq_true rfl) (Nat.le_of_ble_eq_true rfl) (by omega) (by decide) (K8_t K15) (kv0 (st' := fun v => [(0, v)]) rfl (fun _ => rfl)) (H.mono (fun k v16 m17 H => ⟨H.1, ?_⟩))
            have K18 := H.2.1.2.1 K15
            replace H := H.2.2
            refine v_ifeq (j := 88) rfl rfl rfl (fun q => ?_) (fun q => ?_)
            · replace H := H.1 q
              obtain ⟨r19, r20, H⟩ := H
              refine vj_newAL (j := 96) (ic := 23) rfl rfl rfl rfl rfl rfl rfl r19 r20 (by omega) (by simp) (fun m21 e22 => ?_)
              have O24 : Ok m17 m21 := e22.ok
              have K25 := O24.2.1 K18
              replace H := H m21 e22 O24
              refine v_run 99 3 (pc' := 192) (ls' := [(1, 8), (0, a1), (0, (m 8 5)), (1, (m17 0 0)), (9, 0)]) (st' := [(0, 91), (1, 8)]) rfl ?_
              refine v_callV (j := 102) (M' := mX4_passes) (as := [(0, 91)]) (st := []) rfl rfl rfl rfl rfl (Nat.le_of_ble_eq_true rfl) (Nat.le_of_ble_eq_true rfl) (by omega) (by decide) (K8_t K25) (kv0 (st' := fun v => [(0, v)]) rfl (fun _ => rfl)) (H.mono (fun k v26 m27 H => ⟨H.1, ?_⟩))
              have K28 := H.2.1.2.1 K25
              have t29 := Ok.tag H.2.1 (e22.tag) (by decide)
              replace H := H.2.2
              refine v_ifeq (j := 103) rfl rfl rfl (fun q => ?_) (fun q => ?_)
              · replace H := H.1 q
                refine v_run 112 1 (pc' := 209) (ls' := [(1, 8), (0, a1), (0, (m 8 5)), (1, (m17 0 0)), (9, 0)]) (st' := [(1, 8)]) rfl ?_
                refine v_callV (j := 113) (M' := mX4_peek) (as := []) (st := []) rfl rfl rfl rfl rfl (Nat.le_of_ble_eq_true rfl) (Nat.le_of_ble_eq_true rfl) (by omega) (by decide) (K8_t K28) (kv0 (st' := fun v => [(0, v)]) rfl (fun _ => rfl)) (H.mono (fun k v30 m31 H => ⟨H.1, ?_⟩))
                have K32 := H.2.1.2.1 K28
                have t33 := Ok.tag H.2.1 (t29) (by decide)
                replace H := H.2.2
                refine v_run 114 1 (pc' := 214) (ls' := [(1, 8), (0, a1), (0, (m 8 5)), (1, (m17 0 0)), (9, 0)]) (st' := [(0, 45), (0, v30)]) rfl ?_
                have J131 : WV G mX4_code 226 [(1, 8), (0, a1), (0, (m 8 5)), (1, (m17 0 0)), (9, 0)] [(1, (if v30 ≠ (45 : Int) then (-4) else (-5)))] m31 d P := by
                  refine v_run 119 4 (pc' := 232) (ls' := [(1, 8), (0, a1), (0, (m 8 5)), (1, (m17 0 0)), (1, (if v30 ≠ (45 : Int) then (-4) else (-5)))]) (st' := [(0, 43), (1, 8), (1, 8)]) rfl ?_
                  refine v_callV (j := 123) (M' := mX4_passes) (as := [(0, 43)]) (st := [(1, 8)]) rfl rfl rfl rfl rfl (Nat.le_of_ble_eq_true rfl) (Nat.le_of_ble_eq_true rfl) (by omega) (by decide) (K8_t K32) (kv0 (st' := fun v => [(0, v), (1, 8)]) rfl (fun _ => rfl)) (H.mono (fun k v34 m35 H => ⟨H.1, ?_⟩))
                  have K36 := H.2.1.2.1 K32
                  have t37 := Ok.tag H.2.1 (t33) (by decide)
                  replace H := H.2.2
                  refine v_ifne (j := 124) rfl rfl rfl (fun q => ?_) (fun q => ?_)
                  · replace H := H.1 q
                    refine v_run 129 1 (pc' := 248) (ls' := [(1, 8), (0, a1), (0, (m 8 5)), (1, (m17 0 0)), (1, (if v30 ≠ (45 : Int) then (-4) else (-5)))]) (st' := [(0, 1), (1, 8)]) rfl ?_
                    refine v_goto (j := 130) (tgt := 252) rfl rfl ?_
                    refine v_callV (j := 132) (M' := mX4_need) (as := [(0, 1)]) (st := []) rfl rfl rfl rfl rfl (Nat.le_of_ble_eq_true rfl) (Nat.le_of_ble_eq_true rfl) (by omega) (by decide) (K8_t K36) (kvt (st' := fun v => []) rfl (fun _ => rfl) rfl) (H.mono (fun k v38 m39 H => ⟨fun z => ?_, H.2.2⟩))
                    have O := H.1
                    replace H := H.2.1 z
                    have K40 := O.2.1 K36
                    have t41 := Ok.tag O (t37) (by decide)
                    refine v_run 133 5 (pc' := 260) (ls' := [(1, 8), (0, a1), (0, (m 8 5)), (1, (m17 0 0)), (1, (if v30 ≠ (45 : Int) then (-4) else (-5)))]) (st' := [(0, (wr (a1 + 1))), (1, 8), (1, (m17 0 0))]) rfl ?_
                    refine v_callS (j := 138) (M' := mX4_code) (as := [(1, 8), (0, (wr (a1 + 1)))]) (st := [(1, (m17 0 0))]) rfl rfl rfl rfl rfl (Nat.le_of_ble_eq_true rfl) (Nat.le_of_ble_eq_true rfl) (by omega) (kvt (st' := fun v => [(1, v), (1, (m17 0 0))]) rfl (fun _ => rfl) rfl) (H.mono (fun k v42 m43 H => ⟨fun z => ?_, H.2.2⟩))
                    have O := H.1
                    replace H := H.2.1 z
                    have K44 := O.2.1 K40
                    have t45 := Ok.tag O (t41) (by decide)
                    obtain ⟨v48, i49, r50, r51, H⟩ := H
                    refine vj_add (j := 139) rfl rfl rfl rfl (t45) (by omega) (by simp) v48 i49 r50 r51 (fun m46 e47 => ?_)
                    have O52 : Ok m43 m46 := e47.1.ok (t45) (by decide)
                    have K53 := O52.2.1 K44
                    have t54 := Ok.tag O52 (t45) (by decide)
                    replace H := H m46 e47 O52
                    refine v_run 140 6 (pc' := 272) (ls' := [(1, 8), (0, a1), (0, (m 8 5)), (1, (m17 0 0)), (1, (if v30 ≠ (45 : Int) then (-4) else (-5)))]) (st' := [(0, (wr (a1 + 1))), (1, 8), (1, (m17 0 0))]) rfl ?_
                    refine v_callS (j := 146) (M' := mX4_code) (as := [(1, 8), (0, (wr (a1 + 1)))]) (st := [(1, (m17 0 0))]) rfl rfl rfl rfl rfl (Nat.le_of_ble_eq_true rfl) (Nat.le_of_ble_eq_true rfl) (by omega) (kvt (st' := fun v => [(1, v), (1, (m17 0 0))]) rfl (fun _ => rfl) rfl) (H.mono (fun k v55 m56 H => ⟨fun z => ?_, H.2.2⟩))
                    have O := H.1
                    replace H := H.2.1 z
                    have K57 := O.2.1 K53
                    have t58 := Ok.tag O (t54) (by decide)
                    obtain ⟨v61, i62, r63, r64, H⟩ := H
                    refine vj_add (j := 147) rfl rfl rfl rfl (t58) (by omega) (by simp) v61 i62 r63 r64 (fun m59 e60 => ?_)
                    have O65 : Ok m56 m59 := e60.1.ok (t58) (by decide)
                    have K66 := O65.2.1 K57
                    have t67 := Ok.tag O65 (t58) (by decide)
                    replace H := H m59 e60 O65
                    refine v_run 148 1 (pc' := 279) (ls' := [(1, 8), (0, a1), (0, (m 8 5)), (1, (m17 0 0)), (1, (if v30 ≠ (45 : Int) then (-4) else (-5)))]) (st' := []) rfl ?_
                    obtain ⟨r68, r69, H⟩ := H
                    refine v_new (j := 149) (c := 22) rfl rfl rfl rfl rfl rfl rfl r68 r69 (fun B m70 e71 => ?_)
                    have O72 : Ok m59 m70 := Ok.nw B e71
                    have K73 := O72.2.1 K66
                    have t74 := Ok.tag O72 (t67) (by decide)
                    replace H := H B m70 e71 O72
                    have t75 := al_tag B e71
                    refine v_run 150 7 (pc' := 291) (ls' := [(1, 8), (0, a1), (0, (m 8 5)), (1, (m17 0 0)), (1, (if v30 ≠ (45 : Int) then (-4) else (-5)))]) (st' := [(1, 8), (1, (m17 0 0)), (1, 0), (0, 32), (0, (m 8 5)), (1, (if v30 ≠ (45 : Int) then (-4) else (-5))), (1, (m59 0 0)), (1, (m59 0 0))]) rfl ?_
                    refine v_getK (j := 157) (c := 4) (f := 4) rfl rfl rfl rfl rfl rfl rfl rfl (K8_t K73) (K8_4 K73) ?_
                    obtain ⟨z76, H⟩ := H
                    refine v_callI (j := 158) (M' := mX18_init) (as := [(1, (if v30 ≠ (45 : Int) then (-4) else (-5))), (0, (m 8 5)), (0, 32), (1, 0), (1, (m17 0 0)), (1, 15)]) (st := [(1, (m59 0 0))]) rfl rfl rfl rfl rfl (Nat.le_of_ble_eq_true rfl) (Nat.le_of_ble_eq_true rfl) (by omega) z76 (kv0 (st' := fun v => [(1, (m59 0 0))]) rfl (fun _ => rfl)) (H.mono (fun k v77 m78 H => ⟨H.1, ?_⟩))
                    have K79 := H.2.1.2.1 K73
                    have t80 := Ok.tag H.2.1 (t74) (by decide)
                    have t81 := Ok.tag H.2.1 (t75) (by decide)
                    replace H := H.2.2
                    exact v_aret (j := 159) rfl rfl rfl H
                  · replace H := H.2 q
                    refine v_run 125 2 (pc' := 241) (ls' := [(1, 8), (0, a1), (0, (m 8 5)), (1, (m17 0 0)), (1, (if v30 ≠ (45 : Int) then (-4) else (-5)))]) (st' := [(0, 45), (1, 8), (1, 8)]) rfl ?_
                    refine v_callV (j := 127) (M' := mX4_passes) (as := [(0, 45)]) (st := [(1, 8)]) rfl rfl rfl rfl rfl (Nat.le_of_ble_eq_true rfl) (Nat.le_of_ble_eq_true rfl) (by omega) (by decide) (K8_t K36) (kv0 (st' := fun v => [(0, v), (1, 8)]) rfl (fun _ => rfl)) (H.mono (fun k v82 m83 H => ⟨H.1, ?_⟩))
                    have K84 := H.2.1.2.1 K36
                    have t85 := Ok.tag H.2.1 (t37) (by decide)
                    replace H := H.2.2
                    have J130 : WV G mX4_code 252 [(1, 8), (0, a1), (0, (m 8 5)), (1, (m17 0 0)), (1, (if v30 ≠ (45 : Int) then (-4) else (-5)))] [(0, (if v82 = (0 : Int) then 0 else 1)), (1, 8)] m83 d P := by
                      refine v_callV (j := 132) (M' := mX4_need) (as := [(0, (if v82 = (0 : Int) then 0 else 1))]) (st := []) rfl rfl rfl rfl rfl (Nat.le_of_ble_eq_true rfl) (Nat.le_of_ble_eq_true rfl) (by omega) (by decide) (K8_t K84) (kvt (st' := fun v => []) rfl (fun _ => rfl) rfl) (H.mono (fun k v86 m87 H => ⟨fun z => ?_, H.2.2⟩))
                      have O := H.1
                      replace H := H.2.1 z
                      have K88 := O.2.1 K84
                      have t89 := Ok.tag O (t85) (by decide)
                      refine v_run 133 5 (pc' := 260) (ls' := [(1, 8), (0, a1), (0, (m 8 5)), (1, (m17 0 0)), (1, (if v30 ≠ (45 : Int) then (-4) else (-5)))]) (st' := [(0, (wr (a1 + 1))), (1, 8), (1, (m17 0 0))]) rfl ?_
                      refine v_callS (j := 138) (M' := mX4_code) (as := [(1, 8), (0, (wr (a1 + 1)))]) (st := [(1, (m17 0 0))]) rfl rfl rfl rfl rfl (Nat.le_of_ble_eq_true rfl) (Nat.le_of_ble_eq_true rfl) (by omega) (kvt (st' := fun v => [(1, v), (1, (m17 0 0))]) rfl (fun _ => rfl) rfl) (H.mono (fun k v90 m91 H => ⟨fun z => ?_, H.2.2⟩))
                      have O := H.1
                      replace H := H.2.1 z
                      have K92 := O.2.1 K88
                      have t93 := Ok.tag O (t89) (by decide)
                      obtain ⟨v96, i97, r98, r99, H⟩ := H
                      refine vj_add (j := 139) rfl rfl rfl rfl (t93) (by omega) (by simp) v96 i97 r98 r99 (fun m94 e95 => ?_)
                      have O100 : Ok m91 m94 := e95.1.ok (t93) (by decide)
                      have K101 := O100.2.1 K92
                      have t102 := Ok.tag O100 (t93) (by decide)
                      replace H := H m94 e95 O100
                      refine v_run 140 6 (pc' := 272) (ls' := [(1, 8), (0, a1), (0, (m 8 5)), (1, (m17 0 0)), (1, (if v30 ≠ (45 : Int) then (-4) else (-5)))]) (st' := [(0, (wr (a1 + 1))), (1, 8), (1, (m17 0 0))]) rfl ?_
                      refine v_callS (j := 146) (M' := mX4_code) (as := [(1, 8), (0, (wr (a1 + 1)))]) (st := [(1, (m17 0 0))]) rfl rfl rfl rfl rfl (Nat.le_of_ble_eq_true rfl) (Nat.le_of_ble_eq_true rfl) (by omega) (kvt (st' := fun v => [(1, v), (1, (m17 0 0))]) rfl (fun _ => rfl) rfl) (H.mono (fun k v103 m104 H => ⟨fun z => ?_, H.2.2⟩))
                      have O := H.1
                      replace H := H.2.1 z
                      have K105 := O.2.1 K101
                      have t106 := Ok.tag O (t102) (by decide)
                      obtain ⟨v109, i110, r111, r112, H⟩ := H
                      refine vj_add (j := 147) rfl rfl rfl rfl (t106) (by omega) (by simp) v109 i110 r111 r112 (fun m107 e108 => ?_)
                      have O113 : Ok m104 m107 := e108.1.ok (t106) (by decide)
                      have K114 := O113.2.1 K105
                      have t115 := Ok.tag O113 (t106) (by decide)
                      replace H := H m107 e108 O113
                      refine v_run 148 1 (pc' := 279) (ls' := [(1, 8), (0, a1), (0, (m 8 5)), (1, (m17 0 0)), (1, (if v30 ≠ (45 : Int) then (-4) else (-5)))]) (st' := []) rfl ?_
                      obtain ⟨r116, r117, H⟩ := H
                      refine v_new (j := 149) (c := 22) rfl rfl rfl rfl rfl rfl rfl r116 r117 (fun B m118 e119 => ?_)
                      have O120 : Ok m107 m118 := Ok.nw B e119
                      have K121 := O120.2.1 K114
                      have t122 := Ok.tag O120 (t115) (by decide)
                      replace H := H B m118 e119 O120
                      have t123 := al_tag B e119
                      refine v_run 150 7 (pc' := 291) (ls' := [(1, 8), (0, a1), (0, (m 8 5)), (1, (m17 0 0)), (1, (if v30 ≠ (45 : Int) then (-4) else (-5)))]) (st' := [(1, 8), (1, (m17 0 0)), (1, 0), (0, 32), (0, (m 8 5)), (1, (if v30 ≠ (45 : Int) then (-4) else (-5))), (1, (m107 0 0)), (1, (m107 0 0))]) rfl ?_
                      refine v_getK (j := 157) (c := 4) (f := 4) rfl rfl rfl rfl rfl rfl rfl rfl (K8_t K121) (K8_4 K121) ?_
                      obtain ⟨z124, H⟩ := H
                      refine v_callI (j := 158) (M' := mX18_init) (as := [(1, (if v30 ≠ (45 : Int) then (-4) else (-5))), (0, (m 8 5)), (0, 32), (1, 0), (1, (m17 0 0)), (1, 15)]) (st := [(1, (m107 0 0))]) rfl rfl rfl rfl rfl (Nat.le_of_ble_eq_true rfl) (Nat.le_of_ble_eq_true rfl) (by omega) z124 (kv0 (st' := fun v => [(1, (m107 0 0))]) rfl (fun _ => rfl)) (H.mono (fun k v125 m126 H => ⟨H.1, ?_⟩))
                      have K127 := H.2.1.2.1 K121
                      have t128 := Ok.tag H.2.1 (t122) (by decide)
                      have t129 := Ok.tag H.2.1 (t123) (by decide)
                      replace H := H.2.2
                      exact v_aret (j := 159) rfl rfl rfl H
                    refine v_ifeq (j := 128) rfl rfl rfl (fun q => ?_) (fun q => ?_)
                    · rw [if_pos q] at J130
                      refine v_run 131 1 (pc' := 252) (ls' := [(1, 8), (0, a1), (0, (m 8 5)), (1, (m17 0 0)), (1, (if v30 ≠ (45 : Int) then (-4) else (-5)))]) (st' := [(0, 0), (1, 8)]) rfl ?_
                      exact J130
                    · rw [if_neg q] at J130
                      refine v_run 129 1 (pc' := 248) (ls' := [(1, 8), (0, a1), (0, (m 8 5)), (1, (m17 0 0)), (1, (if v30 ≠ (45 : Int) then (-4) else (-5)))]) (st' := [(0, 1), (1, 8)]) rfl ?_
                      refine v_goto (j := 130) (tgt := 252) rfl rfl ?_
                      exact J130
                refine v_icmpne (j := 115) rfl rfl rfl (fun q => ?_) (fun q => ?_)
                · rw [if_pos q] at J131
                  refine v_gets (j := 118) (g := 1) (v := (-4)) rfl rfl rfl rfl ?_
                  exact J131
                · rw [if_neg (fun z => z q)] at J131
                  refine v_gets (j := 116) (g := 1) (v := (-5)) rfl rfl rfl rfl ?_
                  refine v_goto (j := 117) (tgt := 226) rfl rfl ?_
                  exact J131
              · replace H := H.2 q
                refine v_run 104 6 (pc' := 204) (ls' := [(1, 8), (0, a1), (0, (m 8 5)), (1, (m17 0 0)), (9, 0)]) (st' := [(1, (m17 0 0)), (0, (wr (a1 + 1))), (0, (m 8 5)), (1, 8)]) rfl ?_
                refine v_callS (j := 110) (M' := mX4_test) (as := [(1, 8), (0, (m 8 5)), (0, (wr (a1 + 1))), (1, (m17 0 0))]) (st := []) rfl rfl rfl rfl rfl (Nat.le_of_ble_eq_true rfl) (Nat.le_of_ble_eq_true rfl) (by omega) (kvt (st' := fun v => [(1, v)]) rfl (fun _ => rfl) rfl) (H.mono (fun k v132 m133 H => ⟨fun z => ?_, H.2.2⟩))
                have O := H.1
                replace H := H.2.1 z
                have K134 := O.2.1 K28
                have t135 := Ok.tag O (t29) (by decide)
                exact v_aret (j := 111) rfl rfl rfl H
            · replace H := H.2 q
              refine v_run 89 5 (pc' := 177) (ls' := [(1, 8), (0, a1), (0, (m 8 5)), (9, 0), (9, 0)]) (st' := [(0, (wr (a1 + 1))), (0, (m 8 5)), (1, 8)]) rfl ?_
              refine v_callS (j := 94) (M' := mX4_match) (as := [(1, 8), (0, (m 8 5)), (0, (wr (a1 + 1)))]) (st := []) rfl rfl rfl rfl rfl (Nat.le_of_ble_eq_true rfl) (Nat.le_of_ble_eq_true rfl) (by omega) (kvt (st' := fun v => [(1, v)]) rfl (fun _ => rfl) rfl) (H.mono (fun k v136 m137 H => ⟨fun z => ?_, H.2.2⟩))
              have O := H.1
              replace H := H.2.1 z
              have K138 := O.2.1 K18
              exact v_aret (j := 95) rfl rfl rfl H
          refine v_icmpge (j := 80) rfl rfl rfl (fun q => ?_) (fun q => ?_)
          · rw [if_pos q] at J139
            refine v_run 83 1 (pc' := 160) (ls' := [(1, 8), (0, a1), (0, (m 8 5)), (9, 0), (9, 0)]) (st' := [(0, 0), (1, 8)]) rfl ?_
            exact J139
          · rw [if_neg (Int.not_le.mpr q)] at J139
            refine v_run 81 1 (pc' := 156) (ls' := [(1, 8), (0, a1), (0, (m 8 5)), (9, 0), (9, 0)]) (st' := [(0, 1), (1, 8)]) rfl ?_
            refine v_goto (j := 82) (tgt := 160) rfl rfl ?_
            exact J139
        · replace H := H.2 q
          refine v_run 47 3 (pc' := 97) (ls' := [(1, 8), (0, a1), (0, (m 8 5)), (9, 0), (9, 0)]) (st' := [(0, 90), (0, 65), (1, 8)]) rfl ?_
          refine v_callV (j := 50) (M' := mX4_take) (as := [(0, 65), (0, 90)]) (st := []) rfl rfl rfl rfl rfl (Nat.le_of_ble_eq_true rfl) (Nat.le_of_ble_eq_true rfl) (by omega) (by decide) (K8_t K12) (kvt (st' := fun v => [(0, v)]) rfl (fun _ => rfl) rfl) (H.mono (fun k v140 m141 H => ⟨fun z => ?_, H.2.2⟩))
          have O := H.1
          replace H := H.2.1 z
          have K142 := O.2.1 K12
          refine v_run 51 1 (pc' := 101) (ls' := [(1, 8), (0, a1), (0, (m 8 5)), (0, v140), (9, 0)]) (st' := []) rfl ?_
          obtain ⟨r143, r144, H⟩ := H
          refine v_new (j := 52) (c := 22) rfl rfl rfl rfl rfl rfl rfl r143 r144 (fun B m145 e146 => ?_)
          have O147 : Ok m141 m145 := Ok.nw B e146
          have K148 := O147.2.1 K142
          replace H := H B m145 e146 O147
          have t149 := al_tag B e146
          refine v_run 53 1 (pc' := 105) (ls' := [(1, 8), (0, a1), (0, (m 8 5)), (0, v140), (9, 0)]) (st' := [(1, (m141 0 0)), (1, (m141 0 0))]) rfl ?_
          refine v_gets (j := 54) (g := 1) (v := (-3)) rfl rfl rfl rfl ?_
          refine v_run 55 5 (pc' := 114) (ls' := [(1, 8), (0, a1), (0, (m 8 5)), (0, v140), (9, 0)]) (st' := [(0, 12), (0, a1), (1, 0), (0, v140), (0, (m 8 5)), (1, (-3)), (1, (m141 0 0)), (1, (m141 0 0))]) rfl ?_
          refine v_icmpge (j := 60) rfl rfl rfl (fun q => ?_) (fun q => ?_)
          · replace H := H.1 q
            refine v_run 71 1 (pc' := 137) (ls' := [(1, 8), (0, a1), (0, (m 8 5)), (0, v140), (9, 0)]) (st' := [(1, 8), (1, 0), (0, v140), (0, (m 8 5)), (1, (-3)), (1, (m141 0 0)), (1, (m141 0 0))]) rfl ?_
            refine v_getK (j := 72) (c := 4) (f := 3) rfl rfl rfl rfl rfl rfl rfl rfl (K8_t K148) (K8_3 K148) ?_
            refine v_run 73 1 (pc' := 141) (ls' := [(1, 8), (0, a1), (0, (m 8 5)), (0, v140), (9, 0)]) (st' := [(1, 8), (1, 14), (1, 0), (0, v140), (0, (m 8 5)), (1, (-3)), (1, (m141 0 0)), (1, (m141 0 0))]) rfl ?_
            refine v_getK (j := 74) (c := 4) (f := 4) rfl rfl rfl rfl rfl rfl rfl rfl (K8_t K148) (K8_4 K148) ?_
            obtain ⟨z150, H⟩ := H
            refine v_callI (j := 75) (M' := mX18_init) (as := [(1, (-3)), (0, (m 8 5)), (0, v140), (1, 0), (1, 14), (1, 15)]) (st := [(1, (m141 0 0))]) rfl rfl rfl rfl rfl (Nat.le_of_ble_eq_true rfl) (Nat.le_of_ble_eq_true rfl) (by omega) z150 (kv0 (st' := fun v => [(1, (m141 0 0))]) rfl (fun _ => rfl)) (H.mono (fun k v151 m152 H => ⟨H.1, ?_⟩))
            have K153 := H.2.1.2.1 K148
            have t154 := Ok.tag H.2.1 (t149) (by decide)
            replace H := H.2.2
            exact v_aret (j := 76) rfl rfl rfl H
          · replace H := H.2 q
            refine v_run 61 2 (pc' := 120) (ls' := [(1, 8), (0, a1), (0, (m 8 5)), (0, v140), (9, 0)]) (st' := [(0, 40), (1, 8), (1, 0), (0, v140), (0, (m 8 5)), (1, (-3)), (1, (m141 0 0)), (1, (m141 0 0))]) rfl ?_
            refine v_callV (j := 63) (M' := mX4_passes) (as := [(0, 40)]) (st := [(1, 0), (0, v140), (0, (m 8 5)), (1, (-3)), (1, (m141 0 0)), (1, (m141 0 0))]) rfl rfl rfl rfl rfl (Nat.le_of_ble_eq_true rfl) (Nat.le_of_ble_eq_true rfl) (by omega) (by decide) (K8_t K148) (kv0 (st' := fun v => [(0, v), (1, 0), (0, v140), (0, (m 8 5)), (1, (-3)), (1, (m141 0 0)), (1, (m141 0 0))]) rfl (fun _ => rfl)) (H.mono (fun k v155 m156 H => ⟨H.1, ?_⟩))
            have K157 := H.2.1.2.1 K148
            have t158 := Ok.tag H.2.1 (t149) (by decide)
            replace H := H.2.2
            refine v_ifeq (j := 64) rfl rfl rfl (fun q => ?_) (fun q => ?_)
            · replace H := H.1 q
              refine v_run 71 1 (pc' := 137) (ls' := [(1, 8), (0, a1), (0, (m 8 5)), (0, v140), (9, 0)]) (st' := [(1, 8), (1, 0), (0, v140), (0, (m 8 5)), (1, (-3)), (1, (m141 0 0)), (1, (m141 0 0))]) rfl ?_
              refine v_getK (j := 72) (c := 4) (f := 3) rfl rfl rfl rfl rfl rfl rfl rfl (K8_t K157) (K8_3 K157) ?_
              refine v_run 73 1 (pc' := 141) (ls' := [(1, 8), (0, a1), (0, (m 8 5)), (0, v140), (9, 0)]) (st' := [(1, 8), (1, 14), (1, 0), (0, v140), (0, (m 8 5)), (1, (-3)), (1, (m141 0 0)), (1, (m141 0 0))]) rfl ?_
              refine v_getK (j := 74) (c := 4) (f := 4) rfl rfl rfl rfl rfl rfl rfl rfl (K8_t K157) (K8_4 K157) ?_
              obtain ⟨z159, H⟩ := H
              refine v_callI (j := 75) (M' := mX18_init) (as := [(1, (-3)), (0, (m 8 5)), (0, v140), (1, 0), (1, 14), (1, 15)]) (st := [(1, (m141 0 0))]) rfl rfl rfl rfl rfl (Nat.le_of_ble_eq_true rfl) (Nat.le_of_ble_eq_true rfl) (by omega) z159 (kv0 (st' := fun v => [(1, (m141 0 0))]) rfl (fun _ => rfl)) (H.mono (fun k v160 m161 H => ⟨H.1, ?_⟩))
              have K162 := H.2.1.2.1 K157
              have t163 := Ok.tag H.2.1 (t158) (by decide)
              replace H := H.2.2
              exact v_aret (j := 76) rfl rfl rfl H
            · replace H := H.2 q
              refine v_run 65 4 (pc' := 130) (ls' := [(1, 8), (0, a1), (0, (m 8 5)), (0, v140), (9, 0)]) (st' := [(0, (wr (a1 + 1))), (1, 8), (1, 0), (0, v140), (0, (m 8 5)), (1, (-3)), (1, (m141 0 0)), (1, (m141 0 0))]) rfl ?_
              refine v_callS (j := 69) (M' := mX4_codes) (as := [(1, 8), (0, (wr (a1 + 1)))]) (st := [(1, 0), (0, v140), (0, (m 8 5)), (1, (-3)), (1, (m141 0 0)), (1, (m141 0 0))]) rfl rfl rfl rfl rfl (Nat.le_of_ble_eq_true rfl) (Nat.le_of_ble_eq_true rfl) (by omega) (kvt (st' := fun v => [(1, v), (1, 0), (0, v140), (0, (m 8 5)), (1, (-3)), (1, (m141 0 0)), (1, (m141 0 0))]) rfl (fun _ => rfl) rfl) (H.mono (fun k v164 m165 H => ⟨fun z => ?_, H.2.2⟩))
              have O := H.1
              replace H := H.2.1 z
              have K166 := O.2.1 K157
              have t167 := Ok.tag O (t158) (by decide)
              refine v_goto (j := 70) (tgt := 140) rfl rfl ?_
              refine v_run 73 1 (pc' := 141) (ls' := [(1, 8), (0, a1), (0, (m 8 5)), (0, v140), (9, 0)]) (st' := [(1, 8), (1, v164), (1, 0), (0, v140), (0, (m 8 5)), (1, (-3)), (1, (m141 0 0)), (1, (m141 0 0))]) rfl ?_
              refine v_getK (j := 74) (c := 4) (f := 4) rfl rfl rfl rfl rfl rfl rfl rfl (K8_t K166) (K8_4 K166) ?_
              obtain ⟨z168, H⟩ := H
              refine v_callI (j := 75) (M' := mX18_init) (as := [(1, (-3)), (0, (m 8 5)), (0, v140), (1, 0), (1, v164), (1, 15)]) (st := [(1, (m141 0 0))]) rfl rfl rfl rfl rfl (Nat.le_of_ble_eq_true rfl) (Nat.le_of_ble_eq_true rfl) (by omega) z168 (kv0 (st' := fun v => [(1, (m141 0 0))]) rfl (fun _ => rfl)) (H.mono (fun k v169 m170 H => ⟨H.1, ?_⟩))
              have K171 := H.2.1.2.1 K166
              have t172 := Ok.tag H.2.1 (t167) (by decide)
              replace H := H.2.2
              exact v_aret (j := 76) rfl rfl rfl H
      · replace H := H.2 q
        refine v_run 35 1 (pc' := 70) (ls' := [(1, 8), (0, a1), (0, (m 8 5)), (9, 0), (9, 0)]) (st' := [(1, 8)]) rfl ?_
        refine v_gets (j := 36) (g := 1) (v := (-9)) rfl rfl rfl rfl ?_
        refine v_run 37 3 (pc' := 77) (ls' := [(1, 8), (0, a1), (0, (m 8 5)), (9, 0), (9, 0)]) (st' := [(1, 0), (0, 32), (0, (m 8 5)), (1, (-9)), (1, 8)]) rfl ?_
        refine v_callV (j := 40) (M' := mX4_leaf) (as := [(1, (-9)), (0, (m 8 5)), (0, 32), (1, 0)]) (st := []) rfl rfl rfl rfl rfl (Nat.le_of_ble_eq_true rfl) (Nat.le_of_ble_eq_true rfl) (by omega) (by decide) (K8_t K9) (kv0 (st' := fun v => [(1, v)]) rfl (fun _ => rfl)) (H.mono (fun k v173 m174 H => ⟨H.1, ?_⟩))
        have K175 := H.2.1.2.1 K9
        replace H := H.2.2
        exact v_aret (j := 41) rfl rfl rfl H
    · replace H := H.2 q
      refine v_run 23 1 (pc' := 46) (ls' := [(1, 8), (0, a1), (0, (m 8 5)), (9, 0), (9, 0)]) (st' := [(1, 8)]) rfl ?_
      refine v_gets (j := 24) (g := 1) (v := (-2)) rfl rfl rfl rfl ?_
      refine v_run 25 3 (pc' := 53) (ls' := [(1, 8), (0, a1), (0, (m 8 5)), (9, 0), (9, 0)]) (st' := [(1, 8), (0, 32), (0, (m 8 5)), (1, (-2)), (1, 8)]) rfl ?_
      refine v_callV (j := 28) (M' := mX4_digit) (as := []) (st := [(0, 32), (0, (m 8 5)), (1, (-2)), (1, 8)]) rfl rfl rfl rfl rfl (Nat.le_of_ble_eq_true rfl) (Nat.le_of_ble_eq_true rfl) (by omega) (by decide) (K8_t K6) (kvt (st' := fun v => [(1, v), (0, 32), (0, (m 8 5)), (1, (-2)), (1, 8)]) rfl (fun _ => rfl) rfl) (H.mono (fun k v176 m177 H => ⟨fun z => ?_, H.2.2⟩))
      have O := H.1
      replace H := H.2.1 z
      have K178 := O.2.1 K6
      refine v_callV (j := 29) (M' := mX4_leaf) (as := [(1, (-2)), (0, (m 8 5)), (0, 32), (1, v176)]) (st := []) rfl rfl rfl rfl rfl (Nat.le_of_ble_eq_true rfl) (Nat.le_of_ble_eq_true rfl) (by omega) (by decide) (K8_t K178) (kv0 (st' := fun v => [(1, v)]) rfl (fun _ => rfl)) (H.mono (fun k v179 m180 H => ⟨H.1, ?_⟩))
      have K181 := H.2.1.2.1 K178
      replace H := H.2.2
      exact v_aret (j := 30) rfl rfl rfl H
  · replace H := H.2 q
    refine v_run 8 1 (pc' := 17) (ls' := [(1, 8), (0, a1), (0, (m 8 5)), (9, 0), (9, 0)]) (st' := [(1, 8)]) rfl ?_
    refine v_gets (j := 9) (g := 1) (v := (-1)) rfl rfl rfl rfl ?_
    refine v_run 10 4 (pc' := 26) (ls' := [(1, 8), (0, a1), (0, (m 8 5)), (9, 0), (9, 0)]) (st' := [(0, 122), (0, 97), (1, 8), (0, (m 8 5)), (1, (-1)), (1, 8)]) rfl ?_
    refine v_callV (j := 14) (M' := mX4_take) (as := [(0, 97), (0, 122)]) (st := [(0, (m 8 5)), (1, (-1)), (1, 8)]) rfl rfl rfl rfl rfl (Nat.le_of_ble_eq_true rfl) (Nat.le_of_ble_eq_true rfl) (by omega) (by decide) (K8_t K3) (kvt (st' := fun v => [(0, v), (0, (m 8 5)), (1, (-1)), (1, 8)]) rfl (fun _ => rfl) rfl) (H.mono (fun k v182 m183 H => ⟨fun z => ?_, H.2.2⟩))
    have O := H.1
    replace H := H.2.1 z
    have K184 := O.2.1 K3
    refine v_run 15 1 (pc' := 30) (ls' := [(1, 8), (0, a1), (0, (m 8 5)), (9, 0), (9, 0)]) (st' := [(1, 0), (0, v182), (0, (m 8 5)), (1, (-1)), (1, 8)]) rfl ?_
    refine v_callV (j := 16) (M' := mX4_leaf) (as := [(1, (-1)), (0, (m 8 5)), (0, v182), (1, 0)]) (st := []) rfl rfl rfl rfl rfl (Nat.le_of_ble_eq_true rfl) (Nat.le_of_ble_eq_true rfl) (by omega) (by decide) (K8_t K184) (kv0 (st' := fun v => [(1, v)]) rfl (fun _ => rfl)) (H.mono (fun k v185 m186 H => ⟨H.1, ?_⟩))
    have K187 := H.2.1.2.1 K184
    replace H := H.2.2
    exact v_aret (j := 17) rfl rfl rfl H

set_option maxRecDepth 100000 in
set_option maxHeartbeats 4000000 in
theorem wX4_codes {G : GM} {d : Nat} {P : Nat → Int → SM → Prop} {m : SM} {a1 : Int} (K : KI m) (hd : 12 ≤ d) 
    (H : (m 0 0 + 2 ≤ 1203200) ∧ (m 0 1 + 20 ≤ 5491882) ∧ (∀ m3, NAL m m3 → Ok m m3 → (WV G mX4_code 0 [(1, 8), (0, a1), (9, 0), (9, 0), (9, 0)] [] m3 (d - 1) (fun k v8 m9 => Ok m3 m9 ∧ (k = 0 → ((elOK m9 v8) ∧ (m9 (m 0 0) (-2) < 100000) ∧ (m9 0 0 ≤ 1203200) ∧ (m9 0 1 + 2 * m9 (m 0 0) (-2) + 20 ≤ 5491882) ∧ (∀ m12, Radd m9 (m 0 0) v8 m12 → Ok m9 m12 → (WV G mX4_codes 18 [(1, 8), (0, a1), (1, (m 0 0))] [] m12 d P)))) ∧ (k ≠ 0 → P 1 v8 m9))))) :
    WV G mX4_codes 0 [(1, 8), (0, a1), (9, 0)] [] m d P := by
  obtain ⟨r1, r2, H⟩ := H
  refine vj_newAL (j := 0) (ic := 23) rfl rfl rfl rfl rfl rfl rfl r1 r2 (by omega) (by simp) (fun m3 e4 => ?_)
  have O6 : Ok m m3 := e4.ok
  have K7 := O6.2.1 K
  replace H := H m3 e4 O6
  refine v_run 3 4 (pc' := 11) (ls' := [(1, 8), (0, a1), (1, (m 0 0))]) (st' := [(0, a1), (1, 8), (1, (m 0 0))]) rfl ?_
  refine v_callS (j := 7) (M' := mX4_code) (as := [(1, 8), (0, a1)]) (st := [(1, (m 0 0))]) rfl rfl rfl rfl rfl (Nat.le_of_ble_eq_true rfl) (Nat.le_of_ble_eq_true rfl) (by omega) (kvt (st' := fun v => [(1, v), (1, (m 0 0))]) rfl (fun _ => rfl) rfl) (H.mono (fun k v8 m9 H => ⟨fun z => ?_, H.2.2⟩))
  have O := H.1
  replace H := H.2.1 z
  have K10 := O.2.1 K7
  have t11 := Ok.tag O (e4.tag) (by decide)
  obtain ⟨v14, i15, r16, r17, H⟩ := H
  refine vj_add (j := 8) rfl rfl rfl rfl (t11) (by omega) (by simp) v14 i15 r16 r17 (fun m12 e13 => ?_)
  have O18 : Ok m9 m12 := e13.1.ok (t11) (by decide)
  have K19 := O18.2.1 K10
  have t20 := Ok.tag O18 (t11) (by decide)
  replace H := H m12 e13 O18
  refine v_run 9 1 (pc' := 18) (ls' := [(1, 8), (0, a1), (1, (m 0 0))]) (st' := []) rfl ?_
  exact H

set_option maxRecDepth 100000 in
set_option maxHeartbeats 4000000 in
theorem wX4_codes_18 {G : GM} {d : Nat} {P : Nat → Int → SM → Prop} {m : SM} {a1 a2 : Int} (K : KI m) (hd : 12 ≤ d) 
    (H : (m a2 (-1) = 4) ∧ (((6 : Int) ≤ (m a2 (-2)) → (WV G mX4_take 0 [(1, 8), (0, 41), (0, 41)] [] m (d - 1) (fun k v2 m3 => Ok m m3 ∧ (k = 0 → (P 0 a2 m3)) ∧ (k ≠ 0 → P 1 v2 m3)))) ∧ ((m a2 (-2)) < (6 : Int) → (WV G mX4_isCode 0 [(1, 8)] [] m (d - 1) (fun k v6 m7 => k = 0 ∧ Ok m m7 ∧ ((v6 = (0 : Int) → (WV G mX4_take 0 [(1, 8), (0, 41), (0, 41)] [] m7 (d - 1) (fun k v10 m11 => Ok m7 m11 ∧ (k = 0 → (P 0 a2 m11)) ∧ (k ≠ 0 → P 1 v10 m11)))) ∧ (v6 ≠ (0 : Int) → (WV G mX4_code 0 [(1, 8), (0, a1), (9, 0), (9, 0), (9, 0)] [] m7 (d - 1) (fun k v14 m15 => Ok m7 m15 ∧ (k = 0 → ((elOK m15 v14) ∧ (m15 a2 (-2) < 100000) ∧ (m15 0 0 ≤ 1203200) ∧ (m15 0 1 + 2 * m15 a2 (-2) + 20 ≤ 5491882) ∧ (∀ m18, Radd m15 a2 v14 m18 → Ok m15 m18 → (WV G mX4_codes 18 [(1, 8), (0, a1), (1, a2)] [] m18 d P)))) ∧ (k ≠ 0 → P 1 v14 m15)))))))))) :
    WV G mX4_codes 18 [(1, 8), (0, a1), (1, a2)] [] m d P := by
  refine v_run 10 1 (pc' := 19) (ls' := [(1, 8), (0, a1), (1, a2)]) (st' := [(1, a2)]) rfl ?_
  obtain ⟨t1, H⟩ := H
  refine vj_size (j := 11) rfl rfl rfl rfl (t1) (by omega) (by simp) ?_
  refine v_run 12 1 (pc' := 24) (ls' := [(1, 8), (0, a1), (1, a2)]) (st' := [(0, 6), (0, (m a2 (-2)))]) rfl ?_
  refine v_icmpge (j := 13) rfl rfl rfl (fun q => ?_) (fun q => ?_)
  · replace H := H.1 q
    refine v_run 24 3 (pc' := 52) (ls' := [(1, 8), (0, a1), (1, a2)]) (st' := [(0, 41), (0, 41), (1, 8)]) rfl ?_
    refine v_callV (j := 27) (M' := mX4_take) (as := [(0, 41), (0, 41)]) (st := []) rfl rfl rfl rfl rfl (Nat.le_of_ble_eq_true rfl) (Nat.le_of_ble_eq_true rfl) (by omega) (by decide) (K8_t K) (kvt (st' := fun v => [(0, v)]) rfl (fun _ => rfl) rfl) (H.mono (fun k v2 m3 H => ⟨fun z => ?_, H.2.2⟩))
    have O := H.1
    replace H := H.2.1 z
    have K4 := O.2.1 K
    have t5 := Ok.tag O (t1) (by decide)
    refine v_run 28 2 (pc' := 57) (ls' := [(1, 8), (0, a1), (1, a2)]) (st' := [(1, a2)]) rfl ?_
    exact v_aret (j := 30) rfl rfl rfl H
  · replace H := H.2 q
    refine v_run 14 1 (pc' := 28) (ls' := [(1, 8), (0, a1), (1, a2)]) (st' := [(1, 8)]) rfl ?_
    refine v_callV (j := 15) (M' := mX4_isCode) (as := []) (st := []) rfl rfl rfl rfl rfl (Nat.le_of_ble_eq_true rfl) (Nat.le_of_ble_eq_true rfl) (by omega) (by decide) (K8_t K) (kv0 (st' := fun v => [(0, v)]) rfl (fun _ => rfl)) (H.mono (fun k v6 m7 H => ⟨H.1, ?_⟩))
    have K8 := H.2.1.2.1 K
    have t9 := Ok.tag H.2.1 (t1) (by decide)
    replace H := H.2.2
    refine v_ifeq (j := 16) rfl rfl rfl (fun q => ?_) (fun q => ?_)
    · replace H := H.1 q
      refine v_run 24 3 (pc' := 52) (ls' := [(1, 8), (0, a1), (1, a2)]) (st' := [(0, 41), (0, 41), (1, 8)]) rfl ?_
      refine v_callV (j := 27) (M' := mX4_take) (as := [(0, 41), (0, 41)]) (st := []) rfl rfl rfl rfl rfl (Nat.le_of_ble_eq_true rfl) (Nat.le_of_ble_eq_true rfl) (by omega) (by decide) (K8_t K8) (kvt (st' := fun v => [(0, v)]) rfl (fun _ => rfl) rfl) (H.mono (fun k v10 m11 H => ⟨fun z => ?_, H.2.2⟩))
      have O := H.1
      replace H := H.2.1 z
      have K12 := O.2.1 K8
      have t13 := Ok.tag O (t9) (by decide)
      refine v_run 28 2 (pc' := 57) (ls' := [(1, 8), (0, a1), (1, a2)]) (st' := [(1, a2)]) rfl ?_
      exact v_aret (j := 30) rfl rfl rfl H
    · replace H := H.2 q
      refine v_run 17 3 (pc' := 37) (ls' := [(1, 8), (0, a1), (1, a2)]) (st' := [(0, a1), (1, 8), (1, a2)]) rfl ?_
      refine v_callS (j := 20) (M' := mX4_code) (as := [(1, 8), (0, a1)]) (st := [(1, a2)]) rfl rfl rfl rfl rfl (Nat.le_of_ble_eq_true rfl) (Nat.le_of_ble_eq_true rfl) (by omega) (kvt (st' := fun v => [(1, v), (1, a2)]) rfl (fun _ => rfl) rfl) (H.mono (fun k v14 m15 H => ⟨fun z => ?_, H.2.2⟩))
      have O := H.1
      replace H := H.2.1 z
      have K16 := O.2.1 K8
      have t17 := Ok.tag O (t9) (by decide)
      obtain ⟨v20, i21, r22, r23, H⟩ := H
      refine vj_add (j := 21) rfl rfl rfl rfl (t17) (by omega) (by simp) v20 i21 r22 r23 (fun m18 e19 => ?_)
      have O24 : Ok m15 m18 := e19.1.ok (t17) (by decide)
      have K25 := O24.2.1 K16
      have t26 := Ok.tag O24 (t17) (by decide)
      replace H := H m18 e19 O24
      refine v_run 22 1 (pc' := 44) (ls' := [(1, 8), (0, a1), (1, a2)]) (st' := []) rfl ?_
      refine v_goto (j := 23) (tgt := 18) rfl rfl ?_
      exact H

set_option maxRecDepth 100000 in
set_option maxHeartbeats 4000000 in
theorem wX4_match {G : GM} {d : Nat} {P : Nat → Int → SM → Prop} {m : SM} {a1 a2 : Int} (K : KI m) (hd : 12 ≤ d) 
    (H : (m 0 0 + 2 ≤ 1203200) ∧ (m 0 1 + 20 ≤ 5491882) ∧ (∀ m3, NAL m m3 → Ok m m3 → ((m3 0 0 + 2 ≤ 1203200) ∧ (m3 0 1 + 20 ≤ 5491882) ∧ (∀ m10, NAL m3 m10 → Ok m3 m10 → (WV G mX4_code 0 [(1, 8), (0, a2), (9, 0), (9, 0), (9, 0)] [] m10 (d - 1) (fun k v16 m17 => Ok m10 m17 ∧ (k = 0 → ((elOK m17 v16) ∧ (m17 (m 0 0) (-2) < 100000) ∧ (m17 0 0 ≤ 1203200) ∧ (m17 0 1 + 2 * m17 (m 0 0) (-2) + 20 ≤ 5491882) ∧ (∀ m21, Radd m17 (m 0 0) v16 m21 → Ok m17 m21 → (WV G mX4_take 0 [(1, 8), (0, 124), (0, 124)] [] m21 (d - 1) (fun k v31 m32 => Ok m21 m32 ∧ (k = 0 → (WV G mX4_oneCase 0 [(1, 8), (0, a2), (9, 0), (9, 0), (9, 0), (9, 0)] [] m32 (d - 1) (fun k v36 m37 => Ok m32 m37 ∧ (k = 0 → ((elOK m37 v36) ∧ (m37 (m3 0 0) (-2) < 100000) ∧ (m37 0 0 ≤ 1203200) ∧ (m37 0 1 + 2 * m37 (m3 0 0) (-2) + 20 ≤ 5491882) ∧ (∀ m41, Radd m37 (m3 0 0) v36 m41 → Ok m37 m41 → (WV G mX4_match 47 [(1, 8), (0, a1), (0, a2), (1, (m 0 0)), (1, (m3 0 0))] [] m41 d P)))) ∧ (k ≠ 0 → P 1 v36 m37)))) ∧ (k ≠ 0 → P 1 v31 m32)))))) ∧ (k ≠ 0 → P 1 v16 m17))))))) :
    WV G mX4_match 0 [(1, 8), (0, a1), (0, a2), (9, 0), (9, 0)] [] m d P := by
  obtain ⟨r1, r2, H⟩ := H
  refine vj_newAL (j := 0) (ic := 23) rfl rfl rfl rfl rfl rfl rfl r1 r2 (by omega) (by simp) (fun m3 e4 => ?_)
  have O6 : Ok m m3 := e4.ok
  have K7 := O6.2.1 K
  replace H := H m3 e4 O6
  refine v_run 3 1 (pc' := 8) (ls' := [(1, 8), (0, a1), (0, a2), (1, (m 0 0)), (9, 0)]) (st' := []) rfl ?_
  obtain ⟨r8, r9, H⟩ := H
  refine vj_newAL (j := 4) (ic := 23) rfl rfl rfl rfl rfl rfl rfl r8 r9 (by omega) (by simp) (fun m10 e11 => ?_)
  have O13 : Ok m3 m10 := e11.ok
  have K14 := O13.2.1 K7
  have t15 := Ok.tag O13 (e4.tag) (by decide)
  replace H := H m10 e11 O13
  refine v_run 7 4 (pc' := 20) (ls' := [(1, 8), (0, a1), (0, a2), (1, (m 0 0)), (1, (m3 0 0))]) (st' := [(0, a2), (1, 8), (1, (m 0 0))]) rfl ?_
  refine v_callS (j := 11) (M' := mX4_code) (as := [(1, 8), (0, a2)]) (st := [(1, (m 0 0))]) rfl rfl rfl rfl rfl (Nat.le_of_ble_eq_true rfl) (Nat.le_of_ble_eq_true rfl) (by omega) (kvt (st' := fun v => [(1, v), (1, (m 0 0))]) rfl (fun _ => rfl) rfl) (H.mono (fun k v16 m17 H => ⟨fun z => ?_, H.2.2⟩))
  have O := H.1
  replace H := H.2.1 z
  have K18 := O.2.1 K14
  have t19 := Ok.tag O (t15) (by decide)
  have t20 := Ok.tag O (e11.tag) (by decide)
  obtain ⟨v23, i24, r25, r26, H⟩ := H
  refine vj_add (j := 12) rfl rfl rfl rfl (t19) (by omega) (by simp) v23 i24 r25 r26 (fun m21 e22 => ?_)
  have O27 : Ok m17 m21 := e22.1.ok (t19) (by decide)
  have K28 := O27.2.1 K18
  have t29 := Ok.tag O27 (t19) (by decide)
  have t30 := Ok.tag O27 (t20) (by decide)
  replace H := H m21 e22 O27
  refine v_run 13 4 (pc' := 32) (ls' := [(1, 8), (0, a1), (0, a2), (1, (m 0 0)), (1, (m3 0 0))]) (st' := [(0, 124), (0, 124), (1, 8)]) rfl ?_
  refine v_callV (j := 17) (M' := mX4_take) (as := [(0, 124), (0, 124)]) (st := []) rfl rfl rfl rfl rfl (Nat.le_of_ble_eq_true rfl) (Nat.le_of_ble_eq_true rfl) (by omega) (by decide) (K8_t K28) (kvt (st' := fun v => [(0, v)]) rfl (fun _ => rfl) rfl) (H.mono (fun k v31 m32 H => ⟨fun z => ?_, H.2.2⟩))
  have O := H.1
  replace H := H.2.1 z
  have K33 := O.2.1 K28
  have t34 := Ok.tag O (t29) (by decide)
  have t35 := Ok.tag O (t30) (by decide)
  refine v_run 18 4 (pc' := 40) (ls' := [(1, 8), (0, a1), (0, a2), (1, (m 0 0)), (1, (m3 0 0))]) (st' := [(0, a2), (1, 8), (1, (m3 0 0))]) rfl ?_
  refine v_callS (j := 22) (M' := mX4_oneCase) (as := [(1, 8), (0, a2)]) (st := [(1, (m3 0 0))]) rfl rfl rfl rfl rfl (Nat.le_of_ble_eq_true rfl) (Nat.le_of_ble_eq_true rfl) (by omega) (kvt (st' := fun v => [(1, v), (1, (m3 0 0))]) rfl (fun _ => rfl) rfl) (H.mono (fun k v36 m37 H => ⟨fun z => ?_, H.2.2⟩))
  have O := H.1
  replace H := H.2.1 z
  have K38 := O.2.1 K33
  have t39 := Ok.tag O (t34) (by decide)
  have t40 := Ok.tag O (t35) (by decide)
  obtain ⟨v43, i44, r45, r46, H⟩ := H
  refine vj_add (j := 23) rfl rfl rfl rfl (t40) (by omega) (by simp) v43 i44 r45 r46 (fun m41 e42 => ?_)
  have O47 : Ok m37 m41 := e42.1.ok (t40) (by decide)
  have K48 := O47.2.1 K38
  have t49 := Ok.tag O47 (t39) (by decide)
  have t50 := Ok.tag O47 (t40) (by decide)
  replace H := H m41 e42 O47
  refine v_run 24 1 (pc' := 47) (ls' := [(1, 8), (0, a1), (0, a2), (1, (m 0 0)), (1, (m3 0 0))]) (st' := []) rfl ?_
  exact H

set_option maxRecDepth 100000 in
set_option maxHeartbeats 4000000 in
theorem wX4_match_47 {G : GM} {d : Nat} {P : Nat → Int → SM → Prop} {m : SM} {a1 a2 a3 a4 : Int} (K : KI m) (hd : 12 ≤ d) 
    (H : (m a4 (-1) = 4) ∧ (((5 : Int) ≤ (m a4 (-2)) → (WV G mX4_take 0 [(1, 8), (0, 125), (0, 125)] [] m (d - 1) (fun k v2 m3 => Ok m m3 ∧ (k = 0 → ((m3 0 0 ≤ 1203200) ∧ (m3 0 1 + 6 ≤ 5491882) ∧ (Bs m3 → ∀ m8, m8 = al m3 23 0 6 → Ok m3 m8 → (((m3 0 0) ≠ 0) ∧ (WV G mX18_init 0 [(1, (m3 0 0)), (1, (-6)), (0, a1), (0, 32), (1, 0), (1, a3), (1, a4)] [] m8 (d - 1) (fun k v15 m16 => k = 0 ∧ Ok m8 m16 ∧ (P 0 (m3 0 0) m16))))))) ∧ (k ≠ 0 → P 1 v2 m3)))) ∧ ((m a4 (-2)) < (5 : Int) → (WV G mX4_passes 0 [(1, 8), (0, 124), (9, 0)] [] m (d - 1) (fun k v20 m21 => k = 0 ∧ Ok m m21 ∧ ((v20 = (0 : Int) → (WV G mX4_take 0 [(1, 8), (0, 125), (0, 125)] [] m21 (d - 1) (fun k v24 m25 => Ok m21 m25 ∧ (k = 0 → ((m25 0 0 ≤ 1203200) ∧ (m25 0 1 + 6 ≤ 5491882) ∧ (Bs m25 → ∀ m30, m30 = al m25 23 0 6 → Ok m25 m30 → (((m25 0 0) ≠ 0) ∧ (WV G mX18_init 0 [(1, (m25 0 0)), (1, (-6)), (0, a1), (0, 32), (1, 0), (1, a3), (1, a4)] [] m30 (d - 1) (fun k v37 m38 => k = 0 ∧ Ok m30 m38 ∧ (P 0 (m25 0 0) m38))))))) ∧ (k ≠ 0 → P 1 v24 m25)))) ∧ (v20 ≠ (0 : Int) → (WV G mX4_oneCase 0 [(1, 8), (0, a2), (9, 0), (9, 0), (9, 0), (9, 0)] [] m21 (d - 1) (fun k v42 m43 => Ok m21 m43 ∧ (k = 0 → ((elOK m43 v42) ∧ (m43 a4 (-2) < 100000) ∧ (m43 0 0 ≤ 1203200) ∧ (m43 0 1 + 2 * m43 a4 (-2) + 20 ≤ 5491882) ∧ (∀ m46, Radd m43 a4 v42 m46 → Ok m43 m46 → (WV G mX4_match 47 [(1, 8), (0, a1), (0, a2), (1, a3), (1, a4)] [] m46 d P)))) ∧ (k ≠ 0 → P 1 v42 m43)))))))))) :
    WV G mX4_match 47 [(1, 8), (0, a1), (0, a2), (1, a3), (1, a4)] [] m d P := by
  refine v_run 25 1 (pc' := 49) (ls' := [(1, 8), (0, a1), (0, a2), (1, a3), (1, a4)]) (st' := [(1, a4)]) rfl ?_
  obtain ⟨t1, H⟩ := H
  refine vj_size (j := 26) rfl rfl rfl rfl (t1) (by omega) (by simp) ?_
  refine v_run 27 1 (pc' := 53) (ls' := [(1, 8), (0, a1), (0, a2), (1, a3), (1, a4)]) (st' := [(0, 5), (0, (m a4 (-2)))]) rfl ?_
  refine v_icmpge (j := 28) rfl rfl rfl (fun q => ?_) (fun q => ?_)
  · replace H := H.1 q
    refine v_run 40 3 (pc' := 84) (ls' := [(1, 8), (0, a1), (0, a2), (1, a3), (1, a4)]) (st' := [(0, 125), (0, 125), (1, 8)]) rfl ?_
    refine v_callV (j := 43) (M' := mX4_take) (as := [(0, 125), (0, 125)]) (st := []) rfl rfl rfl rfl rfl (Nat.le_of_ble_eq_true rfl) (Nat.le_of_ble_eq_true rfl) (by omega) (by decide) (K8_t K) (kvt (st' := fun v => [(0, v)]) rfl (fun _ => rfl) rfl) (H.mono (fun k v2 m3 H => ⟨fun z => ?_, H.2.2⟩))
    have O := H.1
    replace H := H.2.1 z
    have K4 := O.2.1 K
    have t5 := Ok.tag O (t1) (by decide)
    refine v_run 44 1 (pc' := 88) (ls' := [(1, 8), (0, a1), (0, a2), (1, a3), (1, a4)]) (st' := []) rfl ?_
    obtain ⟨r6, r7, H⟩ := H
    refine v_new (j := 45) (c := 22) rfl rfl rfl rfl rfl rfl rfl r6 r7 (fun B m8 e9 => ?_)
    have O10 : Ok m3 m8 := Ok.nw B e9
    have K11 := O10.2.1 K4
    have t12 := Ok.tag O10 (t5) (by decide)
    replace H := H B m8 e9 O10
    have t13 := al_tag B e9
    refine v_run 46 1 (pc' := 92) (ls' := [(1, 8), (0, a1), (0, a2), (1, a3), (1, a4)]) (st' := [(1, (m3 0 0)), (1, (m3 0 0))]) rfl ?_
    refine v_gets (j := 47) (g := 1) (v := (-6)) rfl rfl rfl rfl ?_
    refine v_run 48 5 (pc' := 102) (ls' := [(1, 8), (0, a1), (0, a2), (1, a3), (1, a4)]) (st' := [(1, a4), (1, a3), (1, 0), (0, 32), (0, a1), (1, (-6)), (1, (m3 0 0)), (1, (m3 0 0))]) rfl ?_
    obtain ⟨z14, H⟩ := H
    refine v_callI (j := 53) (M' := mX18_init) (as := [(1, (-6)), (0, a1), (0, 32), (1, 0), (1, a3), (1, a4)]) (st := [(1, (m3 0 0))]) rfl rfl rfl rfl rfl (Nat.le_of_ble_eq_true rfl) (Nat.le_of_ble_eq_true rfl) (by omega) z14 (kv0 (st' := fun v => [(1, (m3 0 0))]) rfl (fun _ => rfl)) (H.mono (fun k v15 m16 H => ⟨H.1, ?_⟩))
    have K17 := H.2.1.2.1 K11
    have t18 := Ok.tag H.2.1 (t12) (by decide)
    have t19 := Ok.tag H.2.1 (t13) (by decide)
    replace H := H.2.2
    exact v_aret (j := 54) rfl rfl rfl H
  · replace H := H.2 q
    refine v_run 29 2 (pc' := 59) (ls' := [(1, 8), (0, a1), (0, a2), (1, a3), (1, a4)]) (st' := [(0, 124), (1, 8)]) rfl ?_
    refine v_callV (j := 31) (M' := mX4_passes) (as := [(0, 124)]) (st := []) rfl rfl rfl rfl rfl (Nat.le_of_ble_eq_true rfl) (Nat.le_of_ble_eq_true rfl) (by omega) (by decide) (K8_t K) (kv0 (st' := fun v => [(0, v)]) rfl (fun _ => rfl)) (H.mono (fun k v20 m21 H => ⟨H.1, ?_⟩))
    have K22 := H.2.1.2.1 K
    have t23 := Ok.tag H.2.1 (t1) (by decide)
    replace H := H.2.2
    refine v_ifeq (j := 32) rfl rfl rfl (fun q => ?_) (fun q => ?_)
    · replace H := H.1 q
      refine v_run 40 3 (pc' := 84) (ls' := [(1, 8), (0, a1), (0, a2), (1, a3), (1, a4)]) (st' := [(0, 125), (0, 125), (1, 8)]) rfl ?_
      refine v_callV (j := 43) (M' := mX4_take) (as := [(0, 125), (0, 125)]) (st := []) rfl rfl rfl rfl rfl (Nat.le_of_ble_eq_true rfl) (Nat.le_of_ble_eq_true rfl) (by omega) (by decide) (K8_t K22) (kvt (st' := fun v => [(0, v)]) rfl (fun _ => rfl) rfl) (H.mono (fun k v24 m25 H => ⟨fun z => ?_, H.2.2⟩))
      have O := H.1
      replace H := H.2.1 z
      have K26 := O.2.1 K22
      have t27 := Ok.tag O (t23) (by decide)
      refine v_run 44 1 (pc' := 88) (ls' := [(1, 8), (0, a1), (0, a2), (1, a3), (1, a4)]) (st' := []) rfl ?_
      obtain ⟨r28, r29, H⟩ := H
      refine v_new (j := 45) (c := 22) rfl rfl rfl rfl rfl rfl rfl r28 r29 (fun B m30 e31 => ?_)
      have O32 : Ok m25 m30 := Ok.nw B e31
      have K33 := O32.2.1 K26
      have t34 := Ok.tag O32 (t27) (by decide)
      replace H := H B m30 e31 O32
      have t35 := al_tag B e31
      refine v_run 46 1 (pc' := 92) (ls' := [(1, 8), (0, a1), (0, a2), (1, a3), (1, a4)]) (st' := [(1, (m25 0 0)), (1, (m25 0 0))]) rfl ?_
      refine v_gets (j := 47) (g := 1) (v := (-6)) rfl rfl rfl rfl ?_
      refine v_run 48 5 (pc' := 102) (ls' := [(1, 8), (0, a1), (0, a2), (1, a3), (1, a4)]) (st' := [(1, a4), (1, a3), (1, 0), (0, 32), (0, a1), (1, (-6)), (1, (m25 0 0)), (1, (m25 0 0))]) rfl ?_
      obtain ⟨z36, H⟩ := H
      refine v_callI (j := 53) (M' := mX18_init) (as := [(1, (-6)), (0, a1), (0, 32), (1, 0), (1, a3), (1, a4)]) (st := [(1, (m25 0 0))]) rfl rfl rfl rfl rfl (Nat.le_of_ble_eq_true rfl) (Nat.le_of_ble_eq_true rfl) (by omega) z36 (kv0 (st' := fun v => [(1, (m25 0 0))]) rfl (fun _ => rfl)) (H.mono (fun k v37 m38 H => ⟨H.1, ?_⟩))
      have K39 := H.2.1.2.1 K33
      have t40 := Ok.tag H.2.1 (t34) (by decide)
      have t41 := Ok.tag H.2.1 (t35) (by decide)
      replace H := H.2.2
      exact v_aret (j := 54) rfl rfl rfl H
    · replace H := H.2 q
      refine v_run 33 3 (pc' := 69) (ls' := [(1, 8), (0, a1), (0, a2), (1, a3), (1, a4)]) (st' := [(0, a2), (1, 8), (1, a4)]) rfl ?_
      refine v_callS (j := 36) (M' := mX4_oneCase) (as := [(1, 8), (0, a2)]) (st := [(1, a4)]) rfl rfl rfl rfl rfl (Nat.le_of_ble_eq_true rfl) (Nat.le_of_ble_eq_true rfl) (by omega) (kvt (st' := fun v => [(1, v), (1, a4)]) rfl (fun _ => rfl) rfl) (H.mono (fun k v42 m43 H => ⟨fun z => ?_, H.2.2⟩))
      have O := H.1
      replace H := H.2.1 z
      have K44 := O.2.1 K22
      have t45 := Ok.tag O (t23) (by decide)
      obtain ⟨v48, i49, r50, r51, H⟩ := H
      refine vj_add (j := 37) rfl rfl rfl rfl (t45) (by omega) (by simp) v48 i49 r50 r51 (fun m46 e47 => ?_)
      have O52 : Ok m43 m46 := e47.1.ok (t45) (by decide)
      have K53 := O52.2.1 K44
      have t54 := Ok.tag O52 (t45) (by decide)
      replace H := H m46 e47 O52
      refine v_run 38 1 (pc' := 76) (ls' := [(1, 8), (0, a1), (0, a2), (1, a3), (1, a4)]) (st' := []) rfl ?_
      refine v_goto (j := 39) (tgt := 47) rfl rfl ?_
      exact H

set_option maxRecDepth 100000 in
set_option maxHeartbeats 4000000 in
theorem wX4_oneCase {G : GM} {d : Nat} {P : Nat → Int → SM → Prop} {m : SM} {a1 : Int} (K : KI m) (hd : 12 ≤ d) 
    (H : WV G mX4_isNext 0 [(1, 8), (0, 48), (0, 57)] [] m (d - 1) (fun k v1 m2 => k = 0 ∧ Ok m m2 ∧ ((v1 = (0 : Int) → (((0 : Int) ≠ 0 → (WV G mX4_oneCase 38 [(1, 8), (0, a1), (0, (m 8 5)), (1, 0), (9, 0), (9, 0)] [] m2 d P)) ∧ ((0 : Int) = 0 → (WV G mX4_passes 0 [(1, 8), (0, 95), (9, 0)] [] m2 (d - 1) (fun k v4 m5 => k = 0 ∧ Ok m2 m5 ∧ ((v4 = (0 : Int) → (WV G mX4_take 0 [(1, 8), (0, 65), (0, 90)] [] m5 (d - 1) (fun k v7 m8 => Ok m5 m8 ∧ (k = 0 → ((v7 = (0 : Int) → (WV G mX4_take 0 [(1, 8), (0, 62), (0, 62)] [] m8 (d - 1) (fun k v10 m11 => Ok m8 m11 ∧ (k = 0 → ((m11 0 0 ≤ 1203200) ∧ (m11 0 1 + 5 ≤ 5491882) ∧ (Bs m11 → ∀ m15, m15 = al m11 24 0 5 → Ok m11 m15 → (WV G mX4_code 0 [(1, 8), (0, a1), (9, 0), (9, 0), (9, 0)] [] m15 (d - 1) (fun k v20 m21 => Ok m15 m21 ∧ (k = 0 → (((m11 0 0) ≠ 0) ∧ (WV G mX19_init 0 [(1, (m11 0 0)), (0, (m 8 5)), (1, 0), (0, v7), (1, (-23)), (1, v20)] [] m21 (d - 1) (fun k v25 m26 => k = 0 ∧ Ok m21 m26 ∧ (P 0 (m11 0 0) m26))))) ∧ (k ≠ 0 → P 1 v20 m21)))))) ∧ (k ≠ 0 → P 1 v10 m11)))) ∧ (v7 ≠ (0 : Int) → (WV G mX4_passes 0 [(1, 8), (0, 40), (9, 0)] [] m8 (d - 1) (fun k v29 m30 => k = 0 ∧ Ok m8 m30 ∧ ((v29 = (0 : Int) → (WV G mX4_take 0 [(1, 8), (0, 62), (0, 62)] [] m30 (d - 1) (fun k v32 m33 => Ok m30 m33 ∧ (k = 0 → ((m33 0 0 ≤ 1203200) ∧ (m33 0 1 + 5 ≤ 5491882) ∧ (Bs m33 → ∀ m37, m37 = al m33 24 0 5 → Ok m33 m37 → (WV G mX4_code 0 [(1, 8), (0, a1), (9, 0), (9, 0), (9, 0)] [] m37 (d - 1) (fun k v42 m43 => Ok m37 m43 ∧ (k = 0 → (((m33 0 0) ≠ 0) ∧ (WV G mX19_init 0 [(1, (m33 0 0)), (0, (m 8 5)), (1, 0), (0, v7), (1, (-23)), (1, v42)] [] m43 (d - 1) (fun k v47 m48 => k = 0 ∧ Ok m43 m48 ∧ (P 0 (m33 0 0) m48))))) ∧ (k ≠ 0 → P 1 v42 m43)))))) ∧ (k ≠ 0 → P 1 v32 m33)))) ∧ (v29 ≠ (0 : Int) → (WV G mX4_variables 0 [(1, 8), (0, 6)] [] m30 (d - 1) (fun k v51 m52 => Ok m30 m52 ∧ (k = 0 → (WV G mX4_take 0 [(1, 8), (0, 41), (0, 41)] [] m52 (d - 1) (fun k v54 m55 => Ok m52 m55 ∧ (k = 0 → (WV G mX4_take 0 [(1, 8), (0, 62), (0, 62)] [] m55 (d - 1) (fun k v57 m58 => Ok m55 m58 ∧ (k = 0 → ((m58 0 0 ≤ 1203200) ∧ (m58 0 1 + 5 ≤ 5491882) ∧ (Bs m58 → ∀ m62, m62 = al m58 24 0 5 → Ok m58 m62 → (WV G mX4_code 0 [(1, 8), (0, a1), (9, 0), (9, 0), (9, 0)] [] m62 (d - 1) (fun k v67 m68 => Ok m62 m68 ∧ (k = 0 → (((m58 0 0) ≠ 0) ∧ (WV G mX19_init 0 [(1, (m58 0 0)), (0, (m 8 5)), (1, 0), (0, v7), (1, v51), (1, v67)] [] m68 (d - 1) (fun k v72 m73 => k = 0 ∧ Ok m68 m73 ∧ (P 0 (m58 0 0) m73))))) ∧ (k ≠ 0 → P 1 v67 m68)))))) ∧ (k ≠ 0 → P 1 v57 m58)))) ∧ (k ≠ 0 → P 1 v54 m55)))) ∧ (k ≠ 0 → P 1 v51 m52)))))))))) ∧ (k ≠ 0 → P 1 v7 m8)))) ∧ (v4 ≠ (0 : Int) → (WV G mX4_oneCase 38 [(1, 8), (0, a1), (0, (m 8 5)), (1, 0), (9, 0), (9, 0)] [] m5 d P)))))))) ∧ (v1 ≠ (0 : Int) → (WV G mX4_digit 0 [(1, 8), (9, 0)] [] m2 (d - 1) (fun k v76 m77 => Ok m2 m77 ∧ (k = 0 → ((v76 ≠ 0 → (WV G mX4_oneCase 38 [(1, 8), (0, a1), (0, (m 8 5)), (1, v76), (9, 0), (9, 0)] [] m77 d P)) ∧ (v76 = 0 → (WV G mX4_passes 0 [(1, 8), (0, 95), (9, 0)] [] m77 (d - 1) (fun k v79 m80 => k = 0 ∧ Ok m77 m80 ∧ ((v79 = (0 : Int) → (WV G mX4_take 0 [(1, 8), (0, 65), (0, 90)] [] m80 (d - 1) (fun k v82 m83 => Ok m80 m83 ∧ (k = 0 → ((v82 = (0 : Int) → (WV G mX4_take 0 [(1, 8), (0, 62), (0, 62)] [] m83 (d - 1) (fun k v85 m86 => Ok m83 m86 ∧ (k = 0 → ((m86 0 0 ≤ 1203200) ∧ (m86 0 1 + 5 ≤ 5491882) ∧ (Bs m86 → ∀ m90, m90 = al m86 24 0 5 → Ok m86 m90 → (WV G mX4_code 0 [(1, 8), (0, a1), (9, 0), (9, 0), (9, 0)] [] m90 (d - 1) (fun k v95 m96 => Ok m90 m96 ∧ (k = 0 → (((m86 0 0) ≠ 0) ∧ (WV G mX19_init 0 [(1, (m86 0 0)), (0, (m 8 5)), (1, v76), (0, v82), (1, (-23)), (1, v95)] [] m96 (d - 1) (fun k v100 m101 => k = 0 ∧ Ok m96 m101 ∧ (P 0 (m86 0 0) m101))))) ∧ (k ≠ 0 → P 1 v95 m96)))))) ∧ (k ≠ 0 → P 1 v85 m86)))) ∧ (v82 ≠ (0 : Int) → (WV G mX4_passes 0 [(1, 8), (0, 40), (9, 0)] [] m83 (d - 1) (fun k v104 m105 => k = 0 ∧ Ok m83 m105 ∧ ((v104 = (0 : Int) → (WV G mX4_take 0 [(1, 8), (0, 62), (0, 62)] [] m105 (d - 1) (fun k v107 m108 => Ok m105 m108 ∧ (k = 0 → ((m108 0 0 ≤ 1203200) ∧ (m108 0 1 + 5 ≤ 5491882) ∧ (Bs m108 → ∀ m112, m112 = al m108 24 0 5 → Ok m108 m112 → (WV G mX4_code 0 [(1, 8), (0, a1), (9, 0), (9, 0), (9, 0)] [] m112 (d - 1) (fun k v117 m118 => Ok m112 m118 ∧ (k = 0 → (((m108 0 0) ≠ 0) ∧ (WV G mX19_init 0 [(1, (m108 0 0)), (0, (m 8 5)), (1, v76), (0, v82), (1, (-23)), (1, v117)] [] m118 (d - 1) (fun k v122 m123 => k = 0 ∧ Ok m118 m123 ∧ (P 0 (m108 0 0) m123))))) ∧ (k ≠ 0 → P 1 v117 m118)))))) ∧ (k ≠ 0 → P 1 v107 m108)))) ∧ (v104 ≠ (0 : Int) → (WV G mX4_variables 0 [(1, 8), (0, 6)] [] m105 (d - 1) (fun k v126 m127 => Ok m105 m127 ∧ (k = 0 → (WV G mX4_take 0 [(1, 8), (0, 41), (0, 41)] [] m127 (d - 1) (fun k v129 m130 => Ok m127 m130 ∧ (k = 0 → (WV G mX4_take 0 [(1, 8), (0, 62), (0, 62)] [] m130 (d - 1) (fun k v132 m133 => Ok m130 m133 ∧ (k = 0 → ((m133 0 0 ≤ 1203200) ∧ (m133 0 1 + 5 ≤ 5491882) ∧ (Bs m133 → ∀ m137, m137 = al m133 24 0 5 → Ok m133 m137 → (WV G mX4_code 0 [(1, 8), (0, a1), (9, 0), (9, 0), (9, 0)] [] m137 (d - 1) (fun k v142 m143 => Ok m137 m143 ∧ (k = 0 → (((m133 0 0) ≠ 0) ∧ (WV G mX19_init 0 [(1, (m133 0 0)), (0, (m 8 5)), (1, v76), (0, v82), (1, v126), (1, v142)] [] m143 (d - 1) (fun k v147 m148 => k = 0 ∧ Ok m143 m148 ∧ (P 0 (m133 0 0) m148))))) ∧ (k ≠ 0 → P 1 v142 m143)))))) ∧ (k ≠ 0 → P 1 v132 m133)))) ∧ (k ≠ 0 → P 1 v129 m130)))) ∧ (k ≠ 0 → P 1 v126 m127)))))))))) ∧ (k ≠ 0 → P 1 v82 m83)))) ∧ (v79 ≠ (0 : Int) → (WV G mX4_oneCase 38 [(1, 8), (0, a1), (0, (m 8 5)), (1, v76), (9, 0), (9, 0)] [] m80 d P)))))))) ∧ (k ≠ 0 → P 1 v76 m77))))))) :
    WV G mX4_oneCase 0 [(1, 8), (0, a1), (9, 0), (9, 0), (9, 0), (9, 0)] [] m d P := by
  refine v_run 0 1 (pc' := 1) (ls' := [(1, 8), (0, a1), (9, 0), (9, 0), (9, 0), (9, 0)]) (st' := [(1, 8)]) rfl ?_
  refine v_getf (j := 1) (c := 4) (f := 5) rfl rfl rfl rfl rfl rfl rfl rfl (K8_t K) ?_
  refine v_run 2 4 (pc' := 10) (ls' := [(1, 8), (0, a1), (0, (m 8 5)), (9, 0), (9, 0), (9, 0)]) (st' := [(0, 57), (0, 48), (1, 8)]) rfl ?_
  refine v_callV (j := 6) (M' := mX4_isNext) (as := [(0, 48), (0, 57)]) (st := []) rfl rfl rfl rfl rfl (Nat.le_of_ble_eq_true rfl) (Nat.le_of_ble_eq_true rfl) (by omega) (by decide) (K8_t K) (kv0 (st' := fun v => [(0, v)]) rfl (fun _ => rfl)) (H.mono (fun k v1 m2 H => ⟨H.1, ?_⟩))
  have K3 := H.2.1.2.1 K
  replace H := H.2.2
  refine v_ifeq (j := 7) rfl rfl rfl (fun q => ?_) (fun q => ?_)
  · replace H := H.1 q
    refine v_run 11 3 (pc' := 26) (ls' := [(1, 8), (0, a1), (0, (m 8 5)), (1, 0), (9, 0), (9, 0)]) (st' := [(1, 0)]) rfl ?_
    refine v_nonnull (j := 14) rfl rfl rfl (fun q => ?_) (fun q => ?_)
    · replace H := H.1 q
      exact H
    · replace H := H.2 q
      refine v_run 15 2 (pc' := 32) (ls' := [(1, 8), (0, a1), (0, (m 8 5)), (1, 0), (9, 0), (9, 0)]) (st' := [(0, 95), (1, 8)]) rfl ?_
      refine v_callV (j := 17) (M' := mX4_passes) (as := [(0, 95)]) (st := []) rfl rfl rfl rfl rfl (Nat.le_of_ble_eq_true rfl) (Nat.le_of_ble_eq_true rfl) (by omega) (by decide) (K8_t K3) (kv0 (st' := fun v => [(0, v)]) rfl (fun _ => rfl)) (H.mono (fun k v4 m5 H => ⟨H.1, ?_⟩))
      have K6 := H.2.1.2.1 K3
      replace H := H.2.2
      refine v_ifeq (j := 18) rfl rfl rfl (fun q => ?_) (fun q => ?_)
      · replace H := H.1 q
        refine v_run 21 3 (pc' := 47) (ls' := [(1, 8), (0, a1), (0, (m 8 5)), (1, 0), (9, 0), (9, 0)]) (st' := [(0, 90), (0, 65), (1, 8)]) rfl ?_
        refine v_callV (j := 24) (M' := mX4_take) (as := [(0, 65), (0, 90)]) (st := []) rfl rfl rfl rfl rfl (Nat.le_of_ble_eq_true rfl) (Nat.le_of_ble_eq_true rfl) (by omega) (by decide) (K8_t K6) (kvt (st' := fun v => [(0, v)]) rfl (fun _ => rfl) rfl) (H.mono (fun k v7 m8 H => ⟨fun z => ?_, H.2.2⟩))
        have O := H.1
        replace H := H.2.1 z
        have K9 := O.2.1 K6
        refine v_run 25 1 (pc' := 52) (ls' := [(1, 8), (0, a1), (0, (m 8 5)), (1, 0), (0, v7), (9, 0)]) (st' := []) rfl ?_
        refine v_ldc (j := 26) (g := 1) (v := (-23)) rfl rfl rfl (by decide) rfl ?_
        refine v_run 27 2 (pc' := 58) (ls' := [(1, 8), (0, a1), (0, (m 8 5)), (1, 0), (0, v7), (1, (-23))]) (st' := [(0, v7)]) rfl ?_
        refine v_ifeq (j := 29) rfl rfl rfl (fun q => ?_) (fun q => ?_)
        · replace H := H.1 q
          refine v_run 43 3 (pc' := 92) (ls' := [(1, 8), (0, a1), (0, (m 8 5)), (1, 0), (0, v7), (1, (-23))]) (st' := [(0, 62), (0, 62), (1, 8)]) rfl ?_
          refine v_callV (j := 46) (M' := mX4_take) (as := [(0, 62), (0, 62)]) (st := []) rfl rfl rfl rfl rfl (Nat.le_of_ble_eq_true rfl) (Nat.le_of_ble_eq_true rfl) (by omega) (by decide) (K8_t K9) (kvt (st' := fun v => [(0, v)]) rfl (fun _ => rfl) rfl) (H.mono (fun k v10 m11 H => ⟨fun z => ?_, H.2.2⟩))
          have O := H.1
          replace H := H.2.1 z
          have K12 := O.2.1 K9
          refine v_run 47 1 (pc' := 96) (ls' := [(1, 8), (0, a1), (0, (m 8 5)), (1, 0), (0, v7), (1, (-23))]) (st' := []) rfl ?_
          obtain ⟨r13, r14, H⟩ := H
          refine v_new (j := 48) (c := 23) rfl rfl rfl rfl rfl rfl rfl r13 r14 (fun B m15 e16 => ?_)
          have O17 : Ok m11 m15 := Ok.nw B e16
          have K18 := O17.2.1 K12
          replace H := H B m15 e16 O17
          have t19 := al_tag B e16
          refine v_run 49 7 (pc' := 108) (ls' := [(1, 8), (0, a1), (0, (m 8 5)), (1, 0), (0, v7), (1, (-23))]) (st' := [(0, a1), (1, 8), (1, (-23)), (0, v7), (1, 0), (0, (m 8 5)), (1, (m11 0 0)), (1, (m11 0 0))]) rfl ?_
          refine v_callS (j := 56) (M' := mX4_code) (as := [(1, 8), (0, a1)]) (st := [(1, (-23)), (0, v7), (1, 0), (0, (m 8 5)), (1, (m11 0 0)), (1, (m11 0 0))]) rfl rfl rfl rfl rfl (Nat.le_of_ble_eq_true rfl) (Nat.le_of_ble_eq_true rfl) (by omega) (kvt (st' := fun v => [(1, v), (1, (-23)), (0, v7), (1, 0), (0, (m 8 5)), (1, (m11 0 0)), (1, (m11 0 0))]) rfl (fun _ => rfl) rfl) (H.mono (fun k v20 m21 H => ⟨fun z => ?_, H.2.2⟩))
          have O := H.1
          replace H := H.2.1 z
          have K22 := O.2.1 K18
          have t23 := Ok.tag O (t19) (by decide)
          obtain ⟨z24, H⟩ := H
          refine v_callI (j := 57) (M' := mX19_init) (as := [(0, (m 8 5)), (1, 0), (0, v7), (1, (-23)), (1, v20)]) (st := [(1, (m11 0 0))]) rfl rfl rfl rfl rfl (Nat.le_of_ble_eq_true rfl) (Nat.le_of_ble_eq_true rfl) (by omega) z24 (kv0 (st' := fun v => [(1, (m11 0 0))]) rfl (fun _ => rfl)) (H.mono (fun k v25 m26 H => ⟨H.1, ?_⟩))
          have K27 := H.2.1.2.1 K22
          have t28 := Ok.tag H.2.1 (t23) (by decide)
          replace H := H.2.2
          exact v_aret (j := 58) rfl rfl rfl H
        · replace H := H.2 q
          refine v_run 30 2 (pc' := 64) (ls' := [(1, 8), (0, a1), (0, (m 8 5)), (1, 0), (0, v7), (1, (-23))]) (st' := [(0, 40), (1, 8)]) rfl ?_
          refine v_callV (j := 32) (M' := mX4_passes) (as := [(0, 40)]) (st := []) rfl rfl rfl rfl rfl (Nat.le_of_ble_eq_true rfl) (Nat.le_of_ble_eq_true rfl) (by omega) (by decide) (K8_t K9) (kv0 (st' := fun v => [(0, v)]) rfl (fun _ => rfl)) (H.mono (fun k v29 m30 H => ⟨H.1, ?_⟩))
          have K31 := H.2.1.2.1 K9
          replace H := H.2.2
          refine v_ifeq (j := 33) rfl rfl rfl (fun q => ?_) (fun q => ?_)
          · replace H := H.1 q
            refine v_run 43 3 (pc' := 92) (ls' := [(1, 8), (0, a1), (0, (m 8 5)), (1, 0), (0, v7), (1, (-23))]) (st' := [(0, 62), (0, 62), (1, 8)]) rfl ?_
            refine v_callV (j := 46) (M' := mX4_take) (as := [(0, 62), (0, 62)]) (st := []) rfl rfl rfl rfl rfl (Nat.le_of_ble_eq_true rfl) (Nat.le_of_ble_eq_true rfl) (by omega) (by decide) (K8_t K31) (kvt (st' := fun v => [(0, v)]) rfl (fun _ => rfl) rfl) (H.mono (fun k v32 m33 H => ⟨fun z => ?_, H.2.2⟩))
            have O := H.1
            replace H := H.2.1 z
            have K34 := O.2.1 K31
            refine v_run 47 1 (pc' := 96) (ls' := [(1, 8), (0, a1), (0, (m 8 5)), (1, 0), (0, v7), (1, (-23))]) (st' := []) rfl ?_
            obtain ⟨r35, r36, H⟩ := H
            refine v_new (j := 48) (c := 23) rfl rfl rfl rfl rfl rfl rfl r35 r36 (fun B m37 e38 => ?_)
            have O39 : Ok m33 m37 := Ok.nw B e38
            have K40 := O39.2.1 K34
            replace H := H B m37 e38 O39
            have t41 := al_tag B e38
            refine v_run 49 7 (pc' := 108) (ls' := [(1, 8), (0, a1), (0, (m 8 5)), (1, 0), (0, v7), (1, (-23))]) (st' := [(0, a1), (1, 8), (1, (-23)), (0, v7), (1, 0), (0, (m 8 5)), (1, (m33 0 0)), (1, (m33 0 0))]) rfl ?_
            refine v_callS (j := 56) (M' := mX4_code) (as := [(1, 8), (0, a1)]) (st := [(1, (-23)), (0, v7), (1, 0), (0, (m 8 5)), (1, (m33 0 0)), (1, (m33 0 0))]) rfl rfl rfl rfl rfl (Nat.le_of_ble_eq_true rfl) (Nat.le_of_ble_eq_true rfl) (by omega) (kvt (st' := fun v => [(1, v), (1, (-23)), (0, v7), (1, 0), (0, (m 8 5)), (1, (m33 0 0)), (1, (m33 0 0))]) rfl (fun _ => rfl) rfl) (H.mono (fun k v42 m43 H => ⟨fun z => ?_, H.2.2⟩))
            have O := H.1
            replace H := H.2.1 z
            have K44 := O.2.1 K40
            have t45 := Ok.tag O (t41) (by decide)
            obtain ⟨z46, H⟩ := H
            refine v_callI (j := 57) (M' := mX19_init) (as := [(0, (m 8 5)), (1, 0), (0, v7), (1, (-23)), (1, v42)]) (st := [(1, (m33 0 0))]) rfl rfl rfl rfl rfl (Nat.le_of_ble_eq_true rfl) (Nat.le_of_ble_eq_true rfl) (by omega) z46 (kv0 (st' := fun v => [(1, (m33 0 0))]) rfl (fun _ => rfl)) (H.mono (fun k v47 m48 H => ⟨H.1, ?_⟩))
            have K49 := H.2.1.2.1 K44
            have t50 := Ok.tag H.2.1 (t45) (by decide)
            replace H := H.2.2
            exact v_aret (j := 58) rfl rfl rfl H
          · replace H := H.2 q
            refine v_run 34 2 (pc' := 73) (ls' := [(1, 8), (0, a1), (0, (m 8 5)), (1, 0), (0, v7), (1, (-23))]) (st' := [(0, 6), (1, 8)]) rfl ?_
            refine v_callV (j := 36) (M' := mX4_variables) (as := [(0, 6)]) (st := []) rfl rfl rfl rfl rfl (Nat.le_of_ble_eq_true rfl) (Nat.le_of_ble_eq_true rfl) (by omega) (by decide) (K8_t K31) (kvt (st' := fun v => [(1, v)]) rfl (fun _ => rfl) rfl) (H.mono (fun k v51 m52 H => ⟨fun z => ?_, H.2.2⟩))
            have O := H.1
            replace H := H.2.1 z
            have K53 := O.2.1 K31
            refine v_run 37 4 (pc' := 83) (ls' := [(1, 8), (0, a1), (0, (m 8 5)), (1, 0), (0, v7), (1, v51)]) (st' := [(0, 41), (0, 41), (1, 8)]) rfl ?_
            refine v_callV (j := 41) (M' := mX4_take) (as := [(0, 41), (0, 41)]) (st := []) rfl rfl rfl rfl rfl (Nat.le_of_ble_eq_true rfl) (Nat.le_of_ble_eq_true rfl) (by omega) (by decide) (K8_t K53) (kvt (st' := fun v => [(0, v)]) rfl (fun _ => rfl) rfl) (H.mono (fun k v54 m55 H => ⟨fun z => ?_, H.2.2⟩))
            have O := H.1
            replace H := H.2.1 z
            have K56 := O.2.1 K53
            refine v_run 42 4 (pc' := 92) (ls' := [(1, 8), (0, a1), (0, (m 8 5)), (1, 0), (0, v7), (1, v51)]) (st' := [(0, 62), (0, 62), (1, 8)]) rfl ?_
            refine v_callV (j := 46) (M' := mX4_take) (as := [(0, 62), (0, 62)]) (st := []) rfl rfl rfl rfl rfl (Nat.le_of_ble_eq_true rfl) (Nat.le_of_ble_eq_true rfl) (by omega) (by decide) (K8_t K56) (kvt (st' := fun v => [(0, v)]) rfl (fun _ => rfl) rfl) (H.mono (fun k v57 m58 H => ⟨fun z => ?_, H.2.2⟩))
            have O := H.1
            replace H := H.2.1 z
            have K59 := O.2.1 K56
            refine v_run 47 1 (pc' := 96) (ls' := [(1, 8), (0, a1), (0, (m 8 5)), (1, 0), (0, v7), (1, v51)]) (st' := []) rfl ?_
            obtain ⟨r60, r61, H⟩ := H
            refine v_new (j := 48) (c := 23) rfl rfl rfl rfl rfl rfl rfl r60 r61 (fun B m62 e63 => ?_)
            have O64 : Ok m58 m62 := Ok.nw B e63
            have K65 := O64.2.1 K59
            replace H := H B m62 e63 O64
            have t66 := al_tag B e63
            refine v_run 49 7 (pc' := 108) (ls' := [(1, 8), (0, a1), (0, (m 8 5)), (1, 0), (0, v7), (1, v51)]) (st' := [(0, a1), (1, 8), (1, v51), (0, v7), (1, 0), (0, (m 8 5)), (1, (m58 0 0)), (1, (m58 0 0))]) rfl ?_
            refine v_callS (j := 56) (M' := mX4_code) (as := [(1, 8), (0, a1)]) (st := [(1, v51), (0, v7), (1, 0), (0, (m 8 5)), (1, (m58 0 0)), (1, (m58 0 0))]) rfl rfl rfl rfl rfl (Nat.le_of_ble_eq_true rfl) (Nat.le_of_ble_eq_true rfl) (by omega) (kvt (st' := fun v => [(1, v), (1, v51), (0, v7), (1, 0), (0, (m 8 5)), (1, (m58 0 0)), (1, (m58 0 0))]) rfl (fun _ => rfl) rfl) (H.mono (fun k v67 m68 H => ⟨fun z => ?_, H.2.2⟩))
            have O := H.1
            replace H := H.2.1 z
            have K69 := O.2.1 K65
            have t70 := Ok.tag O (t66) (by decide)
            obtain ⟨z71, H⟩ := H
            refine v_callI (j := 57) (M' := mX19_init) (as := [(0, (m 8 5)), (1, 0), (0, v7), (1, v51), (1, v67)]) (st := [(1, (m58 0 0))]) rfl rfl rfl rfl rfl (Nat.le_of_ble_eq_true rfl) (Nat.le_of_ble_eq_true rfl) (by omega) z71 (kv0 (st' := fun v => [(1, (m58 0 0))]) rfl (fun _ => rfl)) (H.mono (fun k v72 m73 H => ⟨H.1, ?_⟩))
            have K74 := H.2.1.2.1 K69
            have t75 := Ok.tag H.2.1 (t70) (by decide)
            replace H := H.2.2
            exact v_aret (j := 58) rfl rfl rfl H
      · replace H := H.2 q
        exact H
  · replace H := H.2 q
    refine v_run 8 1 (pc' := 17) (ls' := [(1, 8), (0, a1), (0, (m 8 5)), (9, 0), (9, 0), (9, 0)]) (st' := [(1, 8)]) rfl ?_
    refine v_callV (j := 9) (M' := mX4_digit) (as := []) (st := []) rfl rfl rfl rfl rfl (Nat.le_of_ble_eq_true rfl) (Nat.le_of_ble_eq_true rfl) (by omega) (by decide) (K8_t K3) (kvt (st' := fun v => [(1, v)]) rfl (fun _ => rfl) rfl) (H.mono (fun k v76 m77 H => ⟨fun z => ?_, H.2.2⟩))
    have O := H.1
    replace H := H.2.1 z
    have K78 := O.2.1 K3
    refine v_goto (j := 10) (tgt := 24) rfl rfl ?_
    refine v_run 12 2 (pc' := 26) (ls' := [(1, 8), (0, a1), (0, (m 8 5)), (1, v76), (9, 0), (9, 0)]) (st' := [(1, v76)]) rfl ?_
    refine v_nonnull (j := 14) rfl rfl rfl (fun q => ?_) (fun q => ?_)
    · replace H := H.1 q
      exact H
    · replace H := H.2 q
      refine v_run 15 2 (pc' := 32) (ls' := [(1, 8), (0, a1), (0, (m 8 5)), (1, v76), (9, 0), (9, 0)]) (st' := [(0, 95), (1, 8)]) rfl ?_
      refine v_callV (j := 17) (M' := mX4_passes) (as := [(0, 95)]) (st := []) rfl rfl rfl rfl rfl (Nat.le_of_ble_eq_true rfl) (Nat.le_of_ble_eq_true rfl) (by omega) (by decide) (K8_t K78) (kv0 (st' := fun v => [(0, v)]) rfl (fun _ => rfl)) (H.mono (fun k v79 m80 H => ⟨H.1, ?_⟩))
      have K81 := H.2.1.2.1 K78
      replace H := H.2.2
      refine v_ifeq (j := 18) rfl rfl rfl (fun q => ?_) (fun q => ?_)
      · replace H := H.1 q
        refine v_run 21 3 (pc' := 47) (ls' := [(1, 8), (0, a1), (0, (m 8 5)), (1, v76), (9, 0), (9, 0)]) (st' := [(0, 90), (0, 65), (1, 8)]) rfl ?_
        refine v_callV (j := 24) (M' := mX4_take) (as := [(0, 65), (0, 90)]) (st := []) rfl rfl rfl rfl rfl (Nat.le_of_ble_eq_true rfl) (Nat.le_of_ble_eq_true rfl) (by omega) (by decide) (K8_t K81) (kvt (st' := fun v => [(0, v)]) rfl (fun _ => rfl) rfl) (H.mono (fun k v82 m83 H => ⟨fun z => ?_, H.2.2⟩))
        have O := H.1
        replace H := H.2.1 z
        have K84 := O.2.1 K81
        refine v_run 25 1 (pc' := 52) (ls' := [(1, 8), (0, a1), (0, (m 8 5)), (1, v76), (0, v82), (9, 0)]) (st' := []) rfl ?_
        refine v_ldc (j := 26) (g := 1) (v := (-23)) rfl rfl rfl (by decide) rfl ?_
        refine v_run 27 2 (pc' := 58) (ls' := [(1, 8), (0, a1), (0, (m 8 5)), (1, v76), (0, v82), (1, (-23))]) (st' := [(0, v82)]) rfl ?_
        refine v_ifeq (j := 29) rfl rfl rfl (fun q => ?_) (fun q => ?_)
        · replace H := H.1 q
          refine v_run 43 3 (pc' := 92) (ls' := [(1, 8), (0, a1), (0, (m 8 5)), (1, v76), (0, v82), (1, (-23))]) (st' := [(0, 62), (0, 62), (1, 8)]) rfl ?_
          refine v_callV (j := 46) (M' := mX4_take) (as := [(0, 62), (0, 62)]) (st := []) rfl rfl rfl rfl rfl (Nat.le_of_ble_eq_true rfl) (Nat.le_of_ble_eq_true rfl) (by omega) (by decide) (K8_t K84) (kvt (st' := fun v => [(0, v)]) rfl (fun _ => rfl) rfl) (H.mono (fun k v85 m86 H => ⟨fun z => ?_, H.2.2⟩))
          have O := H.1
          replace H := H.2.1 z
          have K87 := O.2.1 K84
          refine v_run 47 1 (pc' := 96) (ls' := [(1, 8), (0, a1), (0, (m 8 5)), (1, v76), (0, v82), (1, (-23))]) (st' := []) rfl ?_
          obtain ⟨r88, r89, H⟩ := H
          refine v_new (j := 48) (c := 23) rfl rfl rfl rfl rfl rfl rfl r88 r89 (fun B m90 e91 => ?_)
          have O92 : Ok m86 m90 := Ok.nw B e91
          have K93 := O92.2.1 K87
          replace H := H B m90 e91 O92
          have t94 := al_tag B e91
          refine v_run 49 7 (pc' := 108) (ls' := [(1, 8), (0, a1), (0, (m 8 5)), (1, v76), (0, v82), (1, (-23))]) (st' := [(0, a1), (1, 8), (1, (-23)), (0, v82), (1, v76), (0, (m 8 5)), (1, (m86 0 0)), (1, (m86 0 0))]) rfl ?_
          refine v_callS (j := 56) (M' := mX4_code) (as := [(1, 8), (0, a1)]) (st := [(1, (-23)), (0, v82), (1, v76), (0, (m 8 5)), (1, (m86 0 0)), (1, (m86 0 0))]) rfl rfl rfl rfl rfl (Nat.le_of_ble_eq_true rfl) (Nat.le_of_ble_eq_true rfl) (by omega) (kvt (st' := fun v => [(1, v), (1, (-23)), (0, v82), (1, v76), (0, (m 8 5)), (1, (m86 0 0)), (1, (m86 0 0))]) rfl (fun _ => rfl) rfl) (H.mono (fun k v95 m96 H => ⟨fun z => ?_, H.2.2⟩))
          have O := H.1
          replace H := H.2.1 z
          have K97 := O.2.1 K93
          have t98 := Ok.tag O (t94) (by decide)
          obtain ⟨z99, H⟩ := H
          refine v_callI (j := 57) (M' := mX19_init) (as := [(0, (m 8 5)), (1, v76), (0, v82), (1, (-23)), (1, v95)]) (st := [(1, (m86 0 0))]) rfl rfl rfl rfl rfl (Nat.le_of_ble_eq_true rfl) (Nat.le_of_ble_eq_true rfl) (by omega) z99 (kv0 (st' := fun v => [(1, (m86 0 0))]) rfl (fun _ => rfl)) (H.mono (fun k v100 m101 H => ⟨H.1, ?_⟩))
          have K102 := H.2.1.2.1 K97
          have t103 := Ok.tag H.2.1 (t98) (by decide)
          replace H := H.2.2
          exact v_aret (j := 58) rfl rfl rfl H
        · replace H := H.2 q
          refine v_run 30 2 (pc' := 64) (ls' := [(1, 8), (0, a1), (0, (m 8 5)), (1, v76), (0, v82), (1, (-23))]) (st' := [(0, 40), (1, 8)]) rfl ?_
          refine v_callV (j := 32) (M' := mX4_passes) (as := [(0, 40)]) (st := []) rfl rfl rfl rfl rfl (Nat.le_of_ble_eq_true rfl) (Nat.le_of_ble_eq_true rfl) (by omega) (by decide) (K8_t K84) (kv0 (st' := fun v => [(0, v)]) rfl (fun _ => rfl)) (H.mono (fun k v104 m105 H => ⟨H.1, ?_⟩))
          have K106 := H.2.1.2.1 K84
          replace H := H.2.2
          refine v_ifeq (j := 33) rfl rfl rfl (fun q => ?_) (fun q => ?_)
          · replace H := H.1 q
            refine v_run 43 3 (pc' := 92) (ls' := [(1, 8), (0, a1), (0, (m 8 5)), (1, v76), (0, v82), (1, (-23))]) (st' := [(0, 62), (0, 62), (1, 8)]) rfl ?_
            refine v_callV (j := 46) (M' := mX4_take) (as := [(0, 62), (0, 62)]) (st := []) rfl rfl rfl rfl rfl (Nat.le_of_ble_eq_true rfl) (Nat.le_of_ble_eq_true rfl) (by omega) (by decide) (K8_t K106) (kvt (st' := fun v => [(0, v)]) rfl (fun _ => rfl) rfl) (H.mono (fun k v107 m108 H => ⟨fun z => ?_, H.2.2⟩))
            have O := H.1
            replace H := H.2.1 z
            have K109 := O.2.1 K106
            refine v_run 47 1 (pc' := 96) (ls' := [(1, 8), (0, a1), (0, (m 8 5)), (1, v76), (0, v82), (1, (-23))]) (st' := []) rfl ?_
            obtain ⟨r110, r111, H⟩ := H
            refine v_new (j := 48) (c := 23) rfl rfl rfl rfl rfl rfl rfl r110 r111 (fun B m112 e113 => ?_)
            have O114 : Ok m108 m112 := Ok.nw B e113
            have K115 := O114.2.1 K109
            replace H := H B m112 e113 O114
            have t116 := al_tag B e113
            refine v_run 49 7 (pc' := 108) (ls' := [(1, 8), (0, a1), (0, (m 8 5)), (1, v76), (0, v82), (1, (-23))]) (st' := [(0, a1), (1, 8), (1, (-23)), (0, v82), (1, v76), (0, (m 8 5)), (1, (m108 0 0)), (1, (m108 0 0))]) rfl ?_
            refine v_callS (j := 56) (M' := mX4_code) (as := [(1, 8), (0, a1)]) (st := [(1, (-23)), (0, v82), (1, v76), (0, (m 8 5)), (1, (m108 0 0)), (1, (m108 0 0))]) rfl rfl rfl rfl rfl (Nat.le_of_ble_eq_true rfl) (Nat.le_of_ble_eq_true rfl) (by omega) (kvt (st' := fun v => [(1, v), (1, (-23)), (0, v82), (1, v76), (0, (m 8 5)), (1, (m108 0 0)), (1, (m108 0 0))]) rfl (fun _ => rfl) rfl) (H.mono (fun k v117 m118 H => ⟨fun z => ?_, H.2.2⟩))
            have O := H.1
            replace H := H.2.1 z
            have K119 := O.2.1 K115
            have t120 := Ok.tag O (t116) (by decide)
            obtain ⟨z121, H⟩ := H
            refine v_callI (j := 57) (M' := mX19_init) (as := [(0, (m 8 5)), (1, v76), (0, v82), (1, (-23)), (1, v117)]) (st := [(1, (m108 0 0))]) rfl rfl rfl rfl rfl (Nat.le_of_ble_eq_true rfl) (Nat.le_of_ble_eq_true rfl) (by omega) z121 (kv0 (st' := fun v => [(1, (m108 0 0))]) rfl (fun _ => rfl)) (H.mono (fun k v122 m123 H => ⟨H.1, ?_⟩))
            have K124 := H.2.1.2.1 K119
            have t125 := Ok.tag H.2.1 (t120) (by decide)
            replace H := H.2.2
            exact v_aret (j := 58) rfl rfl rfl H
          · replace H := H.2 q
            refine v_run 34 2 (pc' := 73) (ls' := [(1, 8), (0, a1), (0, (m 8 5)), (1, v76), (0, v82), (1, (-23))]) (st' := [(0, 6), (1, 8)]) rfl ?_
            refine v_callV (j := 36) (M' := mX4_variables) (as := [(0, 6)]) (st := []) rfl rfl rfl rfl rfl (Nat.le_of_ble_eq_true rfl) (Nat.le_of_ble_eq_true rfl) (by omega) (by decide) (K8_t K106) (kvt (st' := fun v => [(1, v)]) rfl (fun _ => rfl) rfl) (H.mono (fun k v126 m127 H => ⟨fun z => ?_, H.2.2⟩))
            have O := H.1
            replace H := H.2.1 z
            have K128 := O.2.1 K106
            refine v_run 37 4 (pc' := 83) (ls' := [(1, 8), (0, a1), (0, (m 8 5)), (1, v76), (0, v82), (1, v126)]) (st' := [(0, 41), (0, 41), (1, 8)]) rfl ?_
            refine v_callV (j := 41) (M' := mX4_take) (as := [(0, 41), (0, 41)]) (st := []) rfl rfl rfl rfl rfl (Nat.le_of_ble_eq_true rfl) (Nat.le_of_ble_eq_true rfl) (by omega) (by decide) (K8_t K128) (kvt (st' := fun v => [(0, v)]) rfl (fun _ => rfl) rfl) (H.mono (fun k v129 m130 H => ⟨fun z => ?_, H.2.2⟩))
            have O := H.1
            replace H := H.2.1 z
            have K131 := O.2.1 K128
            refine v_run 42 4 (pc' := 92) (ls' := [(1, 8), (0, a1), (0, (m 8 5)), (1, v76), (0, v82), (1, v126)]) (st' := [(0, 62), (0, 62), (1, 8)]) rfl ?_
            refine v_callV (j := 46) (M' := mX4_take) (as := [(0, 62), (0, 62)]) (st := []) rfl rfl rfl rfl rfl (Nat.le_of_ble_eq_true rfl) (Nat.le_of_ble_eq_true rfl) (by omega) (by decide) (K8_t K131) (kvt (st' := fun v => [(0, v)]) rfl (fun _ => rfl) rfl) (H.mono (fun k v132 m133 H => ⟨fun z => ?_, H.2.2⟩))
            have O := H.1
            replace H := H.2.1 z
            have K134 := O.2.1 K131
            refine v_run 47 1 (pc' := 96) (ls' := [(1, 8), (0, a1), (0, (m 8 5)), (1, v76), (0, v82), (1, v126)]) (st' := []) rfl ?_
            obtain ⟨r135, r136, H⟩ := H
            refine v_new (j := 48) (c := 23) rfl rfl rfl rfl rfl rfl rfl r135 r136 (fun B m137 e138 => ?_)
            have O139 : Ok m133 m137 := Ok.nw B e138
            have K140 := O139.2.1 K134
            replace H := H B m137 e138 O139
            have t141 := al_tag B e138
            refine v_run 49 7 (pc' := 108) (ls' := [(1, 8), (0, a1), (0, (m 8 5)), (1, v76), (0, v82), (1, v126)]) (st' := [(0, a1), (1, 8), (1, v126), (0, v82), (1, v76), (0, (m 8 5)), (1, (m133 0 0)), (1, (m133 0 0))]) rfl ?_
            refine v_callS (j := 56) (M' := mX4_code) (as := [(1, 8), (0, a1)]) (st := [(1, v126), (0, v82), (1, v76), (0, (m 8 5)), (1, (m133 0 0)), (1, (m133 0 0))]) rfl rfl rfl rfl rfl (Nat.le_of_ble_eq_true rfl) (Nat.le_of_ble_eq_true rfl) (by omega) (kvt (st' := fun v => [(1, v), (1, v126), (0, v82), (1, v76), (0, (m 8 5)), (1, (m133 0 0)), (1, (m133 0 0))]) rfl (fun _ => rfl) rfl) (H.mono (fun k v142 m143 H => ⟨fun z => ?_, H.2.2⟩))
            have O := H.1
            replace H := H.2.1 z
            have K144 := O.2.1 K140
            have t145 := Ok.tag O (t141) (by decide)
            obtain ⟨z146, H⟩ := H
            refine v_callI (j := 57) (M' := mX19_init) (as := [(0, (m 8 5)), (1, v76), (0, v82), (1, v126), (1, v142)]) (st := [(1, (m133 0 0))]) rfl rfl rfl rfl rfl (Nat.le_of_ble_eq_true rfl) (Nat.le_of_ble_eq_true rfl) (by omega) z146 (kv0 (st' := fun v => [(1, (m133 0 0))]) rfl (fun _ => rfl)) (H.mono (fun k v147 m148 H => ⟨H.1, ?_⟩))
            have K149 := H.2.1.2.1 K144
            have t150 := Ok.tag H.2.1 (t145) (by decide)
            replace H := H.2.2
            exact v_aret (j := 58) rfl rfl rfl H
      · replace H := H.2 q
        exact H

set_option maxRecDepth 100000 in
set_option maxHeartbeats 4000000 in
theorem wX4_oneCase_38 {G : GM} {d : Nat} {P : Nat → Int → SM → Prop} {m : SM} {a1 a2 a3 : Int} (K : KI m) (hd : 12 ≤ d) 
    (H : WV G mX4_take 0 [(1, 8), (0, 62), (0, 62)] [] m (d - 1) (fun k v1 m2 => Ok m m2 ∧ (k = 0 → ((m2 0 0 ≤ 1203200) ∧ (m2 0 1 + 5 ≤ 5491882) ∧ (Bs m2 → ∀ m6, m6 = al m2 24 0 5 → Ok m2 m6 → (WV G mX4_code 0 [(1, 8), (0, a1), (9, 0), (9, 0), (9, 0)] [] m6 (d - 1) (fun k v11 m12 => Ok m6 m12 ∧ (k = 0 → (((m2 0 0) ≠ 0) ∧ (WV G mX19_init 0 [(1, (m2 0 0)), (0, a2), (1, a3), (0, 0), (1, (-23)), (1, v11)] [] m12 (d - 1) (fun k v16 m17 => k = 0 ∧ Ok m12 m17 ∧ (P 0 (m2 0 0) m17))))) ∧ (k ≠ 0 → P 1 v11 m12)))))) ∧ (k ≠ 0 → P 1 v1 m2))) :
    WV G mX4_oneCase 38 [(1, 8), (0, a1), (0, a2), (1, a3), (9, 0), (9, 0)] [] m d P := by
  refine v_run 19 1 (pc' := 39) (ls' := [(1, 8), (0, a1), (0, a2), (1, a3), (9, 0), (9, 0)]) (st' := [(0, 0)]) rfl ?_
  refine v_goto (j := 20) (tgt := 50) rfl rfl ?_
  refine v_run 25 1 (pc' := 52) (ls' := [(1, 8), (0, a1), (0, a2), (1, a3), (0, 0), (9, 0)]) (st' := []) rfl ?_
  refine v_ldc (j := 26) (g := 1) (v := (-23)) rfl rfl rfl (by decide) rfl ?_
  refine v_run 27 2 (pc' := 58) (ls' := [(1, 8), (0, a1), (0, a2), (1, a3), (0, 0), (1, (-23))]) (st' := [(0, 0)]) rfl ?_
  refine v_ifeq (j := 29) rfl rfl rfl (fun q => ?_) (fun q => absurd q (by decide))
  refine v_run 43 3 (pc' := 92) (ls' := [(1, 8), (0, a1), (0, a2), (1, a3), (0, 0), (1, (-23))]) (st' := [(0, 62), (0, 62), (1, 8)]) rfl ?_
  refine v_callV (j := 46) (M' := mX4_take) (as := [(0, 62), (0, 62)]) (st := []) rfl rfl rfl rfl rfl (Nat.le_of_ble_eq_true rfl) (Nat.le_of_ble_eq_true rfl) (by omega) (by decide) (K8_t K) (kvt (st' := fun v => [(0, v)]) rfl (fun _ => rfl) rfl) (H.mono (fun k v1 m2 H => ⟨fun z => ?_, H.2.2⟩))
  have O := H.1
  replace H := H.2.1 z
  have K3 := O.2.1 K
  refine v_run 47 1 (pc' := 96) (ls' := [(1, 8), (0, a1), (0, a2), (1, a3), (0, 0), (1, (-23))]) (st' := []) rfl ?_
  obtain ⟨r4, r5, H⟩ := H
  refine v_new (j := 48) (c := 23) rfl rfl rfl rfl rfl rfl rfl r4 r5 (fun B m6 e7 => ?_)
  have O8 : Ok m2 m6 := Ok.nw B e7
  have K9 := O8.2.1 K3
  replace H := H B m6 e7 O8
  have t10 := al_tag B e7
  refine v_run 49 7 (pc' := 108) (ls' := [(1, 8), (0, a1), (0, a2), (1, a3), (0, 0), (1, (-23))]) (st' := [(0, a1), (1, 8), (1, (-23)), (0, 0), (1, a3), (0, a2), (1, (m2 0 0)), (1, (m2 0 0))]) rfl ?_
  refine v_callS (j := 56) (M' := mX4_code) (as := [(1, 8), (0, a1)]) (st := [(1, (-23)), (0, 0), (1, a3), (0, a2), (1, (m2 0 0)), (1, (m2 0 0))]) rfl rfl rfl rfl rfl (Nat.le_of_ble_eq_true rfl) (Nat.le_of_ble_eq_true rfl) (by omega) (kvt (st' := fun v => [(1, v), (1, (-23)), (0, 0), (1, a3), (0, a2), (1, (m2 0 0)), (1, (m2 0 0))]) rfl (fun _ => rfl) rfl) (H.mono (fun k v11 m12 H => ⟨fun z => ?_, H.2.2⟩))
  have O := H.1
  replace H := H.2.1 z
  have K13 := O.2.1 K9
  have t14 := Ok.tag O (t10) (by decide)
  obtain ⟨z15, H⟩ := H
  refine v_callI (j := 57) (M' := mX19_init) (as := [(0, a2), (1, a3), (0, 0), (1, (-23)), (1, v11)]) (st := [(1, (m2 0 0))]) rfl rfl rfl rfl rfl (Nat.le_of_ble_eq_true rfl) (Nat.le_of_ble_eq_true rfl) (by omega) z15 (kv0 (st' := fun v => [(1, (m2 0 0))]) rfl (fun _ => rfl)) (H.mono (fun k v16 m17 H => ⟨H.1, ?_⟩))
  have K18 := H.2.1.2.1 K13
  have t19 := Ok.tag H.2.1 (t14) (by decide)
  replace H := H.2.2
  exact v_aret (j := 58) rfl rfl rfl H

set_option maxRecDepth 100000 in
set_option maxHeartbeats 4000000 in
theorem wX4_test {G : GM} {d : Nat} {P : Nat → Int → SM → Prop} {m : SM} {a1 a2 a3 : Int} (K : KI m) (hd : 12 ≤ d) 
    (H : WV G mX4_code 0 [(1, 8), (0, a2), (9, 0), (9, 0), (9, 0)] [] m (d - 1) (fun k v1 m2 => Ok m m2 ∧ (k = 0 → ((m2 a3 (-1) = 4) ∧ (elOK m2 v1) ∧ (m2 a3 (-2) < 100000) ∧ (m2 0 0 ≤ 1203200) ∧ (m2 0 1 + 2 * m2 a3 (-2) + 20 ≤ 5491882) ∧ (∀ m5, Radd m2 a3 v1 m5 → Ok m2 m5 → (WV G mX4_peek 0 [(1, 8)] [] m5 (d - 1) (fun k v14 m15 => k = 0 ∧ Ok m5 m15 ∧ (WV G mX4_passes 0 [(1, 8), (0, 61), (9, 0)] [] m15 (d - 1) (fun k v18 m19 => k = 0 ∧ Ok m15 m19 ∧ ((v18 ≠ (0 : Int) → (WV G mX4_need 0 [(1, 8), (0, 1)] [] m19 (d - 1) (fun k v22 m23 => Ok m19 m23 ∧ (k = 0 → (WV G mX4_code 0 [(1, 8), (0, a2), (9, 0), (9, 0), (9, 0)] [] m23 (d - 1) (fun k v26 m27 => Ok m23 m27 ∧ (k = 0 → ((elOK m27 v26) ∧ (m27 a3 (-2) < 100000) ∧ (m27 0 0 ≤ 1203200) ∧ (m27 0 1 + 2 * m27 a3 (-2) + 20 ≤ 5491882) ∧ (∀ m30, Radd m27 a3 v26 m30 → Ok m27 m30 → (WV G mX4_take 0 [(1, 8), (0, 63), (0, 63)] [] m30 (d - 1) (fun k v39 m40 => Ok m30 m40 ∧ (k = 0 → (WV G mX4_code 0 [(1, 8), (0, a2), (9, 0), (9, 0), (9, 0)] [] m40 (d - 1) (fun k v43 m44 => Ok m40 m44 ∧ (k = 0 → ((elOK m44 v43) ∧ (m44 a3 (-2) < 100000) ∧ (m44 0 0 ≤ 1203200) ∧ (m44 0 1 + 2 * m44 a3 (-2) + 20 ≤ 5491882) ∧ (∀ m47, Radd m44 a3 v43 m47 → Ok m44 m47 → (WV G mX4_take 0 [(1, 8), (0, 58), (0, 58)] [] m47 (d - 1) (fun k v56 m57 => Ok m47 m57 ∧ (k = 0 → (WV G mX4_code 0 [(1, 8), (0, a2), (9, 0), (9, 0), (9, 0)] [] m57 (d - 1) (fun k v60 m61 => Ok m57 m61 ∧ (k = 0 → ((elOK m61 v60) ∧ (m61 a3 (-2) < 100000) ∧ (m61 0 0 ≤ 1203200) ∧ (m61 0 1 + 2 * m61 a3 (-2) + 20 ≤ 5491882) ∧ (∀ m64, Radd m61 a3 v60 m64 → Ok m61 m64 → (WV G mX4_take 0 [(1, 8), (0, 93), (0, 93)] [] m64 (d - 1) (fun k v73 m74 => Ok m64 m74 ∧ (k = 0 → ((m74 0 0 ≤ 1203200) ∧ (m74 0 1 + 6 ≤ 5491882) ∧ (Bs m74 → ∀ m79, m79 = al m74 23 0 6 → Ok m74 m79 → (((m74 0 0) ≠ 0) ∧ (WV G mX18_init 0 [(1, (m74 0 0)), (1, (if v14 ≠ (60 : Int) then (-7) else (-8))), (0, a1), (0, 32), (1, 0), (1, a3), (1, 15)] [] m79 (d - 1) (fun k v86 m87 => k = 0 ∧ Ok m79 m87 ∧ (P 0 (m74 0 0) m87))))))) ∧ (k ≠ 0 → P 1 v73 m74)))))) ∧ (k ≠ 0 → P 1 v60 m61)))) ∧ (k ≠ 0 → P 1 v56 m57)))))) ∧ (k ≠ 0 → P 1 v43 m44)))) ∧ (k ≠ 0 → P 1 v39 m40)))))) ∧ (k ≠ 0 → P 1 v26 m27)))) ∧ (k ≠ 0 → P 1 v22 m23)))) ∧ (v18 = (0 : Int) → (WV G mX4_passes 0 [(1, 8), (0, 60), (9, 0)] [] m19 (d - 1) (fun k v91 m92 => k = 0 ∧ Ok m19 m92 ∧ (WV G mX4_need 0 [(1, 8), (0, (if v91 = (0 : Int) then 0 else 1))] [] m92 (d - 1) (fun k v95 m96 => Ok m92 m96 ∧ (k = 0 → (WV G mX4_code 0 [(1, 8), (0, a2), (9, 0), (9, 0), (9, 0)] [] m96 (d - 1) (fun k v99 m100 => Ok m96 m100 ∧ (k = 0 → ((elOK m100 v99) ∧ (m100 a3 (-2) < 100000) ∧ (m100 0 0 ≤ 1203200) ∧ (m100 0 1 + 2 * m100 a3 (-2) + 20 ≤ 5491882) ∧ (∀ m103, Radd m100 a3 v99 m103 → Ok m100 m103 → (WV G mX4_take 0 [(1, 8), (0, 63), (0, 63)] [] m103 (d - 1) (fun k v112 m113 => Ok m103 m113 ∧ (k = 0 → (WV G mX4_code 0 [(1, 8), (0, a2), (9, 0), (9, 0), (9, 0)] [] m113 (d - 1) (fun k v116 m117 => Ok m113 m117 ∧ (k = 0 → ((elOK m117 v116) ∧ (m117 a3 (-2) < 100000) ∧ (m117 0 0 ≤ 1203200) ∧ (m117 0 1 + 2 * m117 a3 (-2) + 20 ≤ 5491882) ∧ (∀ m120, Radd m117 a3 v116 m120 → Ok m117 m120 → (WV G mX4_take 0 [(1, 8), (0, 58), (0, 58)] [] m120 (d - 1) (fun k v129 m130 => Ok m120 m130 ∧ (k = 0 → (WV G mX4_code 0 [(1, 8), (0, a2), (9, 0), (9, 0), (9, 0)] [] m130 (d - 1) (fun k v133 m134 => Ok m130 m134 ∧ (k = 0 → ((elOK m134 v133) ∧ (m134 a3 (-2) < 100000) ∧ (m134 0 0 ≤ 1203200) ∧ (m134 0 1 + 2 * m134 a3 (-2) + 20 ≤ 5491882) ∧ (∀ m137, Radd m134 a3 v133 m137 → Ok m134 m137 → (WV G mX4_take 0 [(1, 8), (0, 93), (0, 93)] [] m137 (d - 1) (fun k v146 m147 => Ok m137 m147 ∧ (k = 0 → ((m147 0 0 ≤ 1203200) ∧ (m147 0 1 + 6 ≤ 5491882) ∧ (Bs m147 → ∀ m152, m152 = al m147 23 0 6 → Ok m147 m152 → (((m147 0 0) ≠ 0) ∧ (WV G mX18_init 0 [(1, (m147 0 0)), (1, (if v14 ≠ (60 : Int) then (-7) else (-8))), (0, a1), (0, 32), (1, 0), (1, a3), (1, 15)] [] m152 (d - 1) (fun k v159 m160 => k = 0 ∧ Ok m152 m160 ∧ (P 0 (m147 0 0) m160))))))) ∧ (k ≠ 0 → P 1 v146 m147)))))) ∧ (k ≠ 0 → P 1 v133 m134)))) ∧ (k ≠ 0 → P 1 v129 m130)))))) ∧ (k ≠ 0 → P 1 v116 m117)))) ∧ (k ≠ 0 → P 1 v112 m113)))))) ∧ (k ≠ 0 → P 1 v99 m100)))) ∧ (k ≠ 0 → P 1 v95 m96)))))))))))))) ∧ (k ≠ 0 → P 1 v1 m2))) :
    WV G mX4_test 0 [(1, 8), (0, a1), (0, a2), (1, a3), (9, 0)] [] m d P := by
  refine v_run 0 3 (pc' := 3) (ls' := [(1, 8), (0, a1), (0, a2), (1, a3), (9, 0)]) (st' := [(0, a2), (1, 8), (1, a3)]) rfl ?_
  refine v_callS (j := 3) (M' := mX4_code) (as := [(1, 8), (0, a2)]) (st := [(1, a3)]) rfl rfl rfl rfl rfl (Nat.le_of_ble_eq_true rfl) (Nat.le_of_ble_eq_true rfl) (by omega) (kvt (st' := fun v => [(1, v), (1, a3)]) rfl (fun _ => rfl) rfl) (H.mono (fun k v1 m2 H => ⟨fun z => ?_, H.2.2⟩))
  have O := H.1
  replace H := H.2.1 z
  have K3 := O.2.1 K
  obtain ⟨t4, v7, i8, r9, r10, H⟩ := H
  refine vj_add (j := 4) rfl rfl rfl rfl (t4) (by omega) (by simp) v7 i8 r9 r10 (fun m5 e6 => ?_)
  have O11 : Ok m2 m5 := e6.1.ok (t4) (by decide)
  have K12 := O11.2.1 K3
  have t13 := Ok.tag O11 (t4) (by decide)
  replace H := H m5 e6 O11
  refine v_run 5 2 (pc' := 11) (ls' := [(1, 8), (0, a1), (0, a2), (1, a3), (9, 0)]) (st' := [(1, 8)]) rfl ?_
  refine v_callV (j := 7) (M' := mX4_peek) (as := []) (st := []) rfl rfl rfl rfl rfl (Nat.le_of_ble_eq_true rfl) (Nat.le_of_ble_eq_true rfl) (by omega) (by decide) (K8_t K12) (kv0 (st' := fun v => [(0, v)]) rfl (fun _ => rfl)) (H.mono (fun k v14 m15 H => ⟨H.1, ?_⟩))
  have K16 := H.2.1.2.1 K12
  have t17 := Ok.tag H.2.1 (t13) (by decide)
  replace H := H.2.2
  refine v_run 8 1 (pc' := 16) (ls' := [(1, 8), (0, a1), (0, a2), (1, a3), (9, 0)]) (st' := [(0, 60), (0, v14)]) rfl ?_
  have J165 : WV G mX4_test 28 [(1, 8), (0, a1), (0, a2), (1, a3), (9, 0)] [(1, (if v14 ≠ (60 : Int) then (-7) else (-8)))] m15 d P := by
    refine v_run 13 4 (pc' := 34) (ls' := [(1, 8), (0, a1), (0, a2), (1, a3), (1, (if v14 ≠ (60 : Int) then (-7) else (-8)))]) (st' := [(0, 61), (1, 8), (1, 8)]) rfl ?_
    refine v_callV (j := 17) (M' := mX4_passes) (as := [(0, 61)]) (st := [(1, 8)]) rfl rfl rfl rfl rfl (Nat.le_of_ble_eq_true rfl) (Nat.le_of_ble_eq_true rfl) (by omega) (by decide) (K8_t K16) (kv0 (st' := fun v => [(0, v), (1, 8)]) rfl (fun _ => rfl)) (H.mono (fun k v18 m19 H => ⟨H.1, ?_⟩))
    have K20 := H.2.1.2.1 K16
    have t21 := Ok.tag H.2.1 (t17) (by decide)
    replace H := H.2.2
    refine v_ifne (j := 18) rfl rfl rfl (fun q => ?_) (fun q => ?_)
    · replace H := H.1 q
      refine v_run 23 1 (pc' := 50) (ls' := [(1, 8), (0, a1), (0, a2), (1, a3), (1, (if v14 ≠ (60 : Int) then (-7) else (-8)))]) (st' := [(0, 1), (1, 8)]) rfl ?_
      refine v_goto (j := 24) (tgt := 54) rfl rfl ?_
      refine v_callV (j := 26) (M' := mX4_need) (as := [(0, 1)]) (st := []) rfl rfl rfl rfl rfl (Nat.le_of_ble_eq_true rfl) (Nat.le_of_ble_eq_true rfl) (by omega) (by decide) (K8_t K20) (kvt (st' := fun v => []) rfl (fun _ => rfl) rfl) (H.mono (fun k v22 m23 H => ⟨fun z => ?_, H.2.2⟩))
      have O := H.1
      replace H := H.2.1 z
      have K24 := O.2.1 K20
      have t25 := Ok.tag O (t21) (by decide)
      refine v_run 27 3 (pc' := 60) (ls' := [(1, 8), (0, a1), (0, a2), (1, a3), (1, (if v14 ≠ (60 : Int) then (-7) else (-8)))]) (st' := [(0, a2), (1, 8), (1, a3)]) rfl ?_
      refine v_callS (j := 30) (M' := mX4_code) (as := [(1, 8), (0, a2)]) (st := [(1, a3)]) rfl rfl rfl rfl rfl (Nat.le_of_ble_eq_true rfl) (Nat.le_of_ble_eq_true rfl) (by omega) (kvt (st' := fun v => [(1, v), (1, a3)]) rfl (fun _ => rfl) rfl) (H.mono (fun k v26 m27 H => ⟨fun z => ?_, H.2.2⟩))
      have O := H.1
      replace H := H.2.1 z
      have K28 := O.2.1 K24
      have t29 := Ok.tag O (t25) (by decide)
      obtain ⟨v32, i33, r34, r35, H⟩ := H
      refine vj_add (j := 31) rfl rfl rfl rfl (t29) (by omega) (by simp) v32 i33 r34 r35 (fun m30 e31 => ?_)
      have O36 : Ok m27 m30 := e31.1.ok (t29) (by decide)
      have K37 := O36.2.1 K28
      have t38 := Ok.tag O36 (t29) (by decide)
      replace H := H m30 e31 O36
      refine v_run 32 4 (pc' := 72) (ls' := [(1, 8), (0, a1), (0, a2), (1, a3), (1, (if v14 ≠ (60 : Int) then (-7) else (-8)))]) (st' := [(0, 63), (0, 63), (1, 8)]) rfl ?_
      refine v_callV (j := 36) (M' := mX4_take) (as := [(0, 63), (0, 63)]) (st := []) rfl rfl rfl rfl rfl (Nat.le_of_ble_eq_true rfl) (Nat.le_of_ble_eq_true rfl) (by omega) (by decide) (K8_t K37) (kvt (st' := fun v => [(0, v)]) rfl (fun _ => rfl) rfl) (H.mono (fun k v39 m40 H => ⟨fun z => ?_, H.2.2⟩))
      have O := H.1
      replace H := H.2.1 z
      have K41 := O.2.1 K37
      have t42 := Ok.tag O (t38) (by decide)
      refine v_run 37 4 (pc' := 79) (ls' := [(1, 8), (0, a1), (0, a2), (1, a3), (1, (if v14 ≠ (60 : Int) then (-7) else (-8)))]) (st' := [(0, a2), (1, 8), (1, a3)]) rfl ?_
      refine v_callS (j := 41) (M' := mX4_code) (as := [(1, 8), (0, a2)]) (st := [(1, a3)]) rfl rfl rfl rfl rfl (Nat.le_of_ble_eq_true rfl) (Nat.le_of_ble_eq_true rfl) (by omega) (kvt (st' := fun v => [(1, v), (1, a3)]) rfl (fun _ => rfl) rfl) (H.mono (fun k v43 m44 H => ⟨fun z => ?_, H.2.2⟩))
      have O := H.1
      replace H := H.2.1 z
      have K45 := O.2.1 K41
      have t46 := Ok.tag O (t42) (by decide)
      obtain ⟨v49, i50, r51, r52, H⟩ := H
      refine vj_add (j := 42) rfl rfl rfl rfl (t46) (by omega) (by simp) v49 i50 r51 r52 (fun m47 e48 => ?_)
      have O53 : Ok m44 m47 := e48.1.ok (t46) (by decide)
      have K54 := O53.2.1 K45
      have t55 := Ok.tag O53 (t46) (by decide)
      replace H := H m47 e48 O53
      refine v_run 43 4 (pc' := 91) (ls' := [(1, 8), (0, a1), (0, a2), (1, a3), (1, (if v14 ≠ (60 : Int) then (-7) else (-8)))]) (st' := [(0, 58), (0, 58), (1, 8)]) rfl ?_
      refine v_callV (j := 47) (M' := mX4_take) (as := [(0, 58), (0, 58)]) (st := []) rfl rfl rfl rfl rfl (Nat.le_of_ble_eq_true rfl) (Nat.le_of_ble_eq_true rfl) (by omega) (by decide) (K8_t K54) (kvt (st' := fun v => [(0, v)]) rfl (fun _ => rfl) rfl) (H.mono (fun k v56 m57 H => ⟨fun z => ?_, H.2.2⟩))
      have O := H.1
      replace H := H.2.1 z
      have K58 := O.2.1 K54
      have t59 := Ok.tag O (t55) (by decide)
      refine v_run 48 4 (pc' := 98) (ls' := [(1, 8), (0, a1), (0, a2), (1, a3), (1, (if v14 ≠ (60 : Int) then (-7) else (-8)))]) (st' := [(0, a2), (1, 8), (1, a3)]) rfl ?_
      refine v_callS (j := 52) (M' := mX4_code) (as := [(1, 8), (0, a2)]) (st := [(1, a3)]) rfl rfl rfl rfl rfl (Nat.le_of_ble_eq_true rfl) (Nat.le_of_ble_eq_true rfl) (by omega) (kvt (st' := fun v => [(1, v), (1, a3)]) rfl (fun _ => rfl) rfl) (H.mono (fun k v60 m61 H => ⟨fun z => ?_, H.2.2⟩))
      have O := H.1
      replace H := H.2.1 z
      have K62 := O.2.1 K58
      have t63 := Ok.tag O (t59) (by decide)
      obtain ⟨v66, i67, r68, r69, H⟩ := H
      refine vj_add (j := 53) rfl rfl rfl rfl (t63) (by omega) (by simp) v66 i67 r68 r69 (fun m64 e65 => ?_)
      have O70 : Ok m61 m64 := e65.1.ok (t63) (by decide)
      have K71 := O70.2.1 K62
      have t72 := Ok.tag O70 (t63) (by decide)
      replace H := H m64 e65 O70
      refine v_run 54 4 (pc' := 110) (ls' := [(1, 8), (0, a1), (0, a2), (1, a3), (1, (if v14 ≠ (60 : Int) then (-7) else (-8)))]) (st' := [(0, 93), (0, 93), (1, 8)]) rfl ?_
      refine v_callV (j := 58) (M' := mX4_take) (as := [(0, 93), (0, 93)]) (st := []) rfl rfl rfl rfl rfl (Nat.le_of_ble_eq_true rfl) (Nat.le_of_ble_eq_true rfl) (by omega) (by decide) (K8_t K71) (kvt (st' := fun v => [(0, v)]) rfl (fun _ => rfl) rfl) (H.mono (fun k v73 m74 H => ⟨fun z => ?_, H.2.2⟩))
      have O := H.1
      replace H := H.2.1 z
      have K75 := O.2.1 K71
      have t76 := Ok.tag O (t72) (by decide)
      refine v_run 59 1 (pc' := 114) (ls' := [(1, 8), (0, a1), (0, a2), (1, a3), (1, (if v14 ≠ (60 : Int) then (-7) else (-8)))]) (st' := []) rfl ?_
      obtain ⟨r77, r78, H⟩ := H
      refine v_new (j := 60) (c := 22) rfl rfl rfl rfl rfl rfl rfl r77 r78 (fun B m79 e80 => ?_)
      have O81 : Ok m74 m79 := Ok.nw B e80
      have K82 := O81.2.1 K75
      have t83 := Ok.tag O81 (t76) (by decide)
      replace H := H B m79 e80 O81
      have t84 := al_tag B e80
      refine v_run 61 7 (pc' := 126) (ls' := [(1, 8), (0, a1), (0, a2), (1, a3), (1, (if v14 ≠ (60 : Int) then (-7) else (-8)))]) (st' := [(1, 8), (1, a3), (1, 0), (0, 32), (0, a1), (1, (if v14 ≠ (60 : Int) then (-7) else (-8))), (1, (m74 0 0)), (1, (m74 0 0))]) rfl ?_
      refine v_getK (j := 68) (c := 4) (f := 4) rfl rfl rfl rfl rfl rfl rfl rfl (K8_t K82) (K8_4 K82) ?_
      obtain ⟨z85, H⟩ := H
      refine v_callI (j := 69) (M' := mX18_init) (as := [(1, (if v14 ≠ (60 : Int) then (-7) else (-8))), (0, a1), (0, 32), (1, 0), (1, a3), (1, 15)]) (st := [(1, (m74 0 0))]) rfl rfl rfl rfl rfl (Nat.le_of_ble_eq_true rfl) (Nat.le_of_ble_eq_true rfl) (by omega) z85 (kv0 (st' := fun v => [(1, (m74 0 0))]) rfl (fun _ => rfl)) (H.mono (fun k v86 m87 H => ⟨H.1, ?_⟩))
      have K88 := H.2.1.2.1 K82
      have t89 := Ok.tag H.2.1 (t83) (by decide)
      have t90 := Ok.tag H.2.1 (t84) (by decide)
      replace H := H.2.2
      exact v_aret (j := 70) rfl rfl rfl H
    · replace H := H.2 q
      refine v_run 19 2 (pc' := 43) (ls' := [(1, 8), (0, a1), (0, a2), (1, a3), (1, (if v14 ≠ (60 : Int) then (-7) else (-8)))]) (st' := [(0, 60), (1, 8), (1, 8)]) rfl ?_
      refine v_callV (j := 21) (M' := mX4_passes) (as := [(0, 60)]) (st := [(1, 8)]) rfl rfl rfl rfl rfl (Nat.le_of_ble_eq_true rfl) (Nat.le_of_ble_eq_true rfl) (by omega) (by decide) (K8_t K20) (kv0 (st' := fun v => [(0, v), (1, 8)]) rfl (fun _ => rfl)) (H.mono (fun k v91 m92 H => ⟨H.1, ?_⟩))
      have K93 := H.2.1.2.1 K20
      have t94 := Ok.tag H.2.1 (t21) (by decide)
      replace H := H.2.2
      have J164 : WV G mX4_test 54 [(1, 8), (0, a1), (0, a2), (1, a3), (1, (if v14 ≠ (60 : Int) then (-7) else (-8)))] [(0, (if v91 = (0 : Int) then 0 else 1)), (1, 8)] m92 d P := by
        refine v_callV (j := 26) (M' := mX4_need) (as := [(0, (if v91 = (0 : Int) then 0 else 1))]) (st := []) rfl rfl rfl rfl rfl (Nat.le_of_ble_eq_true rfl) (Nat.le_of_ble_eq_true rfl) (by omega) (by decide) (K8_t K93) (kvt (st' := fun v => []) rfl (fun _ => rfl) rfl) (H.mono (fun k v95 m96 H => ⟨fun z => ?_, H.2.2⟩))
        have O := H.1
        replace H := H.2.1 z
        have K97 := O.2.1 K93
        have t98 := Ok.tag O (t94) (by decide)
        refine v_run 27 3 (pc' := 60) (ls' := [(1, 8), (0, a1), (0, a2), (1, a3), (1, (if v14 ≠ (60 : Int) then (-7) else (-8)))]) (st' := [(0, a2), (1, 8), (1, a3)]) rfl ?_
        refine v_callS (j := 30) (M' := mX4_code) (as := [(1, 8), (0, a2)]) (st := [(1, a3)]) rfl rfl rfl rfl rfl (Nat.le_of_ble_eq_true rfl) (Nat.le_of_ble_eq_true rfl) (by omega) (kvt (st' := fun v => [(1, v), (1, a3)]) rfl (fun _ => rfl) rfl) (H.mono (fun k v99 m100 H => ⟨fun z => ?_, H.2.2⟩))
        have O := H.1
        replace H := H.2.1 z
        have K101 := O.2.1 K97
        have t102 := Ok.tag O (t98) (by decide)
        obtain ⟨v105, i106, r107, r108, H⟩ := H
        refine vj_add (j := 31) rfl rfl rfl rfl (t102) (by omega) (by simp) v105 i106 r107 r108 (fun m103 e104 => ?_)
        have O109 : Ok m100 m103 := e104.1.ok (t102) (by decide)
        have K110 := O109.2.1 K101
        have t111 := Ok.tag O109 (t102) (by decide)
        replace H := H m103 e104 O109
        refine v_run 32 4 (pc' := 72) (ls' := [(1, 8), (0, a1), (0, a2), (1, a3), (1, (if v14 ≠ (60 : Int) then (-7) else (-8)))]) (st' := [(0, 63), (0, 63), (1, 8)]) rfl ?_
        refine v_callV (j := 36) (M' := mX4_take) (as := [(0, 63), (0, 63)]) (st := []) rfl rfl rfl rfl rfl (Nat.le_of_ble_eq_true rfl) (Nat.le_of_ble_eq_true rfl) (by omega) (by decide) (K8_t K110) (kvt (st' := fun v => [(0, v)]) rfl (fun _ => rfl) rfl) (H.mono (fun k v112 m113 H => ⟨fun z => ?_, H.2.2⟩))
        have O := H.1
        replace H := H.2.1 z
        have K114 := O.2.1 K110
        have t115 := Ok.tag O (t111) (by decide)
        refine v_run 37 4 (pc' := 79) (ls' := [(1, 8), (0, a1), (0, a2), (1, a3), (1, (if v14 ≠ (60 : Int) then (-7) else (-8)))]) (st' := [(0, a2), (1, 8), (1, a3)]) rfl ?_
        refine v_callS (j := 41) (M' := mX4_code) (as := [(1, 8), (0, a2)]) (st := [(1, a3)]) rfl rfl rfl rfl rfl (Nat.le_of_ble_eq_true rfl) (Nat.le_of_ble_eq_true rfl) (by omega) (kvt (st' := fun v => [(1, v), (1, a3)]) rfl (fun _ => rfl) rfl) (H.mono (fun k v116 m117 H => ⟨fun z => ?_, H.2.2⟩))
        have O := H.1
        replace H := H.2.1 z
        have K118 := O.2.1 K114
        have t119 := Ok.tag O (t115) (by decide)
        obtain ⟨v122, i123, r124, r125, H⟩ := H
        refine vj_add (j := 42) rfl rfl rfl rfl (t119) (by omega) (by simp) v122 i123 r124 r125 (fun m120 e121 => ?_)
        have O126 : Ok m117 m120 := e121.1.ok (t119) (by decide)
        have K127 := O126.2.1 K118
        have t128 := Ok.tag O126 (t119) (by decide)
        replace H := H m120 e121 O126
        refine v_run 43 4 (pc' := 91) (ls' := [(1, 8), (0, a1), (0, a2), (1, a3), (1, (if v14 ≠ (60 : Int) then (-7) else (-8)))]) (st' := [(0, 58), (0, 58), (1, 8)]) rfl ?_
        refine v_callV (j := 47) (M' := mX4_take) (as := [(0, 58), (0, 58)]) (st := []) rfl rfl rfl rfl rfl (Nat.le_of_ble_eq_true rfl) (Nat.le_of_ble_eq_true rfl) (by omega) (by decide) (K8_t K127) (kvt (st' := fun v => [(0, v)]) rfl (fun _ => rfl) rfl) (H.mono (fun k v129 m130 H => ⟨fun z => ?_, H.2.2⟩))
        have O := H.1
        replace H := H.2.1 z
        have K131 := O.2.1 K127
        have t132 := Ok.tag O (t128) (by decide)
        refine v_run 48 4 (pc' := 98) (ls' := [(1, 8), (0, a1), (0, a2), (1, a3), (1, (if v14 ≠ (60 : Int) then (-7) else (-8)))]) (st' := [(0, a2), (1, 8), (1, a3)]) rfl ?_
        refine v_callS (j := 52) (M' := mX4_code) (as := [(1, 8), (0, a2)]) (st := [(1, a3)]) rfl rfl rfl rfl rfl (Nat.le_of_ble_eq_true rfl) (Nat.le_of_ble_eq_true rfl) (by omega) (kvt (st' := fun v => [(1, v), (1, a3)]) rfl (fun _ => rfl) rfl) (H.mono (fun k v133 m134 H => ⟨fun z => ?_, H.2.2⟩))
        have O := H.1
        replace H := H.2.1 z
        have K135 := O.2.1 K131
        have t136 := Ok.tag O (t132) (by decide)
        obtain ⟨v139, i140, r141, r142, H⟩ := H
        refine vj_add (j := 53) rfl rfl rfl rfl (t136) (by omega) (by simp) v139 i140 r141 r142 (fun m137 e138 => ?_)
        have O143 : Ok m134 m137 := e138.1.ok (t136) (by decide)
        have K144 := O143.2.1 K135
        have t145 := Ok.tag O143 (t136) (by decide)
        replace H := H m137 e138 O143
        refine v_run 54 4 (pc' := 110) (ls' := [(1, 8), (0, a1), (0, a2), (1, a3), (1, (if v14 ≠ (60 : Int) then (-7) else (-8)))]) (st' := [(0, 93), (0, 93), (1, 8)]) rfl ?_
        refine v_callV (j := 58) (M' := mX4_take) (as := [(0, 93), (0, 93)]) (st := []) rfl rfl rfl rfl rfl (Nat.le_of_ble_eq_true rfl) (Nat.le_of_ble_eq_true rfl) (by omega) (by decide) (K8_t K144) (kvt (st' := fun v => [(0, v)]) rfl (fun _ => rfl) rfl) (H.mono (fun k v146 m147 H => ⟨fun z => ?_, H.2.2⟩))
        have O := H.1
        replace H := H.2.1 z
        have K148 := O.2.1 K144
        have t149 := Ok.tag O (t145) (by decide)
        refine v_run 59 1 (pc' := 114) (ls' := [(1, 8), (0, a1), (0, a2), (1, a3), (1, (if v14 ≠ (60 : Int) then (-7) else (-8)))]) (st' := []) rfl ?_
        obtain ⟨r150, r151, H⟩ := H
        refine v_new (j := 60) (c := 22) rfl rfl rfl rfl rfl rfl rfl r150 r151 (fun B m152 e153 => ?_)
        have O154 : Ok m147 m152 := Ok.nw B e153
        have K155 := O154.2.1 K148
        have t156 := Ok.tag O154 (t149) (by decide)
        replace H := H B m152 e153 O154
        have t157 := al_tag B e153
        refine v_run 61 7 (pc' := 126) (ls' := [(1, 8), (0, a1), (0, a2), (1, a3), (1, (if v14 ≠ (60 : Int) then (-7) else (-8)))]) (st' := [(1, 8), (1, a3), (1, 0), (0, 32), (0, a1), (1, (if v14 ≠ (60 : Int) then (-7) else (-8))), (1, (m147 0 0)), (1, (m147 0 0))]) rfl ?_
        refine v_getK (j := 68) (c := 4) (f := 4) rfl rfl rfl rfl rfl rfl rfl rfl (K8_t K155) (K8_4 K155) ?_
        obtain ⟨z158, H⟩ := H
        refine v_callI (j := 69) (M' := mX18_init) (as := [(1, (if v14 ≠ (60 : Int) then (-7) else (-8))), (0, a1), (0, 32), (1, 0), (1, a3), (1, 15)]) (st := [(1, (m147 0 0))]) rfl rfl rfl rfl rfl (Nat.le_of_ble_eq_true rfl) (Nat.le_of_ble_eq_true rfl) (by omega) z158 (kv0 (st' := fun v => [(1, (m147 0 0))]) rfl (fun _ => rfl)) (H.mono (fun k v159 m160 H => ⟨H.1, ?_⟩))
        have K161 := H.2.1.2.1 K155
        have t162 := Ok.tag H.2.1 (t156) (by decide)
        have t163 := Ok.tag H.2.1 (t157) (by decide)
        replace H := H.2.2
        exact v_aret (j := 70) rfl rfl rfl H
      refine v_ifeq (j := 22) rfl rfl rfl (fun q => ?_) (fun q => ?_)
      · rw [if_pos q] at J164
        refine v_run 25 1 (pc' := 54) (ls' := [(1, 8), (0, a1), (0, a2), (1, a3), (1, (if v14 ≠ (60 : Int) then (-7) else (-8)))]) (st' := [(0, 0), (1, 8)]) rfl ?_
        exact J164
      · rw [if_neg q] at J164
        refine v_run 23 1 (pc' := 50) (ls' := [(1, 8), (0, a1), (0, a2), (1, a3), (1, (if v14 ≠ (60 : Int) then (-7) else (-8)))]) (st' := [(0, 1), (1, 8)]) rfl ?_
        refine v_goto (j := 24) (tgt := 54) rfl rfl ?_
        exact J164
  refine v_icmpne (j := 9) rfl rfl rfl (fun q => ?_) (fun q => ?_)
  · rw [if_pos q] at J165
    refine v_gets (j := 12) (g := 1) (v := (-7)) rfl rfl rfl rfl ?_
    exact J165
  · rw [if_neg (fun z => z q)] at J165
    refine v_gets (j := 10) (g := 1) (v := (-8)) rfl rfl rfl rfl ?_
    refine v_goto (j := 11) (tgt := 28) rfl rfl ?_
    exact J165

set_option maxRecDepth 100000 in
set_option maxHeartbeats 4000000 in
theorem wX12_init {G : GM} {d : Nat} {P : Nat → Int → SM → Prop} {m : SM} {a0 a1 a2 a3 a4 a5 : Int} (K : KI m) (hd : 12 ≤ d) 
    (H : (a0 ≠ 0) ∧ ((m a0 (-1) = 20) ∧ (a1 = 0 ∨ a1 = 1) ∧ (∀ m4, m4 = up m a0 0 a1 → Ok m m4 → (∀ m9, m9 = up m4 a0 1 a2 → Ok m4 m9 → ((0 ≤ a3 ∧ a3 ≤ 65535) ∧ (∀ m15, m15 = up m9 a0 2 a3 → Ok m9 m15 → (∀ m20, m20 = up m15 a0 3 a4 → Ok m15 m20 → (∀ m25, m25 = up m20 a0 4 a5 → Ok m20 m25 → (P 0 0 m25))))))))) :
    WV G mX12_init 0 [(1, a0), (0, a1), (0, a2), (0, a3), (1, a4), (1, a5)] [] m d P := by
  refine v_run 0 1 (pc' := 1) (ls' := [(1, a0), (0, a1), (0, a2), (0, a3), (1, a4), (1, a5)]) (st' := [(1, a0)]) rfl ?_
  obtain ⟨z1, H⟩ := H
  refine vj_rec (j := 1) rfl rfl rfl rfl z1 (by omega) (by simp) ?_
  refine v_run 2 2 (pc' := 6) (ls' := [(1, a0), (0, a1), (0, a2), (0, a3), (1, a4), (1, a5)]) (st' := [(0, a1), (1, a0)]) rfl ?_
  obtain ⟨t2, r3, H⟩ := H
  refine v_putf (j := 4) (c := 19) (f := 0) rfl rfl rfl rfl (by decide +kernel) rfl rfl rfl rfl (t2) r3 (fun m4 e5 => ?_)
  have O6 : Ok m m4 := Ok.wf e5 (t2) (by decide) (by decide)
  have K7 := O6.2.1 K
  have t8 := Ok.tag O6 (t2) (by decide)
  replace H := H m4 e5 O6
  refine v_run 5 2 (pc' := 11) (ls' := [(1, a0), (0, a1), (0, a2), (0, a3), (1, a4), (1, a5)]) (st' := [(0, a2), (1, a0)]) rfl ?_
  refine v_putf (j := 7) (c := 19) (f := 1) rfl rfl rfl rfl (by decide +kernel) rfl rfl rfl rfl (t8) trivial (fun m9 e10 => ?_)
  have O11 : Ok m4 m9 := Ok.wf e10 (t8) (by decide) (by decide)
  have K12 := O11.2.1 K7
  have t13 := Ok.tag O11 (t8) (by decide)
  replace H := H m9 e10 O11
  refine v_run 8 2 (pc' := 16) (ls' := [(1, a0), (0, a1), (0, a2), (0, a3), (1, a4), (1, a5)]) (st' := [(0, a3), (1, a0)]) rfl ?_
  obtain ⟨r14, H⟩ := H
  refine v_putf (j := 10) (c := 19) (f := 2) rfl rfl rfl rfl (by decide +kernel) rfl rfl rfl rfl (t13) r14 (fun m15 e16 => ?_)
  have O17 : Ok m9 m15 := Ok.wf e16 (t13) (by decide) (by decide)
  have K18 := O17.2.1 K12
  have t19 := Ok.tag O17 (t13) (by decide)
  replace H := H m15 e16 O17
  refine v_run 11 2 (pc' := 22) (ls' := [(1, a0), (0, a1), (0, a2), (0, a3), (1, a4), (1, a5)]) (st' := [(1, a4), (1, a0)]) rfl ?_
  refine v_putf (j := 13) (c := 19) (f := 3) rfl rfl rfl rfl (by decide +kernel) rfl rfl rfl rfl (t19) trivial (fun m20 e21 => ?_)
  have O22 : Ok m15 m20 := Ok.wf e21 (t19) (by decide) (by decide)
  have K23 := O22.2.1 K18
  have t24 := Ok.tag O22 (t19) (by decide)
  replace H := H m20 e21 O22
  refine v_run 14 2 (pc' := 28) (ls' := [(1, a0), (0, a1), (0, a2), (0, a3), (1, a4), (1, a5)]) (st' := [(1, a5), (1, a0)]) rfl ?_
  refine v_putf (j := 16) (c := 19) (f := 4) rfl rfl rfl rfl (by decide +kernel) rfl rfl rfl rfl (t24) trivial (fun m25 e26 => ?_)
  have O27 : Ok m20 m25 := Ok.wf e26 (t24) (by decide) (by decide)
  have K28 := O27.2.1 K23
  have t29 := Ok.tag O27 (t24) (by decide)
  replace H := H m25 e26 O27
  exact v_vret (j := 17) rfl rfl H

set_option maxRecDepth 100000 in
set_option maxHeartbeats 4000000 in
theorem wX13_init {G : GM} {d : Nat} {P : Nat → Int → SM → Prop} {m : SM} {a0 a1 a2 a3 : Int} (K : KI m) (hd : 12 ≤ d) 
    (H : (a0 ≠ 0) ∧ ((m a0 (-1) = 21) ∧ (∀ m3, m3 = up m a0 0 a1 → Ok m m3 → (∀ m8, m8 = up m3 a0 1 a2 → Ok m3 m8 → (∀ m13, m13 = up m8 a0 2 a3 → Ok m8 m13 → (WV G mX13_init 22 [(1, a0), (1, a1), (9, 0), (9, 0), (0, 0)] [] m13 d P)))))) :
    WV G mX13_init 0 [(1, a0), (1, a1), (1, a2), (1, a3), (9, 0)] [] m d P := by
  refine v_run 0 1 (pc' := 1) (ls' := [(1, a0), (1, a1), (1, a2), (1, a3), (9, 0)]) (st' := [(1, a0)]) rfl ?_
  obtain ⟨z1, H⟩ := H
  refine v_obj (j := 1) rfl rfl rfl rfl z1 (by omega) (by simp) ?_
  refine v_run 2 2 (pc' := 6) (ls' := [(1, a0), (1, a1), (1, a2), (1, a3), (9, 0)]) (st' := [(1, a1), (1, a0)]) rfl ?_
  obtain ⟨t2, H⟩ := H
  refine v_putf (j := 4) (c := 20) (f := 0) rfl rfl rfl rfl (by decide +kernel) rfl rfl rfl rfl (t2) trivial (fun m3 e4 => ?_)
  have O5 : Ok m m3 := Ok.wf e4 (t2) (by decide) (by decide)
  have K6 := O5.2.1 K
  have t7 := Ok.tag O5 (t2) (by decide)
  replace H := H m3 e4 O5
  refine v_run 5 2 (pc' := 11) (ls' := [(1, a0), (1, a1), (1, a2), (1, a3), (9, 0)]) (st' := [(1, a2), (1, a0)]) rfl ?_
  refine v_putf (j := 7) (c := 20) (f := 1) rfl rfl rfl rfl (by decide +kernel) rfl rfl rfl rfl (t7) trivial (fun m8 e9 => ?_)
  have O10 : Ok m3 m8 := Ok.wf e9 (t7) (by decide) (by decide)
  have K11 := O10.2.1 K6
  have t12 := Ok.tag O10 (t7) (by decide)
  replace H := H m8 e9 O10
  refine v_run 8 2 (pc' := 16) (ls' := [(1, a0), (1, a1), (1, a2), (1, a3), (9, 0)]) (st' := [(1, a3), (1, a0)]) rfl ?_
  refine v_putf (j := 10) (c := 20) (f := 2) rfl rfl rfl rfl (by decide +kernel) rfl rfl rfl rfl (t12) trivial (fun m13 e14 => ?_)
  have O15 : Ok m8 m13 := Ok.wf e14 (t12) (by decide) (by decide)
  have K16 := O15.2.1 K11
  have t17 := Ok.tag O15 (t12) (by decide)
  replace H := H m13 e14 O15
  refine v_run 11 2 (pc' := 22) (ls' := [(1, a0), (1, a1), (1, a2), (1, a3), (0, 0)]) (st' := []) rfl ?_
  refine v_drp [true, true, false, false, true] ?_
  exact H

set_option maxRecDepth 100000 in
set_option maxHeartbeats 4000000 in
theorem wX13_init_22 {G : GM} {d : Nat} {P : Nat → Int → SM → Prop} {m : SM} {a0 a1 a4 : Int} (K : KI m) (hd : 12 ≤ d) 
    (H : (m a1 (-1) = 4) ∧ (((m a1 (-2)) ≤ a4 → (P 0 0 m)) ∧ (a4 < (m a1 (-2)) → ((m a0 (-1) = 21) ∧ ((0 ≤ a4) ∧ (a4 < m a1 (-2)) ∧ (((m a1 a4) = 0 ∨ m (m a1 a4) (-1) = 20) ∧ ((m (m a1 a4) (-1) = 20) ∧ (∀ m7, m7 = up m a0 3 (wr ((m a0 3) + (if (m (m a1 a4) 0) = (0 : Int) then 0 else 1))) → Ok m m7 → (WV G mX13_init 22 [(1, a0), (1, a1), (9, 0), (9, 0), (0, (wr (a4 + 1)))] [] m7 d P))))))))) :
    WV G mX13_init 22 [(1, a0), (1, a1), (9, 0), (9, 0), (0, a4)] [] m d P := by
  refine v_run 13 2 (pc' := 25) (ls' := [(1, a0), (1, a1), (9, 0), (9, 0), (0, a4)]) (st' := [(1, a1), (0, a4)]) rfl ?_
  obtain ⟨t1, H⟩ := H
  refine vj_size (j := 15) rfl rfl rfl rfl (t1) (by omega) (by simp) ?_
  refine v_icmpge (j := 16) rfl rfl rfl (fun q => ?_) (fun q => ?_)
  · replace H := H.1 q
    exact v_vret (j := 33) rfl rfl H
  · replace H := H.2 q
    refine v_run 17 2 (pc' := 33) (ls' := [(1, a0), (1, a1), (9, 0), (9, 0), (0, a4)]) (st' := [(1, a0), (1, a0)]) rfl ?_
    obtain ⟨t2, H⟩ := H
    refine v_getf (j := 19) (c := 20) (f := 3) rfl rfl rfl rfl rfl rfl rfl rfl (t2) ?_
    refine v_run 20 2 (pc' := 39) (ls' := [(1, a0), (1, a1), (9, 0), (9, 0), (0, a4)]) (st' := [(0, a4), (1, a1), (0, (m a0 3)), (1, a0)]) rfl ?_
    obtain ⟨i3, i4, H⟩ := H
    refine vj_get (j := 22) rfl rfl rfl rfl (t1) (by omega) (by simp) i3 i4 ?_
    obtain ⟨c5, H⟩ := H
    refine v_cast (j := 23) (c := 19) rfl rfl rfl rfl rfl (c5) ?_
    obtain ⟨t6, H⟩ := H
    refine v_callV (j := 24) (M' := mX12_condition) (as := []) (st := [(0, (m a0 3)), (1, a0)]) rfl rfl rfl rfl rfl (Nat.le_of_ble_eq_true rfl) (Nat.le_of_ble_eq_true rfl) (by omega) (by decide) (t6) (kv0 (st' := fun v => [(0, v), (0, (m a0 3)), (1, a0)]) rfl (fun _ => rfl)) (ipX12_condition (t6) ⟨rfl, ?_⟩)
    have J13 : WV G mX13_init 56 [(1, a0), (1, a1), (9, 0), (9, 0), (0, a4)] [(0, (if (m (m a1 a4) 0) = (0 : Int) then 0 else 1)), (0, (m a0 3)), (1, a0)] m d P := by
      refine v_run 29 1 (pc' := 57) (ls' := [(1, a0), (1, a1), (9, 0), (9, 0), (0, a4)]) (st' := [(0, (wr ((m a0 3) + (if (m (m a1 a4) 0) = (0 : Int) then 0 else 1)))), (1, a0)]) rfl ?_
      refine v_putf (j := 30) (c := 20) (f := 3) rfl rfl rfl rfl (by decide +kernel) rfl rfl rfl rfl (t2) trivial (fun m7 e8 => ?_)
      have O9 : Ok m m7 := Ok.wf e8 (t2) (by decide) (by decide)
      have K10 := O9.2.1 K
      have t11 := Ok.tag O9 (t1) (by decide)
      have t12 := Ok.tag O9 (t2) (by decide)
      replace H := H m7 e8 O9
      refine v_run 31 1 (pc' := 63) (ls' := [(1, a0), (1, a1), (9, 0), (9, 0), (0, (wr (a4 + 1)))]) (st' := []) rfl ?_
      refine v_goto (j := 32) (tgt := 22) rfl rfl ?_
      exact H
    refine v_ifeq (j := 25) rfl rfl rfl (fun q => ?_) (fun q => ?_)
    · rw [if_pos q] at J13
      refine v_run 28 1 (pc' := 56) (ls' := [(1, a0), (1, a1), (9, 0), (9, 0), (0, a4)]) (st' := [(0, 0), (0, (m a0 3)), (1, a0)]) rfl ?_
      exact J13
    · rw [if_neg q] at J13
      refine v_run 26 1 (pc' := 52) (ls' := [(1, a0), (1, a1), (9, 0), (9, 0), (0, a4)]) (st' := [(0, 1), (0, (m a0 3)), (1, a0)]) rfl ?_
      refine v_goto (j := 27) (tgt := 56) rfl rfl ?_
      exact J13

set_option maxRecDepth 100000 in
set_option maxHeartbeats 4000000 in
theorem wX17_init {G : GM} {d : Nat} {P : Nat → Int → SM → Prop} {m : SM} {a0 a1 a2 : Int} (K : KI m) (hd : 12 ≤ d) 
    (H : (a0 ≠ 0) ∧ ((m a0 (-1) = 22) ∧ (∀ m3, m3 = up m a0 0 a1 → Ok m m3 → (∀ m8, m8 = up m3 a0 1 a2 → Ok m3 m8 → (P 0 0 m8))))) :
    WV G mX17_init 0 [(1, a0), (1, a1), (1, a2)] [] m d P := by
  refine v_run 0 1 (pc' := 1) (ls' := [(1, a0), (1, a1), (1, a2)]) (st' := [(1, a0)]) rfl ?_
  obtain ⟨z1, H⟩ := H
  refine v_obj (j := 1) rfl rfl rfl rfl z1 (by omega) (by simp) ?_
  refine v_run 2 2 (pc' := 6) (ls' := [(1, a0), (1, a1), (1, a2)]) (st' := [(1, a1), (1, a0)]) rfl ?_
  obtain ⟨t2, H⟩ := H
  refine v_putf (j := 4) (c := 21) (f := 0) rfl rfl rfl rfl (by decide +kernel) rfl rfl rfl rfl (t2) trivial (fun m3 e4 => ?_)
  have O5 : Ok m m3 := Ok.wf e4 (t2) (by decide) (by decide)
  have K6 := O5.2.1 K
  have t7 := Ok.tag O5 (t2) (by decide)
  replace H := H m3 e4 O5
  refine v_run 5 2 (pc' := 11) (ls' := [(1, a0), (1, a1), (1, a2)]) (st' := [(1, a2), (1, a0)]) rfl ?_
  refine v_putf (j := 7) (c := 21) (f := 1) rfl rfl rfl rfl (by decide +kernel) rfl rfl rfl rfl (t7) trivial (fun m8 e9 => ?_)
  have O10 : Ok m3 m8 := Ok.wf e9 (t7) (by decide) (by decide)
  have K11 := O10.2.1 K6
  have t12 := Ok.tag O10 (t7) (by decide)
  replace H := H m8 e9 O10
  exact v_vret (j := 8) rfl rfl H

set_option maxRecDepth 100000 in
set_option maxHeartbeats 4000000 in
theorem wX18_init {G : GM} {d : Nat} {P : Nat → Int → SM → Prop} {m : SM} {a0 a1 a2 a3 a4 a5 a6 : Int} (K : KI m) (hd : 12 ≤ d) 
    (H : (a0 ≠ 0) ∧ ((m a0 (-1) = 23) ∧ (∀ m3, m3 = up m a0 0 a1 → Ok m m3 → (∀ m8, m8 = up m3 a0 1 a2 → Ok m3 m8 → ((0 ≤ a3 ∧ a3 ≤ 65535) ∧ (∀ m14, m14 = up m8 a0 2 a3 → Ok m8 m14 → (∀ m19, m19 = up m14 a0 3 a4 → Ok m14 m19 → (∀ m24, m24 = up m19 a0 4 a5 → Ok m19 m24 → (∀ m29, m29 = up m24 a0 5 a6 → Ok m24 m29 → (P 0 0 m29)))))))))) :
    WV G mX18_init 0 [(1, a0), (1, a1), (0, a2), (0, a3), (1, a4), (1, a5), (1, a6)] [] m d P := by
  refine v_run 0 1 (pc' := 1) (ls' := [(1, a0), (1, a1), (0, a2), (0, a3), (1, a4), (1, a5), (1, a6)]) (st' := [(1, a0)]) rfl ?_
  obtain ⟨z1, H⟩ := H
  refine v_obj (j := 1) rfl rfl rfl rfl z1 (by omega) (by simp) ?_
  refine v_run 2 2 (pc' := 6) (ls' := [(1, a0), (1, a1), (0, a2), (0, a3), (1, a4), (1, a5), (1, a6)]) (st' := [(1, a1), (1, a0)]) rfl ?_
  obtain ⟨t2, H⟩ := H
  refine v_putf (j := 4) (c := 22) (f := 0) rfl rfl rfl rfl (by decide +kernel) rfl rfl rfl rfl (t2) trivial (fun m3 e4 => ?_)
  have O5 : Ok m m3 := Ok.wf e4 (t2) (by decide) (by decide)
  have K6 := O5.2.1 K
  have t7 := Ok.tag O5 (t2) (by decide)
  replace H := H m3 e4 O5
  refine v_run 5 2 (pc' := 11) (ls' := [(1, a0), (1, a1), (0, a2), (0, a3), (1, a4), (1, a5), (1, a6)]) (st' := [(0, a2), (1, a0)]) rfl ?_
  refine v_putf (j := 7) (c := 22) (f := 1) rfl rfl rfl rfl (by decide +kernel) rfl rfl rfl rfl (t7) trivial (fun m8 e9 => ?_)
  have O10 : Ok m3 m8 := Ok.wf e9 (t7) (by decide) (by decide)
  have K11 := O10.2.1 K6
  have t12 := Ok.tag O10 (t7) (by decide)
  replace H := H m8 e9 O10
  refine v_run 8 2 (pc' := 16) (ls' := [(1, a0), (1, a1), (0, a2), (0, a3), (1, a4), (1, a5), (1, a6)]) (st' := [(0, a3), (1, a0)]) rfl ?_
  obtain ⟨r13, H⟩ := H
  refine v_putf (j := 10) (c := 22) (f := 2) rfl rfl rfl rfl (by decide +kernel) rfl rfl rfl rfl (t12) r13 (fun m14 e15 => ?_)
  have O16 : Ok m8 m14 := Ok.wf e15 (t12) (by decide) (by decide)
  have K17 := O16.2.1 K11
  have t18 := Ok.tag O16 (t12) (by decide)
  replace H := H m14 e15 O16
  refine v_run 11 2 (pc' := 22) (ls' := [(1, a0), (1, a1), (0, a2), (0, a3), (1, a4), (1, a5), (1, a6)]) (st' := [(1, a4), (1, a0)]) rfl ?_
  refine v_putf (j := 13) (c := 22) (f := 3) rfl rfl rfl rfl (by decide +kernel) rfl rfl rfl rfl (t18) trivial (fun m19 e20 => ?_)
  have O21 : Ok m14 m19 := Ok.wf e20 (t18) (by decide) (by decide)
  have K22 := O21.2.1 K17
  have t23 := Ok.tag O21 (t18) (by decide)
  replace H := H m19 e20 O21
  refine v_run 14 2 (pc' := 28) (ls' := [(1, a0), (1, a1), (0, a2), (0, a3), (1, a4), (1, a5), (1, a6)]) (st' := [(1, a5), (1, a0)]) rfl ?_
  refine v_putf (j := 16) (c := 22) (f := 4) rfl rfl rfl rfl (by decide +kernel) rfl rfl rfl rfl (t23) trivial (fun m24 e25 => ?_)
  have O26 : Ok m19 m24 := Ok.wf e25 (t23) (by decide) (by decide)
  have K27 := O26.2.1 K22
  have t28 := Ok.tag O26 (t23) (by decide)
  replace H := H m24 e25 O26
  refine v_run 17 2 (pc' := 34) (ls' := [(1, a0), (1, a1), (0, a2), (0, a3), (1, a4), (1, a5), (1, a6)]) (st' := [(1, a6), (1, a0)]) rfl ?_
  refine v_putf (j := 19) (c := 22) (f := 5) rfl rfl rfl rfl (by decide +kernel) rfl rfl rfl rfl (t28) trivial (fun m29 e30 => ?_)
  have O31 : Ok m24 m29 := Ok.wf e30 (t28) (by decide) (by decide)
  have K32 := O31.2.1 K27
  have t33 := Ok.tag O31 (t28) (by decide)
  replace H := H m29 e30 O31
  exact v_vret (j := 20) rfl rfl H

set_option maxRecDepth 100000 in
set_option maxHeartbeats 4000000 in
theorem wX19_init {G : GM} {d : Nat} {P : Nat → Int → SM → Prop} {m : SM} {a0 a1 a2 a3 a4 a5 : Int} (K : KI m) (hd : 12 ≤ d) 
    (H : (a0 ≠ 0) ∧ ((m a0 (-1) = 24) ∧ (∀ m3, m3 = up m a0 0 a1 → Ok m m3 → (∀ m8, m8 = up m3 a0 1 a2 → Ok m3 m8 → ((0 ≤ a3 ∧ a3 ≤ 65535) ∧ (∀ m14, m14 = up m8 a0 2 a3 → Ok m8 m14 → (∀ m19, m19 = up m14 a0 3 a4 → Ok m14 m19 → (∀ m24, m24 = up m19 a0 4 a5 → Ok m19 m24 → (P 0 0 m24))))))))) :
    WV G mX19_init 0 [(1, a0), (0, a1), (1, a2), (0, a3), (1, a4), (1, a5)] [] m d P := by
  refine v_run 0 1 (pc' := 1) (ls' := [(1, a0), (0, a1), (1, a2), (0, a3), (1, a4), (1, a5)]) (st' := [(1, a0)]) rfl ?_
  obtain ⟨z1, H⟩ := H
  refine vj_rec (j := 1) rfl rfl rfl rfl z1 (by omega) (by simp) ?_
  refine v_run 2 2 (pc' := 6) (ls' := [(1, a0), (0, a1), (1, a2), (0, a3), (1, a4), (1, a5)]) (st' := [(0, a1), (1, a0)]) rfl ?_
  obtain ⟨t2, H⟩ := H
  refine v_putf (j := 4) (c := 23) (f := 0) rfl rfl rfl rfl (by decide +kernel) rfl rfl rfl rfl (t2) trivial (fun m3 e4 => ?_)
  have O5 : Ok m m3 := Ok.wf e4 (t2) (by decide) (by decide)
  have K6 := O5.2.1 K
  have t7 := Ok.tag O5 (t2) (by decide)
  replace H := H m3 e4 O5
  refine v_run 5 2 (pc' := 11) (ls' := [(1, a0), (0, a1), (1, a2), (0, a3), (1, a4), (1, a5)]) (st' := [(1, a2), (1, a0)]) rfl ?_
  refine v_putf (j := 7) (c := 23) (f := 1) rfl rfl rfl rfl (by decide +kernel) rfl rfl rfl rfl (t7) trivial (fun m8 e9 => ?_)
  have O10 : Ok m3 m8 := Ok.wf e9 (t7) (by decide) (by decide)
  have K11 := O10.2.1 K6
  have t12 := Ok.tag O10 (t7) (by decide)
  replace H := H m8 e9 O10
  refine v_run 8 2 (pc' := 16) (ls' := [(1, a0), (0, a1), (1, a2), (0, a3), (1, a4), (1, a5)]) (st' := [(0, a3), (1, a0)]) rfl ?_
  obtain ⟨r13, H⟩ := H
  refine v_putf (j := 10) (c := 23) (f := 2) rfl rfl rfl rfl (by decide +kernel) rfl rfl rfl rfl (t12) r13 (fun m14 e15 => ?_)
  have O16 : Ok m8 m14 := Ok.wf e15 (t12) (by decide) (by decide)
  have K17 := O16.2.1 K11
  have t18 := Ok.tag O16 (t12) (by decide)
  replace H := H m14 e15 O16
  refine v_run 11 2 (pc' := 22) (ls' := [(1, a0), (0, a1), (1, a2), (0, a3), (1, a4), (1, a5)]) (st' := [(1, a4), (1, a0)]) rfl ?_
  refine v_putf (j := 13) (c := 23) (f := 3) rfl rfl rfl rfl (by decide +kernel) rfl rfl rfl rfl (t18) trivial (fun m19 e20 => ?_)
  have O21 : Ok m14 m19 := Ok.wf e20 (t18) (by decide) (by decide)
  have K22 := O21.2.1 K17
  have t23 := Ok.tag O21 (t18) (by decide)
  replace H := H m19 e20 O21
  refine v_run 14 2 (pc' := 28) (ls' := [(1, a0), (0, a1), (1, a2), (0, a3), (1, a4), (1, a5)]) (st' := [(1, a5), (1, a0)]) rfl ?_
  refine v_putf (j := 16) (c := 23) (f := 4) rfl rfl rfl rfl (by decide +kernel) rfl rfl rfl rfl (t23) trivial (fun m24 e25 => ?_)
  have O26 : Ok m19 m24 := Ok.wf e25 (t23) (by decide) (by decide)
  have K27 := O26.2.1 K22
  have t28 := Ok.tag O26 (t23) (by decide)
  replace H := H m24 e25 O26
  exact v_vret (j := 17) rfl rfl H
