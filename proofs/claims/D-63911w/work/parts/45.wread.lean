/-! walks (made by gen_w.py) -/
set_option maxRecDepth 100000 in
set_option maxHeartbeats 4000000 in
theorem wX10_thrown {G : GM} {d : Nat} {P : Nat → Int → SM → Prop} {m : SM} (K : KI m) (hd : 12 ≤ d) 
    (H : P 0 (m 41 0) m) :
    WV G mX10_thrown 0 [(1, 41)] [] m d P := by
  refine v_run 0 1 (pc' := 1) (ls' := [(1, 41)]) (st' := [(1, 41)]) rfl ?_
  refine v_getf (j := 1) (c := 24) (f := 0) rfl rfl rfl rfl rfl rfl rfl rfl (K41_t K) ?_
  exact v_iret (j := 2) rfl rfl rfl trivial H

set_option maxRecDepth 100000 in
set_option maxHeartbeats 4000000 in
theorem wX10_type {G : GM} {d : Nat} {P : Nat → Int → SM → Prop} {m : SM} {a1 : Int} (K : KI m) (hd : 12 ≤ d) 
    (H : ∀ m1, m1 = up m 41 0 0 → Ok m m1 → ((a1 < (32 : Int) → (P 0 0 m1)) ∧ ((32 : Int) ≤ a1 → (((126 : Int) < a1 → (P 0 0 m1)) ∧ (a1 ≤ (126 : Int) → (((m1 41 1) ≠ (80 : Int) → ((0 ≤ (m1 41 1)) ∧ ((m1 41 1) < 80) ∧ (∀ m7, m7 = up m1 42 (m1 41 1) a1 → Ok m1 m7 → (∀ m11, m11 = up m7 41 1 (wr ((m7 41 1) + 1)) → Ok m7 m11 → (P 0 1 m11))))) ∧ ((m1 41 1) = (80 : Int) → (P 0 0 m1)))))))) :
    WV G mX10_type 0 [(1, 41), (0, a1)] [] m d P := by
  refine v_run 0 2 (pc' := 2) (ls' := [(1, 41), (0, a1)]) (st' := [(0, 0), (1, 41)]) rfl ?_
  refine v_putf (j := 2) (c := 24) (f := 0) rfl rfl rfl rfl (by decide +kernel) rfl rfl rfl rfl (K41_t K) trivial (fun m1 e2 => ?_)
  have O3 : Ok m m1 := Ok.wf e2 (K41_t K) (by decide) (by decide)
  have K4 := O3.2.1 K
  replace H := H m1 e2 O3
  refine v_run 3 2 (pc' := 8) (ls' := [(1, 41), (0, a1)]) (st' := [(0, 32), (0, a1)]) rfl ?_
  refine v_icmplt (j := 5) rfl rfl rfl (fun q => ?_) (fun q => ?_)
  · replace H := H.1 q
    refine v_run 13 1 (pc' := 27) (ls' := [(1, 41), (0, a1)]) (st' := [(0, 0)]) rfl ?_
    exact v_iret (j := 14) rfl rfl rfl (Or.inl rfl) H
  · replace H := H.2 q
    refine v_run 6 2 (pc' := 14) (ls' := [(1, 41), (0, a1)]) (st' := [(0, 126), (0, a1)]) rfl ?_
    refine v_icmpgt (j := 8) rfl rfl rfl (fun q => ?_) (fun q => ?_)
    · replace H := H.1 q
      refine v_run 13 1 (pc' := 27) (ls' := [(1, 41), (0, a1)]) (st' := [(0, 0)]) rfl ?_
      exact v_iret (j := 14) rfl rfl rfl (Or.inl rfl) H
    · replace H := H.2 q
      refine v_run 9 1 (pc' := 18) (ls' := [(1, 41), (0, a1)]) (st' := [(1, 41)]) rfl ?_
      refine v_getf (j := 10) (c := 24) (f := 1) rfl rfl rfl rfl rfl rfl rfl rfl (K41_t K4) ?_
      refine v_run 11 1 (pc' := 23) (ls' := [(1, 41), (0, a1)]) (st' := [(0, 80), (0, (m1 41 1))]) rfl ?_
      refine v_icmpne (j := 12) rfl rfl rfl (fun q => ?_) (fun q => ?_)
      · replace H := H.1 q
        refine v_run 15 1 (pc' := 29) (ls' := [(1, 41), (0, a1)]) (st' := [(1, 41)]) rfl ?_
        refine v_getK (j := 16) (c := 24) (f := 2) rfl rfl rfl rfl rfl rfl rfl rfl (K41_t K4) (K41_2 K4) ?_
        refine v_run 17 1 (pc' := 33) (ls' := [(1, 41), (0, a1)]) (st' := [(1, 41), (1, 42)]) rfl ?_
        refine v_getf (j := 18) (c := 24) (f := 1) rfl rfl rfl rfl rfl rfl rfl rfl (K41_t K4) ?_
        refine v_run 19 1 (pc' := 37) (ls' := [(1, 41), (0, a1)]) (st' := [(0, a1), (0, (m1 41 1)), (1, 42)]) rfl ?_
        obtain ⟨i5, i6, H⟩ := H
        refine v_ast (j := 20) (t := 1) rfl rfl rfl rfl rfl rfl (by decide) (by decide) (K42_t K4) i5 (by rw [K42_l K4]; exact i6) trivial (fun m7 e8 => ?_)
        have O9 : Ok m1 m7 := Ok.wa e8 (K42_t K4) (by decide) i5
        have K10 := O9.2.1 K4
        replace H := H m7 e8 O9
        refine v_run 21 2 (pc' := 40) (ls' := [(1, 41), (0, a1)]) (st' := [(1, 41), (1, 41)]) rfl ?_
        refine v_getf (j := 23) (c := 24) (f := 1) rfl rfl rfl rfl rfl rfl rfl rfl (K41_t K10) ?_
        refine v_run 24 2 (pc' := 45) (ls' := [(1, 41), (0, a1)]) (st' := [(0, (wr ((m7 41 1) + 1))), (1, 41)]) rfl ?_
        refine v_putf (j := 26) (c := 24) (f := 1) rfl rfl rfl rfl (by decide +kernel) rfl rfl rfl rfl (K41_t K10) trivial (fun m11 e12 => ?_)
        have O13 : Ok m7 m11 := Ok.wf e12 (K41_t K10) (by decide) (by decide)
        have K14 := O13.2.1 K10
        replace H := H m11 e12 O13
        refine v_run 27 1 (pc' := 49) (ls' := [(1, 41), (0, a1)]) (st' := [(0, 1)]) rfl ?_
        exact v_iret (j := 28) rfl rfl rfl (Or.inr rfl) H
      · replace H := H.2 q
        refine v_run 13 1 (pc' := 27) (ls' := [(1, 41), (0, a1)]) (st' := [(0, 0)]) rfl ?_
        exact v_iret (j := 14) rfl rfl rfl (Or.inl rfl) H

set_option maxRecDepth 100000 in
set_option maxHeartbeats 4000000 in
theorem wX10_wipe {G : GM} {d : Nat} {P : Nat → Int → SM → Prop} {m : SM} (K : KI m) (hd : 12 ≤ d) 
    (H : ∀ m1, m1 = up m 41 0 0 → Ok m m1 → (∀ m5, m5 = up m1 41 1 0 → Ok m1 m5 → (P 0 (m1 41 1) m5))) :
    WV G mX10_wipe 0 [(1, 41), (9, 0)] [] m d P := by
  refine v_run 0 2 (pc' := 2) (ls' := [(1, 41), (9, 0)]) (st' := [(0, 0), (1, 41)]) rfl ?_
  refine v_putf (j := 2) (c := 24) (f := 0) rfl rfl rfl rfl (by decide +kernel) rfl rfl rfl rfl (K41_t K) trivial (fun m1 e2 => ?_)
  have O3 : Ok m m1 := Ok.wf e2 (K41_t K) (by decide) (by decide)
  have K4 := O3.2.1 K
  replace H := H m1 e2 O3
  refine v_run 3 1 (pc' := 6) (ls' := [(1, 41), (9, 0)]) (st' := [(1, 41)]) rfl ?_
  refine v_getf (j := 4) (c := 24) (f := 1) rfl rfl rfl rfl rfl rfl rfl rfl (K41_t K4) ?_
  refine v_run 5 3 (pc' := 12) (ls' := [(1, 41), (0, (m1 41 1))]) (st' := [(0, 0), (1, 41)]) rfl ?_
  refine v_putf (j := 8) (c := 24) (f := 1) rfl rfl rfl rfl (by decide +kernel) rfl rfl rfl rfl (K41_t K4) trivial (fun m5 e6 => ?_)
  have O7 : Ok m1 m5 := Ok.wf e6 (K41_t K4) (by decide) (by decide)
  have K8 := O7.2.1 K4
  replace H := H m5 e6 O7
  refine v_run 9 1 (pc' := 16) (ls' := [(1, 41), (0, (m1 41 1))]) (st' := [(0, (m1 41 1))]) rfl ?_
  exact v_iret (j := 10) rfl rfl rfl trivial H

set_option maxRecDepth 100000 in
set_option maxHeartbeats 4000000 in
theorem wX10_push {G : GM} {d : Nat} {P : Nat → Int → SM → Prop} {m : SM} {a1 a2 a3 : Int} (K : KI m) (hd : 12 ≤ d) 
    (H : (0 ≤ (m 41 29)) ∧ ((m 41 29) < 400) ∧ (∀ m3, m3 = up m 64 (m 41 29) a1 → Ok m m3 → ((0 ≤ (m3 41 29)) ∧ ((m3 41 29) < 400) ∧ (∀ m9, m9 = up m3 65 (m3 41 29) a2 → Ok m3 m9 → ((0 ≤ (m9 41 29)) ∧ ((m9 41 29) < 400) ∧ (∀ m15, m15 = up m9 66 (m9 41 29) a3 → Ok m9 m15 → (∀ m19, m19 = up m15 41 29 (wr ((m15 41 29) + 1)) → Ok m15 m19 → (P 0 0 m19)))))))) :
    WV G mX10_push 0 [(1, 41), (0, a1), (0, a2), (0, a3)] [] m d P := by
  refine v_run 0 1 (pc' := 1) (ls' := [(1, 41), (0, a1), (0, a2), (0, a3)]) (st' := [(1, 41)]) rfl ?_
  refine v_getK (j := 1) (c := 24) (f := 30) rfl rfl rfl rfl rfl rfl rfl rfl (K41_t K) (K41_30 K) ?_
  refine v_run 2 1 (pc' := 5) (ls' := [(1, 41), (0, a1), (0, a2), (0, a3)]) (st' := [(1, 41), (1, 64)]) rfl ?_
  refine v_getf (j := 3) (c := 24) (f := 29) rfl rfl rfl rfl rfl rfl rfl rfl (K41_t K) ?_
  refine v_run 4 1 (pc' := 9) (ls' := [(1, 41), (0, a1), (0, a2), (0, a3)]) (st' := [(0, a1), (0, (m 41 29)), (1, 64)]) rfl ?_
  obtain ⟨i1, i2, H⟩ := H
  refine v_ast (j := 5) (t := 1) rfl rfl rfl rfl rfl rfl (by decide) (by decide) (K64_t K) i1 (by rw [K64_l K]; exact i2) trivial (fun m3 e4 => ?_)
  have O5 : Ok m m3 := Ok.wa e4 (K64_t K) (by decide) i1
  have K6 := O5.2.1 K
  replace H := H m3 e4 O5
  refine v_run 6 1 (pc' := 11) (ls' := [(1, 41), (0, a1), (0, a2), (0, a3)]) (st' := [(1, 41)]) rfl ?_
  refine v_getK (j := 7) (c := 24) (f := 31) rfl rfl rfl rfl rfl rfl rfl rfl (K41_t K6) (K41_31 K6) ?_
  refine v_run 8 1 (pc' := 15) (ls' := [(1, 41), (0, a1), (0, a2), (0, a3)]) (st' := [(1, 41), (1, 65)]) rfl ?_
  refine v_getf (j := 9) (c := 24) (f := 29) rfl rfl rfl rfl rfl rfl rfl rfl (K41_t K6) ?_
  refine v_run 10 1 (pc' := 19) (ls' := [(1, 41), (0, a1), (0, a2), (0, a3)]) (st' := [(0, a2), (0, (m3 41 29)), (1, 65)]) rfl ?_
  obtain ⟨i7, i8, H⟩ := H
  refine v_ast (j := 11) (t := 1) rfl rfl rfl rfl rfl rfl (by decide) (by decide) (K65_t K6) i7 (by rw [K65_l K6]; exact i8) trivial (fun m9 e10 => ?_)
  have O11 : Ok m3 m9 := Ok.wa e10 (K65_t K6) (by decide) i7
  have K12 := O11.2.1 K6
  replace H := H m9 e10 O11
  refine v_run 12 1 (pc' := 21) (ls' := [(1, 41), (0, a1), (0, a2), (0, a3)]) (st' := [(1, 41)]) rfl ?_
  refine v_getK (j := 13) (c := 24) (f := 32) rfl rfl rfl rfl rfl rfl rfl rfl (K41_t K12) (K41_32 K12) ?_
  refine v_run 14 1 (pc' := 25) (ls' := [(1, 41), (0, a1), (0, a2), (0, a3)]) (st' := [(1, 41), (1, 66)]) rfl ?_
  refine v_getf (j := 15) (c := 24) (f := 29) rfl rfl rfl rfl rfl rfl rfl rfl (K41_t K12) ?_
  refine v_run 16 1 (pc' := 29) (ls' := [(1, 41), (0, a1), (0, a2), (0, a3)]) (st' := [(0, a3), (0, (m9 41 29)), (1, 66)]) rfl ?_
  obtain ⟨i13, i14, H⟩ := H
  refine v_ast (j := 17) (t := 1) rfl rfl rfl rfl rfl rfl (by decide) (by decide) (K66_t K12) i13 (by rw [K66_l K12]; exact i14) trivial (fun m15 e16 => ?_)
  have O17 : Ok m9 m15 := Ok.wa e16 (K66_t K12) (by decide) i13
  have K18 := O17.2.1 K12
  replace H := H m15 e16 O17
  refine v_run 18 2 (pc' := 32) (ls' := [(1, 41), (0, a1), (0, a2), (0, a3)]) (st' := [(1, 41), (1, 41)]) rfl ?_
  refine v_getf (j := 20) (c := 24) (f := 29) rfl rfl rfl rfl rfl rfl rfl rfl (K41_t K18) ?_
  refine v_run 21 2 (pc' := 37) (ls' := [(1, 41), (0, a1), (0, a2), (0, a3)]) (st' := [(0, (wr ((m15 41 29) + 1))), (1, 41)]) rfl ?_
  refine v_putf (j := 23) (c := 24) (f := 29) rfl rfl rfl rfl (by decide +kernel) rfl rfl rfl rfl (K41_t K18) trivial (fun m19 e20 => ?_)
  have O21 : Ok m15 m19 := Ok.wf e20 (K41_t K18) (by decide) (by decide)
  have K22 := O21.2.1 K18
  replace H := H m19 e20 O21
  exact v_vret (j := 24) rfl rfl H

set_option maxRecDepth 100000 in
set_option maxHeartbeats 4000000 in
theorem wX10_node {G : GM} {d : Nat} {P : Nat → Int → SM → Prop} {m : SM} {a1 a2 a3 : Int} (K : KI m) (hd : 12 ≤ d) 
    (H : (0 ≤ (m 41 16)) ∧ ((m 41 16) < 2720) ∧ (∀ m3, m3 = up m 54 (m 41 16) a1 → Ok m m3 → ((0 ≤ (m3 41 16)) ∧ ((m3 41 16) < 2720) ∧ (∀ m9, m9 = up m3 55 (m3 41 16) a2 → Ok m3 m9 → ((0 ≤ (m9 41 16)) ∧ ((m9 41 16) < 2720) ∧ (∀ m15, m15 = up m9 56 (m9 41 16) 0 → Ok m9 m15 → (((m15 41 16) < (m15 41 20) → (∀ m19, m19 = up m15 41 16 (wr ((m15 41 16) + 1)) → Ok m15 m19 → (P 0 (wr ((m19 41 16) - 1)) m19))) ∧ ((m15 41 20) ≤ (m15 41 16) → (((82 : Int) ≤ (wr ((m15 41 16) - (m15 41 20))) → (∀ m23, m23 = up m15 41 16 (wr ((m15 41 16) + 1)) → Ok m15 m23 → (P 0 (wr ((m23 41 16) - 1)) m23))) ∧ ((wr ((m15 41 16) - (m15 41 20))) < (82 : Int) → ((0 ≤ (wr ((m15 41 16) - (m15 41 20)))) ∧ ((wr ((m15 41 16) - (m15 41 20))) < 82) ∧ (∀ m29, m29 = up m15 57 (wr ((m15 41 16) - (m15 41 20))) a3 → Ok m15 m29 → ((0 ≤ (wr ((m29 41 16) - (m29 41 20)))) ∧ ((wr ((m29 41 16) - (m29 41 20))) < 82) ∧ (∀ m35, m35 = up m29 58 (wr ((m29 41 16) - (m29 41 20))) (-1) → Ok m29 m35 → (∀ m39, m39 = up m35 41 16 (wr ((m35 41 16) + 1)) → Ok m35 m39 → (P 0 (wr ((m39 41 16) - 1)) m39)))))))))))))))) :
    WV G mX10_node 0 [(1, 41), (0, a1), (0, a2), (0, a3)] [] m d P := by
  refine v_run 0 1 (pc' := 1) (ls' := [(1, 41), (0, a1), (0, a2), (0, a3)]) (st' := [(1, 41)]) rfl ?_
  refine v_getK (j := 1) (c := 24) (f := 17) rfl rfl rfl rfl rfl rfl rfl rfl (K41_t K) (K41_17 K) ?_
  refine v_run 2 1 (pc' := 5) (ls' := [(1, 41), (0, a1), (0, a2), (0, a3)]) (st' := [(1, 41), (1, 54)]) rfl ?_
  refine v_getf (j := 3) (c := 24) (f := 16) rfl rfl rfl rfl rfl rfl rfl rfl (K41_t K) ?_
  refine v_run 4 1 (pc' := 9) (ls' := [(1, 41), (0, a1), (0, a2), (0, a3)]) (st' := [(0, a1), (0, (m 41 16)), (1, 54)]) rfl ?_
  obtain ⟨i1, i2, H⟩ := H
  refine v_ast (j := 5) (t := 1) rfl rfl rfl rfl rfl rfl (by decide) (by decide) (K54_t K) i1 (by rw [K54_l K]; exact i2) trivial (fun m3 e4 => ?_)
  have O5 : Ok m m3 := Ok.wa e4 (K54_t K) (by decide) i1
  have K6 := O5.2.1 K
  replace H := H m3 e4 O5
  refine v_run 6 1 (pc' := 11) (ls' := [(1, 41), (0, a1), (0, a2), (0, a3)]) (st' := [(1, 41)]) rfl ?_
  refine v_getK (j := 7) (c := 24) (f := 18) rfl rfl rfl rfl rfl rfl rfl rfl (K41_t K6) (K41_18 K6) ?_
  refine v_run 8 1 (pc' := 15) (ls' := [(1, 41), (0, a1), (0, a2), (0, a3)]) (st' := [(1, 41), (1, 55)]) rfl ?_
  refine v_getf (j := 9) (c := 24) (f := 16) rfl rfl rfl rfl rfl rfl rfl rfl (K41_t K6) ?_
  refine v_run 10 1 (pc' := 19) (ls' := [(1, 41), (0, a1), (0, a2), (0, a3)]) (st' := [(0, a2), (0, (m3 41 16)), (1, 55)]) rfl ?_
  obtain ⟨i7, i8, H⟩ := H
  refine v_ast (j := 11) (t := 1) rfl rfl rfl rfl rfl rfl (by decide) (by decide) (K55_t K6) i7 (by rw [K55_l K6]; exact i8) trivial (fun m9 e10 => ?_)
  have O11 : Ok m3 m9 := Ok.wa e10 (K55_t K6) (by decide) i7
  have K12 := O11.2.1 K6
  replace H := H m9 e10 O11
  refine v_run 12 1 (pc' := 21) (ls' := [(1, 41), (0, a1), (0, a2), (0, a3)]) (st' := [(1, 41)]) rfl ?_
  refine v_getK (j := 13) (c := 24) (f := 19) rfl rfl rfl rfl rfl rfl rfl rfl (K41_t K12) (K41_19 K12) ?_
  refine v_run 14 1 (pc' := 25) (ls' := [(1, 41), (0, a1), (0, a2), (0, a3)]) (st' := [(1, 41), (1, 56)]) rfl ?_
  refine v_getf (j := 15) (c := 24) (f := 16) rfl rfl rfl rfl rfl rfl rfl rfl (K41_t K12) ?_
  refine v_run 16 1 (pc' := 29) (ls' := [(1, 41), (0, a1), (0, a2), (0, a3)]) (st' := [(0, 0), (0, (m9 41 16)), (1, 56)]) rfl ?_
  obtain ⟨i13, i14, H⟩ := H
  refine v_ast (j := 17) (t := 1) rfl rfl rfl rfl rfl rfl (by decide) (by decide) (K56_t K12) i13 (by rw [K56_l K12]; exact i14) trivial (fun m15 e16 => ?_)
  have O17 : Ok m9 m15 := Ok.wa e16 (K56_t K12) (by decide) i13
  have K18 := O17.2.1 K12
  replace H := H m15 e16 O17
  refine v_run 18 1 (pc' := 31) (ls' := [(1, 41), (0, a1), (0, a2), (0, a3)]) (st' := [(1, 41)]) rfl ?_
  refine v_getf (j := 19) (c := 24) (f := 16) rfl rfl rfl rfl rfl rfl rfl rfl (K41_t K18) ?_
  refine v_run 20 1 (pc' := 35) (ls' := [(1, 41), (0, a1), (0, a2), (0, a3)]) (st' := [(1, 41), (0, (m15 41 16))]) rfl ?_
  refine v_getf (j := 21) (c := 24) (f := 20) rfl rfl rfl rfl rfl rfl rfl rfl (K41_t K18) ?_
  refine v_icmplt (j := 22) rfl rfl rfl (fun q => ?_) (fun q => ?_)
  · replace H := H.1 q
    refine v_run 48 2 (pc' := 87) (ls' := [(1, 41), (0, a1), (0, a2), (0, a3)]) (st' := [(1, 41), (1, 41)]) rfl ?_
    refine v_getf (j := 50) (c := 24) (f := 16) rfl rfl rfl rfl rfl rfl rfl rfl (K41_t K18) ?_
    refine v_run 51 2 (pc' := 92) (ls' := [(1, 41), (0, a1), (0, a2), (0, a3)]) (st' := [(0, (wr ((m15 41 16) + 1))), (1, 41)]) rfl ?_
    refine v_putf (j := 53) (c := 24) (f := 16) rfl rfl rfl rfl (by decide +kernel) rfl rfl rfl rfl (K41_t K18) trivial (fun m19 e20 => ?_)
    have O21 : Ok m15 m19 := Ok.wf e20 (K41_t K18) (by decide) (by decide)
    have K22 := O21.2.1 K18
    replace H := H m19 e20 O21
    refine v_run 54 1 (pc' := 96) (ls' := [(1, 41), (0, a1), (0, a2), (0, a3)]) (st' := [(1, 41)]) rfl ?_
    refine v_getf (j := 55) (c := 24) (f := 16) rfl rfl rfl rfl rfl rfl rfl rfl (K41_t K22) ?_
    refine v_run 56 2 (pc' := 101) (ls' := [(1, 41), (0, a1), (0, a2), (0, a3)]) (st' := [(0, (wr ((m19 41 16) - 1)))]) rfl ?_
    exact v_iret (j := 58) rfl rfl rfl trivial H
  · replace H := H.2 q
    refine v_run 23 1 (pc' := 42) (ls' := [(1, 41), (0, a1), (0, a2), (0, a3)]) (st' := [(1, 41)]) rfl ?_
    refine v_getf (j := 24) (c := 24) (f := 16) rfl rfl rfl rfl rfl rfl rfl rfl (K41_t K18) ?_
    refine v_run 25 1 (pc' := 46) (ls' := [(1, 41), (0, a1), (0, a2), (0, a3)]) (st' := [(1, 41), (0, (m15 41 16))]) rfl ?_
    refine v_getf (j := 26) (c := 24) (f := 20) rfl rfl rfl rfl rfl rfl rfl rfl (K41_t K18) ?_
    refine v_run 27 2 (pc' := 52) (ls' := [(1, 41), (0, a1), (0, a2), (0, a3)]) (st' := [(0, 82), (0, (wr ((m15 41 16) - (m15 41 20))))]) rfl ?_
    refine v_icmpge (j := 29) rfl rfl rfl (fun q => ?_) (fun q => ?_)
    · replace H := H.1 q
      refine v_run 48 2 (pc' := 87) (ls' := [(1, 41), (0, a1), (0, a2), (0, a3)]) (st' := [(1, 41), (1, 41)]) rfl ?_
      refine v_getf (j := 50) (c := 24) (f := 16) rfl rfl rfl rfl rfl rfl rfl rfl (K41_t K18) ?_
      refine v_run 51 2 (pc' := 92) (ls' := [(1, 41), (0, a1), (0, a2), (0, a3)]) (st' := [(0, (wr ((m15 41 16) + 1))), (1, 41)]) rfl ?_
      refine v_putf (j := 53) (c := 24) (f := 16) rfl rfl rfl rfl (by decide +kernel) rfl rfl rfl rfl (K41_t K18) trivial (fun m23 e24 => ?_)
      have O25 : Ok m15 m23 := Ok.wf e24 (K41_t K18) (by decide) (by decide)
      have K26 := O25.2.1 K18
      replace H := H m23 e24 O25
      refine v_run 54 1 (pc' := 96) (ls' := [(1, 41), (0, a1), (0, a2), (0, a3)]) (st' := [(1, 41)]) rfl ?_
      refine v_getf (j := 55) (c := 24) (f := 16) rfl rfl rfl rfl rfl rfl rfl rfl (K41_t K26) ?_
      refine v_run 56 2 (pc' := 101) (ls' := [(1, 41), (0, a1), (0, a2), (0, a3)]) (st' := [(0, (wr ((m23 41 16) - 1)))]) rfl ?_
      exact v_iret (j := 58) rfl rfl rfl trivial H
    · replace H := H.2 q
      refine v_run 30 1 (pc' := 56) (ls' := [(1, 41), (0, a1), (0, a2), (0, a3)]) (st' := [(1, 41)]) rfl ?_
      refine v_getK (j := 31) (c := 24) (f := 21) rfl rfl rfl rfl rfl rfl rfl rfl (K41_t K18) (K41_21 K18) ?_
      refine v_run 32 1 (pc' := 60) (ls' := [(1, 41), (0, a1), (0, a2), (0, a3)]) (st' := [(1, 41), (1, 57)]) rfl ?_
      refine v_getf (j := 33) (c := 24) (f := 16) rfl rfl rfl rfl rfl rfl rfl rfl (K41_t K18) ?_
      refine v_run 34 1 (pc' := 64) (ls' := [(1, 41), (0, a1), (0, a2), (0, a3)]) (st' := [(1, 41), (0, (m15 41 16)), (1, 57)]) rfl ?_
      refine v_getf (j := 35) (c := 24) (f := 20) rfl rfl rfl rfl rfl rfl rfl rfl (K41_t K18) ?_
      refine v_run 36 2 (pc' := 69) (ls' := [(1, 41), (0, a1), (0, a2), (0, a3)]) (st' := [(0, a3), (0, (wr ((m15 41 16) - (m15 41 20)))), (1, 57)]) rfl ?_
      obtain ⟨i27, i28, H⟩ := H
      refine v_ast (j := 38) (t := 1) rfl rfl rfl rfl rfl rfl (by decide) (by decide) (K57_t K18) i27 (by rw [K57_l K18]; exact i28) trivial (fun m29 e30 => ?_)
      have O31 : Ok m15 m29 := Ok.wa e30 (K57_t K18) (by decide) i27
      have K32 := O31.2.1 K18
      replace H := H m29 e30 O31
      refine v_run 39 1 (pc' := 71) (ls' := [(1, 41), (0, a1), (0, a2), (0, a3)]) (st' := [(1, 41)]) rfl ?_
      refine v_getK (j := 40) (c := 24) (f := 22) rfl rfl rfl rfl rfl rfl rfl rfl (K41_t K32) (K41_22 K32) ?_
      refine v_run 41 1 (pc' := 75) (ls' := [(1, 41), (0, a1), (0, a2), (0, a3)]) (st' := [(1, 41), (1, 58)]) rfl ?_
      refine v_getf (j := 42) (c := 24) (f := 16) rfl rfl rfl rfl rfl rfl rfl rfl (K41_t K32) ?_
      refine v_run 43 1 (pc' := 79) (ls' := [(1, 41), (0, a1), (0, a2), (0, a3)]) (st' := [(1, 41), (0, (m29 41 16)), (1, 58)]) rfl ?_
      refine v_getf (j := 44) (c := 24) (f := 20) rfl rfl rfl rfl rfl rfl rfl rfl (K41_t K32) ?_
      refine v_run 45 2 (pc' := 84) (ls' := [(1, 41), (0, a1), (0, a2), (0, a3)]) (st' := [(0, (-1)), (0, (wr ((m29 41 16) - (m29 41 20)))), (1, 58)]) rfl ?_
      obtain ⟨i33, i34, H⟩ := H
      refine v_ast (j := 47) (t := 1) rfl rfl rfl rfl rfl rfl (by decide) (by decide) (K58_t K32) i33 (by rw [K58_l K32]; exact i34) trivial (fun m35 e36 => ?_)
      have O37 : Ok m29 m35 := Ok.wa e36 (K58_t K32) (by decide) i33
      have K38 := O37.2.1 K32
      replace H := H m35 e36 O37
      refine v_run 48 2 (pc' := 87) (ls' := [(1, 41), (0, a1), (0, a2), (0, a3)]) (st' := [(1, 41), (1, 41)]) rfl ?_
      refine v_getf (j := 50) (c := 24) (f := 16) rfl rfl rfl rfl rfl rfl rfl rfl (K41_t K38) ?_
      refine v_run 51 2 (pc' := 92) (ls' := [(1, 41), (0, a1), (0, a2), (0, a3)]) (st' := [(0, (wr ((m35 41 16) + 1))), (1, 41)]) rfl ?_
      refine v_putf (j := 53) (c := 24) (f := 16) rfl rfl rfl rfl (by decide +kernel) rfl rfl rfl rfl (K41_t K38) trivial (fun m39 e40 => ?_)
      have O41 : Ok m35 m39 := Ok.wf e40 (K41_t K38) (by decide) (by decide)
      have K42 := O41.2.1 K38
      replace H := H m39 e40 O41
      refine v_run 54 1 (pc' := 96) (ls' := [(1, 41), (0, a1), (0, a2), (0, a3)]) (st' := [(1, 41)]) rfl ?_
      refine v_getf (j := 55) (c := 24) (f := 16) rfl rfl rfl rfl rfl rfl rfl rfl (K41_t K42) ?_
      refine v_run 56 2 (pc' := 101) (ls' := [(1, 41), (0, a1), (0, a2), (0, a3)]) (st' := [(0, (wr ((m39 41 16) - 1)))]) rfl ?_
      exact v_iret (j := 58) rfl rfl rfl trivial H

set_option maxRecDepth 100000 in
set_option maxHeartbeats 4000000 in
theorem wX10_below {G : GM} {d : Nat} {P : Nat → Int → SM → Prop} {m : SM} {a1 : Int} (K : KI m) (hd : 12 ≤ d) 
    (H : (0 ≤ a1) ∧ (a1 < 2720) ∧ ((((m 54 a1) < 5 ∨ 13 < (m 54 a1)) → (P 0 0 m)) ∧ ((m 54 a1) = 5 → ((0 ≤ a1) ∧ (a1 < 2720) ∧ (P 0 (m 56 a1) m))) ∧ ((m 54 a1) = 6 → (P 0 2 m)) ∧ ((m 54 a1) = 7 → (P 0 2 m)) ∧ ((m 54 a1) = 8 → ((0 ≤ a1) ∧ (a1 < 2720) ∧ (P 0 (wr (1 + (wr (2 * (m 56 a1))))) m))) ∧ ((m 54 a1) = 9 → (P 0 4 m)) ∧ ((m 54 a1) = 10 → (P 0 0 m)) ∧ ((m 54 a1) = 11 → (P 0 0 m)) ∧ ((m 54 a1) = 12 → (P 0 0 m)) ∧ ((m 54 a1) = 13 → ((0 ≤ a1) ∧ (a1 < 2720) ∧ (P 0 (m 56 a1) m))))) :
    WV G mX10_below 0 [(1, 41), (0, a1)] [] m d P := by
  refine v_run 0 1 (pc' := 1) (ls' := [(1, 41), (0, a1)]) (st' := [(1, 41)]) rfl ?_
  refine v_getK (j := 1) (c := 24) (f := 17) rfl rfl rfl rfl rfl rfl rfl rfl (K41_t K) (K41_17 K) ?_
  refine v_run 2 1 (pc' := 5) (ls' := [(1, 41), (0, a1)]) (st' := [(0, a1), (1, 54)]) rfl ?_
  obtain ⟨i1, i2, H⟩ := H
  refine v_ald (j := 3) (t := 1) rfl rfl rfl rfl rfl rfl (K54_t K) i1 (by rw [K54_l K]; exact i2) ?_
  refine v_tsw (j := 4) (tdf := 78) (tg := [56, 63, 63, 67, 65, 78, 78, 78, 56]) rfl rfl rfl rfl (fun q => ?_) (fun k n hk q => ?_)
  · replace H := H.1 q
    refine v_run 23 1 (pc' := 79) (ls' := [(1, 41), (0, a1)]) (st' := [(0, 0)]) rfl ?_
    exact v_iret (j := 24) rfl rfl rfl trivial H
  · replace H := H.2
    match k, hk, q with
    | 0, hk, q =>
      cases hk
      replace H := H.1 q
      refine v_run 5 1 (pc' := 57) (ls' := [(1, 41), (0, a1)]) (st' := [(1, 41)]) rfl ?_
      refine v_getK (j := 6) (c := 24) (f := 19) rfl rfl rfl rfl rfl rfl rfl rfl (K41_t K) (K41_19 K) ?_
      refine v_run 7 1 (pc' := 61) (ls' := [(1, 41), (0, a1)]) (st' := [(0, a1), (1, 56)]) rfl ?_
      obtain ⟨i3, i4, H⟩ := H
      refine v_ald (j := 8) (t := 1) rfl rfl rfl rfl rfl rfl (K56_t K) i3 (by rw [K56_l K]; exact i4) ?_
      exact v_iret (j := 9) rfl rfl rfl trivial H
    | 1, hk, q =>
      cases hk
      replace H := H.2.1 q
      refine v_run 10 1 (pc' := 64) (ls' := [(1, 41), (0, a1)]) (st' := [(0, 2)]) rfl ?_
      exact v_iret (j := 11) rfl rfl rfl trivial H
    | 2, hk, q =>
      cases hk
      replace H := H.2.2.1 q
      refine v_run 10 1 (pc' := 64) (ls' := [(1, 41), (0, a1)]) (st' := [(0, 2)]) rfl ?_
      exact v_iret (j := 11) rfl rfl rfl trivial H
    | 3, hk, q =>
      cases hk
      replace H := H.2.2.2.1 q
      refine v_run 14 3 (pc' := 70) (ls' := [(1, 41), (0, a1)]) (st' := [(1, 41), (0, 2), (0, 1)]) rfl ?_
      refine v_getK (j := 17) (c := 24) (f := 19) rfl rfl rfl rfl rfl rfl rfl rfl (K41_t K) (K41_19 K) ?_
      refine v_run 18 1 (pc' := 74) (ls' := [(1, 41), (0, a1)]) (st' := [(0, a1), (1, 56), (0, 2), (0, 1)]) rfl ?_
      obtain ⟨i5, i6, H⟩ := H
      refine v_ald (j := 19) (t := 1) rfl rfl rfl rfl rfl rfl (K56_t K) i5 (by rw [K56_l K]; exact i6) ?_
      refine v_run 20 2 (pc' := 77) (ls' := [(1, 41), (0, a1)]) (st' := [(0, (wr (1 + (wr (2 * (m 56 a1))))))]) rfl ?_
      exact v_iret (j := 22) rfl rfl rfl trivial H
    | 4, hk, q =>
      cases hk
      replace H := H.2.2.2.2.1 q
      refine v_run 12 1 (pc' := 66) (ls' := [(1, 41), (0, a1)]) (st' := [(0, 4)]) rfl ?_
      exact v_iret (j := 13) rfl rfl rfl trivial H
    | 5, hk, q =>
      cases hk
      replace H := H.2.2.2.2.2.1 q
      refine v_run 23 1 (pc' := 79) (ls' := [(1, 41), (0, a1)]) (st' := [(0, 0)]) rfl ?_
      exact v_iret (j := 24) rfl rfl rfl trivial H
    | 6, hk, q =>
      cases hk
      replace H := H.2.2.2.2.2.2.1 q
      refine v_run 23 1 (pc' := 79) (ls' := [(1, 41), (0, a1)]) (st' := [(0, 0)]) rfl ?_
      exact v_iret (j := 24) rfl rfl rfl trivial H
    | 7, hk, q =>
      cases hk
      replace H := H.2.2.2.2.2.2.2.1 q
      refine v_run 23 1 (pc' := 79) (ls' := [(1, 41), (0, a1)]) (st' := [(0, 0)]) rfl ?_
      exact v_iret (j := 24) rfl rfl rfl trivial H
    | 8, hk, q =>
      cases hk
      replace H := H.2.2.2.2.2.2.2.2 q
      refine v_run 5 1 (pc' := 57) (ls' := [(1, 41), (0, a1)]) (st' := [(1, 41)]) rfl ?_
      refine v_getK (j := 6) (c := 24) (f := 19) rfl rfl rfl rfl rfl rfl rfl rfl (K41_t K) (K41_19 K) ?_
      refine v_run 7 1 (pc' := 61) (ls' := [(1, 41), (0, a1)]) (st' := [(0, a1), (1, 56)]) rfl ?_
      obtain ⟨i7, i8, H⟩ := H
      refine v_ald (j := 8) (t := 1) rfl rfl rfl rfl rfl rfl (K56_t K) i7 (by rw [K56_l K]; exact i8) ?_
      exact v_iret (j := 9) rfl rfl rfl trivial H
    | k + 9, hk, q => exact absurd hk (by simp)

set_option maxRecDepth 100000 in
set_option maxHeartbeats 4000000 in
theorem wX10_behind {G : GM} {d : Nat} {P : Nat → Int → SM → Prop} {m : SM} {a1 : Int} (K : KI m) (hd : 12 ≤ d) 
    (H : WV G mX10_behind 4 [(1, 41), (9, 0), (0, 1), (0, a1)] [] m d P) :
    WV G mX10_behind 0 [(1, 41), (0, a1), (9, 0), (9, 0)] [] m d P := by
  refine v_run 0 4 (pc' := 4) (ls' := [(1, 41), (0, a1), (0, 1), (0, a1)]) (st' := []) rfl ?_
  refine v_drp [true, false, true, true] ?_
  exact H

set_option maxRecDepth 100000 in
set_option maxHeartbeats 4000000 in
theorem wX10_behind_4 {G : GM} {d : Nat} {P : Nat → Int → SM → Prop} {m : SM} {a2 a3 : Int} (K : KI m) (hd : 12 ≤ d) 
    (H : (a2 ≤ (0 : Int) → (P 0 a3 m)) ∧ ((0 : Int) < a2 → (WV G mX10_below 0 [(1, 41), (0, a3)] [] m (d - 1) (fun k v1 m2 => k = 0 ∧ Ok m m2 ∧ (WV G mX10_behind 4 [(1, 41), (9, 0), (0, (wr ((wr (a2 - 1)) + v1))), (0, (wr (a3 + 1)))] [] m2 d P))))) :
    WV G mX10_behind 4 [(1, 41), (9, 0), (0, a2), (0, a3)] [] m d P := by
  refine v_run 4 1 (pc' := 5) (ls' := [(1, 41), (9, 0), (0, a2), (0, a3)]) (st' := [(0, a2)]) rfl ?_
  refine v_ifle (j := 5) rfl rfl rfl (fun q => ?_) (fun q => ?_)
  · replace H := H.1 q
    refine v_run 16 1 (pc' := 25) (ls' := [(1, 41), (9, 0), (0, a2), (0, a3)]) (st' := [(0, a3)]) rfl ?_
    exact v_iret (j := 17) rfl rfl rfl trivial H
  · replace H := H.2 q
    refine v_run 6 5 (pc' := 13) (ls' := [(1, 41), (9, 0), (0, a2), (0, a3)]) (st' := [(0, a3), (1, 41), (0, (wr (a2 - 1)))]) rfl ?_
    refine v_callV (j := 11) (M' := mX10_below) (as := [(0, a3)]) (st := [(0, (wr (a2 - 1)))]) rfl rfl rfl rfl rfl (Nat.le_of_ble_eq_true rfl) (Nat.le_of_ble_eq_true rfl) (by omega) (by decide) (K41_t K) (kv0 (st' := fun v => [(0, v), (0, (wr (a2 - 1)))]) rfl (fun _ => rfl)) (H.mono (fun k v1 m2 H => ⟨H.1, ?_⟩))
    have K3 := H.2.1.2.1 K
    replace H := H.2.2
    refine v_run 12 3 (pc' := 21) (ls' := [(1, 41), (9, 0), (0, (wr ((wr (a2 - 1)) + v1))), (0, (wr (a3 + 1)))]) (st' := []) rfl ?_
    refine v_goto (j := 15) (tgt := 4) rfl rfl ?_
    exact H

set_option maxRecDepth 100000 in
set_option maxHeartbeats 4000000 in
theorem wX10_beginTerm {G : GM} {d : Nat} {P : Nat → Int → SM → Prop} {m : SM} {a1 a2 a3 : Int} (K : KI m) (hd : 12 ≤ d) 
    (H : (97 ≤ a1 ∧ a1 ≤ 122 → (WV G mX10_beginTerm 14 [(1, 41), (0, a1), (0, a2), (9, 0)] [] m d P)) ∧ (¬ (97 ≤ a1 ∧ a1 ≤ 122) → ((¬ (48 ≤ a1 ∧ a1 ≤ 57) → ((a1 = (35 : Int) → (WV G mX10_node 0 [(1, 41), (0, (if a1 ≠ (35 : Int) then 4 else 3)), (0, 0), (0, a2)] [] m (d - 1) (fun k v1 m2 => k = 0 ∧ Ok m m2 ∧ (P 0 1 m2)))) ∧ (a1 ≠ (35 : Int) → ((a1 ≠ (95 : Int) → ((¬ (65 ≤ a1 ∧ a1 ≤ 90) → (P 0 0 m)) ∧ (65 ≤ a1 ∧ a1 ≤ 90 → (WV G mX10_node 0 [(1, 41), (0, 5), (0, (wr (a1 - 65))), (0, a2)] [] m (d - 1) (fun k v5 m6 => k = 0 ∧ Ok m m6 ∧ (WV G mX10_push 0 [(1, 41), (0, 201), (0, v5), (0, a3)] [] m6 (d - 1) (fun k v8 m9 => k = 0 ∧ Ok m6 m9 ∧ (P 0 1 m9)))))))) ∧ (a1 = (95 : Int) → (((wr (a3 - wr (wr (a3.tdiv 2) * 2))) ≠ (1 : Int) → ((¬ (65 ≤ a1 ∧ a1 ≤ 90) → (P 0 0 m)) ∧ (65 ≤ a1 ∧ a1 ≤ 90 → (WV G mX10_node 0 [(1, 41), (0, 5), (0, (wr (a1 - 65))), (0, a2)] [] m (d - 1) (fun k v11 m12 => k = 0 ∧ Ok m m12 ∧ (WV G mX10_push 0 [(1, 41), (0, 201), (0, v11), (0, a3)] [] m12 (d - 1) (fun k v14 m15 => k = 0 ∧ Ok m12 m15 ∧ (P 0 1 m15)))))))) ∧ ((wr (a3 - wr (wr (a3.tdiv 2) * 2))) = (1 : Int) → (WV G mX10_node 0 [(1, 41), (0, (if a1 ≠ (35 : Int) then 4 else 3)), (0, 0), (0, a2)] [] m (d - 1) (fun k v17 m18 => k = 0 ∧ Ok m m18 ∧ (P 0 1 m18)))))))))) ∧ (48 ≤ a1 ∧ a1 ≤ 57 → (WV G mX10_beginTerm 14 [(1, 41), (0, a1), (0, a2), (9, 0)] [] m d P))))) :
    WV G mX10_beginTerm 0 [(1, 41), (0, a1), (0, a2), (0, a3)] [] m d P := by
  refine v_run 0 1 (pc' := 1) (ls' := [(1, 41), (0, a1), (0, a2), (0, a3)]) (st' := [(0, a1)]) rfl ?_
  refine v_callS (j := 1) (M' := mX10_isVariable) (as := [(0, a1)]) (st := []) rfl rfl rfl rfl rfl (Nat.le_of_ble_eq_true rfl) (Nat.le_of_ble_eq_true rfl) (by omega) (kv0 (st' := fun v => [(0, v)]) rfl (fun _ => rfl)) (ipX10_isVariable ⟨rfl, ?_⟩)
  refine v_ifne (j := 2) rfl rfl rfl (fun q => ?_) (fun q => ?_)
  · replace H := H.1 (ite1 q)
    refine v_drp [true, true, true, false] ?_
    exact H
  · replace H := H.2 (ite0 q)
    refine v_run 3 1 (pc' := 8) (ls' := [(1, 41), (0, a1), (0, a2), (0, a3)]) (st' := [(0, a1)]) rfl ?_
    refine v_callS (j := 4) (M' := mX10_isDigit) (as := [(0, a1)]) (st := []) rfl rfl rfl rfl rfl (Nat.le_of_ble_eq_true rfl) (Nat.le_of_ble_eq_true rfl) (by omega) (kv0 (st' := fun v => [(0, v)]) rfl (fun _ => rfl)) (ipX10_isDigit ⟨rfl, ?_⟩)
    refine v_ifeq (j := 5) rfl rfl rfl (fun q => ?_) (fun q => ?_)
    · replace H := H.1 (ite0 q)
      refine v_run 28 2 (pc' := 55) (ls' := [(1, 41), (0, a1), (0, a2), (0, a3)]) (st' := [(0, 35), (0, a1)]) rfl ?_
      refine v_icmpeq (j := 30) rfl rfl rfl (fun q => ?_) (fun q => ?_)
      · replace H := H.1 q
        refine v_run 39 3 (pc' := 75) (ls' := [(1, 41), (0, a1), (0, a2), (0, a3)]) (st' := [(0, 35), (0, a1), (1, 41)]) rfl ?_
        have J4 : WV G mX10_beginTerm 83 [(1, 41), (0, a1), (0, a2), (0, a3)] [(0, (if a1 ≠ (35 : Int) then 4 else 3)), (1, 41)] m d P := by
          refine v_run 46 2 (pc' := 85) (ls' := [(1, 41), (0, a1), (0, a2), (0, a3)]) (st' := [(0, a2), (0, 0), (0, (if a1 ≠ (35 : Int) then 4 else 3)), (1, 41)]) rfl ?_
          refine v_callV (j := 48) (M' := mX10_node) (as := [(0, (if a1 ≠ (35 : Int) then 4 else 3)), (0, 0), (0, a2)]) (st := []) rfl rfl rfl rfl rfl (Nat.le_of_ble_eq_true rfl) (Nat.le_of_ble_eq_true rfl) (by omega) (by decide) (K41_t K) (kv0 (st' := fun v => [(0, v)]) rfl (fun _ => rfl)) (H.mono (fun k v1 m2 H => ⟨H.1, ?_⟩))
          have K3 := H.2.1.2.1 K
          replace H := H.2.2
          refine v_run 49 2 (pc' := 90) (ls' := [(1, 41), (0, a1), (0, a2), (0, a3)]) (st' := [(0, 1)]) rfl ?_
          exact v_iret (j := 51) rfl rfl rfl (Or.inr rfl) H
        refine v_icmpne (j := 42) rfl rfl rfl (fun q => ?_) (fun q => ?_)
        · rw [if_pos q] at J4
          refine v_run 45 1 (pc' := 83) (ls' := [(1, 41), (0, a1), (0, a2), (0, a3)]) (st' := [(0, 4), (1, 41)]) rfl ?_
          exact J4
        · rw [if_neg (fun z => z q)] at J4
          refine v_run 43 1 (pc' := 79) (ls' := [(1, 41), (0, a1), (0, a2), (0, a3)]) (st' := [(0, 3), (1, 41)]) rfl ?_
          refine v_goto (j := 44) (tgt := 83) rfl rfl ?_
          exact J4
      · replace H := H.2 q
        refine v_run 31 2 (pc' := 61) (ls' := [(1, 41), (0, a1), (0, a2), (0, a3)]) (st' := [(0, 95), (0, a1)]) rfl ?_
        refine v_icmpne (j := 33) rfl rfl rfl (fun q => ?_) (fun q => ?_)
        · replace H := H.1 q
          refine v_run 52 1 (pc' := 92) (ls' := [(1, 41), (0, a1), (0, a2), (0, a3)]) (st' := [(0, a1)]) rfl ?_
          refine v_callS (j := 53) (M' := mX10_isLetter) (as := [(0, a1)]) (st := []) rfl rfl rfl rfl rfl (Nat.le_of_ble_eq_true rfl) (Nat.le_of_ble_eq_true rfl) (by omega) (kv0 (st' := fun v => [(0, v)]) rfl (fun _ => rfl)) (ipX10_isLetter ⟨rfl, ?_⟩)
          refine v_ifeq (j := 54) rfl rfl rfl (fun q => ?_) (fun q => ?_)
          · replace H := H.1 (ite0 q)
            refine v_run 68 1 (pc' := 119) (ls' := [(1, 41), (0, a1), (0, a2), (0, a3)]) (st' := [(0, 0)]) rfl ?_
            exact v_iret (j := 69) rfl rfl rfl (Or.inl rfl) H
          · replace H := H.2 (ite1 q)
            refine v_run 55 8 (pc' := 109) (ls' := [(1, 41), (0, a1), (0, a2), (0, a3)]) (st' := [(0, a2), (0, (wr (a1 - 65))), (0, 5), (1, 41), (0, 201), (1, 41)]) rfl ?_
            refine v_callV (j := 63) (M' := mX10_node) (as := [(0, 5), (0, (wr (a1 - 65))), (0, a2)]) (st := [(0, 201), (1, 41)]) rfl rfl rfl rfl rfl (Nat.le_of_ble_eq_true rfl) (Nat.le_of_ble_eq_true rfl) (by omega) (by decide) (K41_t K) (kv0 (st' := fun v => [(0, v), (0, 201), (1, 41)]) rfl (fun _ => rfl)) (H.mono (fun k v5 m6 H => ⟨H.1, ?_⟩))
            have K7 := H.2.1.2.1 K
            replace H := H.2.2
            refine v_run 64 1 (pc' := 113) (ls' := [(1, 41), (0, a1), (0, a2), (0, a3)]) (st' := [(0, a3), (0, v5), (0, 201), (1, 41)]) rfl ?_
            refine v_callV (j := 65) (M' := mX10_push) (as := [(0, 201), (0, v5), (0, a3)]) (st := []) rfl rfl rfl rfl rfl (Nat.le_of_ble_eq_true rfl) (Nat.le_of_ble_eq_true rfl) (by omega) (by decide) (K41_t K7) (kv0 (st' := fun v => []) rfl (fun _ => rfl)) (H.mono (fun k v8 m9 H => ⟨H.1, ?_⟩))
            have K10 := H.2.1.2.1 K7
            replace H := H.2.2
            refine v_run 66 1 (pc' := 117) (ls' := [(1, 41), (0, a1), (0, a2), (0, a3)]) (st' := [(0, 1)]) rfl ?_
            exact v_iret (j := 67) rfl rfl rfl (Or.inr rfl) H
        · replace H := H.2 q
          refine v_run 34 2 (pc' := 66) (ls' := [(1, 41), (0, a1), (0, a2), (0, a3)]) (st' := [(0, 2), (0, a3)]) rfl ?_
          refine v_irem (j := 36) rfl rfl (by decide) ?_
          refine v_run 37 1 (pc' := 68) (ls' := [(1, 41), (0, a1), (0, a2), (0, a3)]) (st' := [(0, 1), (0, (wr (a3 - wr (wr (a3.tdiv 2) * 2))))]) rfl ?_
          refine v_icmpne (j := 38) rfl rfl rfl (fun q => ?_) (fun q => ?_)
          · replace H := H.1 q
            refine v_run 52 1 (pc' := 92) (ls' := [(1, 41), (0, a1), (0, a2), (0, a3)]) (st' := [(0, a1)]) rfl ?_
            refine v_callS (j := 53) (M' := mX10_isLetter) (as := [(0, a1)]) (st := []) rfl rfl rfl rfl rfl (Nat.le_of_ble_eq_true rfl) (Nat.le_of_ble_eq_true rfl) (by omega) (kv0 (st' := fun v => [(0, v)]) rfl (fun _ => rfl)) (ipX10_isLetter ⟨rfl, ?_⟩)
            refine v_ifeq (j := 54) rfl rfl rfl (fun q => ?_) (fun q => ?_)
            · replace H := H.1 (ite0 q)
              refine v_run 68 1 (pc' := 119) (ls' := [(1, 41), (0, a1), (0, a2), (0, a3)]) (st' := [(0, 0)]) rfl ?_
              exact v_iret (j := 69) rfl rfl rfl (Or.inl rfl) H
            · replace H := H.2 (ite1 q)
              refine v_run 55 8 (pc' := 109) (ls' := [(1, 41), (0, a1), (0, a2), (0, a3)]) (st' := [(0, a2), (0, (wr (a1 - 65))), (0, 5), (1, 41), (0, 201), (1, 41)]) rfl ?_
              refine v_callV (j := 63) (M' := mX10_node) (as := [(0, 5), (0, (wr (a1 - 65))), (0, a2)]) (st := [(0, 201), (1, 41)]) rfl rfl rfl rfl rfl (Nat.le_of_ble_eq_true rfl) (Nat.le_of_ble_eq_true rfl) (by omega) (by decide) (K41_t K) (kv0 (st' := fun v => [(0, v), (0, 201), (1, 41)]) rfl (fun _ => rfl)) (H.mono (fun k v11 m12 H => ⟨H.1, ?_⟩))
              have K13 := H.2.1.2.1 K
              replace H := H.2.2
              refine v_run 64 1 (pc' := 113) (ls' := [(1, 41), (0, a1), (0, a2), (0, a3)]) (st' := [(0, a3), (0, v11), (0, 201), (1, 41)]) rfl ?_
              refine v_callV (j := 65) (M' := mX10_push) (as := [(0, 201), (0, v11), (0, a3)]) (st := []) rfl rfl rfl rfl rfl (Nat.le_of_ble_eq_true rfl) (Nat.le_of_ble_eq_true rfl) (by omega) (by decide) (K41_t K13) (kv0 (st' := fun v => []) rfl (fun _ => rfl)) (H.mono (fun k v14 m15 H => ⟨H.1, ?_⟩))
              have K16 := H.2.1.2.1 K13
              replace H := H.2.2
              refine v_run 66 1 (pc' := 117) (ls' := [(1, 41), (0, a1), (0, a2), (0, a3)]) (st' := [(0, 1)]) rfl ?_
              exact v_iret (j := 67) rfl rfl rfl (Or.inr rfl) H
          · replace H := H.2 q
            refine v_run 39 3 (pc' := 75) (ls' := [(1, 41), (0, a1), (0, a2), (0, a3)]) (st' := [(0, 35), (0, a1), (1, 41)]) rfl ?_
            have J20 : WV G mX10_beginTerm 83 [(1, 41), (0, a1), (0, a2), (0, a3)] [(0, (if a1 ≠ (35 : Int) then 4 else 3)), (1, 41)] m d P := by
              refine v_run 46 2 (pc' := 85) (ls' := [(1, 41), (0, a1), (0, a2), (0, a3)]) (st' := [(0, a2), (0, 0), (0, (if a1 ≠ (35 : Int) then 4 else 3)), (1, 41)]) rfl ?_
              refine v_callV (j := 48) (M' := mX10_node) (as := [(0, (if a1 ≠ (35 : Int) then 4 else 3)), (0, 0), (0, a2)]) (st := []) rfl rfl rfl rfl rfl (Nat.le_of_ble_eq_true rfl) (Nat.le_of_ble_eq_true rfl) (by omega) (by decide) (K41_t K) (kv0 (st' := fun v => [(0, v)]) rfl (fun _ => rfl)) (H.mono (fun k v17 m18 H => ⟨H.1, ?_⟩))
              have K19 := H.2.1.2.1 K
              replace H := H.2.2
              refine v_run 49 2 (pc' := 90) (ls' := [(1, 41), (0, a1), (0, a2), (0, a3)]) (st' := [(0, 1)]) rfl ?_
              exact v_iret (j := 51) rfl rfl rfl (Or.inr rfl) H
            refine v_icmpne (j := 42) rfl rfl rfl (fun q => ?_) (fun q => ?_)
            · rw [if_pos q] at J20
              refine v_run 45 1 (pc' := 83) (ls' := [(1, 41), (0, a1), (0, a2), (0, a3)]) (st' := [(0, 4), (1, 41)]) rfl ?_
              exact J20
            · rw [if_neg (fun z => z q)] at J20
              refine v_run 43 1 (pc' := 79) (ls' := [(1, 41), (0, a1), (0, a2), (0, a3)]) (st' := [(0, 3), (1, 41)]) rfl ?_
              refine v_goto (j := 44) (tgt := 83) rfl rfl ?_
              exact J20
    · replace H := H.2 (ite1 q)
      refine v_drp [true, true, true, false] ?_
      exact H

set_option maxRecDepth 100000 in
set_option maxHeartbeats 4000000 in
theorem wX10_beginTerm_14 {G : GM} {d : Nat} {P : Nat → Int → SM → Prop} {m : SM} {a1 a2 : Int} (K : KI m) (hd : 12 ≤ d) 
    (H : WV G mX10_node 0 [(1, 41), (0, (if 97 ≤ a1 ∧ a1 ≤ 122 then 1 else 2)), (0, (if 97 ≤ a1 ∧ a1 ≤ 122 then (wr (a1 - 97)) else (wr (a1 - 48)))), (0, a2)] [] m (d - 1) (fun k v1 m2 => k = 0 ∧ Ok m m2 ∧ (P 0 1 m2))) :
    WV G mX10_beginTerm 14 [(1, 41), (0, a1), (0, a2), (9, 0)] [] m d P := by
  refine v_run 6 2 (pc' := 16) (ls' := [(1, 41), (0, a1), (0, a2), (9, 0)]) (st' := [(0, a1), (1, 41)]) rfl ?_
  refine v_callS (j := 8) (M' := mX10_isVariable) (as := [(0, a1)]) (st := [(1, 41)]) rfl rfl rfl rfl rfl (Nat.le_of_ble_eq_true rfl) (Nat.le_of_ble_eq_true rfl) (by omega) (kv0 (st' := fun v => [(0, v), (1, 41)]) rfl (fun _ => rfl)) (ipX10_isVariable ⟨rfl, ?_⟩)
  have J5 : WV G mX10_beginTerm 27 [(1, 41), (0, a1), (0, a2), (9, 0)] [(0, (if 97 ≤ a1 ∧ a1 ≤ 122 then 1 else 2)), (1, 41)] m d P := by
    refine v_run 13 1 (pc' := 28) (ls' := [(1, 41), (0, a1), (0, a2), (9, 0)]) (st' := [(0, a1), (0, (if 97 ≤ a1 ∧ a1 ≤ 122 then 1 else 2)), (1, 41)]) rfl ?_
    refine v_callS (j := 14) (M' := mX10_isVariable) (as := [(0, a1)]) (st := [(0, (if 97 ≤ a1 ∧ a1 ≤ 122 then 1 else 2)), (1, 41)]) rfl rfl rfl rfl rfl (Nat.le_of_ble_eq_true rfl) (Nat.le_of_ble_eq_true rfl) (by omega) (kv0 (st' := fun v => [(0, v), (0, (if 97 ≤ a1 ∧ a1 ≤ 122 then 1 else 2)), (1, 41)]) rfl (fun _ => rfl)) (ipX10_isVariable ⟨rfl, ?_⟩)
    have J4 : WV G mX10_beginTerm 45 [(1, 41), (0, a1), (0, a2), (9, 0)] [(0, (if 97 ≤ a1 ∧ a1 ≤ 122 then (wr (a1 - 97)) else (wr (a1 - 48)))), (0, (if 97 ≤ a1 ∧ a1 ≤ 122 then 1 else 2)), (1, 41)] m d P := by
      refine v_run 23 1 (pc' := 46) (ls' := [(1, 41), (0, a1), (0, a2), (9, 0)]) (st' := [(0, a2), (0, (if 97 ≤ a1 ∧ a1 ≤ 122 then (wr (a1 - 97)) else (wr (a1 - 48)))), (0, (if 97 ≤ a1 ∧ a1 ≤ 122 then 1 else 2)), (1, 41)]) rfl ?_
      refine v_callV (j := 24) (M' := mX10_node) (as := [(0, (if 97 ≤ a1 ∧ a1 ≤ 122 then 1 else 2)), (0, (if 97 ≤ a1 ∧ a1 ≤ 122 then (wr (a1 - 97)) else (wr (a1 - 48)))), (0, a2)]) (st := []) rfl rfl rfl rfl rfl (Nat.le_of_ble_eq_true rfl) (Nat.le_of_ble_eq_true rfl) (by omega) (by decide) (K41_t K) (kv0 (st' := fun v => [(0, v)]) rfl (fun _ => rfl)) (H.mono (fun k v1 m2 H => ⟨H.1, ?_⟩))
      have K3 := H.2.1.2.1 K
      replace H := H.2.2
      refine v_run 25 2 (pc' := 51) (ls' := [(1, 41), (0, a1), (0, a2), (9, 0)]) (st' := [(0, 1)]) rfl ?_
      exact v_iret (j := 27) rfl rfl rfl (Or.inr rfl) H
    refine v_ifeq (j := 15) rfl rfl rfl (fun q => ?_) (fun q => ?_)
    · rw [if_neg (ite0 q)] at J4
      refine v_run 20 3 (pc' := 45) (ls' := [(1, 41), (0, a1), (0, a2), (9, 0)]) (st' := [(0, (wr (a1 - 48))), (0, (if 97 ≤ a1 ∧ a1 ≤ 122 then 1 else 2)), (1, 41)]) rfl ?_
      exact J4
    · rw [if_pos (ite1 q)] at J4
      refine v_run 16 3 (pc' := 38) (ls' := [(1, 41), (0, a1), (0, a2), (9, 0)]) (st' := [(0, (wr (a1 - 97))), (0, (if 97 ≤ a1 ∧ a1 ≤ 122 then 1 else 2)), (1, 41)]) rfl ?_
      refine v_goto (j := 19) (tgt := 45) rfl rfl ?_
      exact J4
  refine v_ifeq (j := 9) rfl rfl rfl (fun q => ?_) (fun q => ?_)
  · rw [if_neg (ite0 q)] at J5
    refine v_run 12 1 (pc' := 27) (ls' := [(1, 41), (0, a1), (0, a2), (9, 0)]) (st' := [(0, 2), (1, 41)]) rfl ?_
    exact J5
  · rw [if_pos (ite1 q)] at J5
    refine v_run 10 1 (pc' := 23) (ls' := [(1, 41), (0, a1), (0, a2), (9, 0)]) (st' := [(0, 1), (1, 41)]) rfl ?_
    refine v_goto (j := 11) (tgt := 27) rfl rfl ?_
    exact J5

set_option maxRecDepth 100000 in
set_option maxHeartbeats 4000000 in
theorem wX10_beginCode {G : GM} {d : Nat} {P : Nat → Int → SM → Prop} {m : SM} {a1 a2 a3 : Int} (K : KI m) (hd : 12 ≤ d) 
    (H : (97 ≤ a1 ∧ a1 ≤ 122 → (WV G mX10_beginCode 20 [(1, 41), (0, a1), (0, a2), (9, 0), (9, 0)] [] m d P)) ∧ (¬ (97 ≤ a1 ∧ a1 ≤ 122) → ((48 ≤ a1 ∧ a1 ≤ 57 → (WV G mX10_beginCode 20 [(1, 41), (0, a1), (0, a2), (9, 0), (9, 0)] [] m d P)) ∧ (¬ (48 ≤ a1 ∧ a1 ≤ 57) → ((a1 ≠ (126 : Int) → ((¬ (65 ≤ a1 ∧ a1 ≤ 90) → ((a3 ≠ (12 : Int) → ((a1 = (43 : Int) → (WV G mX10_node 0 [(1, 41), (0, (if a1 ≠ (43 : Int) then 7 else 6)), (0, 0), (0, a2)] [] m (d - 1) (fun k v1 m2 => k = 0 ∧ Ok m m2 ∧ (WV G mX10_push 0 [(1, 41), (0, 210), (0, (wr (a3 + 1))), (0, 0)] [] m2 (d - 1) (fun k v4 m5 => k = 0 ∧ Ok m2 m5 ∧ (WV G mX10_push 0 [(1, 41), (0, 210), (0, (wr (a3 + 1))), (0, 0)] [] m5 (d - 1) (fun k v7 m8 => k = 0 ∧ Ok m5 m8 ∧ (P 0 1 m8)))))))) ∧ (a1 ≠ (43 : Int) → ((a1 ≠ (45 : Int) → ((a1 ≠ (123 : Int) → ((a1 = (91 : Int) → (WV G mX10_node 0 [(1, 41), (0, 9), (0, 0), (0, a2)] [] m (d - 1) (fun k v11 m12 => k = 0 ∧ Ok m m12 ∧ (WV G mX10_push 0 [(1, 41), (0, 93), (0, 0), (0, 0)] [] m12 (d - 1) (fun k v14 m15 => k = 0 ∧ Ok m12 m15 ∧ (WV G mX10_push 0 [(1, 41), (0, 210), (0, (wr (a3 + 1))), (0, 0)] [] m15 (d - 1) (fun k v17 m18 => k = 0 ∧ Ok m15 m18 ∧ (WV G mX10_push 0 [(1, 41), (0, 58), (0, 0), (0, 0)] [] m18 (d - 1) (fun k v20 m21 => k = 0 ∧ Ok m18 m21 ∧ (WV G mX10_push 0 [(1, 41), (0, 210), (0, (wr (a3 + 1))), (0, 0)] [] m21 (d - 1) (fun k v23 m24 => k = 0 ∧ Ok m21 m24 ∧ (WV G mX10_push 0 [(1, 41), (0, 63), (0, 0), (0, 0)] [] m24 (d - 1) (fun k v26 m27 => k = 0 ∧ Ok m24 m27 ∧ (WV G mX10_push 0 [(1, 41), (0, 210), (0, (wr (a3 + 1))), (0, 0)] [] m27 (d - 1) (fun k v29 m30 => k = 0 ∧ Ok m27 m30 ∧ (WV G mX10_push 0 [(1, 41), (0, 217), (0, v11), (0, 0)] [] m30 (d - 1) (fun k v32 m33 => k = 0 ∧ Ok m30 m33 ∧ (WV G mX10_push 0 [(1, 41), (0, 210), (0, (wr (a3 + 1))), (0, 0)] [] m33 (d - 1) (fun k v35 m36 => k = 0 ∧ Ok m33 m36 ∧ (P 0 1 m36)))))))))))))))))))) ∧ (a1 ≠ (91 : Int) → (P 0 0 m)))) ∧ (a1 = (123 : Int) → (WV G mX10_node 0 [(1, 41), (0, 8), (0, 0), (0, a2)] [] m (d - 1) (fun k v38 m39 => k = 0 ∧ Ok m m39 ∧ (WV G mX10_push 0 [(1, 41), (0, 213), (0, v38), (0, a3)] [] m39 (d - 1) (fun k v41 m42 => k = 0 ∧ Ok m39 m42 ∧ (WV G mX10_push 0 [(1, 41), (0, 210), (0, (wr (a3 + 1))), (0, 0)] [] m42 (d - 1) (fun k v44 m45 => k = 0 ∧ Ok m42 m45 ∧ (P 0 1 m45)))))))))) ∧ (a1 = (45 : Int) → (WV G mX10_node 0 [(1, 41), (0, (if a1 ≠ (43 : Int) then 7 else 6)), (0, 0), (0, a2)] [] m (d - 1) (fun k v47 m48 => k = 0 ∧ Ok m m48 ∧ (WV G mX10_push 0 [(1, 41), (0, 210), (0, (wr (a3 + 1))), (0, 0)] [] m48 (d - 1) (fun k v50 m51 => k = 0 ∧ Ok m48 m51 ∧ (WV G mX10_push 0 [(1, 41), (0, 210), (0, (wr (a3 + 1))), (0, 0)] [] m51 (d - 1) (fun k v53 m54 => k = 0 ∧ Ok m51 m54 ∧ (P 0 1 m54)))))))))))) ∧ (a3 = (12 : Int) → (P 0 0 m)))) ∧ (65 ≤ a1 ∧ a1 ≤ 90 → (WV G mX10_node 0 [(1, 41), (0, 5), (0, (wr (a1 - 65))), (0, a2)] [] m (d - 1) (fun k v57 m58 => k = 0 ∧ Ok m m58 ∧ (WV G mX10_push 0 [(1, 41), (0, 211), (0, v57), (0, a3)] [] m58 (d - 1) (fun k v60 m61 => k = 0 ∧ Ok m58 m61 ∧ (P 0 1 m61)))))))) ∧ (a1 = (126 : Int) → (WV G mX10_beginCode 20 [(1, 41), (0, a1), (0, a2), (9, 0), (9, 0)] [] m d P))))))) :
    WV G mX10_beginCode 0 [(1, 41), (0, a1), (0, a2), (0, a3), (9, 0)] [] m d P := by
  refine v_run 0 1 (pc' := 1) (ls' := [(1, 41), (0, a1), (0, a2), (0, a3), (9, 0)]) (st' := [(0, a1)]) rfl ?_
  refine v_callS (j := 1) (M' := mX10_isVariable) (as := [(0, a1)]) (st := []) rfl rfl rfl rfl rfl (Nat.le_of_ble_eq_true rfl) (Nat.le_of_ble_eq_true rfl) (by omega) (kv0 (st' := fun v => [(0, v)]) rfl (fun _ => rfl)) (ipX10_isVariable ⟨rfl, ?_⟩)
  refine v_ifne (j := 2) rfl rfl rfl (fun q => ?_) (fun q => ?_)
  · replace H := H.1 (ite1 q)
    refine v_drp [true, true, true, false, false] ?_
    exact H
  · replace H := H.2 (ite0 q)
    refine v_run 3 1 (pc' := 8) (ls' := [(1, 41), (0, a1), (0, a2), (0, a3), (9, 0)]) (st' := [(0, a1)]) rfl ?_
    refine v_callS (j := 4) (M' := mX10_isDigit) (as := [(0, a1)]) (st := []) rfl rfl rfl rfl rfl (Nat.le_of_ble_eq_true rfl) (Nat.le_of_ble_eq_true rfl) (by omega) (kv0 (st' := fun v => [(0, v)]) rfl (fun _ => rfl)) (ipX10_isDigit ⟨rfl, ?_⟩)
    refine v_ifne (j := 5) rfl rfl rfl (fun q => ?_) (fun q => ?_)
    · replace H := H.1 (ite1 q)
      refine v_drp [true, true, true, false, false] ?_
      exact H
    · replace H := H.2 (ite0 q)
      refine v_run 6 2 (pc' := 17) (ls' := [(1, 41), (0, a1), (0, a2), (0, a3), (9, 0)]) (st' := [(0, 126), (0, a1)]) rfl ?_
      refine v_icmpne (j := 8) rfl rfl rfl (fun q => ?_) (fun q => ?_)
      · replace H := H.1 q
        refine v_run 36 1 (pc' := 70) (ls' := [(1, 41), (0, a1), (0, a2), (0, a3), (9, 0)]) (st' := [(0, a1)]) rfl ?_
        refine v_callS (j := 37) (M' := mX10_isLetter) (as := [(0, a1)]) (st := []) rfl rfl rfl rfl rfl (Nat.le_of_ble_eq_true rfl) (Nat.le_of_ble_eq_true rfl) (by omega) (kv0 (st' := fun v => [(0, v)]) rfl (fun _ => rfl)) (ipX10_isLetter ⟨rfl, ?_⟩)
        refine v_ifeq (j := 38) rfl rfl rfl (fun q => ?_) (fun q => ?_)
        · replace H := H.1 (ite0 q)
          refine v_run 52 2 (pc' := 99) (ls' := [(1, 41), (0, a1), (0, a2), (0, a3), (9, 0)]) (st' := [(0, 12), (0, a3)]) rfl ?_
          refine v_icmpne (j := 54) rfl rfl rfl (fun q => ?_) (fun q => ?_)
          · replace H := H.1 q
            refine v_run 57 2 (pc' := 107) (ls' := [(1, 41), (0, a1), (0, a2), (0, a3), (9, 0)]) (st' := [(0, 43), (0, a1)]) rfl ?_
            refine v_icmpeq (j := 59) rfl rfl rfl (fun q => ?_) (fun q => ?_)
            · replace H := H.1 q
              refine v_run 63 3 (pc' := 120) (ls' := [(1, 41), (0, a1), (0, a2), (0, a3), (9, 0)]) (st' := [(0, 43), (0, a1), (1, 41)]) rfl ?_
              have J10 : WV G mX10_beginCode 130 [(1, 41), (0, a1), (0, a2), (0, a3), (9, 0)] [(0, (if a1 ≠ (43 : Int) then 7 else 6)), (1, 41)] m d P := by
                refine v_run 70 2 (pc' := 132) (ls' := [(1, 41), (0, a1), (0, a2), (0, a3), (9, 0)]) (st' := [(0, a2), (0, 0), (0, (if a1 ≠ (43 : Int) then 7 else 6)), (1, 41)]) rfl ?_
                refine v_callV (j := 72) (M' := mX10_node) (as := [(0, (if a1 ≠ (43 : Int) then 7 else 6)), (0, 0), (0, a2)]) (st := []) rfl rfl rfl rfl rfl (Nat.le_of_ble_eq_true rfl) (Nat.le_of_ble_eq_true rfl) (by omega) (by decide) (K41_t K) (kv0 (st' := fun v => [(0, v)]) rfl (fun _ => rfl)) (H.mono (fun k v1 m2 H => ⟨H.1, ?_⟩))
                have K3 := H.2.1.2.1 K
                replace H := H.2.2
                refine v_run 73 7 (pc' := 144) (ls' := [(1, 41), (0, a1), (0, a2), (0, a3), (9, 0)]) (st' := [(0, 0), (0, (wr (a3 + 1))), (0, 210), (1, 41)]) rfl ?_
                refine v_callV (j := 80) (M' := mX10_push) (as := [(0, 210), (0, (wr (a3 + 1))), (0, 0)]) (st := []) rfl rfl rfl rfl rfl (Nat.le_of_ble_eq_true rfl) (Nat.le_of_ble_eq_true rfl) (by omega) (by decide) (K41_t K3) (kv0 (st' := fun v => []) rfl (fun _ => rfl)) (H.mono (fun k v4 m5 H => ⟨H.1, ?_⟩))
                have K6 := H.2.1.2.1 K3
                replace H := H.2.2
                refine v_run 81 6 (pc' := 155) (ls' := [(1, 41), (0, a1), (0, a2), (0, a3), (9, 0)]) (st' := [(0, 0), (0, (wr (a3 + 1))), (0, 210), (1, 41)]) rfl ?_
                refine v_callV (j := 87) (M' := mX10_push) (as := [(0, 210), (0, (wr (a3 + 1))), (0, 0)]) (st := []) rfl rfl rfl rfl rfl (Nat.le_of_ble_eq_true rfl) (Nat.le_of_ble_eq_true rfl) (by omega) (by decide) (K41_t K6) (kv0 (st' := fun v => []) rfl (fun _ => rfl)) (H.mono (fun k v7 m8 H => ⟨H.1, ?_⟩))
                have K9 := H.2.1.2.1 K6
                replace H := H.2.2
                refine v_run 88 1 (pc' := 159) (ls' := [(1, 41), (0, a1), (0, a2), (0, a3), (9, 0)]) (st' := [(0, 1)]) rfl ?_
                exact v_iret (j := 89) rfl rfl rfl (Or.inr rfl) H
              refine v_icmpne (j := 66) rfl rfl rfl (fun q => ?_) (fun q => ?_)
              · rw [if_pos q] at J10
                refine v_run 69 1 (pc' := 130) (ls' := [(1, 41), (0, a1), (0, a2), (0, a3), (9, 0)]) (st' := [(0, 7), (1, 41)]) rfl ?_
                exact J10
              · rw [if_neg (fun z => z q)] at J10
                refine v_run 67 1 (pc' := 125) (ls' := [(1, 41), (0, a1), (0, a2), (0, a3), (9, 0)]) (st' := [(0, 6), (1, 41)]) rfl ?_
                refine v_goto (j := 68) (tgt := 130) rfl rfl ?_
                exact J10
            · replace H := H.2 q
              refine v_run 60 2 (pc' := 113) (ls' := [(1, 41), (0, a1), (0, a2), (0, a3), (9, 0)]) (st' := [(0, 45), (0, a1)]) rfl ?_
              refine v_icmpne (j := 62) rfl rfl rfl (fun q => ?_) (fun q => ?_)
              · replace H := H.1 q
                refine v_run 90 2 (pc' := 163) (ls' := [(1, 41), (0, a1), (0, a2), (0, a3), (9, 0)]) (st' := [(0, 123), (0, a1)]) rfl ?_
                refine v_icmpne (j := 92) rfl rfl rfl (fun q => ?_) (fun q => ?_)
                · replace H := H.1 q
                  refine v_run 111 2 (pc' := 198) (ls' := [(1, 41), (0, a1), (0, a2), (0, a3), (9, 0)]) (st' := [(0, 91), (0, a1)]) rfl ?_
                  refine v_icmpeq (j := 113) rfl rfl rfl (fun q => ?_) (fun q => ?_)
                  · replace H := H.1 q
                    refine v_run 116 4 (pc' := 208) (ls' := [(1, 41), (0, a1), (0, a2), (0, a3), (9, 0)]) (st' := [(0, a2), (0, 0), (0, 9), (1, 41)]) rfl ?_
                    refine v_callV (j := 120) (M' := mX10_node) (as := [(0, 9), (0, 0), (0, a2)]) (st := []) rfl rfl rfl rfl rfl (Nat.le_of_ble_eq_true rfl) (Nat.le_of_ble_eq_true rfl) (by omega) (by decide) (K41_t K) (kv0 (st' := fun v => [(0, v)]) rfl (fun _ => rfl)) (H.mono (fun k v11 m12 H => ⟨H.1, ?_⟩))
                    have K13 := H.2.1.2.1 K
                    replace H := H.2.2
                    refine v_run 121 5 (pc' := 218) (ls' := [(1, 41), (0, a1), (0, a2), (0, a3), (0, v11)]) (st' := [(0, 0), (0, 0), (0, 93), (1, 41)]) rfl ?_
                    refine v_callV (j := 126) (M' := mX10_push) (as := [(0, 93), (0, 0), (0, 0)]) (st := []) rfl rfl rfl rfl rfl (Nat.le_of_ble_eq_true rfl) (Nat.le_of_ble_eq_true rfl) (by omega) (by decide) (K41_t K13) (kv0 (st' := fun v => []) rfl (fun _ => rfl)) (H.mono (fun k v14 m15 H => ⟨H.1, ?_⟩))
                    have K16 := H.2.1.2.1 K13
                    replace H := H.2.2
                    refine v_run 127 6 (pc' := 229) (ls' := [(1, 41), (0, a1), (0, a2), (0, a3), (0, v11)]) (st' := [(0, 0), (0, (wr (a3 + 1))), (0, 210), (1, 41)]) rfl ?_
                    refine v_callV (j := 133) (M' := mX10_push) (as := [(0, 210), (0, (wr (a3 + 1))), (0, 0)]) (st := []) rfl rfl rfl rfl rfl (Nat.le_of_ble_eq_true rfl) (Nat.le_of_ble_eq_true rfl) (by omega) (by decide) (K41_t K16) (kv0 (st' := fun v => []) rfl (fun _ => rfl)) (H.mono (fun k v17 m18 H => ⟨H.1, ?_⟩))
                    have K19 := H.2.1.2.1 K16
                    replace H := H.2.2
                    refine v_run 134 4 (pc' := 237) (ls' := [(1, 41), (0, a1), (0, a2), (0, a3), (0, v11)]) (st' := [(0, 0), (0, 0), (0, 58), (1, 41)]) rfl ?_
                    refine v_callV (j := 138) (M' := mX10_push) (as := [(0, 58), (0, 0), (0, 0)]) (st := []) rfl rfl rfl rfl rfl (Nat.le_of_ble_eq_true rfl) (Nat.le_of_ble_eq_true rfl) (by omega) (by decide) (K41_t K19) (kv0 (st' := fun v => []) rfl (fun _ => rfl)) (H.mono (fun k v20 m21 H => ⟨H.1, ?_⟩))
                    have K22 := H.2.1.2.1 K19
                    replace H := H.2.2
                    refine v_run 139 6 (pc' := 248) (ls' := [(1, 41), (0, a1), (0, a2), (0, a3), (0, v11)]) (st' := [(0, 0), (0, (wr (a3 + 1))), (0, 210), (1, 41)]) rfl ?_
                    refine v_callV (j := 145) (M' := mX10_push) (as := [(0, 210), (0, (wr (a3 + 1))), (0, 0)]) (st := []) rfl rfl rfl rfl rfl (Nat.le_of_ble_eq_true rfl) (Nat.le_of_ble_eq_true rfl) (by omega) (by decide) (K41_t K22) (kv0 (st' := fun v => []) rfl (fun _ => rfl)) (H.mono (fun k v23 m24 H => ⟨H.1, ?_⟩))
                    have K25 := H.2.1.2.1 K22
                    replace H := H.2.2
                    refine v_run 146 4 (pc' := 256) (ls' := [(1, 41), (0, a1), (0, a2), (0, a3), (0, v11)]) (st' := [(0, 0), (0, 0), (0, 63), (1, 41)]) rfl ?_
                    refine v_callV (j := 150) (M' := mX10_push) (as := [(0, 63), (0, 0), (0, 0)]) (st := []) rfl rfl rfl rfl rfl (Nat.le_of_ble_eq_true rfl) (Nat.le_of_ble_eq_true rfl) (by omega) (by decide) (K41_t K25) (kv0 (st' := fun v => []) rfl (fun _ => rfl)) (H.mono (fun k v26 m27 H => ⟨H.1, ?_⟩))
                    have K28 := H.2.1.2.1 K25
                    replace H := H.2.2
                    refine v_run 151 6 (pc' := 267) (ls' := [(1, 41), (0, a1), (0, a2), (0, a3), (0, v11)]) (st' := [(0, 0), (0, (wr (a3 + 1))), (0, 210), (1, 41)]) rfl ?_
                    refine v_callV (j := 157) (M' := mX10_push) (as := [(0, 210), (0, (wr (a3 + 1))), (0, 0)]) (st := []) rfl rfl rfl rfl rfl (Nat.le_of_ble_eq_true rfl) (Nat.le_of_ble_eq_true rfl) (by omega) (by decide) (K41_t K28) (kv0 (st' := fun v => []) rfl (fun _ => rfl)) (H.mono (fun k v29 m30 H => ⟨H.1, ?_⟩))
                    have K31 := H.2.1.2.1 K28
                    replace H := H.2.2
                    refine v_run 158 4 (pc' := 277) (ls' := [(1, 41), (0, a1), (0, a2), (0, a3), (0, v11)]) (st' := [(0, 0), (0, v11), (0, 217), (1, 41)]) rfl ?_
                    refine v_callV (j := 162) (M' := mX10_push) (as := [(0, 217), (0, v11), (0, 0)]) (st := []) rfl rfl rfl rfl rfl (Nat.le_of_ble_eq_true rfl) (Nat.le_of_ble_eq_true rfl) (by omega) (by decide) (K41_t K31) (kv0 (st' := fun v => []) rfl (fun _ => rfl)) (H.mono (fun k v32 m33 H => ⟨H.1, ?_⟩))
                    have K34 := H.2.1.2.1 K31
                    replace H := H.2.2
                    refine v_run 163 6 (pc' := 288) (ls' := [(1, 41), (0, a1), (0, a2), (0, a3), (0, v11)]) (st' := [(0, 0), (0, (wr (a3 + 1))), (0, 210), (1, 41)]) rfl ?_
                    refine v_callV (j := 169) (M' := mX10_push) (as := [(0, 210), (0, (wr (a3 + 1))), (0, 0)]) (st := []) rfl rfl rfl rfl rfl (Nat.le_of_ble_eq_true rfl) (Nat.le_of_ble_eq_true rfl) (by omega) (by decide) (K41_t K34) (kv0 (st' := fun v => []) rfl (fun _ => rfl)) (H.mono (fun k v35 m36 H => ⟨H.1, ?_⟩))
                    have K37 := H.2.1.2.1 K34
                    replace H := H.2.2
                    refine v_run 170 1 (pc' := 292) (ls' := [(1, 41), (0, a1), (0, a2), (0, a3), (0, v11)]) (st' := [(0, 1)]) rfl ?_
                    exact v_iret (j := 171) rfl rfl rfl (Or.inr rfl) H
                  · replace H := H.2 q
                    refine v_run 114 1 (pc' := 202) (ls' := [(1, 41), (0, a1), (0, a2), (0, a3), (9, 0)]) (st' := [(0, 0)]) rfl ?_
                    exact v_iret (j := 115) rfl rfl rfl (Or.inl rfl) H
                · replace H := H.2 q
                  refine v_run 93 6 (pc' := 175) (ls' := [(1, 41), (0, a1), (0, a2), (0, a3), (9, 0)]) (st' := [(0, a2), (0, 0), (0, 8), (1, 41), (0, 213), (1, 41)]) rfl ?_
                  refine v_callV (j := 99) (M' := mX10_node) (as := [(0, 8), (0, 0), (0, a2)]) (st := [(0, 213), (1, 41)]) rfl rfl rfl rfl rfl (Nat.le_of_ble_eq_true rfl) (Nat.le_of_ble_eq_true rfl) (by omega) (by decide) (K41_t K) (kv0 (st' := fun v => [(0, v), (0, 213), (1, 41)]) rfl (fun _ => rfl)) (H.mono (fun k v38 m39 H => ⟨H.1, ?_⟩))
                  have K40 := H.2.1.2.1 K
                  replace H := H.2.2
                  refine v_run 100 1 (pc' := 179) (ls' := [(1, 41), (0, a1), (0, a2), (0, a3), (9, 0)]) (st' := [(0, a3), (0, v38), (0, 213), (1, 41)]) rfl ?_
                  refine v_callV (j := 101) (M' := mX10_push) (as := [(0, 213), (0, v38), (0, a3)]) (st := []) rfl rfl rfl rfl rfl (Nat.le_of_ble_eq_true rfl) (Nat.le_of_ble_eq_true rfl) (by omega) (by decide) (K41_t K40) (kv0 (st' := fun v => []) rfl (fun _ => rfl)) (H.mono (fun k v41 m42 H => ⟨H.1, ?_⟩))
                  have K43 := H.2.1.2.1 K40
                  replace H := H.2.2
                  refine v_run 102 6 (pc' := 190) (ls' := [(1, 41), (0, a1), (0, a2), (0, a3), (9, 0)]) (st' := [(0, 0), (0, (wr (a3 + 1))), (0, 210), (1, 41)]) rfl ?_
                  refine v_callV (j := 108) (M' := mX10_push) (as := [(0, 210), (0, (wr (a3 + 1))), (0, 0)]) (st := []) rfl rfl rfl rfl rfl (Nat.le_of_ble_eq_true rfl) (Nat.le_of_ble_eq_true rfl) (by omega) (by decide) (K41_t K43) (kv0 (st' := fun v => []) rfl (fun _ => rfl)) (H.mono (fun k v44 m45 H => ⟨H.1, ?_⟩))
                  have K46 := H.2.1.2.1 K43
                  replace H := H.2.2
                  refine v_run 109 1 (pc' := 194) (ls' := [(1, 41), (0, a1), (0, a2), (0, a3), (9, 0)]) (st' := [(0, 1)]) rfl ?_
                  exact v_iret (j := 110) rfl rfl rfl (Or.inr rfl) H
              · replace H := H.2 q
                refine v_run 63 3 (pc' := 120) (ls' := [(1, 41), (0, a1), (0, a2), (0, a3), (9, 0)]) (st' := [(0, 43), (0, a1), (1, 41)]) rfl ?_
                have J56 : WV G mX10_beginCode 130 [(1, 41), (0, a1), (0, a2), (0, a3), (9, 0)] [(0, (if a1 ≠ (43 : Int) then 7 else 6)), (1, 41)] m d P := by
                  refine v_run 70 2 (pc' := 132) (ls' := [(1, 41), (0, a1), (0, a2), (0, a3), (9, 0)]) (st' := [(0, a2), (0, 0), (0, (if a1 ≠ (43 : Int) then 7 else 6)), (1, 41)]) rfl ?_
                  refine v_callV (j := 72) (M' := mX10_node) (as := [(0, (if a1 ≠ (43 : Int) then 7 else 6)), (0, 0), (0, a2)]) (st := []) rfl rfl rfl rfl rfl (Nat.le_of_ble_eq_true rfl) (Nat.le_of_ble_eq_true rfl) (by omega) (by decide) (K41_t K) (kv0 (st' := fun v => [(0, v)]) rfl (fun _ => rfl)) (H.mono (fun k v47 m48 H => ⟨H.1, ?_⟩))
                  have K49 := H.2.1.2.1 K
                  replace H := H.2.2
                  refine v_run 73 7 (pc' := 144) (ls' := [(1, 41), (0, a1), (0, a2), (0, a3), (9, 0)]) (st' := [(0, 0), (0, (wr (a3 + 1))), (0, 210), (1, 41)]) rfl ?_
                  refine v_callV (j := 80) (M' := mX10_push) (as := [(0, 210), (0, (wr (a3 + 1))), (0, 0)]) (st := []) rfl rfl rfl rfl rfl (Nat.le_of_ble_eq_true rfl) (Nat.le_of_ble_eq_true rfl) (by omega) (by decide) (K41_t K49) (kv0 (st' := fun v => []) rfl (fun _ => rfl)) (H.mono (fun k v50 m51 H => ⟨H.1, ?_⟩))
                  have K52 := H.2.1.2.1 K49
                  replace H := H.2.2
                  refine v_run 81 6 (pc' := 155) (ls' := [(1, 41), (0, a1), (0, a2), (0, a3), (9, 0)]) (st' := [(0, 0), (0, (wr (a3 + 1))), (0, 210), (1, 41)]) rfl ?_
                  refine v_callV (j := 87) (M' := mX10_push) (as := [(0, 210), (0, (wr (a3 + 1))), (0, 0)]) (st := []) rfl rfl rfl rfl rfl (Nat.le_of_ble_eq_true rfl) (Nat.le_of_ble_eq_true rfl) (by omega) (by decide) (K41_t K52) (kv0 (st' := fun v => []) rfl (fun _ => rfl)) (H.mono (fun k v53 m54 H => ⟨H.1, ?_⟩))
                  have K55 := H.2.1.2.1 K52
                  replace H := H.2.2
                  refine v_run 88 1 (pc' := 159) (ls' := [(1, 41), (0, a1), (0, a2), (0, a3), (9, 0)]) (st' := [(0, 1)]) rfl ?_
                  exact v_iret (j := 89) rfl rfl rfl (Or.inr rfl) H
                refine v_icmpne (j := 66) rfl rfl rfl (fun q => ?_) (fun q => ?_)
                · rw [if_pos q] at J56
                  refine v_run 69 1 (pc' := 130) (ls' := [(1, 41), (0, a1), (0, a2), (0, a3), (9, 0)]) (st' := [(0, 7), (1, 41)]) rfl ?_
                  exact J56
                · rw [if_neg (fun z => z q)] at J56
                  refine v_run 67 1 (pc' := 125) (ls' := [(1, 41), (0, a1), (0, a2), (0, a3), (9, 0)]) (st' := [(0, 6), (1, 41)]) rfl ?_
                  refine v_goto (j := 68) (tgt := 130) rfl rfl ?_
                  exact J56
          · replace H := H.2 q
            refine v_run 55 1 (pc' := 103) (ls' := [(1, 41), (0, a1), (0, a2), (0, a3), (9, 0)]) (st' := [(0, 0)]) rfl ?_
            exact v_iret (j := 56) rfl rfl rfl (Or.inl rfl) H
        · replace H := H.2 (ite1 q)
          refine v_run 39 8 (pc' := 87) (ls' := [(1, 41), (0, a1), (0, a2), (0, a3), (9, 0)]) (st' := [(0, a2), (0, (wr (a1 - 65))), (0, 5), (1, 41), (0, 211), (1, 41)]) rfl ?_
          refine v_callV (j := 47) (M' := mX10_node) (as := [(0, 5), (0, (wr (a1 - 65))), (0, a2)]) (st := [(0, 211), (1, 41)]) rfl rfl rfl rfl rfl (Nat.le_of_ble_eq_true rfl) (Nat.le_of_ble_eq_true rfl) (by omega) (by decide) (K41_t K) (kv0 (st' := fun v => [(0, v), (0, 211), (1, 41)]) rfl (fun _ => rfl)) (H.mono (fun k v57 m58 H => ⟨H.1, ?_⟩))
          have K59 := H.2.1.2.1 K
          replace H := H.2.2
          refine v_run 48 1 (pc' := 91) (ls' := [(1, 41), (0, a1), (0, a2), (0, a3), (9, 0)]) (st' := [(0, a3), (0, v57), (0, 211), (1, 41)]) rfl ?_
          refine v_callV (j := 49) (M' := mX10_push) (as := [(0, 211), (0, v57), (0, a3)]) (st := []) rfl rfl rfl rfl rfl (Nat.le_of_ble_eq_true rfl) (Nat.le_of_ble_eq_true rfl) (by omega) (by decide) (K41_t K59) (kv0 (st' := fun v => []) rfl (fun _ => rfl)) (H.mono (fun k v60 m61 H => ⟨H.1, ?_⟩))
          have K62 := H.2.1.2.1 K59
          replace H := H.2.2
          refine v_run 50 1 (pc' := 95) (ls' := [(1, 41), (0, a1), (0, a2), (0, a3), (9, 0)]) (st' := [(0, 1)]) rfl ?_
          exact v_iret (j := 51) rfl rfl rfl (Or.inr rfl) H
      · replace H := H.2 q
        refine v_drp [true, true, true, false, false] ?_
        exact H

set_option maxRecDepth 100000 in
set_option maxHeartbeats 4000000 in
theorem wX10_beginCode_20 {G : GM} {d : Nat} {P : Nat → Int → SM → Prop} {m : SM} {a1 a2 : Int} (K : KI m) (hd : 12 ≤ d) 
    (H : WV G mX10_node 0 [(1, 41), (0, (if 97 ≤ a1 ∧ a1 ≤ 122 then 1 else (if a1 ≠ (126 : Int) then 2 else 10))), (0, (if 97 ≤ a1 ∧ a1 ≤ 122 then (wr (a1 - 97)) else (wr (a1 - 48)))), (0, a2)] [] m (d - 1) (fun k v1 m2 => k = 0 ∧ Ok m m2 ∧ (P 0 1 m2))) :
    WV G mX10_beginCode 20 [(1, 41), (0, a1), (0, a2), (9, 0), (9, 0)] [] m d P := by
  refine v_run 9 2 (pc' := 22) (ls' := [(1, 41), (0, a1), (0, a2), (9, 0), (9, 0)]) (st' := [(0, a1), (1, 41)]) rfl ?_
  refine v_callS (j := 11) (M' := mX10_isVariable) (as := [(0, a1)]) (st := [(1, 41)]) rfl rfl rfl rfl rfl (Nat.le_of_ble_eq_true rfl) (Nat.le_of_ble_eq_true rfl) (by omega) (kv0 (st' := fun v => [(0, v), (1, 41)]) rfl (fun _ => rfl)) (ipX10_isVariable ⟨rfl, ?_⟩)
  have J5 : WV G mX10_beginCode 44 [(1, 41), (0, a1), (0, a2), (9, 0), (9, 0)] [(0, (if 97 ≤ a1 ∧ a1 ≤ 122 then 1 else (if a1 ≠ (126 : Int) then 2 else 10))), (1, 41)] m d P := by
    refine v_run 21 1 (pc' := 45) (ls' := [(1, 41), (0, a1), (0, a2), (9, 0), (9, 0)]) (st' := [(0, a1), (0, (if 97 ≤ a1 ∧ a1 ≤ 122 then 1 else (if a1 ≠ (126 : Int) then 2 else 10))), (1, 41)]) rfl ?_
    refine v_callS (j := 22) (M' := mX10_isVariable) (as := [(0, a1)]) (st := [(0, (if 97 ≤ a1 ∧ a1 ≤ 122 then 1 else (if a1 ≠ (126 : Int) then 2 else 10))), (1, 41)]) rfl rfl rfl rfl rfl (Nat.le_of_ble_eq_true rfl) (Nat.le_of_ble_eq_true rfl) (by omega) (kv0 (st' := fun v => [(0, v), (0, (if 97 ≤ a1 ∧ a1 ≤ 122 then 1 else (if a1 ≠ (126 : Int) then 2 else 10))), (1, 41)]) rfl (fun _ => rfl)) (ipX10_isVariable ⟨rfl, ?_⟩)
    have J4 : WV G mX10_beginCode 62 [(1, 41), (0, a1), (0, a2), (9, 0), (9, 0)] [(0, (if 97 ≤ a1 ∧ a1 ≤ 122 then (wr (a1 - 97)) else (wr (a1 - 48)))), (0, (if 97 ≤ a1 ∧ a1 ≤ 122 then 1 else (if a1 ≠ (126 : Int) then 2 else 10))), (1, 41)] m d P := by
      refine v_run 31 1 (pc' := 63) (ls' := [(1, 41), (0, a1), (0, a2), (9, 0), (9, 0)]) (st' := [(0, a2), (0, (if 97 ≤ a1 ∧ a1 ≤ 122 then (wr (a1 - 97)) else (wr (a1 - 48)))), (0, (if 97 ≤ a1 ∧ a1 ≤ 122 then 1 else (if a1 ≠ (126 : Int) then 2 else 10))), (1, 41)]) rfl ?_
      refine v_callV (j := 32) (M' := mX10_node) (as := [(0, (if 97 ≤ a1 ∧ a1 ≤ 122 then 1 else (if a1 ≠ (126 : Int) then 2 else 10))), (0, (if 97 ≤ a1 ∧ a1 ≤ 122 then (wr (a1 - 97)) else (wr (a1 - 48)))), (0, a2)]) (st := []) rfl rfl rfl rfl rfl (Nat.le_of_ble_eq_true rfl) (Nat.le_of_ble_eq_true rfl) (by omega) (by decide) (K41_t K) (kv0 (st' := fun v => [(0, v)]) rfl (fun _ => rfl)) (H.mono (fun k v1 m2 H => ⟨H.1, ?_⟩))
      have K3 := H.2.1.2.1 K
      replace H := H.2.2
      refine v_run 33 2 (pc' := 68) (ls' := [(1, 41), (0, a1), (0, a2), (9, 0), (9, 0)]) (st' := [(0, 1)]) rfl ?_
      exact v_iret (j := 35) rfl rfl rfl (Or.inr rfl) H
    refine v_ifeq (j := 23) rfl rfl rfl (fun q => ?_) (fun q => ?_)
    · rw [if_neg (ite0 q)] at J4
      refine v_run 28 3 (pc' := 62) (ls' := [(1, 41), (0, a1), (0, a2), (9, 0), (9, 0)]) (st' := [(0, (wr (a1 - 48))), (0, (if 97 ≤ a1 ∧ a1 ≤ 122 then 1 else (if a1 ≠ (126 : Int) then 2 else 10))), (1, 41)]) rfl ?_
      exact J4
    · rw [if_pos (ite1 q)] at J4
      refine v_run 24 3 (pc' := 55) (ls' := [(1, 41), (0, a1), (0, a2), (9, 0), (9, 0)]) (st' := [(0, (wr (a1 - 97))), (0, (if 97 ≤ a1 ∧ a1 ≤ 122 then 1 else (if a1 ≠ (126 : Int) then 2 else 10))), (1, 41)]) rfl ?_
      refine v_goto (j := 27) (tgt := 62) rfl rfl ?_
      exact J4
  refine v_ifeq (j := 12) rfl rfl rfl (fun q => ?_) (fun q => ?_)
  · rw [if_neg (ite0 q)] at J5
    refine v_run 15 2 (pc' := 35) (ls' := [(1, 41), (0, a1), (0, a2), (9, 0), (9, 0)]) (st' := [(0, 126), (0, a1), (1, 41)]) rfl ?_
    refine v_icmpne (j := 17) rfl rfl rfl (fun q => ?_) (fun q => ?_)
    · rw [if_pos q] at J5
      refine v_run 20 1 (pc' := 44) (ls' := [(1, 41), (0, a1), (0, a2), (9, 0), (9, 0)]) (st' := [(0, 2), (1, 41)]) rfl ?_
      exact J5
    · rw [if_neg (fun z => z q)] at J5
      refine v_run 18 1 (pc' := 40) (ls' := [(1, 41), (0, a1), (0, a2), (9, 0), (9, 0)]) (st' := [(0, 10), (1, 41)]) rfl ?_
      refine v_goto (j := 19) (tgt := 44) rfl rfl ?_
      exact J5
  · rw [if_pos (ite1 q)] at J5
    refine v_run 13 1 (pc' := 29) (ls' := [(1, 41), (0, a1), (0, a2), (9, 0), (9, 0)]) (st' := [(0, 1), (1, 41)]) rfl ?_
    refine v_goto (j := 14) (tgt := 44) rfl rfl ?_
    exact J5

set_option maxRecDepth 100000 in
set_option maxHeartbeats 4000000 in
theorem wX10_part {G : GM} {d : Nat} {P : Nat → Int → SM → Prop} {m : SM} {a1 a2 a3 a4 : Int} (K : KI m) (hd : 12 ≤ d) 
    (H : (0 ≤ (m 41 33)) ∧ ((m 41 33) < 180) ∧ (∀ m3, m3 = up m 59 (m 41 33) a1 → Ok m m3 → ((0 ≤ (m3 41 33)) ∧ ((m3 41 33) < 180) ∧ (∀ m9, m9 = up m3 60 (m3 41 33) a2 → Ok m3 m9 → ((0 ≤ (m9 41 33)) ∧ ((m9 41 33) < 180) ∧ (∀ m15, m15 = up m9 61 (m9 41 33) (m9 41 16) → Ok m9 m15 → ((0 ≤ (m15 41 33)) ∧ ((m15 41 33) < 180) ∧ (∀ m21, m21 = up m15 62 (m15 41 33) a3 → Ok m15 m21 → ((0 ≤ (m21 41 33)) ∧ ((m21 41 33) < 180) ∧ (∀ m27, m27 = up m21 63 (m21 41 33) a4 → Ok m21 m27 → (∀ m31, m31 = up m27 41 33 (wr ((m27 41 33) + 1)) → Ok m27 m31 → (P 0 (wr ((m31 41 33) - 1)) m31)))))))))))) :
    WV G mX10_part 0 [(1, 41), (0, a1), (0, a2), (0, a3), (0, a4)] [] m d P := by
  refine v_run 0 1 (pc' := 1) (ls' := [(1, 41), (0, a1), (0, a2), (0, a3), (0, a4)]) (st' := [(1, 41)]) rfl ?_
  refine v_getK (j := 1) (c := 24) (f := 24) rfl rfl rfl rfl rfl rfl rfl rfl (K41_t K) (K41_24 K) ?_
  refine v_run 2 1 (pc' := 5) (ls' := [(1, 41), (0, a1), (0, a2), (0, a3), (0, a4)]) (st' := [(1, 41), (1, 59)]) rfl ?_
  refine v_getf (j := 3) (c := 24) (f := 33) rfl rfl rfl rfl rfl rfl rfl rfl (K41_t K) ?_
  refine v_run 4 1 (pc' := 9) (ls' := [(1, 41), (0, a1), (0, a2), (0, a3), (0, a4)]) (st' := [(0, a1), (0, (m 41 33)), (1, 59)]) rfl ?_
  obtain ⟨i1, i2, H⟩ := H
  refine v_ast (j := 5) (t := 1) rfl rfl rfl rfl rfl rfl (by decide) (by decide) (K59_t K) i1 (by rw [K59_l K]; exact i2) trivial (fun m3 e4 => ?_)
  have O5 : Ok m m3 := Ok.wa e4 (K59_t K) (by decide) i1
  have K6 := O5.2.1 K
  replace H := H m3 e4 O5
  refine v_run 6 1 (pc' := 11) (ls' := [(1, 41), (0, a1), (0, a2), (0, a3), (0, a4)]) (st' := [(1, 41)]) rfl ?_
  refine v_getK (j := 7) (c := 24) (f := 25) rfl rfl rfl rfl rfl rfl rfl rfl (K41_t K6) (K41_25 K6) ?_
  refine v_run 8 1 (pc' := 15) (ls' := [(1, 41), (0, a1), (0, a2), (0, a3), (0, a4)]) (st' := [(1, 41), (1, 60)]) rfl ?_
  refine v_getf (j := 9) (c := 24) (f := 33) rfl rfl rfl rfl rfl rfl rfl rfl (K41_t K6) ?_
  refine v_run 10 1 (pc' := 19) (ls' := [(1, 41), (0, a1), (0, a2), (0, a3), (0, a4)]) (st' := [(0, a2), (0, (m3 41 33)), (1, 60)]) rfl ?_
  obtain ⟨i7, i8, H⟩ := H
  refine v_ast (j := 11) (t := 1) rfl rfl rfl rfl rfl rfl (by decide) (by decide) (K60_t K6) i7 (by rw [K60_l K6]; exact i8) trivial (fun m9 e10 => ?_)
  have O11 : Ok m3 m9 := Ok.wa e10 (K60_t K6) (by decide) i7
  have K12 := O11.2.1 K6
  replace H := H m9 e10 O11
  refine v_run 12 1 (pc' := 21) (ls' := [(1, 41), (0, a1), (0, a2), (0, a3), (0, a4)]) (st' := [(1, 41)]) rfl ?_
  refine v_getK (j := 13) (c := 24) (f := 26) rfl rfl rfl rfl rfl rfl rfl rfl (K41_t K12) (K41_26 K12) ?_
  refine v_run 14 1 (pc' := 25) (ls' := [(1, 41), (0, a1), (0, a2), (0, a3), (0, a4)]) (st' := [(1, 41), (1, 61)]) rfl ?_
  refine v_getf (j := 15) (c := 24) (f := 33) rfl rfl rfl rfl rfl rfl rfl rfl (K41_t K12) ?_
  refine v_run 16 1 (pc' := 29) (ls' := [(1, 41), (0, a1), (0, a2), (0, a3), (0, a4)]) (st' := [(1, 41), (0, (m9 41 33)), (1, 61)]) rfl ?_
  refine v_getf (j := 17) (c := 24) (f := 16) rfl rfl rfl rfl rfl rfl rfl rfl (K41_t K12) ?_
  obtain ⟨i13, i14, H⟩ := H
  refine v_ast (j := 18) (t := 1) rfl rfl rfl rfl rfl rfl (by decide) (by decide) (K61_t K12) i13 (by rw [K61_l K12]; exact i14) trivial (fun m15 e16 => ?_)
  have O17 : Ok m9 m15 := Ok.wa e16 (K61_t K12) (by decide) i13
  have K18 := O17.2.1 K12
  replace H := H m15 e16 O17
  refine v_run 19 1 (pc' := 34) (ls' := [(1, 41), (0, a1), (0, a2), (0, a3), (0, a4)]) (st' := [(1, 41)]) rfl ?_
  refine v_getK (j := 20) (c := 24) (f := 27) rfl rfl rfl rfl rfl rfl rfl rfl (K41_t K18) (K41_27 K18) ?_
  refine v_run 21 1 (pc' := 38) (ls' := [(1, 41), (0, a1), (0, a2), (0, a3), (0, a4)]) (st' := [(1, 41), (1, 62)]) rfl ?_
  refine v_getf (j := 22) (c := 24) (f := 33) rfl rfl rfl rfl rfl rfl rfl rfl (K41_t K18) ?_
  refine v_run 23 1 (pc' := 42) (ls' := [(1, 41), (0, a1), (0, a2), (0, a3), (0, a4)]) (st' := [(0, a3), (0, (m15 41 33)), (1, 62)]) rfl ?_
  obtain ⟨i19, i20, H⟩ := H
  refine v_ast (j := 24) (t := 1) rfl rfl rfl rfl rfl rfl (by decide) (by decide) (K62_t K18) i19 (by rw [K62_l K18]; exact i20) trivial (fun m21 e22 => ?_)
  have O23 : Ok m15 m21 := Ok.wa e22 (K62_t K18) (by decide) i19
  have K24 := O23.2.1 K18
  replace H := H m21 e22 O23
  refine v_run 25 1 (pc' := 44) (ls' := [(1, 41), (0, a1), (0, a2), (0, a3), (0, a4)]) (st' := [(1, 41)]) rfl ?_
  refine v_getK (j := 26) (c := 24) (f := 28) rfl rfl rfl rfl rfl rfl rfl rfl (K41_t K24) (K41_28 K24) ?_
  refine v_run 27 1 (pc' := 48) (ls' := [(1, 41), (0, a1), (0, a2), (0, a3), (0, a4)]) (st' := [(1, 41), (1, 63)]) rfl ?_
  refine v_getf (j := 28) (c := 24) (f := 33) rfl rfl rfl rfl rfl rfl rfl rfl (K41_t K24) ?_
  refine v_run 29 1 (pc' := 53) (ls' := [(1, 41), (0, a1), (0, a2), (0, a3), (0, a4)]) (st' := [(0, a4), (0, (m21 41 33)), (1, 63)]) rfl ?_
  obtain ⟨i25, i26, H⟩ := H
  refine v_ast (j := 30) (t := 1) rfl rfl rfl rfl rfl rfl (by decide) (by decide) (K63_t K24) i25 (by rw [K63_l K24]; exact i26) trivial (fun m27 e28 => ?_)
  have O29 : Ok m21 m27 := Ok.wa e28 (K63_t K24) (by decide) i25
  have K30 := O29.2.1 K24
  replace H := H m27 e28 O29
  refine v_run 31 2 (pc' := 56) (ls' := [(1, 41), (0, a1), (0, a2), (0, a3), (0, a4)]) (st' := [(1, 41), (1, 41)]) rfl ?_
  refine v_getf (j := 33) (c := 24) (f := 33) rfl rfl rfl rfl rfl rfl rfl rfl (K41_t K30) ?_
  refine v_run 34 2 (pc' := 61) (ls' := [(1, 41), (0, a1), (0, a2), (0, a3), (0, a4)]) (st' := [(0, (wr ((m27 41 33) + 1))), (1, 41)]) rfl ?_
  refine v_putf (j := 36) (c := 24) (f := 33) rfl rfl rfl rfl (by decide +kernel) rfl rfl rfl rfl (K41_t K30) trivial (fun m31 e32 => ?_)
  have O33 : Ok m27 m31 := Ok.wf e32 (K41_t K30) (by decide) (by decide)
  have K34 := O33.2.1 K30
  replace H := H m31 e32 O33
  refine v_run 37 1 (pc' := 65) (ls' := [(1, 41), (0, a1), (0, a2), (0, a3), (0, a4)]) (st' := [(1, 41)]) rfl ?_
  refine v_getf (j := 38) (c := 24) (f := 33) rfl rfl rfl rfl rfl rfl rfl rfl (K41_t K34) ?_
  refine v_run 39 2 (pc' := 70) (ls' := [(1, 41), (0, a1), (0, a2), (0, a3), (0, a4)]) (st' := [(0, (wr ((m31 41 33) - 1)))]) rfl ?_
  exact v_iret (j := 41) rfl rfl rfl trivial H

set_option maxRecDepth 100000 in
set_option maxHeartbeats 4000000 in
theorem wX10_beginPart {G : GM} {d : Nat} {P : Nat → Int → SM → Prop} {m : SM} {a1 a2 a3 : Int} (K : KI m) (hd : 12 ≤ d) 
    (H : WV G mX10_push 0 [(1, 41), (0, 205), (0, (wr (a3 + 1))), (0, 0)] [] m (d - 1) (fun k v1 m2 => k = 0 ∧ Ok m m2 ∧ ((¬ (97 ≤ a1 ∧ a1 ≤ 122) → ((a1 = (35 : Int) → (WV G mX10_part 0 [(1, 41), (0, 1), (0, (-1)), (0, 1), (0, a2)] [] m2 (d - 1) (fun k v4 m5 => k = 0 ∧ Ok m2 m5 ∧ (WV G mX10_beginTerm 0 [(1, 41), (0, a1), (0, a2), (0, 2)] [] m5 (d - 1) (fun k v7 m8 => k = 0 ∧ Ok m5 m8 ∧ ((v7 = 0 ∨ v7 = 1) ∧ (P 0 v7 m8))))))) ∧ (a1 ≠ (35 : Int) → ((¬ (65 ≤ a1 ∧ a1 ≤ 90) → ((a1 = (63 : Int) → (WV G mX10_part 0 [(1, 41), (0, 2), (0, (-1)), (0, 1), (0, a2)] [] m2 (d - 1) (fun k v11 m12 => k = 0 ∧ Ok m2 m12 ∧ (WV G mX10_push 0 [(1, 41), (0, 200), (0, 2), (0, 0)] [] m12 (d - 1) (fun k v14 m15 => k = 0 ∧ Ok m12 m15 ∧ (WV G mX10_push 0 [(1, 41), (0, 61), (0, 0), (0, 0)] [] m15 (d - 1) (fun k v17 m18 => k = 0 ∧ Ok m15 m18 ∧ (WV G mX10_push 0 [(1, 41), (0, 208), (0, v11), (0, 0)] [] m18 (d - 1) (fun k v20 m21 => k = 0 ∧ Ok m18 m21 ∧ (WV G mX10_push 0 [(1, 41), (0, 200), (0, 2), (0, 0)] [] m21 (d - 1) (fun k v23 m24 => k = 0 ∧ Ok m21 m24 ∧ (WV G mX10_push 0 [(1, 41), (0, 40), (0, 0), (0, 0)] [] m24 (d - 1) (fun k v26 m27 => k = 0 ∧ Ok m24 m27 ∧ (WV G mX10_push 0 [(1, 41), (0, 207), (0, v11), (0, 0)] [] m27 (d - 1) (fun k v29 m30 => k = 0 ∧ Ok m27 m30 ∧ (P 0 1 m30)))))))))))))))) ∧ (a1 ≠ (63 : Int) → (P 0 0 m2)))) ∧ (65 ≤ a1 ∧ a1 ≤ 90 → (WV G mX10_part 0 [(1, 41), (0, 1), (0, (-1)), (0, 1), (0, a2)] [] m2 (d - 1) (fun k v32 m33 => k = 0 ∧ Ok m2 m33 ∧ (WV G mX10_beginTerm 0 [(1, 41), (0, a1), (0, a2), (0, 2)] [] m33 (d - 1) (fun k v35 m36 => k = 0 ∧ Ok m33 m36 ∧ ((v35 = 0 ∨ v35 = 1) ∧ (P 0 v35 m36))))))))))) ∧ (97 ≤ a1 ∧ a1 ≤ 122 → (WV G mX10_part 0 [(1, 41), (0, 0), (0, (wr (a1 - 97))), (0, 1), (0, a2)] [] m2 (d - 1) (fun k v39 m40 => k = 0 ∧ Ok m2 m40 ∧ (WV G mX10_push 0 [(1, 41), (0, 200), (0, 2), (0, 0)] [] m40 (d - 1) (fun k v42 m43 => k = 0 ∧ Ok m40 m43 ∧ (WV G mX10_push 0 [(1, 41), (0, 58), (0, 0), (0, 0)] [] m43 (d - 1) (fun k v45 m46 => k = 0 ∧ Ok m43 m46 ∧ (P 0 1 m46))))))))))) :
    WV G mX10_beginPart 0 [(1, 41), (0, a1), (0, a2), (0, a3), (9, 0)] [] m d P := by
  refine v_run 0 6 (pc' := 8) (ls' := [(1, 41), (0, a1), (0, a2), (0, a3), (9, 0)]) (st' := [(0, 0), (0, (wr (a3 + 1))), (0, 205), (1, 41)]) rfl ?_
  refine v_callV (j := 6) (M' := mX10_push) (as := [(0, 205), (0, (wr (a3 + 1))), (0, 0)]) (st := []) rfl rfl rfl rfl rfl (Nat.le_of_ble_eq_true rfl) (Nat.le_of_ble_eq_true rfl) (by omega) (by decide) (K41_t K) (kv0 (st' := fun v => []) rfl (fun _ => rfl)) (H.mono (fun k v1 m2 H => ⟨H.1, ?_⟩))
  have K3 := H.2.1.2.1 K
  replace H := H.2.2
  refine v_run 7 1 (pc' := 12) (ls' := [(1, 41), (0, a1), (0, a2), (0, a3), (9, 0)]) (st' := [(0, a1)]) rfl ?_
  refine v_callS (j := 8) (M' := mX10_isVariable) (as := [(0, a1)]) (st := []) rfl rfl rfl rfl rfl (Nat.le_of_ble_eq_true rfl) (Nat.le_of_ble_eq_true rfl) (by omega) (kv0 (st' := fun v => [(0, v)]) rfl (fun _ => rfl)) (ipX10_isVariable ⟨rfl, ?_⟩)
  refine v_ifeq (j := 9) rfl rfl rfl (fun q => ?_) (fun q => ?_)
  · replace H := H.1 (ite0 q)
    refine v_run 31 2 (pc' := 52) (ls' := [(1, 41), (0, a1), (0, a2), (0, a3), (9, 0)]) (st' := [(0, 35), (0, a1)]) rfl ?_
    refine v_icmpeq (j := 33) rfl rfl rfl (fun q => ?_) (fun q => ?_)
    · replace H := H.1 q
      refine v_run 37 5 (pc' := 67) (ls' := [(1, 41), (0, a1), (0, a2), (0, a3), (9, 0)]) (st' := [(0, a2), (0, 1), (0, (-1)), (0, 1), (1, 41)]) rfl ?_
      refine v_callV (j := 42) (M' := mX10_part) (as := [(0, 1), (0, (-1)), (0, 1), (0, a2)]) (st := []) rfl rfl rfl rfl rfl (Nat.le_of_ble_eq_true rfl) (Nat.le_of_ble_eq_true rfl) (by omega) (by decide) (K41_t K3) (kv0 (st' := fun v => [(0, v)]) rfl (fun _ => rfl)) (H.mono (fun k v4 m5 H => ⟨H.1, ?_⟩))
      have K6 := H.2.1.2.1 K3
      replace H := H.2.2
      refine v_run 43 5 (pc' := 75) (ls' := [(1, 41), (0, a1), (0, a2), (0, a3), (9, 0)]) (st' := [(0, 2), (0, a2), (0, a1), (1, 41)]) rfl ?_
      refine v_callV (j := 48) (M' := mX10_beginTerm) (as := [(0, a1), (0, a2), (0, 2)]) (st := []) rfl rfl rfl rfl rfl (Nat.le_of_ble_eq_true rfl) (Nat.le_of_ble_eq_true rfl) (by omega) (by decide) (K41_t K6) (kv0 (st' := fun v => [(0, v)]) rfl (fun _ => rfl)) (H.mono (fun k v7 m8 H => ⟨H.1, ?_⟩))
      have K9 := H.2.1.2.1 K6
      replace H := H.2.2
      obtain ⟨r10, H⟩ := H
      exact v_iret (j := 49) rfl rfl rfl r10 H
    · replace H := H.2 q
      refine v_run 34 1 (pc' := 56) (ls' := [(1, 41), (0, a1), (0, a2), (0, a3), (9, 0)]) (st' := [(0, a1)]) rfl ?_
      refine v_callS (j := 35) (M' := mX10_isLetter) (as := [(0, a1)]) (st := []) rfl rfl rfl rfl rfl (Nat.le_of_ble_eq_true rfl) (Nat.le_of_ble_eq_true rfl) (by omega) (kv0 (st' := fun v => [(0, v)]) rfl (fun _ => rfl)) (ipX10_isLetter ⟨rfl, ?_⟩)
      refine v_ifeq (j := 36) rfl rfl rfl (fun q => ?_) (fun q => ?_)
      · replace H := H.1 (ite0 q)
        refine v_run 50 2 (pc' := 82) (ls' := [(1, 41), (0, a1), (0, a2), (0, a3), (9, 0)]) (st' := [(0, 63), (0, a1)]) rfl ?_
        refine v_icmpeq (j := 52) rfl rfl rfl (fun q => ?_) (fun q => ?_)
        · replace H := H.1 q
          refine v_run 55 5 (pc' := 92) (ls' := [(1, 41), (0, a1), (0, a2), (0, a3), (9, 0)]) (st' := [(0, a2), (0, 1), (0, (-1)), (0, 2), (1, 41)]) rfl ?_
          refine v_callV (j := 60) (M' := mX10_part) (as := [(0, 2), (0, (-1)), (0, 1), (0, a2)]) (st := []) rfl rfl rfl rfl rfl (Nat.le_of_ble_eq_true rfl) (Nat.le_of_ble_eq_true rfl) (by omega) (by decide) (K41_t K3) (kv0 (st' := fun v => [(0, v)]) rfl (fun _ => rfl)) (H.mono (fun k v11 m12 H => ⟨H.1, ?_⟩))
          have K13 := H.2.1.2.1 K3
          replace H := H.2.2
          refine v_run 61 5 (pc' := 103) (ls' := [(1, 41), (0, a1), (0, a2), (0, a3), (0, v11)]) (st' := [(0, 0), (0, 2), (0, 200), (1, 41)]) rfl ?_
          refine v_callV (j := 66) (M' := mX10_push) (as := [(0, 200), (0, 2), (0, 0)]) (st := []) rfl rfl rfl rfl rfl (Nat.le_of_ble_eq_true rfl) (Nat.le_of_ble_eq_true rfl) (by omega) (by decide) (K41_t K13) (kv0 (st' := fun v => []) rfl (fun _ => rfl)) (H.mono (fun k v14 m15 H => ⟨H.1, ?_⟩))
          have K16 := H.2.1.2.1 K13
          replace H := H.2.2
          refine v_run 67 4 (pc' := 111) (ls' := [(1, 41), (0, a1), (0, a2), (0, a3), (0, v11)]) (st' := [(0, 0), (0, 0), (0, 61), (1, 41)]) rfl ?_
          refine v_callV (j := 71) (M' := mX10_push) (as := [(0, 61), (0, 0), (0, 0)]) (st := []) rfl rfl rfl rfl rfl (Nat.le_of_ble_eq_true rfl) (Nat.le_of_ble_eq_true rfl) (by omega) (by decide) (K41_t K16) (kv0 (st' := fun v => []) rfl (fun _ => rfl)) (H.mono (fun k v17 m18 H => ⟨H.1, ?_⟩))
          have K19 := H.2.1.2.1 K16
          replace H := H.2.2
          refine v_run 72 4 (pc' := 121) (ls' := [(1, 41), (0, a1), (0, a2), (0, a3), (0, v11)]) (st' := [(0, 0), (0, v11), (0, 208), (1, 41)]) rfl ?_
          refine v_callV (j := 76) (M' := mX10_push) (as := [(0, 208), (0, v11), (0, 0)]) (st := []) rfl rfl rfl rfl rfl (Nat.le_of_ble_eq_true rfl) (Nat.le_of_ble_eq_true rfl) (by omega) (by decide) (K41_t K19) (kv0 (st' := fun v => []) rfl (fun _ => rfl)) (H.mono (fun k v20 m21 H => ⟨H.1, ?_⟩))
          have K22 := H.2.1.2.1 K19
          replace H := H.2.2
          refine v_run 77 4 (pc' := 130) (ls' := [(1, 41), (0, a1), (0, a2), (0, a3), (0, v11)]) (st' := [(0, 0), (0, 2), (0, 200), (1, 41)]) rfl ?_
          refine v_callV (j := 81) (M' := mX10_push) (as := [(0, 200), (0, 2), (0, 0)]) (st := []) rfl rfl rfl rfl rfl (Nat.le_of_ble_eq_true rfl) (Nat.le_of_ble_eq_true rfl) (by omega) (by decide) (K41_t K22) (kv0 (st' := fun v => []) rfl (fun _ => rfl)) (H.mono (fun k v23 m24 H => ⟨H.1, ?_⟩))
          have K25 := H.2.1.2.1 K22
          replace H := H.2.2
          refine v_run 82 4 (pc' := 138) (ls' := [(1, 41), (0, a1), (0, a2), (0, a3), (0, v11)]) (st' := [(0, 0), (0, 0), (0, 40), (1, 41)]) rfl ?_
          refine v_callV (j := 86) (M' := mX10_push) (as := [(0, 40), (0, 0), (0, 0)]) (st := []) rfl rfl rfl rfl rfl (Nat.le_of_ble_eq_true rfl) (Nat.le_of_ble_eq_true rfl) (by omega) (by decide) (K41_t K25) (kv0 (st' := fun v => []) rfl (fun _ => rfl)) (H.mono (fun k v26 m27 H => ⟨H.1, ?_⟩))
          have K28 := H.2.1.2.1 K25
          replace H := H.2.2
          refine v_run 87 4 (pc' := 148) (ls' := [(1, 41), (0, a1), (0, a2), (0, a3), (0, v11)]) (st' := [(0, 0), (0, v11), (0, 207), (1, 41)]) rfl ?_
          refine v_callV (j := 91) (M' := mX10_push) (as := [(0, 207), (0, v11), (0, 0)]) (st := []) rfl rfl rfl rfl rfl (Nat.le_of_ble_eq_true rfl) (Nat.le_of_ble_eq_true rfl) (by omega) (by decide) (K41_t K28) (kv0 (st' := fun v => []) rfl (fun _ => rfl)) (H.mono (fun k v29 m30 H => ⟨H.1, ?_⟩))
          have K31 := H.2.1.2.1 K28
          replace H := H.2.2
          refine v_run 92 1 (pc' := 152) (ls' := [(1, 41), (0, a1), (0, a2), (0, a3), (0, v11)]) (st' := [(0, 1)]) rfl ?_
          exact v_iret (j := 93) rfl rfl rfl (Or.inr rfl) H
        · replace H := H.2 q
          refine v_run 53 1 (pc' := 86) (ls' := [(1, 41), (0, a1), (0, a2), (0, a3), (9, 0)]) (st' := [(0, 0)]) rfl ?_
          exact v_iret (j := 54) rfl rfl rfl (Or.inl rfl) H
      · replace H := H.2 (ite1 q)
        refine v_run 37 5 (pc' := 67) (ls' := [(1, 41), (0, a1), (0, a2), (0, a3), (9, 0)]) (st' := [(0, a2), (0, 1), (0, (-1)), (0, 1), (1, 41)]) rfl ?_
        refine v_callV (j := 42) (M' := mX10_part) (as := [(0, 1), (0, (-1)), (0, 1), (0, a2)]) (st := []) rfl rfl rfl rfl rfl (Nat.le_of_ble_eq_true rfl) (Nat.le_of_ble_eq_true rfl) (by omega) (by decide) (K41_t K3) (kv0 (st' := fun v => [(0, v)]) rfl (fun _ => rfl)) (H.mono (fun k v32 m33 H => ⟨H.1, ?_⟩))
        have K34 := H.2.1.2.1 K3
        replace H := H.2.2
        refine v_run 43 5 (pc' := 75) (ls' := [(1, 41), (0, a1), (0, a2), (0, a3), (9, 0)]) (st' := [(0, 2), (0, a2), (0, a1), (1, 41)]) rfl ?_
        refine v_callV (j := 48) (M' := mX10_beginTerm) (as := [(0, a1), (0, a2), (0, 2)]) (st := []) rfl rfl rfl rfl rfl (Nat.le_of_ble_eq_true rfl) (Nat.le_of_ble_eq_true rfl) (by omega) (by decide) (K41_t K34) (kv0 (st' := fun v => [(0, v)]) rfl (fun _ => rfl)) (H.mono (fun k v35 m36 H => ⟨H.1, ?_⟩))
        have K37 := H.2.1.2.1 K34
        replace H := H.2.2
        obtain ⟨r38, H⟩ := H
        exact v_iret (j := 49) rfl rfl rfl r38 H
  · replace H := H.2 (ite1 q)
    refine v_run 10 7 (pc' := 26) (ls' := [(1, 41), (0, a1), (0, a2), (0, a3), (9, 0)]) (st' := [(0, a2), (0, 1), (0, (wr (a1 - 97))), (0, 0), (1, 41)]) rfl ?_
    refine v_callV (j := 17) (M' := mX10_part) (as := [(0, 0), (0, (wr (a1 - 97))), (0, 1), (0, a2)]) (st := []) rfl rfl rfl rfl rfl (Nat.le_of_ble_eq_true rfl) (Nat.le_of_ble_eq_true rfl) (by omega) (by decide) (K41_t K3) (kv0 (st' := fun v => [(0, v)]) rfl (fun _ => rfl)) (H.mono (fun k v39 m40 H => ⟨H.1, ?_⟩))
    have K41 := H.2.1.2.1 K3
    replace H := H.2.2
    refine v_run 18 5 (pc' := 36) (ls' := [(1, 41), (0, a1), (0, a2), (0, a3), (9, 0)]) (st' := [(0, 0), (0, 2), (0, 200), (1, 41)]) rfl ?_
    refine v_callV (j := 23) (M' := mX10_push) (as := [(0, 200), (0, 2), (0, 0)]) (st := []) rfl rfl rfl rfl rfl (Nat.le_of_ble_eq_true rfl) (Nat.le_of_ble_eq_true rfl) (by omega) (by decide) (K41_t K41) (kv0 (st' := fun v => []) rfl (fun _ => rfl)) (H.mono (fun k v42 m43 H => ⟨H.1, ?_⟩))
    have K44 := H.2.1.2.1 K41
    replace H := H.2.2
    refine v_run 24 4 (pc' := 44) (ls' := [(1, 41), (0, a1), (0, a2), (0, a3), (9, 0)]) (st' := [(0, 0), (0, 0), (0, 58), (1, 41)]) rfl ?_
    refine v_callV (j := 28) (M' := mX10_push) (as := [(0, 58), (0, 0), (0, 0)]) (st := []) rfl rfl rfl rfl rfl (Nat.le_of_ble_eq_true rfl) (Nat.le_of_ble_eq_true rfl) (by omega) (by decide) (K41_t K44) (kv0 (st' := fun v => []) rfl (fun _ => rfl)) (H.mono (fun k v45 m46 H => ⟨H.1, ?_⟩))
    have K47 := H.2.1.2.1 K44
    replace H := H.2.2
    refine v_run 29 1 (pc' := 48) (ls' := [(1, 41), (0, a1), (0, a2), (0, a3), (9, 0)]) (st' := [(0, 1)]) rfl ?_
    exact v_iret (j := 30) rfl rfl rfl (Or.inr rfl) H

set_option maxRecDepth 100000 in
set_option maxHeartbeats 4000000 in
theorem wX10_beginPattern {G : GM} {d : Nat} {P : Nat → Int → SM → Prop} {m : SM} {a1 a2 : Int} (K : KI m) (hd : 12 ≤ d) 
    (H : (¬ (65 ≤ a1 ∧ a1 ≤ 90) → ((a1 = (95 : Int) → (WV G mX10_node 0 [(1, 41), (0, (if a1 ≠ (95 : Int) then 12 else 11)), (0, (wr (a1 - 48))), (0, a2)] [] m (d - 1) (fun k v1 m2 => k = 0 ∧ Ok m m2 ∧ (P 0 1 m2)))) ∧ (a1 ≠ (95 : Int) → ((48 ≤ a1 ∧ a1 ≤ 57 → (WV G mX10_node 0 [(1, 41), (0, (if a1 ≠ (95 : Int) then 12 else 11)), (0, (wr (a1 - 48))), (0, a2)] [] m (d - 1) (fun k v5 m6 => k = 0 ∧ Ok m m6 ∧ (P 0 1 m6)))) ∧ (¬ (48 ≤ a1 ∧ a1 ≤ 57) → (P 0 0 m)))))) ∧ (65 ≤ a1 ∧ a1 ≤ 90 → (WV G mX10_node 0 [(1, 41), (0, 13), (0, (wr (a1 - 65))), (0, a2)] [] m (d - 1) (fun k v9 m10 => k = 0 ∧ Ok m m10 ∧ (WV G mX10_push 0 [(1, 41), (0, 215), (0, v9), (0, 0)] [] m10 (d - 1) (fun k v12 m13 => k = 0 ∧ Ok m10 m13 ∧ (P 0 1 m13))))))) :
    WV G mX10_beginPattern 0 [(1, 41), (0, a1), (0, a2)] [] m d P := by
  refine v_run 0 1 (pc' := 1) (ls' := [(1, 41), (0, a1), (0, a2)]) (st' := [(0, a1)]) rfl ?_
  refine v_callS (j := 1) (M' := mX10_isLetter) (as := [(0, a1)]) (st := []) rfl rfl rfl rfl rfl (Nat.le_of_ble_eq_true rfl) (Nat.le_of_ble_eq_true rfl) (by omega) (kv0 (st' := fun v => [(0, v)]) rfl (fun _ => rfl)) (ipX10_isLetter ⟨rfl, ?_⟩)
  refine v_ifeq (j := 2) rfl rfl rfl (fun q => ?_) (fun q => ?_)
  · replace H := H.1 (ite0 q)
    refine v_run 16 2 (pc' := 31) (ls' := [(1, 41), (0, a1), (0, a2)]) (st' := [(0, 95), (0, a1)]) rfl ?_
    refine v_icmpeq (j := 18) rfl rfl rfl (fun q => ?_) (fun q => ?_)
    · replace H := H.1 q
      refine v_run 24 3 (pc' := 47) (ls' := [(1, 41), (0, a1), (0, a2)]) (st' := [(0, 95), (0, a1), (1, 41)]) rfl ?_
      have J4 : WV G mX10_beginPattern 57 [(1, 41), (0, a1), (0, a2)] [(0, (if a1 ≠ (95 : Int) then 12 else 11)), (1, 41)] m d P := by
        refine v_run 31 4 (pc' := 62) (ls' := [(1, 41), (0, a1), (0, a2)]) (st' := [(0, a2), (0, (wr (a1 - 48))), (0, (if a1 ≠ (95 : Int) then 12 else 11)), (1, 41)]) rfl ?_
        refine v_callV (j := 35) (M' := mX10_node) (as := [(0, (if a1 ≠ (95 : Int) then 12 else 11)), (0, (wr (a1 - 48))), (0, a2)]) (st := []) rfl rfl rfl rfl rfl (Nat.le_of_ble_eq_true rfl) (Nat.le_of_ble_eq_true rfl) (by omega) (by decide) (K41_t K) (kv0 (st' := fun v => [(0, v)]) rfl (fun _ => rfl)) (H.mono (fun k v1 m2 H => ⟨H.1, ?_⟩))
        have K3 := H.2.1.2.1 K
        replace H := H.2.2
        refine v_run 36 2 (pc' := 67) (ls' := [(1, 41), (0, a1), (0, a2)]) (st' := [(0, 1)]) rfl ?_
        exact v_iret (j := 38) rfl rfl rfl (Or.inr rfl) H
      refine v_icmpne (j := 27) rfl rfl rfl (fun q => ?_) (fun q => ?_)
      · rw [if_pos q] at J4
        refine v_run 30 1 (pc' := 57) (ls' := [(1, 41), (0, a1), (0, a2)]) (st' := [(0, 12), (1, 41)]) rfl ?_
        exact J4
      · rw [if_neg (fun z => z q)] at J4
        refine v_run 28 1 (pc' := 52) (ls' := [(1, 41), (0, a1), (0, a2)]) (st' := [(0, 11), (1, 41)]) rfl ?_
        refine v_goto (j := 29) (tgt := 57) rfl rfl ?_
        exact J4
    · replace H := H.2 q
      refine v_run 19 1 (pc' := 35) (ls' := [(1, 41), (0, a1), (0, a2)]) (st' := [(0, a1)]) rfl ?_
      refine v_callS (j := 20) (M' := mX10_isDigit) (as := [(0, a1)]) (st := []) rfl rfl rfl rfl rfl (Nat.le_of_ble_eq_true rfl) (Nat.le_of_ble_eq_true rfl) (by omega) (kv0 (st' := fun v => [(0, v)]) rfl (fun _ => rfl)) (ipX10_isDigit ⟨rfl, ?_⟩)
      refine v_ifne (j := 21) rfl rfl rfl (fun q => ?_) (fun q => ?_)
      · replace H := H.1 (ite1 q)
        refine v_run 24 3 (pc' := 47) (ls' := [(1, 41), (0, a1), (0, a2)]) (st' := [(0, 95), (0, a1), (1, 41)]) rfl ?_
        have J8 : WV G mX10_beginPattern 57 [(1, 41), (0, a1), (0, a2)] [(0, (if a1 ≠ (95 : Int) then 12 else 11)), (1, 41)] m d P := by
          refine v_run 31 4 (pc' := 62) (ls' := [(1, 41), (0, a1), (0, a2)]) (st' := [(0, a2), (0, (wr (a1 - 48))), (0, (if a1 ≠ (95 : Int) then 12 else 11)), (1, 41)]) rfl ?_
          refine v_callV (j := 35) (M' := mX10_node) (as := [(0, (if a1 ≠ (95 : Int) then 12 else 11)), (0, (wr (a1 - 48))), (0, a2)]) (st := []) rfl rfl rfl rfl rfl (Nat.le_of_ble_eq_true rfl) (Nat.le_of_ble_eq_true rfl) (by omega) (by decide) (K41_t K) (kv0 (st' := fun v => [(0, v)]) rfl (fun _ => rfl)) (H.mono (fun k v5 m6 H => ⟨H.1, ?_⟩))
          have K7 := H.2.1.2.1 K
          replace H := H.2.2
          refine v_run 36 2 (pc' := 67) (ls' := [(1, 41), (0, a1), (0, a2)]) (st' := [(0, 1)]) rfl ?_
          exact v_iret (j := 38) rfl rfl rfl (Or.inr rfl) H
        refine v_icmpne (j := 27) rfl rfl rfl (fun q => ?_) (fun q => ?_)
        · rw [if_pos q] at J8
          refine v_run 30 1 (pc' := 57) (ls' := [(1, 41), (0, a1), (0, a2)]) (st' := [(0, 12), (1, 41)]) rfl ?_
          exact J8
        · rw [if_neg (fun z => z q)] at J8
          refine v_run 28 1 (pc' := 52) (ls' := [(1, 41), (0, a1), (0, a2)]) (st' := [(0, 11), (1, 41)]) rfl ?_
          refine v_goto (j := 29) (tgt := 57) rfl rfl ?_
          exact J8
      · replace H := H.2 (ite0 q)
        refine v_run 22 1 (pc' := 42) (ls' := [(1, 41), (0, a1), (0, a2)]) (st' := [(0, 0)]) rfl ?_
        exact v_iret (j := 23) rfl rfl rfl (Or.inl rfl) H
  · replace H := H.2 (ite1 q)
    refine v_run 3 8 (pc' := 19) (ls' := [(1, 41), (0, a1), (0, a2)]) (st' := [(0, a2), (0, (wr (a1 - 65))), (0, 13), (1, 41), (0, 215), (1, 41)]) rfl ?_
    refine v_callV (j := 11) (M' := mX10_node) (as := [(0, 13), (0, (wr (a1 - 65))), (0, a2)]) (st := [(0, 215), (1, 41)]) rfl rfl rfl rfl rfl (Nat.le_of_ble_eq_true rfl) (Nat.le_of_ble_eq_true rfl) (by omega) (by decide) (K41_t K) (kv0 (st' := fun v => [(0, v), (0, 215), (1, 41)]) rfl (fun _ => rfl)) (H.mono (fun k v9 m10 H => ⟨H.1, ?_⟩))
    have K11 := H.2.1.2.1 K
    replace H := H.2.2
    refine v_run 12 1 (pc' := 23) (ls' := [(1, 41), (0, a1), (0, a2)]) (st' := [(0, 0), (0, v9), (0, 215), (1, 41)]) rfl ?_
    refine v_callV (j := 13) (M' := mX10_push) (as := [(0, 215), (0, v9), (0, 0)]) (st := []) rfl rfl rfl rfl rfl (Nat.le_of_ble_eq_true rfl) (Nat.le_of_ble_eq_true rfl) (by omega) (by decide) (K41_t K11) (kv0 (st' := fun v => []) rfl (fun _ => rfl)) (H.mono (fun k v12 m13 H => ⟨H.1, ?_⟩))
    have K14 := H.2.1.2.1 K11
    replace H := H.2.2
    refine v_run 14 1 (pc' := 27) (ls' := [(1, 41), (0, a1), (0, a2)]) (st' := [(0, 1)]) rfl ?_
    exact v_iret (j := 15) rfl rfl rfl (Or.inr rfl) H

set_option maxRecDepth 100000 in
set_option maxHeartbeats 4000000 in
theorem wX10_take {G : GM} {d : Nat} {P : Nat → Int → SM → Prop} {m : SM} {a1 a2 : Int} (K : KI m) (hd : 12 ≤ d) 
    (H : ((m 41 29) ≤ (0 : Int) → (P 0 0 m)) ∧ ((0 : Int) < (m 41 29) → (∀ m1, m1 = up m 41 29 (wr ((m 41 29) - 1)) → Ok m m1 → ((0 ≤ (m1 41 29)) ∧ ((m1 41 29) < 400) ∧ ((0 ≤ (m1 41 29)) ∧ ((m1 41 29) < 400) ∧ ((0 ≤ (m1 41 29)) ∧ ((m1 41 29) < 400) ∧ (((m1 64 (m1 41 29)) ≠ (201 : Int) → (WV G mX10_take 71 [(1, 41), (0, a1), (0, a2), (0, (m1 64 (m1 41 29))), (0, (m1 65 (m1 41 29))), (0, (m1 66 (m1 41 29))), (9, 0)] [] m1 d P)) ∧ ((m1 64 (m1 41 29)) = (201 : Int) → ((a1 ≠ (40 : Int) → (WV G mX10_take 104 [(1, 41), (0, a1), (0, a2), (0, (m1 64 (m1 41 29))), (0, (m1 65 (m1 41 29))), (0, (m1 66 (m1 41 29))), (9, 0)] [] m1 d P)) ∧ (a1 = (40 : Int) → (((wr ((m1 66 (m1 41 29)).tdiv 2)) = (8 : Int) → (WV G mX10_take 104 [(1, 41), (0, a1), (0, a2), (0, (m1 64 (m1 41 29))), (0, (m1 65 (m1 41 29))), (0, (m1 66 (m1 41 29))), (9, 0)] [] m1 d P)) ∧ ((wr ((m1 66 (m1 41 29)).tdiv 2)) ≠ (8 : Int) → (WV G mX10_take 71 [(1, 41), (0, a1), (0, a2), (0, (m1 64 (m1 41 29))), (0, (m1 65 (m1 41 29))), (0, (m1 66 (m1 41 29))), (9, 0)] [] m1 d P))))))))))))) :
    WV G mX10_take 0 [(1, 41), (0, a1), (0, a2), (9, 0), (9, 0), (9, 0), (9, 0)] [] m d P := by
  refine v_run 0 1 (pc' := 1) (ls' := [(1, 41), (0, a1), (0, a2), (9, 0), (9, 0), (9, 0), (9, 0)]) (st' := [(1, 41)]) rfl ?_
  refine v_getf (j := 1) (c := 24) (f := 29) rfl rfl rfl rfl rfl rfl rfl rfl (K41_t K) ?_
  refine v_ifle (j := 2) rfl rfl rfl (fun q => ?_) (fun q => ?_)
  · replace H := H.1 q
    refine v_run 89 1 (pc' := 173) (ls' := [(1, 41), (0, a1), (0, a2), (9, 0), (9, 0), (9, 0), (9, 0)]) (st' := [(0, 0)]) rfl ?_
    exact v_iret (j := 90) rfl rfl rfl (Or.inl rfl) H
  · replace H := H.2 q
    refine v_run 3 2 (pc' := 9) (ls' := [(1, 41), (0, a1), (0, a2), (9, 0), (9, 0), (9, 0), (9, 0)]) (st' := [(1, 41), (1, 41)]) rfl ?_
    refine v_getf (j := 5) (c := 24) (f := 29) rfl rfl rfl rfl rfl rfl rfl rfl (K41_t K) ?_
    refine v_run 6 2 (pc' := 14) (ls' := [(1, 41), (0, a1), (0, a2), (9, 0), (9, 0), (9, 0), (9, 0)]) (st' := [(0, (wr ((m 41 29) - 1))), (1, 41)]) rfl ?_
    refine v_putf (j := 8) (c := 24) (f := 29) rfl rfl rfl rfl (by decide +kernel) rfl rfl rfl rfl (K41_t K) trivial (fun m1 e2 => ?_)
    have O3 : Ok m m1 := Ok.wf e2 (K41_t K) (by decide) (by decide)
    have K4 := O3.2.1 K
    replace H := H m1 e2 O3
    refine v_run 9 1 (pc' := 18) (ls' := [(1, 41), (0, a1), (0, a2), (9, 0), (9, 0), (9, 0), (9, 0)]) (st' := [(1, 41)]) rfl ?_
    refine v_getK (j := 10) (c := 24) (f := 30) rfl rfl rfl rfl rfl rfl rfl rfl (K41_t K4) (K41_30 K4) ?_
    refine v_run 11 1 (pc' := 22) (ls' := [(1, 41), (0, a1), (0, a2), (9, 0), (9, 0), (9, 0), (9, 0)]) (st' := [(1, 41), (1, 64)]) rfl ?_
    refine v_getf (j := 12) (c := 24) (f := 29) rfl rfl rfl rfl rfl rfl rfl rfl (K41_t K4) ?_
    obtain ⟨i5, i6, H⟩ := H
    refine v_ald (j := 13) (t := 1) rfl rfl rfl rfl rfl rfl (K64_t K4) i5 (by rw [K64_l K4]; exact i6) ?_
    refine v_run 14 2 (pc' := 28) (ls' := [(1, 41), (0, a1), (0, a2), (0, (m1 64 (m1 41 29))), (9, 0), (9, 0), (9, 0)]) (st' := [(1, 41)]) rfl ?_
    refine v_getK (j := 16) (c := 24) (f := 31) rfl rfl rfl rfl rfl rfl rfl rfl (K41_t K4) (K41_31 K4) ?_
    refine v_run 17 1 (pc' := 32) (ls' := [(1, 41), (0, a1), (0, a2), (0, (m1 64 (m1 41 29))), (9, 0), (9, 0), (9, 0)]) (st' := [(1, 41), (1, 65)]) rfl ?_
    refine v_getf (j := 18) (c := 24) (f := 29) rfl rfl rfl rfl rfl rfl rfl rfl (K41_t K4) ?_
    obtain ⟨i7, i8, H⟩ := H
    refine v_ald (j := 19) (t := 1) rfl rfl rfl rfl rfl rfl (K65_t K4) i7 (by rw [K65_l K4]; exact i8) ?_
    refine v_run 20 2 (pc' := 39) (ls' := [(1, 41), (0, a1), (0, a2), (0, (m1 64 (m1 41 29))), (0, (m1 65 (m1 41 29))), (9, 0), (9, 0)]) (st' := [(1, 41)]) rfl ?_
    refine v_getK (j := 22) (c := 24) (f := 32) rfl rfl rfl rfl rfl rfl rfl rfl (K41_t K4) (K41_32 K4) ?_
    refine v_run 23 1 (pc' := 43) (ls' := [(1, 41), (0, a1), (0, a2), (0, (m1 64 (m1 41 29))), (0, (m1 65 (m1 41 29))), (9, 0), (9, 0)]) (st' := [(1, 41), (1, 66)]) rfl ?_
    refine v_getf (j := 24) (c := 24) (f := 29) rfl rfl rfl rfl rfl rfl rfl rfl (K41_t K4) ?_
    obtain ⟨i9, i10, H⟩ := H
    refine v_ald (j := 25) (t := 1) rfl rfl rfl rfl rfl rfl (K66_t K4) i9 (by rw [K66_l K4]; exact i10) ?_
    refine v_run 26 3 (pc' := 53) (ls' := [(1, 41), (0, a1), (0, a2), (0, (m1 64 (m1 41 29))), (0, (m1 65 (m1 41 29))), (0, (m1 66 (m1 41 29))), (9, 0)]) (st' := [(0, 201), (0, (m1 64 (m1 41 29)))]) rfl ?_
    refine v_icmpne (j := 29) rfl rfl rfl (fun q => ?_) (fun q => ?_)
    · replace H := H.1 q
      exact H
    · replace H := H.2 q
      refine v_run 30 2 (pc' := 59) (ls' := [(1, 41), (0, a1), (0, a2), (0, (m1 64 (m1 41 29))), (0, (m1 65 (m1 41 29))), (0, (m1 66 (m1 41 29))), (9, 0)]) (st' := [(0, 40), (0, a1)]) rfl ?_
      refine v_icmpne (j := 32) rfl rfl rfl (fun q => ?_) (fun q => ?_)
      · replace H := H.1 q
        exact H
      · replace H := H.2 q
        refine v_run 33 2 (pc' := 65) (ls' := [(1, 41), (0, a1), (0, a2), (0, (m1 64 (m1 41 29))), (0, (m1 65 (m1 41 29))), (0, (m1 66 (m1 41 29))), (9, 0)]) (st' := [(0, 2), (0, (m1 66 (m1 41 29)))]) rfl ?_
        refine v_idiv (j := 35) rfl rfl (by decide) ?_
        refine v_run 36 1 (pc' := 68) (ls' := [(1, 41), (0, a1), (0, a2), (0, (m1 64 (m1 41 29))), (0, (m1 65 (m1 41 29))), (0, (m1 66 (m1 41 29))), (9, 0)]) (st' := [(0, 8), (0, (wr ((m1 66 (m1 41 29)).tdiv 2)))]) rfl ?_
        refine v_icmpeq (j := 37) rfl rfl rfl (fun q => ?_) (fun q => ?_)
        · replace H := H.1 q
          exact H
        · replace H := H.2 q
          exact H

set_option maxRecDepth 100000 in
set_option maxHeartbeats 4000000 in
theorem wX10_take_71 {G : GM} {d : Nat} {P : Nat → Int → SM → Prop} {m : SM} {a1 a2 a3 a4 a5 : Int} (K : KI m) (hd : 12 ≤ d) 
    (H : (a3 ≠ (211 : Int) → (WV G mX10_take 91 [(1, 41), (0, a1), (0, a2), (0, a3), (0, a4), (0, a5), (9, 0)] [] m d P)) ∧ (a3 = (211 : Int) → ((a1 ≠ (40 : Int) → (WV G mX10_take 104 [(1, 41), (0, a1), (0, a2), (0, a3), (0, a4), (0, a5), (9, 0)] [] m d P)) ∧ (a1 = (40 : Int) → ((a5 = (12 : Int) → (WV G mX10_take 104 [(1, 41), (0, a1), (0, a2), (0, a3), (0, a4), (0, a5), (9, 0)] [] m d P)) ∧ (a5 ≠ (12 : Int) → (WV G mX10_take 91 [(1, 41), (0, a1), (0, a2), (0, a3), (0, a4), (0, a5), (9, 0)] [] m d P))))))) :
    WV G mX10_take 71 [(1, 41), (0, a1), (0, a2), (0, a3), (0, a4), (0, a5), (9, 0)] [] m d P := by
  refine v_run 38 2 (pc' := 75) (ls' := [(1, 41), (0, a1), (0, a2), (0, a3), (0, a4), (0, a5), (9, 0)]) (st' := [(0, 211), (0, a3)]) rfl ?_
  refine v_icmpne (j := 40) rfl rfl rfl (fun q => ?_) (fun q => ?_)
  · replace H := H.1 q
    exact H
  · replace H := H.2 q
    refine v_run 41 2 (pc' := 81) (ls' := [(1, 41), (0, a1), (0, a2), (0, a3), (0, a4), (0, a5), (9, 0)]) (st' := [(0, 40), (0, a1)]) rfl ?_
    refine v_icmpne (j := 43) rfl rfl rfl (fun q => ?_) (fun q => ?_)
    · replace H := H.1 q
      exact H
    · replace H := H.2 q
      refine v_run 44 2 (pc' := 88) (ls' := [(1, 41), (0, a1), (0, a2), (0, a3), (0, a4), (0, a5), (9, 0)]) (st' := [(0, 12), (0, a5)]) rfl ?_
      refine v_icmpeq (j := 46) rfl rfl rfl (fun q => ?_) (fun q => ?_)
      · replace H := H.1 q
        exact H
      · replace H := H.2 q
        exact H

set_option maxRecDepth 100000 in
set_option maxHeartbeats 4000000 in
theorem wX10_take_91 {G : GM} {d : Nat} {P : Nat → Int → SM → Prop} {m : SM} {a1 a2 a3 a4 a5 : Int} (K : KI m) (hd : 12 ≤ d) 
    (H : (a3 ≠ (215 : Int) → (WV G mX10_take 108 [(1, 41), (0, a1), (0, a2), (0, a3), (0, a4), (0, a5), (9, 0)] [] m d P)) ∧ (a3 = (215 : Int) → ((a1 = (40 : Int) → (WV G mX10_take 108 [(1, 41), (0, a1), (0, a2), (0, a3), (0, a4), (0, a5), (9, 0)] [] m d P)) ∧ (a1 ≠ (40 : Int) → (WV G mX10_take 104 [(1, 41), (0, a1), (0, a2), (0, a3), (0, a4), (0, a5), (9, 0)] [] m d P))))) :
    WV G mX10_take 91 [(1, 41), (0, a1), (0, a2), (0, a3), (0, a4), (0, a5), (9, 0)] [] m d P := by
  refine v_run 47 2 (pc' := 95) (ls' := [(1, 41), (0, a1), (0, a2), (0, a3), (0, a4), (0, a5), (9, 0)]) (st' := [(0, 215), (0, a3)]) rfl ?_
  refine v_icmpne (j := 49) rfl rfl rfl (fun q => ?_) (fun q => ?_)
  · replace H := H.1 q
    exact H
  · replace H := H.2 q
    refine v_run 50 2 (pc' := 101) (ls' := [(1, 41), (0, a1), (0, a2), (0, a3), (0, a4), (0, a5), (9, 0)]) (st' := [(0, 40), (0, a1)]) rfl ?_
    refine v_icmpeq (j := 52) rfl rfl rfl (fun q => ?_) (fun q => ?_)
    · replace H := H.1 q
      exact H
    · replace H := H.2 q
      exact H

set_option maxRecDepth 100000 in
set_option maxHeartbeats 4000000 in
theorem wX10_take_104 {G : GM} {d : Nat} {P : Nat → Int → SM → Prop} {m : SM} {a1 a2 a3 a4 a5 : Int} (K : KI m) (hd : 12 ≤ d) 
    (H : WV G mX10_take 0 [(1, 41), (0, a1), (0, a2), (9, 0), (9, 0), (9, 0), (9, 0)] [] m d P) :
    WV G mX10_take 104 [(1, 41), (0, a1), (0, a2), (0, a3), (0, a4), (0, a5), (9, 0)] [] m d P := by
  refine v_run 53 1 (pc' := 105) (ls' := [(1, 41), (0, a1), (0, a2), (0, a3), (0, a4), (0, a5), (9, 0)]) (st' := [(0, 1)]) rfl ?_
  refine v_goto (j := 54) (tgt := 109) rfl rfl ?_
  refine v_run 56 2 (pc' := 113) (ls' := [(1, 41), (0, a1), (0, a2), (0, a3), (0, a4), (0, a5), (0, 1)]) (st' := [(0, 1)]) rfl ?_
  refine v_ifne (j := 58) rfl rfl rfl (fun q => ?_) (fun q => absurd q (by decide))
  refine v_goto (j := 88) (tgt := 0) rfl rfl ?_
  refine v_drp [true, true, true, false, false, false, false] ?_
  exact H

set_option maxRecDepth 100000 in
set_option maxHeartbeats 4000000 in
theorem wX10_take_108 {G : GM} {d : Nat} {P : Nat → Int → SM → Prop} {m : SM} {a1 a2 a3 a4 a5 : Int} (K : KI m) (hd : 12 ≤ d) 
    (H : ((200 : Int) ≤ a3 → (((209 : Int) ≤ a3 → (WV G mX10_takeCoded 0 [(1, 41), (0, a3), (0, a4), (0, a5), (0, a1), (0, a2)] [] m (d - 1) (fun k v1 m2 => k = 0 ∧ Ok m m2 ∧ ((v1 = 0 ∨ v1 = 1) ∧ (P 0 v1 m2))))) ∧ (a3 < (209 : Int) → (WV G mX10_takeDeclared 0 [(1, 41), (0, a3), (0, a4), (0, a5), (0, a1), (0, a2)] [] m (d - 1) (fun k v5 m6 => k = 0 ∧ Ok m m6 ∧ ((v5 = 0 ∨ v5 = 1) ∧ (P 0 v5 m6))))))) ∧ (a3 < (200 : Int) → ((a1 ≠ a3 → (P 0 0 m)) ∧ (a1 = a3 → (P 0 1 m))))) :
    WV G mX10_take 108 [(1, 41), (0, a1), (0, a2), (0, a3), (0, a4), (0, a5), (9, 0)] [] m d P := by
  refine v_run 55 3 (pc' := 113) (ls' := [(1, 41), (0, a1), (0, a2), (0, a3), (0, a4), (0, a5), (0, 0)]) (st' := [(0, 0)]) rfl ?_
  refine v_ifne (j := 58) rfl rfl rfl (fun q => absurd q (by decide)) (fun q => ?_)
  refine v_run 59 2 (pc' := 120) (ls' := [(1, 41), (0, a1), (0, a2), (0, a3), (0, a4), (0, a5), (0, 0)]) (st' := [(0, 200), (0, a3)]) rfl ?_
  refine v_icmpge (j := 61) rfl rfl rfl (fun q => ?_) (fun q => ?_)
  · replace H := H.1 q
    refine v_run 69 2 (pc' := 140) (ls' := [(1, 41), (0, a1), (0, a2), (0, a3), (0, a4), (0, a5), (0, 0)]) (st' := [(0, 209), (0, a3)]) rfl ?_
    refine v_icmpge (j := 71) rfl rfl rfl (fun q => ?_) (fun q => ?_)
    · replace H := H.1 q
      refine v_run 80 6 (pc' := 165) (ls' := [(1, 41), (0, a1), (0, a2), (0, a3), (0, a4), (0, a5), (0, 0)]) (st' := [(0, a2), (0, a1), (0, a5), (0, a4), (0, a3), (1, 41)]) rfl ?_
      refine v_callV (j := 86) (M' := mX10_takeCoded) (as := [(0, a3), (0, a4), (0, a5), (0, a1), (0, a2)]) (st := []) rfl rfl rfl rfl rfl (Nat.le_of_ble_eq_true rfl) (Nat.le_of_ble_eq_true rfl) (by omega) (by decide) (K41_t K) (kv0 (st' := fun v => [(0, v)]) rfl (fun _ => rfl)) (H.mono (fun k v1 m2 H => ⟨H.1, ?_⟩))
      have K3 := H.2.1.2.1 K
      replace H := H.2.2
      obtain ⟨r4, H⟩ := H
      exact v_iret (j := 87) rfl rfl rfl r4 H
    · replace H := H.2 q
      refine v_run 72 6 (pc' := 151) (ls' := [(1, 41), (0, a1), (0, a2), (0, a3), (0, a4), (0, a5), (0, 0)]) (st' := [(0, a2), (0, a1), (0, a5), (0, a4), (0, a3), (1, 41)]) rfl ?_
      refine v_callV (j := 78) (M' := mX10_takeDeclared) (as := [(0, a3), (0, a4), (0, a5), (0, a1), (0, a2)]) (st := []) rfl rfl rfl rfl rfl (Nat.le_of_ble_eq_true rfl) (Nat.le_of_ble_eq_true rfl) (by omega) (by decide) (K41_t K) (kv0 (st' := fun v => [(0, v)]) rfl (fun _ => rfl)) (H.mono (fun k v5 m6 H => ⟨H.1, ?_⟩))
      have K7 := H.2.1.2.1 K
      replace H := H.2.2
      refine v_goto (j := 79) (tgt := 168) rfl rfl ?_
      obtain ⟨r8, H⟩ := H
      exact v_iret (j := 87) rfl rfl rfl r8 H
  · replace H := H.2 q
    refine v_run 62 2 (pc' := 125) (ls' := [(1, 41), (0, a1), (0, a2), (0, a3), (0, a4), (0, a5), (0, 0)]) (st' := [(0, a3), (0, a1)]) rfl ?_
    refine v_icmpne (j := 64) rfl rfl rfl (fun q => ?_) (fun q => ?_)
    · replace H := H.1 q
      refine v_run 67 1 (pc' := 133) (ls' := [(1, 41), (0, a1), (0, a2), (0, a3), (0, a4), (0, a5), (0, 0)]) (st' := [(0, 0)]) rfl ?_
      refine v_goto (j := 68) (tgt := 168) rfl rfl ?_
      exact v_iret (j := 87) rfl rfl rfl (Or.inl rfl) H
    · replace H := H.2 q
      refine v_run 65 1 (pc' := 129) (ls' := [(1, 41), (0, a1), (0, a2), (0, a3), (0, a4), (0, a5), (0, 0)]) (st' := [(0, 1)]) rfl ?_
      refine v_goto (j := 66) (tgt := 168) rfl rfl ?_
      exact v_iret (j := 87) rfl rfl rfl (Or.inr rfl) H

set_option maxRecDepth 100000 in
set_option maxHeartbeats 4000000 in
theorem wX10_takeDeclared {G : GM} {d : Nat} {P : Nat → Int → SM → Prop} {m : SM} {a1 a2 a3 a4 a5 : Int} (K : KI m) (hd : 12 ≤ d) 
    (H : ((a1 < 200 ∨ 207 < a1) → ((a4 ≠ (41 : Int) → ((0 ≤ a2) ∧ (a2 < 180) ∧ (((m 62 a2) ≠ (6 : Int) → ((0 ≤ a2) ∧ (a2 < 180) ∧ ((0 ≤ a2) ∧ (a2 < 180) ∧ (∀ m7, m7 = up m 62 a2 (wr ((m 62 a2) + 1)) → Ok m m7 → (WV G mX10_push 0 [(1, 41), (0, 208), (0, a2), (0, 0)] [] m7 (d - 1) (fun k v11 m12 => k = 0 ∧ Ok m7 m12 ∧ (WV G mX10_beginTerm 0 [(1, 41), (0, a4), (0, a5), (0, 2)] [] m12 (d - 1) (fun k v14 m15 => k = 0 ∧ Ok m12 m15 ∧ ((v14 = 0 ∨ v14 = 1) ∧ (P 0 v14 m15)))))))))) ∧ ((m 62 a2) = (6 : Int) → (P 0 0 m))))) ∧ (a4 = (41 : Int) → (P 0 1 m)))) ∧ (a1 = 200 → (WV G mX10_beginTerm 0 [(1, 41), (0, a4), (0, a5), (0, (wr (a2 + a3)))] [] m (d - 1) (fun k v18 m19 => k = 0 ∧ Ok m m19 ∧ ((v18 = 0 ∨ v18 = 1) ∧ (P 0 v18 m19))))) ∧ (a1 = 201 → ((0 ≤ a2) ∧ (a2 < 2720) ∧ (∀ m24, m24 = up m 56 a2 1 → Ok m m24 → (WV G mX10_push 0 [(1, 41), (0, 202), (0, a2), (0, a3)] [] m24 (d - 1) (fun k v28 m29 => k = 0 ∧ Ok m24 m29 ∧ (WV G mX10_push 0 [(1, 41), (0, 200), (0, (wr (a3 + 2))), (0, 0)] [] m29 (d - 1) (fun k v31 m32 => k = 0 ∧ Ok m29 m32 ∧ (P 0 1 m32)))))))) ∧ (a1 = 202 → ((a4 ≠ (41 : Int) → ((0 ≤ a2) ∧ (a2 < 2720) ∧ (((m 56 a2) ≠ (6 : Int) → ((0 ≤ a2) ∧ (a2 < 2720) ∧ ((0 ≤ a2) ∧ (a2 < 2720) ∧ (∀ m40, m40 = up m 56 a2 (wr ((m 56 a2) + 1)) → Ok m m40 → (WV G mX10_push 0 [(1, 41), (0, 202), (0, a2), (0, a3)] [] m40 (d - 1) (fun k v44 m45 => k = 0 ∧ Ok m40 m45 ∧ (WV G mX10_beginTerm 0 [(1, 41), (0, a4), (0, a5), (0, (wr (a3 + 2)))] [] m45 (d - 1) (fun k v47 m48 => k = 0 ∧ Ok m45 m48 ∧ ((v47 = 0 ∨ v47 = 1) ∧ (P 0 v47 m48)))))))))) ∧ ((m 56 a2) = (6 : Int) → (P 0 0 m))))) ∧ (a4 = (41 : Int) → (P 0 1 m)))) ∧ (a1 = 203 → ((a4 ≠ (62 : Int) → (WV G mX10_beginPart 0 [(1, 41), (0, a4), (0, a5), (0, 0), (9, 0)] [] m (d - 1) (fun k v51 m52 => k = 0 ∧ Ok m m52 ∧ ((v51 = 0 ∨ v51 = 1) ∧ (P 0 v51 m52))))) ∧ (a4 = (62 : Int) → (WV G mX10_push 0 [(1, 41), (0, 206), (0, 0), (0, 0)] [] m (d - 1) (fun k v55 m56 => k = 0 ∧ Ok m m56 ∧ (P 0 1 m56)))))) ∧ (a1 = 204 → (WV G mX10_beginPart 0 [(1, 41), (0, a4), (0, a5), (0, a2), (9, 0)] [] m (d - 1) (fun k v58 m59 => k = 0 ∧ Ok m m59 ∧ ((v58 = 0 ∨ v58 = 1) ∧ (P 0 v58 m59))))) ∧ (a1 = 205 → ((a4 ≠ (62 : Int) → (WV G mX10_push 0 [(1, 41), (0, 204), (0, a2), (0, 0)] [] m (d - 1) (fun k v62 m63 => k = 0 ∧ Ok m m63 ∧ ((a4 = (62 : Int) → (P 0 1 m63)) ∧ (a4 ≠ (62 : Int) → ((a4 ≠ (44 : Int) → (P 0 0 m63)) ∧ (a4 = (44 : Int) → (((6 : Int) ≤ a2 → (P 0 0 m63)) ∧ (a2 < (6 : Int) → (P 0 1 m63)))))))))) ∧ (a4 = (62 : Int) → (WV G mX10_push 0 [(1, 41), (0, 206), (0, 0), (0, 0)] [] m (d - 1) (fun k v65 m66 => k = 0 ∧ Ok m m66 ∧ ((a4 = (62 : Int) → (P 0 1 m66)) ∧ (a4 ≠ (62 : Int) → ((a4 ≠ (44 : Int) → (P 0 0 m66)) ∧ (a4 = (44 : Int) → (((6 : Int) ≤ a2 → (P 0 0 m66)) ∧ (a2 < (6 : Int) → (P 0 1 m66)))))))))))) ∧ (a1 = 206 → (∃ Q68 : Int → Prop, ((a4 ≠ (42 : Int) → (Q68 (m 41 16))) ∧ (a4 = (42 : Int) → (Q68 (-2)))) ∧ (∀ v69, Q68 v69 → (∀ m72, m72 = up m 41 34 v69 → Ok m m72 → ((a4 = (42 : Int) → (P 0 1 m72)) ∧ (a4 ≠ (42 : Int) → (WV G mX10_beginTerm 0 [(1, 41), (0, a4), (0, a5), (0, 2)] [] m72 (d - 1) (fun k v76 m77 => k = 0 ∧ Ok m72 m77 ∧ ((v76 = (0 : Int) → (P 0 0 m77)) ∧ (v76 ≠ (0 : Int) → (P 0 1 m77))))))))))) ∧ (a1 = 207 → ((0 ≤ a2) ∧ (a2 < 180) ∧ (∀ m81, m81 = up m 60 a2 (wr (a4 - 65)) → Ok m m81 → ((0 ≤ a2) ∧ (a2 < 180) ∧ (∀ m87, m87 = up m81 63 a2 a5 → Ok m81 m87 → ((((if 65 ≤ a4 ∧ a4 ≤ 90 then 1 else 0) : Int) = 0 ∨ ((if 65 ≤ a4 ∧ a4 ≤ 90 then 1 else 0) : Int) = 1) ∧ (P 0 (if 65 ≤ a4 ∧ a4 ≤ 90 then 1 else 0) m87)))))))) :
    WV G mX10_takeDeclared 0 [(1, 41), (0, a1), (0, a2), (0, a3), (0, a4), (0, a5)] [] m d P := by
  refine v_run 0 1 (pc' := 1) (ls' := [(1, 41), (0, a1), (0, a2), (0, a3), (0, a4), (0, a5)]) (st' := [(0, a1)]) rfl ?_
  refine v_tsw (j := 1) (tdf := 304) (tg := [48, 60, 89, 142, 170, 180, 234, 279]) rfl rfl rfl rfl (fun q => ?_) (fun k n hk q => ?_)
  · replace H := H.1 q
    refine v_run 149 2 (pc' := 308) (ls' := [(1, 41), (0, a1), (0, a2), (0, a3), (0, a4), (0, a5)]) (st' := [(0, 41), (0, a4)]) rfl ?_
    refine v_icmpne (j := 151) rfl rfl rfl (fun q => ?_) (fun q => ?_)
    · replace H := H.1 q
      refine v_run 154 1 (pc' := 314) (ls' := [(1, 41), (0, a1), (0, a2), (0, a3), (0, a4), (0, a5)]) (st' := [(1, 41)]) rfl ?_
      refine v_getK (j := 155) (c := 24) (f := 27) rfl rfl rfl rfl rfl rfl rfl rfl (K41_t K) (K41_27 K) ?_
      refine v_run 156 1 (pc' := 318) (ls' := [(1, 41), (0, a1), (0, a2), (0, a3), (0, a4), (0, a5)]) (st' := [(0, a2), (1, 62)]) rfl ?_
      obtain ⟨i1, i2, H⟩ := H
      refine v_ald (j := 157) (t := 1) rfl rfl rfl rfl rfl rfl (K62_t K) i1 (by rw [K62_l K]; exact i2) ?_
      refine v_run 158 1 (pc' := 321) (ls' := [(1, 41), (0, a1), (0, a2), (0, a3), (0, a4), (0, a5)]) (st' := [(0, 6), (0, (m 62 a2))]) rfl ?_
      refine v_icmpne (j := 159) rfl rfl rfl (fun q => ?_) (fun q => ?_)
      · replace H := H.1 q
        refine v_run 162 1 (pc' := 327) (ls' := [(1, 41), (0, a1), (0, a2), (0, a3), (0, a4), (0, a5)]) (st' := [(1, 41)]) rfl ?_
        refine v_getK (j := 163) (c := 24) (f := 27) rfl rfl rfl rfl rfl rfl rfl rfl (K41_t K) (K41_27 K) ?_
        refine v_run 164 2 (pc' := 332) (ls' := [(1, 41), (0, a1), (0, a2), (0, a3), (0, a4), (0, a5)]) (st' := [(0, a2), (1, 62), (0, a2), (1, 62)]) rfl ?_
        obtain ⟨i3, i4, H⟩ := H
        refine v_ald (j := 166) (t := 1) rfl rfl rfl rfl rfl rfl (K62_t K) i3 (by rw [K62_l K]; exact i4) ?_
        refine v_run 167 2 (pc' := 335) (ls' := [(1, 41), (0, a1), (0, a2), (0, a3), (0, a4), (0, a5)]) (st' := [(0, (wr ((m 62 a2) + 1))), (0, a2), (1, 62)]) rfl ?_
        obtain ⟨i5, i6, H⟩ := H
        refine v_ast (j := 169) (t := 1) rfl rfl rfl rfl rfl rfl (by decide) (by decide) (K62_t K) i5 (by rw [K62_l K]; exact i6) trivial (fun m7 e8 => ?_)
        have O9 : Ok m m7 := Ok.wa e8 (K62_t K) (by decide) i5
        have K10 := O9.2.1 K
        replace H := H m7 e8 O9
        refine v_run 170 4 (pc' := 342) (ls' := [(1, 41), (0, a1), (0, a2), (0, a3), (0, a4), (0, a5)]) (st' := [(0, 0), (0, a2), (0, 208), (1, 41)]) rfl ?_
        refine v_callV (j := 174) (M' := mX10_push) (as := [(0, 208), (0, a2), (0, 0)]) (st := []) rfl rfl rfl rfl rfl (Nat.le_of_ble_eq_true rfl) (Nat.le_of_ble_eq_true rfl) (by omega) (by decide) (K41_t K10) (kv0 (st' := fun v => []) rfl (fun _ => rfl)) (H.mono (fun k v11 m12 H => ⟨H.1, ?_⟩))
        have K13 := H.2.1.2.1 K10
        replace H := H.2.2
        refine v_run 175 4 (pc' := 351) (ls' := [(1, 41), (0, a1), (0, a2), (0, a3), (0, a4), (0, a5)]) (st' := [(0, 2), (0, a5), (0, a4), (1, 41)]) rfl ?_
        refine v_callV (j := 179) (M' := mX10_beginTerm) (as := [(0, a4), (0, a5), (0, 2)]) (st := []) rfl rfl rfl rfl rfl (Nat.le_of_ble_eq_true rfl) (Nat.le_of_ble_eq_true rfl) (by omega) (by decide) (K41_t K13) (kv0 (st' := fun v => [(0, v)]) rfl (fun _ => rfl)) (H.mono (fun k v14 m15 H => ⟨H.1, ?_⟩))
        have K16 := H.2.1.2.1 K13
        replace H := H.2.2
        obtain ⟨r17, H⟩ := H
        exact v_iret (j := 180) rfl rfl rfl r17 H
      · replace H := H.2 q
        refine v_run 160 1 (pc' := 325) (ls' := [(1, 41), (0, a1), (0, a2), (0, a3), (0, a4), (0, a5)]) (st' := [(0, 0)]) rfl ?_
        exact v_iret (j := 161) rfl rfl rfl (Or.inl rfl) H
    · replace H := H.2 q
      refine v_run 152 1 (pc' := 312) (ls' := [(1, 41), (0, a1), (0, a2), (0, a3), (0, a4), (0, a5)]) (st' := [(0, 1)]) rfl ?_
      exact v_iret (j := 153) rfl rfl rfl (Or.inr rfl) H
  · replace H := H.2
    match k, hk, q with
    | 0, hk, q =>
      cases hk
      replace H := H.1 q
      refine v_run 2 6 (pc' := 56) (ls' := [(1, 41), (0, a1), (0, a2), (0, a3), (0, a4), (0, a5)]) (st' := [(0, (wr (a2 + a3))), (0, a5), (0, a4), (1, 41)]) rfl ?_
      refine v_callV (j := 8) (M' := mX10_beginTerm) (as := [(0, a4), (0, a5), (0, (wr (a2 + a3)))]) (st := []) rfl rfl rfl rfl rfl (Nat.le_of_ble_eq_true rfl) (Nat.le_of_ble_eq_true rfl) (by omega) (by decide) (K41_t K) (kv0 (st' := fun v => [(0, v)]) rfl (fun _ => rfl)) (H.mono (fun k v18 m19 H => ⟨H.1, ?_⟩))
      have K20 := H.2.1.2.1 K
      replace H := H.2.2
      obtain ⟨r21, H⟩ := H
      exact v_iret (j := 9) rfl rfl rfl r21 H
    | 1, hk, q =>
      cases hk
      replace H := H.2.1 q
      refine v_run 10 1 (pc' := 61) (ls' := [(1, 41), (0, a1), (0, a2), (0, a3), (0, a4), (0, a5)]) (st' := [(1, 41)]) rfl ?_
      refine v_getK (j := 11) (c := 24) (f := 19) rfl rfl rfl rfl rfl rfl rfl rfl (K41_t K) (K41_19 K) ?_
      refine v_run 12 2 (pc' := 66) (ls' := [(1, 41), (0, a1), (0, a2), (0, a3), (0, a4), (0, a5)]) (st' := [(0, 1), (0, a2), (1, 56)]) rfl ?_
      obtain ⟨i22, i23, H⟩ := H
      refine v_ast (j := 14) (t := 1) rfl rfl rfl rfl rfl rfl (by decide) (by decide) (K56_t K) i22 (by rw [K56_l K]; exact i23) trivial (fun m24 e25 => ?_)
      have O26 : Ok m m24 := Ok.wa e25 (K56_t K) (by decide) i22
      have K27 := O26.2.1 K
      replace H := H m24 e25 O26
      refine v_run 15 4 (pc' := 73) (ls' := [(1, 41), (0, a1), (0, a2), (0, a3), (0, a4), (0, a5)]) (st' := [(0, a3), (0, a2), (0, 202), (1, 41)]) rfl ?_
      refine v_callV (j := 19) (M' := mX10_push) (as := [(0, 202), (0, a2), (0, a3)]) (st := []) rfl rfl rfl rfl rfl (Nat.le_of_ble_eq_true rfl) (Nat.le_of_ble_eq_true rfl) (by omega) (by decide) (K41_t K27) (kv0 (st' := fun v => []) rfl (fun _ => rfl)) (H.mono (fun k v28 m29 H => ⟨H.1, ?_⟩))
      have K30 := H.2.1.2.1 K27
      replace H := H.2.2
      refine v_run 20 6 (pc' := 84) (ls' := [(1, 41), (0, a1), (0, a2), (0, a3), (0, a4), (0, a5)]) (st' := [(0, 0), (0, (wr (a3 + 2))), (0, 200), (1, 41)]) rfl ?_
      refine v_callV (j := 26) (M' := mX10_push) (as := [(0, 200), (0, (wr (a3 + 2))), (0, 0)]) (st := []) rfl rfl rfl rfl rfl (Nat.le_of_ble_eq_true rfl) (Nat.le_of_ble_eq_true rfl) (by omega) (by decide) (K41_t K30) (kv0 (st' := fun v => []) rfl (fun _ => rfl)) (H.mono (fun k v31 m32 H => ⟨H.1, ?_⟩))
      have K33 := H.2.1.2.1 K30
      replace H := H.2.2
      refine v_run 27 1 (pc' := 88) (ls' := [(1, 41), (0, a1), (0, a2), (0, a3), (0, a4), (0, a5)]) (st' := [(0, 1)]) rfl ?_
      exact v_iret (j := 28) rfl rfl rfl (Or.inr rfl) H
    | 2, hk, q =>
      cases hk
      replace H := H.2.2.1 q
      refine v_run 29 2 (pc' := 93) (ls' := [(1, 41), (0, a1), (0, a2), (0, a3), (0, a4), (0, a5)]) (st' := [(0, 41), (0, a4)]) rfl ?_
      refine v_icmpne (j := 31) rfl rfl rfl (fun q => ?_) (fun q => ?_)
      · replace H := H.1 q
        refine v_run 34 1 (pc' := 99) (ls' := [(1, 41), (0, a1), (0, a2), (0, a3), (0, a4), (0, a5)]) (st' := [(1, 41)]) rfl ?_
        refine v_getK (j := 35) (c := 24) (f := 19) rfl rfl rfl rfl rfl rfl rfl rfl (K41_t K) (K41_19 K) ?_
        refine v_run 36 1 (pc' := 103) (ls' := [(1, 41), (0, a1), (0, a2), (0, a3), (0, a4), (0, a5)]) (st' := [(0, a2), (1, 56)]) rfl ?_
        obtain ⟨i34, i35, H⟩ := H
        refine v_ald (j := 37) (t := 1) rfl rfl rfl rfl rfl rfl (K56_t K) i34 (by rw [K56_l K]; exact i35) ?_
        refine v_run 38 1 (pc' := 106) (ls' := [(1, 41), (0, a1), (0, a2), (0, a3), (0, a4), (0, a5)]) (st' := [(0, 6), (0, (m 56 a2))]) rfl ?_
        refine v_icmpne (j := 39) rfl rfl rfl (fun q => ?_) (fun q => ?_)
        · replace H := H.1 q
          refine v_run 42 1 (pc' := 112) (ls' := [(1, 41), (0, a1), (0, a2), (0, a3), (0, a4), (0, a5)]) (st' := [(1, 41)]) rfl ?_
          refine v_getK (j := 43) (c := 24) (f := 19) rfl rfl rfl rfl rfl rfl rfl rfl (K41_t K) (K41_19 K) ?_
          refine v_run 44 2 (pc' := 117) (ls' := [(1, 41), (0, a1), (0, a2), (0, a3), (0, a4), (0, a5)]) (st' := [(0, a2), (1, 56), (0, a2), (1, 56)]) rfl ?_
          obtain ⟨i36, i37, H⟩ := H
          refine v_ald (j := 46) (t := 1) rfl rfl rfl rfl rfl rfl (K56_t K) i36 (by rw [K56_l K]; exact i37) ?_
          refine v_run 47 2 (pc' := 120) (ls' := [(1, 41), (0, a1), (0, a2), (0, a3), (0, a4), (0, a5)]) (st' := [(0, (wr ((m 56 a2) + 1))), (0, a2), (1, 56)]) rfl ?_
          obtain ⟨i38, i39, H⟩ := H
          refine v_ast (j := 49) (t := 1) rfl rfl rfl rfl rfl rfl (by decide) (by decide) (K56_t K) i38 (by rw [K56_l K]; exact i39) trivial (fun m40 e41 => ?_)
          have O42 : Ok m m40 := Ok.wa e41 (K56_t K) (by decide) i38
          have K43 := O42.2.1 K
          replace H := H m40 e41 O42
          refine v_run 50 4 (pc' := 127) (ls' := [(1, 41), (0, a1), (0, a2), (0, a3), (0, a4), (0, a5)]) (st' := [(0, a3), (0, a2), (0, 202), (1, 41)]) rfl ?_
          refine v_callV (j := 54) (M' := mX10_push) (as := [(0, 202), (0, a2), (0, a3)]) (st := []) rfl rfl rfl rfl rfl (Nat.le_of_ble_eq_true rfl) (Nat.le_of_ble_eq_true rfl) (by omega) (by decide) (K41_t K43) (kv0 (st' := fun v => []) rfl (fun _ => rfl)) (H.mono (fun k v44 m45 H => ⟨H.1, ?_⟩))
          have K46 := H.2.1.2.1 K43
          replace H := H.2.2
          refine v_run 55 6 (pc' := 138) (ls' := [(1, 41), (0, a1), (0, a2), (0, a3), (0, a4), (0, a5)]) (st' := [(0, (wr (a3 + 2))), (0, a5), (0, a4), (1, 41)]) rfl ?_
          refine v_callV (j := 61) (M' := mX10_beginTerm) (as := [(0, a4), (0, a5), (0, (wr (a3 + 2)))]) (st := []) rfl rfl rfl rfl rfl (Nat.le_of_ble_eq_true rfl) (Nat.le_of_ble_eq_true rfl) (by omega) (by decide) (K41_t K46) (kv0 (st' := fun v => [(0, v)]) rfl (fun _ => rfl)) (H.mono (fun k v47 m48 H => ⟨H.1, ?_⟩))
          have K49 := H.2.1.2.1 K46
          replace H := H.2.2
          obtain ⟨r50, H⟩ := H
          exact v_iret (j := 62) rfl rfl rfl r50 H
        · replace H := H.2 q
          refine v_run 40 1 (pc' := 110) (ls' := [(1, 41), (0, a1), (0, a2), (0, a3), (0, a4), (0, a5)]) (st' := [(0, 0)]) rfl ?_
          exact v_iret (j := 41) rfl rfl rfl (Or.inl rfl) H
      · replace H := H.2 q
        refine v_run 32 1 (pc' := 97) (ls' := [(1, 41), (0, a1), (0, a2), (0, a3), (0, a4), (0, a5)]) (st' := [(0, 1)]) rfl ?_
        exact v_iret (j := 33) rfl rfl rfl (Or.inr rfl) H
    | 3, hk, q =>
      cases hk
      replace H := H.2.2.2.1 q
      refine v_run 63 2 (pc' := 146) (ls' := [(1, 41), (0, a1), (0, a2), (0, a3), (0, a4), (0, a5)]) (st' := [(0, 62), (0, a4)]) rfl ?_
      refine v_icmpne (j := 65) rfl rfl rfl (fun q => ?_) (fun q => ?_)
      · replace H := H.1 q
        refine v_run 73 4 (pc' := 166) (ls' := [(1, 41), (0, a1), (0, a2), (0, a3), (0, a4), (0, a5)]) (st' := [(0, 0), (0, a5), (0, a4), (1, 41)]) rfl ?_
        refine v_callV (j := 77) (M' := mX10_beginPart) (as := [(0, a4), (0, a5), (0, 0)]) (st := []) rfl rfl rfl rfl rfl (Nat.le_of_ble_eq_true rfl) (Nat.le_of_ble_eq_true rfl) (by omega) (by decide) (K41_t K) (kv0 (st' := fun v => [(0, v)]) rfl (fun _ => rfl)) (H.mono (fun k v51 m52 H => ⟨H.1, ?_⟩))
        have K53 := H.2.1.2.1 K
        replace H := H.2.2
        obtain ⟨r54, H⟩ := H
        exact v_iret (j := 78) rfl rfl rfl r54 H
      · replace H := H.2 q
        refine v_run 66 4 (pc' := 155) (ls' := [(1, 41), (0, a1), (0, a2), (0, a3), (0, a4), (0, a5)]) (st' := [(0, 0), (0, 0), (0, 206), (1, 41)]) rfl ?_
        refine v_callV (j := 70) (M' := mX10_push) (as := [(0, 206), (0, 0), (0, 0)]) (st := []) rfl rfl rfl rfl rfl (Nat.le_of_ble_eq_true rfl) (Nat.le_of_ble_eq_true rfl) (by omega) (by decide) (K41_t K) (kv0 (st' := fun v => []) rfl (fun _ => rfl)) (H.mono (fun k v55 m56 H => ⟨H.1, ?_⟩))
        have K57 := H.2.1.2.1 K
        replace H := H.2.2
        refine v_run 71 1 (pc' := 159) (ls' := [(1, 41), (0, a1), (0, a2), (0, a3), (0, a4), (0, a5)]) (st' := [(0, 1)]) rfl ?_
        exact v_iret (j := 72) rfl rfl rfl (Or.inr rfl) H
    | 4, hk, q =>
      cases hk
      replace H := H.2.2.2.2.1 q
      refine v_run 79 4 (pc' := 176) (ls' := [(1, 41), (0, a1), (0, a2), (0, a3), (0, a4), (0, a5)]) (st' := [(0, a2), (0, a5), (0, a4), (1, 41)]) rfl ?_
      refine v_callV (j := 83) (M' := mX10_beginPart) (as := [(0, a4), (0, a5), (0, a2)]) (st := []) rfl rfl rfl rfl rfl (Nat.le_of_ble_eq_true rfl) (Nat.le_of_ble_eq_true rfl) (by omega) (by decide) (K41_t K) (kv0 (st' := fun v => [(0, v)]) rfl (fun _ => rfl)) (H.mono (fun k v58 m59 H => ⟨H.1, ?_⟩))
      have K60 := H.2.1.2.1 K
      replace H := H.2.2
      obtain ⟨r61, H⟩ := H
      exact v_iret (j := 84) rfl rfl rfl r61 H
    | 5, hk, q =>
      cases hk
      replace H := H.2.2.2.2.2.1 q
      refine v_run 85 2 (pc' := 184) (ls' := [(1, 41), (0, a1), (0, a2), (0, a3), (0, a4), (0, a5)]) (st' := [(0, 62), (0, a4)]) rfl ?_
      refine v_icmpne (j := 87) rfl rfl rfl (fun q => ?_) (fun q => ?_)
      · replace H := H.1 q
        refine v_run 94 4 (pc' := 205) (ls' := [(1, 41), (0, a1), (0, a2), (0, a3), (0, a4), (0, a5)]) (st' := [(0, 0), (0, a2), (0, 204), (1, 41)]) rfl ?_
        refine v_callV (j := 98) (M' := mX10_push) (as := [(0, 204), (0, a2), (0, 0)]) (st := []) rfl rfl rfl rfl rfl (Nat.le_of_ble_eq_true rfl) (Nat.le_of_ble_eq_true rfl) (by omega) (by decide) (K41_t K) (kv0 (st' := fun v => []) rfl (fun _ => rfl)) (H.mono (fun k v62 m63 H => ⟨H.1, ?_⟩))
        have K64 := H.2.1.2.1 K
        replace H := H.2.2
        refine v_run 99 2 (pc' := 212) (ls' := [(1, 41), (0, a1), (0, a2), (0, a3), (0, a4), (0, a5)]) (st' := [(0, 62), (0, a4)]) rfl ?_
        refine v_icmpeq (j := 101) rfl rfl rfl (fun q => ?_) (fun q => ?_)
        · replace H := H.1 q
          refine v_run 108 1 (pc' := 229) (ls' := [(1, 41), (0, a1), (0, a2), (0, a3), (0, a4), (0, a5)]) (st' := [(0, 1)]) rfl ?_
          refine v_goto (j := 109) (tgt := 233) rfl rfl ?_
          exact v_iret (j := 111) rfl rfl rfl (Or.inr rfl) H
        · replace H := H.2 q
          refine v_run 102 2 (pc' := 219) (ls' := [(1, 41), (0, a1), (0, a2), (0, a3), (0, a4), (0, a5)]) (st' := [(0, 44), (0, a4)]) rfl ?_
          refine v_icmpne (j := 104) rfl rfl rfl (fun q => ?_) (fun q => ?_)
          · replace H := H.1 q
            refine v_run 110 1 (pc' := 233) (ls' := [(1, 41), (0, a1), (0, a2), (0, a3), (0, a4), (0, a5)]) (st' := [(0, 0)]) rfl ?_
            exact v_iret (j := 111) rfl rfl rfl (Or.inl rfl) H
          · replace H := H.2 q
            refine v_run 105 2 (pc' := 225) (ls' := [(1, 41), (0, a1), (0, a2), (0, a3), (0, a4), (0, a5)]) (st' := [(0, 6), (0, a2)]) rfl ?_
            refine v_icmpge (j := 107) rfl rfl rfl (fun q => ?_) (fun q => ?_)
            · replace H := H.1 q
              refine v_run 110 1 (pc' := 233) (ls' := [(1, 41), (0, a1), (0, a2), (0, a3), (0, a4), (0, a5)]) (st' := [(0, 0)]) rfl ?_
              exact v_iret (j := 111) rfl rfl rfl (Or.inl rfl) H
            · replace H := H.2 q
              refine v_run 108 1 (pc' := 229) (ls' := [(1, 41), (0, a1), (0, a2), (0, a3), (0, a4), (0, a5)]) (st' := [(0, 1)]) rfl ?_
              refine v_goto (j := 109) (tgt := 233) rfl rfl ?_
              exact v_iret (j := 111) rfl rfl rfl (Or.inr rfl) H
      · replace H := H.2 q
        refine v_run 88 4 (pc' := 193) (ls' := [(1, 41), (0, a1), (0, a2), (0, a3), (0, a4), (0, a5)]) (st' := [(0, 0), (0, 0), (0, 206), (1, 41)]) rfl ?_
        refine v_callV (j := 92) (M' := mX10_push) (as := [(0, 206), (0, 0), (0, 0)]) (st := []) rfl rfl rfl rfl rfl (Nat.le_of_ble_eq_true rfl) (Nat.le_of_ble_eq_true rfl) (by omega) (by decide) (K41_t K) (kv0 (st' := fun v => []) rfl (fun _ => rfl)) (H.mono (fun k v65 m66 H => ⟨H.1, ?_⟩))
        have K67 := H.2.1.2.1 K
        replace H := H.2.2
        refine v_goto (j := 93) (tgt := 208) rfl rfl ?_
        refine v_run 99 2 (pc' := 212) (ls' := [(1, 41), (0, a1), (0, a2), (0, a3), (0, a4), (0, a5)]) (st' := [(0, 62), (0, a4)]) rfl ?_
        refine v_icmpeq (j := 101) rfl rfl rfl (fun q => ?_) (fun q => ?_)
        · replace H := H.1 q
          refine v_run 108 1 (pc' := 229) (ls' := [(1, 41), (0, a1), (0, a2), (0, a3), (0, a4), (0, a5)]) (st' := [(0, 1)]) rfl ?_
          refine v_goto (j := 109) (tgt := 233) rfl rfl ?_
          exact v_iret (j := 111) rfl rfl rfl (Or.inr rfl) H
        · replace H := H.2 q
          refine v_run 102 2 (pc' := 219) (ls' := [(1, 41), (0, a1), (0, a2), (0, a3), (0, a4), (0, a5)]) (st' := [(0, 44), (0, a4)]) rfl ?_
          refine v_icmpne (j := 104) rfl rfl rfl (fun q => ?_) (fun q => ?_)
          · replace H := H.1 q
            refine v_run 110 1 (pc' := 233) (ls' := [(1, 41), (0, a1), (0, a2), (0, a3), (0, a4), (0, a5)]) (st' := [(0, 0)]) rfl ?_
            exact v_iret (j := 111) rfl rfl rfl (Or.inl rfl) H
          · replace H := H.2 q
            refine v_run 105 2 (pc' := 225) (ls' := [(1, 41), (0, a1), (0, a2), (0, a3), (0, a4), (0, a5)]) (st' := [(0, 6), (0, a2)]) rfl ?_
            refine v_icmpge (j := 107) rfl rfl rfl (fun q => ?_) (fun q => ?_)
            · replace H := H.1 q
              refine v_run 110 1 (pc' := 233) (ls' := [(1, 41), (0, a1), (0, a2), (0, a3), (0, a4), (0, a5)]) (st' := [(0, 0)]) rfl ?_
              exact v_iret (j := 111) rfl rfl rfl (Or.inl rfl) H
            · replace H := H.2 q
              refine v_run 108 1 (pc' := 229) (ls' := [(1, 41), (0, a1), (0, a2), (0, a3), (0, a4), (0, a5)]) (st' := [(0, 1)]) rfl ?_
              refine v_goto (j := 109) (tgt := 233) rfl rfl ?_
              exact v_iret (j := 111) rfl rfl rfl (Or.inr rfl) H
    | 6, hk, q =>
      cases hk
      replace H := H.2.2.2.2.2.2.1 q
      refine v_run 112 3 (pc' := 239) (ls' := [(1, 41), (0, a1), (0, a2), (0, a3), (0, a4), (0, a5)]) (st' := [(0, 42), (0, a4), (1, 41)]) rfl ?_
      obtain ⟨Q68, H, J71⟩ := H
      have J71 : ∀ v69, Q68 v69 → WV G mX10_takeDeclared 251 [(1, 41), (0, a1), (0, a2), (0, a3), (0, a4), (0, a5)] [(0, v69), (1, 41)] m d P := by
        intro v69 q70
        have H := J71 v69 q70
        refine v_putf (j := 120) (c := 24) (f := 34) rfl rfl rfl rfl (by decide +kernel) rfl rfl rfl rfl (K41_t K) trivial (fun m72 e73 => ?_)
        have O74 : Ok m m72 := Ok.wf e73 (K41_t K) (by decide) (by decide)
        have K75 := O74.2.1 K
        replace H := H m72 e73 O74
        refine v_run 121 2 (pc' := 258) (ls' := [(1, 41), (0, a1), (0, a2), (0, a3), (0, a4), (0, a5)]) (st' := [(0, 42), (0, a4)]) rfl ?_
        refine v_icmpeq (j := 123) rfl rfl rfl (fun q => ?_) (fun q => ?_)
        · replace H := H.1 q
          refine v_run 130 1 (pc' := 274) (ls' := [(1, 41), (0, a1), (0, a2), (0, a3), (0, a4), (0, a5)]) (st' := [(0, 1)]) rfl ?_
          refine v_goto (j := 131) (tgt := 278) rfl rfl ?_
          exact v_iret (j := 133) rfl rfl rfl (Or.inr rfl) H
        · replace H := H.2 q
          refine v_run 124 4 (pc' := 267) (ls' := [(1, 41), (0, a1), (0, a2), (0, a3), (0, a4), (0, a5)]) (st' := [(0, 2), (0, a5), (0, a4), (1, 41)]) rfl ?_
          refine v_callV (j := 128) (M' := mX10_beginTerm) (as := [(0, a4), (0, a5), (0, 2)]) (st := []) rfl rfl rfl rfl rfl (Nat.le_of_ble_eq_true rfl) (Nat.le_of_ble_eq_true rfl) (by omega) (by decide) (K41_t K75) (kv0 (st' := fun v => [(0, v)]) rfl (fun _ => rfl)) (H.mono (fun k v76 m77 H => ⟨H.1, ?_⟩))
          have K78 := H.2.1.2.1 K75
          replace H := H.2.2
          refine v_ifeq (j := 129) rfl rfl rfl (fun q => ?_) (fun q => ?_)
          · replace H := H.1 q
            refine v_run 132 1 (pc' := 278) (ls' := [(1, 41), (0, a1), (0, a2), (0, a3), (0, a4), (0, a5)]) (st' := [(0, 0)]) rfl ?_
            exact v_iret (j := 133) rfl rfl rfl (Or.inl rfl) H
          · replace H := H.2 q
            refine v_run 130 1 (pc' := 274) (ls' := [(1, 41), (0, a1), (0, a2), (0, a3), (0, a4), (0, a5)]) (st' := [(0, 1)]) rfl ?_
            refine v_goto (j := 131) (tgt := 278) rfl rfl ?_
            exact v_iret (j := 133) rfl rfl rfl (Or.inr rfl) H
      refine v_icmpne (j := 115) rfl rfl rfl (fun q => ?_) (fun q => ?_)
      · replace H := H.1 q
        refine v_run 118 1 (pc' := 248) (ls' := [(1, 41), (0, a1), (0, a2), (0, a3), (0, a4), (0, a5)]) (st' := [(1, 41), (1, 41)]) rfl ?_
        refine v_getf (j := 119) (c := 24) (f := 16) rfl rfl rfl rfl rfl rfl rfl rfl (K41_t K) ?_
        exact J71 _ H
      · replace H := H.2 q
        refine v_run 116 1 (pc' := 244) (ls' := [(1, 41), (0, a1), (0, a2), (0, a3), (0, a4), (0, a5)]) (st' := [(0, (-2)), (1, 41)]) rfl ?_
        refine v_goto (j := 117) (tgt := 251) rfl rfl ?_
        exact J71 _ H
    | 7, hk, q =>
      cases hk
      replace H := H.2.2.2.2.2.2.2 q
      refine v_run 134 1 (pc' := 280) (ls' := [(1, 41), (0, a1), (0, a2), (0, a3), (0, a4), (0, a5)]) (st' := [(1, 41)]) rfl ?_
      refine v_getK (j := 135) (c := 24) (f := 25) rfl rfl rfl rfl rfl rfl rfl rfl (K41_t K) (K41_25 K) ?_
      refine v_run 136 4 (pc' := 289) (ls' := [(1, 41), (0, a1), (0, a2), (0, a3), (0, a4), (0, a5)]) (st' := [(0, (wr (a4 - 65))), (0, a2), (1, 60)]) rfl ?_
      obtain ⟨i79, i80, H⟩ := H
      refine v_ast (j := 140) (t := 1) rfl rfl rfl rfl rfl rfl (by decide) (by decide) (K60_t K) i79 (by rw [K60_l K]; exact i80) trivial (fun m81 e82 => ?_)
      have O83 : Ok m m81 := Ok.wa e82 (K60_t K) (by decide) i79
      have K84 := O83.2.1 K
      replace H := H m81 e82 O83
      refine v_run 141 1 (pc' := 291) (ls' := [(1, 41), (0, a1), (0, a2), (0, a3), (0, a4), (0, a5)]) (st' := [(1, 41)]) rfl ?_
      refine v_getK (j := 142) (c := 24) (f := 28) rfl rfl rfl rfl rfl rfl rfl rfl (K41_t K84) (K41_28 K84) ?_
      refine v_run 143 2 (pc' := 297) (ls' := [(1, 41), (0, a1), (0, a2), (0, a3), (0, a4), (0, a5)]) (st' := [(0, a5), (0, a2), (1, 63)]) rfl ?_
      obtain ⟨i85, i86, H⟩ := H
      refine v_ast (j := 145) (t := 1) rfl rfl rfl rfl rfl rfl (by decide) (by decide) (K63_t K84) i85 (by rw [K63_l K84]; exact i86) trivial (fun m87 e88 => ?_)
      have O89 : Ok m81 m87 := Ok.wa e88 (K63_t K84) (by decide) i85
      have K90 := O89.2.1 K84
      replace H := H m87 e88 O89
      refine v_run 146 1 (pc' := 300) (ls' := [(1, 41), (0, a1), (0, a2), (0, a3), (0, a4), (0, a5)]) (st' := [(0, a4)]) rfl ?_
      refine v_callS (j := 147) (M' := mX10_isLetter) (as := [(0, a4)]) (st := []) rfl rfl rfl rfl rfl (Nat.le_of_ble_eq_true rfl) (Nat.le_of_ble_eq_true rfl) (by omega) (kv0 (st' := fun v => [(0, v)]) rfl (fun _ => rfl)) (ipX10_isLetter ⟨rfl, ?_⟩)
      obtain ⟨r91, H⟩ := H
      exact v_iret (j := 148) rfl rfl rfl r91 H
    | k + 8, hk, q => exact absurd hk (by simp)

set_option maxRecDepth 100000 in
set_option maxHeartbeats 4000000 in
theorem wX10_takeCoded {G : GM} {d : Nat} {P : Nat → Int → SM → Prop} {m : SM} {a1 a2 a3 a4 a5 : Int} (K : KI m) (hd : 12 ≤ d) 
    (H : ((a1 < 209 ∨ 217 < a1) → ((a2 ≠ (6 : Int) → (WV G mX10_push 0 [(1, 41), (0, 218), (0, (wr (a2 + 1))), (0, 0)] [] m (d - 1) (fun k v1 m2 => k = 0 ∧ Ok m m2 ∧ (∀ m4, m4 = up m2 41 34 (wr (a2 + 1)) → Ok m2 m4 → (WV G mX10_beginTerm 0 [(1, 41), (0, a4), (0, a5), (0, 2)] [] m4 (d - 1) (fun k v8 m9 => k = 0 ∧ Ok m4 m9 ∧ ((v8 = 0 ∨ v8 = 1) ∧ (P 0 v8 m9)))))))) ∧ (a2 = (6 : Int) → (P 0 0 m)))) ∧ (a1 = 209 → ((a4 ≠ (61 : Int) → (WV G mX10_takeCoded 74 [(1, 41), (9, 0), (0, a2), (9, 0), (0, a4), (9, 0)] [] m d P)) ∧ (a4 = (61 : Int) → ((a2 ≤ (0 : Int) → (WV G mX10_takeCoded 74 [(1, 41), (9, 0), (0, a2), (9, 0), (0, a4), (9, 0)] [] m d P)) ∧ ((0 : Int) < a2 → (WV G mX10_push 0 [(1, 41), (0, 210), (0, 1), (0, 0)] [] m (d - 1) (fun k v12 m13 => k = 0 ∧ Ok m m13 ∧ (P 0 1 m13)))))))) ∧ (a1 = 210 → (WV G mX10_beginCode 0 [(1, 41), (0, a4), (0, a5), (0, a2), (9, 0)] [] m (d - 1) (fun k v15 m16 => k = 0 ∧ Ok m m16 ∧ ((v15 = 0 ∨ v15 = 1) ∧ (P 0 v15 m16))))) ∧ (a1 = 211 → ((0 ≤ a2) ∧ (a2 < 2720) ∧ (∀ m21, m21 = up m 56 a2 1 → Ok m m21 → (WV G mX10_push 0 [(1, 41), (0, 212), (0, a2), (0, a3)] [] m21 (d - 1) (fun k v25 m26 => k = 0 ∧ Ok m21 m26 ∧ (WV G mX10_push 0 [(1, 41), (0, 210), (0, (wr (a3 + 1))), (0, 0)] [] m26 (d - 1) (fun k v28 m29 => k = 0 ∧ Ok m26 m29 ∧ (P 0 1 m29)))))))) ∧ (a1 = 212 → ((a4 ≠ (41 : Int) → ((0 ≤ a2) ∧ (a2 < 2720) ∧ (((m 56 a2) ≠ (6 : Int) → ((0 ≤ a2) ∧ (a2 < 2720) ∧ ((0 ≤ a2) ∧ (a2 < 2720) ∧ (∀ m37, m37 = up m 56 a2 (wr ((m 56 a2) + 1)) → Ok m m37 → (WV G mX10_push 0 [(1, 41), (0, 212), (0, a2), (0, a3)] [] m37 (d - 1) (fun k v41 m42 => k = 0 ∧ Ok m37 m42 ∧ (WV G mX10_beginCode 0 [(1, 41), (0, a4), (0, a5), (0, (wr (a3 + 1))), (9, 0)] [] m42 (d - 1) (fun k v44 m45 => k = 0 ∧ Ok m42 m45 ∧ ((v44 = 0 ∨ v44 = 1) ∧ (P 0 v44 m45)))))))))) ∧ ((m 56 a2) = (6 : Int) → (P 0 0 m))))) ∧ (a4 = (41 : Int) → (P 0 1 m)))) ∧ (a1 = 213 → ((a4 ≠ (125 : Int) → ((a4 ≠ (124 : Int) → (P 0 0 m)) ∧ (a4 = (124 : Int) → ((0 ≤ a2) ∧ (a2 < 2720) ∧ (((m 56 a2) ≠ (5 : Int) → ((0 ≤ a2) ∧ (a2 < 2720) ∧ ((0 ≤ a2) ∧ (a2 < 2720) ∧ (∀ m54, m54 = up m 56 a2 (wr ((m 56 a2) + 1)) → Ok m m54 → (WV G mX10_push 0 [(1, 41), (0, 213), (0, a2), (0, a3)] [] m54 (d - 1) (fun k v58 m59 => k = 0 ∧ Ok m54 m59 ∧ (WV G mX10_push 0 [(1, 41), (0, 210), (0, (wr (a3 + 1))), (0, 0)] [] m59 (d - 1) (fun k v61 m62 => k = 0 ∧ Ok m59 m62 ∧ (WV G mX10_push 0 [(1, 41), (0, 62), (0, 0), (0, 0)] [] m62 (d - 1) (fun k v64 m65 => k = 0 ∧ Ok m62 m65 ∧ (WV G mX10_push 0 [(1, 41), (0, 214), (0, 0), (0, 0)] [] m65 (d - 1) (fun k v67 m68 => k = 0 ∧ Ok m65 m68 ∧ (P 0 1 m68))))))))))))) ∧ ((m 56 a2) = (5 : Int) → (P 0 0 m))))))) ∧ (a4 = (125 : Int) → ((0 ≤ a2) ∧ (a2 < 2720) ∧ (((m 56 a2) ≤ (0 : Int) → (P 0 0 m)) ∧ ((0 : Int) < (m 56 a2) → (P 0 1 m))))))) ∧ (a1 = 214 → (WV G mX10_beginPattern 0 [(1, 41), (0, a4), (0, a5)] [] m (d - 1) (fun k v72 m73 => k = 0 ∧ Ok m m73 ∧ ((v72 = 0 ∨ v72 = 1) ∧ (P 0 v72 m73))))) ∧ (a1 = 215 → (WV G mX10_push 0 [(1, 41), (0, 216), (0, a2), (0, 0)] [] m (d - 1) (fun k v76 m77 => k = 0 ∧ Ok m m77 ∧ (P 0 1 m77)))) ∧ (a1 = 216 → ((a4 ≠ (41 : Int) → ((¬ (97 ≤ a4 ∧ a4 ≤ 122) → (P 0 0 m)) ∧ (97 ≤ a4 ∧ a4 ≤ 122 → ((0 ≤ a2) ∧ (a2 < 2720) ∧ (((m 56 a2) ≠ (6 : Int) → (WV G mX10_node 0 [(1, 41), (0, 14), (0, (wr (a4 - 97))), (0, a5)] [] m (d - 1) (fun k v81 m82 => k = 0 ∧ Ok m m82 ∧ ((0 ≤ a2) ∧ (a2 < 2720) ∧ ((0 ≤ a2) ∧ (a2 < 2720) ∧ (∀ m88, m88 = up m82 56 a2 (wr ((m82 56 a2) + 1)) → Ok m82 m88 → (WV G mX10_push 0 [(1, 41), (0, 216), (0, a2), (0, 0)] [] m88 (d - 1) (fun k v92 m93 => k = 0 ∧ Ok m88 m93 ∧ (P 0 1 m93))))))))) ∧ ((m 56 a2) = (6 : Int) → (P 0 0 m))))))) ∧ (a4 = (41 : Int) → ((0 ≤ a2) ∧ (a2 < 2720) ∧ (((m 56 a2) ≤ (0 : Int) → (P 0 0 m)) ∧ ((0 : Int) < (m 56 a2) → (P 0 1 m))))))) ∧ (a1 = 217 → ((0 ≤ a2) ∧ (a2 < 2720) ∧ (∀ m99, m99 = up m 55 a2 a4 → Ok m m99 → ((a4 = (61 : Int) → (P 0 1 m99)) ∧ (a4 ≠ (61 : Int) → ((a4 ≠ (60 : Int) → (P 0 0 m99)) ∧ (a4 = (60 : Int) → (P 0 1 m99))))))))) :
    WV G mX10_takeCoded 0 [(1, 41), (0, a1), (0, a2), (0, a3), (0, a4), (0, a5)] [] m d P := by
  refine v_run 0 1 (pc' := 1) (ls' := [(1, 41), (0, a1), (0, a2), (0, a3), (0, a4), (0, a5)]) (st' := [(0, a1)]) rfl ?_
  refine v_tsw (j := 1) (tdf := 428) (tg := [52, 120, 130, 159, 212, 302, 311, 322, 400]) rfl rfl rfl rfl (fun q => ?_) (fun k n hk q => ?_)
  · replace H := H.1 q
    refine v_run 230 2 (pc' := 431) (ls' := [(1, 41), (0, a1), (0, a2), (0, a3), (0, a4), (0, a5)]) (st' := [(0, 6), (0, a2)]) rfl ?_
    refine v_icmpne (j := 232) rfl rfl rfl (fun q => ?_) (fun q => ?_)
    · replace H := H.1 q
      refine v_run 235 6 (pc' := 444) (ls' := [(1, 41), (0, a1), (0, a2), (0, a3), (0, a4), (0, a5)]) (st' := [(0, 0), (0, (wr (a2 + 1))), (0, 218), (1, 41)]) rfl ?_
      refine v_callV (j := 241) (M' := mX10_push) (as := [(0, 218), (0, (wr (a2 + 1))), (0, 0)]) (st := []) rfl rfl rfl rfl rfl (Nat.le_of_ble_eq_true rfl) (Nat.le_of_ble_eq_true rfl) (by omega) (by decide) (K41_t K) (kv0 (st' := fun v => []) rfl (fun _ => rfl)) (H.mono (fun k v1 m2 H => ⟨H.1, ?_⟩))
      have K3 := H.2.1.2.1 K
      replace H := H.2.2
      refine v_run 242 4 (pc' := 451) (ls' := [(1, 41), (0, a1), (0, a2), (0, a3), (0, a4), (0, a5)]) (st' := [(0, (wr (a2 + 1))), (1, 41)]) rfl ?_
      refine v_putf (j := 246) (c := 24) (f := 34) rfl rfl rfl rfl (by decide +kernel) rfl rfl rfl rfl (K41_t K3) trivial (fun m4 e5 => ?_)
      have O6 : Ok m2 m4 := Ok.wf e5 (K41_t K3) (by decide) (by decide)
      have K7 := O6.2.1 K3
      replace H := H m4 e5 O6
      refine v_run 247 4 (pc' := 460) (ls' := [(1, 41), (0, a1), (0, a2), (0, a3), (0, a4), (0, a5)]) (st' := [(0, 2), (0, a5), (0, a4), (1, 41)]) rfl ?_
      refine v_callV (j := 251) (M' := mX10_beginTerm) (as := [(0, a4), (0, a5), (0, 2)]) (st := []) rfl rfl rfl rfl rfl (Nat.le_of_ble_eq_true rfl) (Nat.le_of_ble_eq_true rfl) (by omega) (by decide) (K41_t K7) (kv0 (st' := fun v => [(0, v)]) rfl (fun _ => rfl)) (H.mono (fun k v8 m9 H => ⟨H.1, ?_⟩))
      have K10 := H.2.1.2.1 K7
      replace H := H.2.2
      obtain ⟨r11, H⟩ := H
      exact v_iret (j := 252) rfl rfl rfl r11 H
    · replace H := H.2 q
      refine v_run 233 1 (pc' := 435) (ls' := [(1, 41), (0, a1), (0, a2), (0, a3), (0, a4), (0, a5)]) (st' := [(0, 0)]) rfl ?_
      exact v_iret (j := 234) rfl rfl rfl (Or.inl rfl) H
  · replace H := H.2
    match k, hk, q with
    | 0, hk, q =>
      cases hk
      replace H := H.1 q
      refine v_run 2 2 (pc' := 56) (ls' := [(1, 41), (0, a1), (0, a2), (0, a3), (0, a4), (0, a5)]) (st' := [(0, 61), (0, a4)]) rfl ?_
      refine v_icmpne (j := 4) rfl rfl rfl (fun q => ?_) (fun q => ?_)
      · replace H := H.1 q
        refine v_drp [true, false, true, false, true, false] ?_
        exact H
      · replace H := H.2 q
        refine v_run 5 1 (pc' := 60) (ls' := [(1, 41), (0, a1), (0, a2), (0, a3), (0, a4), (0, a5)]) (st' := [(0, a2)]) rfl ?_
        refine v_ifle (j := 6) rfl rfl rfl (fun q => ?_) (fun q => ?_)
        · replace H := H.1 q
          refine v_drp [true, false, true, false, true, false] ?_
          exact H
        · replace H := H.2 q
          refine v_run 7 4 (pc' := 69) (ls' := [(1, 41), (0, a1), (0, a2), (0, a3), (0, a4), (0, a5)]) (st' := [(0, 0), (0, 1), (0, 210), (1, 41)]) rfl ?_
          refine v_callV (j := 11) (M' := mX10_push) (as := [(0, 210), (0, 1), (0, 0)]) (st := []) rfl rfl rfl rfl rfl (Nat.le_of_ble_eq_true rfl) (Nat.le_of_ble_eq_true rfl) (by omega) (by decide) (K41_t K) (kv0 (st' := fun v => []) rfl (fun _ => rfl)) (H.mono (fun k v12 m13 H => ⟨H.1, ?_⟩))
          have K14 := H.2.1.2.1 K
          replace H := H.2.2
          refine v_run 12 1 (pc' := 73) (ls' := [(1, 41), (0, a1), (0, a2), (0, a3), (0, a4), (0, a5)]) (st' := [(0, 1)]) rfl ?_
          exact v_iret (j := 13) rfl rfl rfl (Or.inr rfl) H
    | 1, hk, q =>
      cases hk
      replace H := H.2.1 q
      refine v_run 43 4 (pc' := 126) (ls' := [(1, 41), (0, a1), (0, a2), (0, a3), (0, a4), (0, a5)]) (st' := [(0, a2), (0, a5), (0, a4), (1, 41)]) rfl ?_
      refine v_callV (j := 47) (M' := mX10_beginCode) (as := [(0, a4), (0, a5), (0, a2)]) (st := []) rfl rfl rfl rfl rfl (Nat.le_of_ble_eq_true rfl) (Nat.le_of_ble_eq_true rfl) (by omega) (by decide) (K41_t K) (kv0 (st' := fun v => [(0, v)]) rfl (fun _ => rfl)) (H.mono (fun k v15 m16 H => ⟨H.1, ?_⟩))
      have K17 := H.2.1.2.1 K
      replace H := H.2.2
      obtain ⟨r18, H⟩ := H
      exact v_iret (j := 48) rfl rfl rfl r18 H
    | 2, hk, q =>
      cases hk
      replace H := H.2.2.1 q
      refine v_run 49 1 (pc' := 131) (ls' := [(1, 41), (0, a1), (0, a2), (0, a3), (0, a4), (0, a5)]) (st' := [(1, 41)]) rfl ?_
      refine v_getK (j := 50) (c := 24) (f := 19) rfl rfl rfl rfl rfl rfl rfl rfl (K41_t K) (K41_19 K) ?_
      refine v_run 51 2 (pc' := 136) (ls' := [(1, 41), (0, a1), (0, a2), (0, a3), (0, a4), (0, a5)]) (st' := [(0, 1), (0, a2), (1, 56)]) rfl ?_
      obtain ⟨i19, i20, H⟩ := H
      refine v_ast (j := 53) (t := 1) rfl rfl rfl rfl rfl rfl (by decide) (by decide) (K56_t K) i19 (by rw [K56_l K]; exact i20) trivial (fun m21 e22 => ?_)
      have O23 : Ok m m21 := Ok.wa e22 (K56_t K) (by decide) i19
      have K24 := O23.2.1 K
      replace H := H m21 e22 O23
      refine v_run 54 4 (pc' := 143) (ls' := [(1, 41), (0, a1), (0, a2), (0, a3), (0, a4), (0, a5)]) (st' := [(0, a3), (0, a2), (0, 212), (1, 41)]) rfl ?_
      refine v_callV (j := 58) (M' := mX10_push) (as := [(0, 212), (0, a2), (0, a3)]) (st := []) rfl rfl rfl rfl rfl (Nat.le_of_ble_eq_true rfl) (Nat.le_of_ble_eq_true rfl) (by omega) (by decide) (K41_t K24) (kv0 (st' := fun v => []) rfl (fun _ => rfl)) (H.mono (fun k v25 m26 H => ⟨H.1, ?_⟩))
      have K27 := H.2.1.2.1 K24
      replace H := H.2.2
      refine v_run 59 6 (pc' := 154) (ls' := [(1, 41), (0, a1), (0, a2), (0, a3), (0, a4), (0, a5)]) (st' := [(0, 0), (0, (wr (a3 + 1))), (0, 210), (1, 41)]) rfl ?_
      refine v_callV (j := 65) (M' := mX10_push) (as := [(0, 210), (0, (wr (a3 + 1))), (0, 0)]) (st := []) rfl rfl rfl rfl rfl (Nat.le_of_ble_eq_true rfl) (Nat.le_of_ble_eq_true rfl) (by omega) (by decide) (K41_t K27) (kv0 (st' := fun v => []) rfl (fun _ => rfl)) (H.mono (fun k v28 m29 H => ⟨H.1, ?_⟩))
      have K30 := H.2.1.2.1 K27
      replace H := H.2.2
      refine v_run 66 1 (pc' := 158) (ls' := [(1, 41), (0, a1), (0, a2), (0, a3), (0, a4), (0, a5)]) (st' := [(0, 1)]) rfl ?_
      exact v_iret (j := 67) rfl rfl rfl (Or.inr rfl) H
    | 3, hk, q =>
      cases hk
      replace H := H.2.2.2.1 q
      refine v_run 68 2 (pc' := 163) (ls' := [(1, 41), (0, a1), (0, a2), (0, a3), (0, a4), (0, a5)]) (st' := [(0, 41), (0, a4)]) rfl ?_
      refine v_icmpne (j := 70) rfl rfl rfl (fun q => ?_) (fun q => ?_)
      · replace H := H.1 q
        refine v_run 73 1 (pc' := 169) (ls' := [(1, 41), (0, a1), (0, a2), (0, a3), (0, a4), (0, a5)]) (st' := [(1, 41)]) rfl ?_
        refine v_getK (j := 74) (c := 24) (f := 19) rfl rfl rfl rfl rfl rfl rfl rfl (K41_t K) (K41_19 K) ?_
        refine v_run 75 1 (pc' := 173) (ls' := [(1, 41), (0, a1), (0, a2), (0, a3), (0, a4), (0, a5)]) (st' := [(0, a2), (1, 56)]) rfl ?_
        obtain ⟨i31, i32, H⟩ := H
        refine v_ald (j := 76) (t := 1) rfl rfl rfl rfl rfl rfl (K56_t K) i31 (by rw [K56_l K]; exact i32) ?_
        refine v_run 77 1 (pc' := 176) (ls' := [(1, 41), (0, a1), (0, a2), (0, a3), (0, a4), (0, a5)]) (st' := [(0, 6), (0, (m 56 a2))]) rfl ?_
        refine v_icmpne (j := 78) rfl rfl rfl (fun q => ?_) (fun q => ?_)
        · replace H := H.1 q
          refine v_run 81 1 (pc' := 182) (ls' := [(1, 41), (0, a1), (0, a2), (0, a3), (0, a4), (0, a5)]) (st' := [(1, 41)]) rfl ?_
          refine v_getK (j := 82) (c := 24) (f := 19) rfl rfl rfl rfl rfl rfl rfl rfl (K41_t K) (K41_19 K) ?_
          refine v_run 83 2 (pc' := 187) (ls' := [(1, 41), (0, a1), (0, a2), (0, a3), (0, a4), (0, a5)]) (st' := [(0, a2), (1, 56), (0, a2), (1, 56)]) rfl ?_
          obtain ⟨i33, i34, H⟩ := H
          refine v_ald (j := 85) (t := 1) rfl rfl rfl rfl rfl rfl (K56_t K) i33 (by rw [K56_l K]; exact i34) ?_
          refine v_run 86 2 (pc' := 190) (ls' := [(1, 41), (0, a1), (0, a2), (0, a3), (0, a4), (0, a5)]) (st' := [(0, (wr ((m 56 a2) + 1))), (0, a2), (1, 56)]) rfl ?_
          obtain ⟨i35, i36, H⟩ := H
          refine v_ast (j := 88) (t := 1) rfl rfl rfl rfl rfl rfl (by decide) (by decide) (K56_t K) i35 (by rw [K56_l K]; exact i36) trivial (fun m37 e38 => ?_)
          have O39 : Ok m m37 := Ok.wa e38 (K56_t K) (by decide) i35
          have K40 := O39.2.1 K
          replace H := H m37 e38 O39
          refine v_run 89 4 (pc' := 197) (ls' := [(1, 41), (0, a1), (0, a2), (0, a3), (0, a4), (0, a5)]) (st' := [(0, a3), (0, a2), (0, 212), (1, 41)]) rfl ?_
          refine v_callV (j := 93) (M' := mX10_push) (as := [(0, 212), (0, a2), (0, a3)]) (st := []) rfl rfl rfl rfl rfl (Nat.le_of_ble_eq_true rfl) (Nat.le_of_ble_eq_true rfl) (by omega) (by decide) (K41_t K40) (kv0 (st' := fun v => []) rfl (fun _ => rfl)) (H.mono (fun k v41 m42 H => ⟨H.1, ?_⟩))
          have K43 := H.2.1.2.1 K40
          replace H := H.2.2
          refine v_run 94 6 (pc' := 208) (ls' := [(1, 41), (0, a1), (0, a2), (0, a3), (0, a4), (0, a5)]) (st' := [(0, (wr (a3 + 1))), (0, a5), (0, a4), (1, 41)]) rfl ?_
          refine v_callV (j := 100) (M' := mX10_beginCode) (as := [(0, a4), (0, a5), (0, (wr (a3 + 1)))]) (st := []) rfl rfl rfl rfl rfl (Nat.le_of_ble_eq_true rfl) (Nat.le_of_ble_eq_true rfl) (by omega) (by decide) (K41_t K43) (kv0 (st' := fun v => [(0, v)]) rfl (fun _ => rfl)) (H.mono (fun k v44 m45 H => ⟨H.1, ?_⟩))
          have K46 := H.2.1.2.1 K43
          replace H := H.2.2
          obtain ⟨r47, H⟩ := H
          exact v_iret (j := 101) rfl rfl rfl r47 H
        · replace H := H.2 q
          refine v_run 79 1 (pc' := 180) (ls' := [(1, 41), (0, a1), (0, a2), (0, a3), (0, a4), (0, a5)]) (st' := [(0, 0)]) rfl ?_
          exact v_iret (j := 80) rfl rfl rfl (Or.inl rfl) H
      · replace H := H.2 q
        refine v_run 71 1 (pc' := 167) (ls' := [(1, 41), (0, a1), (0, a2), (0, a3), (0, a4), (0, a5)]) (st' := [(0, 1)]) rfl ?_
        exact v_iret (j := 72) rfl rfl rfl (Or.inr rfl) H
    | 4, hk, q =>
      cases hk
      replace H := H.2.2.2.2.1 q
      refine v_run 102 2 (pc' := 216) (ls' := [(1, 41), (0, a1), (0, a2), (0, a3), (0, a4), (0, a5)]) (st' := [(0, 125), (0, a4)]) rfl ?_
      refine v_icmpne (j := 104) rfl rfl rfl (fun q => ?_) (fun q => ?_)
      · replace H := H.1 q
        refine v_run 114 2 (pc' := 238) (ls' := [(1, 41), (0, a1), (0, a2), (0, a3), (0, a4), (0, a5)]) (st' := [(0, 124), (0, a4)]) rfl ?_
        refine v_icmpne (j := 116) rfl rfl rfl (fun q => ?_) (fun q => ?_)
        · replace H := H.1 q
          refine v_run 123 1 (pc' := 252) (ls' := [(1, 41), (0, a1), (0, a2), (0, a3), (0, a4), (0, a5)]) (st' := [(0, 0)]) rfl ?_
          exact v_iret (j := 124) rfl rfl rfl (Or.inl rfl) H
        · replace H := H.2 q
          refine v_run 117 1 (pc' := 242) (ls' := [(1, 41), (0, a1), (0, a2), (0, a3), (0, a4), (0, a5)]) (st' := [(1, 41)]) rfl ?_
          refine v_getK (j := 118) (c := 24) (f := 19) rfl rfl rfl rfl rfl rfl rfl rfl (K41_t K) (K41_19 K) ?_
          refine v_run 119 1 (pc' := 246) (ls' := [(1, 41), (0, a1), (0, a2), (0, a3), (0, a4), (0, a5)]) (st' := [(0, a2), (1, 56)]) rfl ?_
          obtain ⟨i48, i49, H⟩ := H
          refine v_ald (j := 120) (t := 1) rfl rfl rfl rfl rfl rfl (K56_t K) i48 (by rw [K56_l K]; exact i49) ?_
          refine v_run 121 1 (pc' := 248) (ls' := [(1, 41), (0, a1), (0, a2), (0, a3), (0, a4), (0, a5)]) (st' := [(0, 5), (0, (m 56 a2))]) rfl ?_
          refine v_icmpne (j := 122) rfl rfl rfl (fun q => ?_) (fun q => ?_)
          · replace H := H.1 q
            refine v_run 125 1 (pc' := 254) (ls' := [(1, 41), (0, a1), (0, a2), (0, a3), (0, a4), (0, a5)]) (st' := [(1, 41)]) rfl ?_
            refine v_getK (j := 126) (c := 24) (f := 19) rfl rfl rfl rfl rfl rfl rfl rfl (K41_t K) (K41_19 K) ?_
            refine v_run 127 2 (pc' := 259) (ls' := [(1, 41), (0, a1), (0, a2), (0, a3), (0, a4), (0, a5)]) (st' := [(0, a2), (1, 56), (0, a2), (1, 56)]) rfl ?_
            obtain ⟨i50, i51, H⟩ := H
            refine v_ald (j := 129) (t := 1) rfl rfl rfl rfl rfl rfl (K56_t K) i50 (by rw [K56_l K]; exact i51) ?_
            refine v_run 130 2 (pc' := 262) (ls' := [(1, 41), (0, a1), (0, a2), (0, a3), (0, a4), (0, a5)]) (st' := [(0, (wr ((m 56 a2) + 1))), (0, a2), (1, 56)]) rfl ?_
            obtain ⟨i52, i53, H⟩ := H
            refine v_ast (j := 132) (t := 1) rfl rfl rfl rfl rfl rfl (by decide) (by decide) (K56_t K) i52 (by rw [K56_l K]; exact i53) trivial (fun m54 e55 => ?_)
            have O56 : Ok m m54 := Ok.wa e55 (K56_t K) (by decide) i52
            have K57 := O56.2.1 K
            replace H := H m54 e55 O56
            refine v_run 133 4 (pc' := 269) (ls' := [(1, 41), (0, a1), (0, a2), (0, a3), (0, a4), (0, a5)]) (st' := [(0, a3), (0, a2), (0, 213), (1, 41)]) rfl ?_
            refine v_callV (j := 137) (M' := mX10_push) (as := [(0, 213), (0, a2), (0, a3)]) (st := []) rfl rfl rfl rfl rfl (Nat.le_of_ble_eq_true rfl) (Nat.le_of_ble_eq_true rfl) (by omega) (by decide) (K41_t K57) (kv0 (st' := fun v => []) rfl (fun _ => rfl)) (H.mono (fun k v58 m59 H => ⟨H.1, ?_⟩))
            have K60 := H.2.1.2.1 K57
            replace H := H.2.2
            refine v_run 138 6 (pc' := 280) (ls' := [(1, 41), (0, a1), (0, a2), (0, a3), (0, a4), (0, a5)]) (st' := [(0, 0), (0, (wr (a3 + 1))), (0, 210), (1, 41)]) rfl ?_
            refine v_callV (j := 144) (M' := mX10_push) (as := [(0, 210), (0, (wr (a3 + 1))), (0, 0)]) (st := []) rfl rfl rfl rfl rfl (Nat.le_of_ble_eq_true rfl) (Nat.le_of_ble_eq_true rfl) (by omega) (by decide) (K41_t K60) (kv0 (st' := fun v => []) rfl (fun _ => rfl)) (H.mono (fun k v61 m62 H => ⟨H.1, ?_⟩))
            have K63 := H.2.1.2.1 K60
            replace H := H.2.2
            refine v_run 145 4 (pc' := 288) (ls' := [(1, 41), (0, a1), (0, a2), (0, a3), (0, a4), (0, a5)]) (st' := [(0, 0), (0, 0), (0, 62), (1, 41)]) rfl ?_
            refine v_callV (j := 149) (M' := mX10_push) (as := [(0, 62), (0, 0), (0, 0)]) (st := []) rfl rfl rfl rfl rfl (Nat.le_of_ble_eq_true rfl) (Nat.le_of_ble_eq_true rfl) (by omega) (by decide) (K41_t K63) (kv0 (st' := fun v => []) rfl (fun _ => rfl)) (H.mono (fun k v64 m65 H => ⟨H.1, ?_⟩))
            have K66 := H.2.1.2.1 K63
            replace H := H.2.2
            refine v_run 150 4 (pc' := 297) (ls' := [(1, 41), (0, a1), (0, a2), (0, a3), (0, a4), (0, a5)]) (st' := [(0, 0), (0, 0), (0, 214), (1, 41)]) rfl ?_
            refine v_callV (j := 154) (M' := mX10_push) (as := [(0, 214), (0, 0), (0, 0)]) (st := []) rfl rfl rfl rfl rfl (Nat.le_of_ble_eq_true rfl) (Nat.le_of_ble_eq_true rfl) (by omega) (by decide) (K41_t K66) (kv0 (st' := fun v => []) rfl (fun _ => rfl)) (H.mono (fun k v67 m68 H => ⟨H.1, ?_⟩))
            have K69 := H.2.1.2.1 K66
            replace H := H.2.2
            refine v_run 155 1 (pc' := 301) (ls' := [(1, 41), (0, a1), (0, a2), (0, a3), (0, a4), (0, a5)]) (st' := [(0, 1)]) rfl ?_
            exact v_iret (j := 156) rfl rfl rfl (Or.inr rfl) H
          · replace H := H.2 q
            refine v_run 123 1 (pc' := 252) (ls' := [(1, 41), (0, a1), (0, a2), (0, a3), (0, a4), (0, a5)]) (st' := [(0, 0)]) rfl ?_
            exact v_iret (j := 124) rfl rfl rfl (Or.inl rfl) H
      · replace H := H.2 q
        refine v_run 105 1 (pc' := 220) (ls' := [(1, 41), (0, a1), (0, a2), (0, a3), (0, a4), (0, a5)]) (st' := [(1, 41)]) rfl ?_
        refine v_getK (j := 106) (c := 24) (f := 19) rfl rfl rfl rfl rfl rfl rfl rfl (K41_t K) (K41_19 K) ?_
        refine v_run 107 1 (pc' := 224) (ls' := [(1, 41), (0, a1), (0, a2), (0, a3), (0, a4), (0, a5)]) (st' := [(0, a2), (1, 56)]) rfl ?_
        obtain ⟨i70, i71, H⟩ := H
        refine v_ald (j := 108) (t := 1) rfl rfl rfl rfl rfl rfl (K56_t K) i70 (by rw [K56_l K]; exact i71) ?_
        refine v_ifle (j := 109) rfl rfl rfl (fun q => ?_) (fun q => ?_)
        · replace H := H.1 q
          refine v_run 112 1 (pc' := 233) (ls' := [(1, 41), (0, a1), (0, a2), (0, a3), (0, a4), (0, a5)]) (st' := [(0, 0)]) rfl ?_
          exact v_iret (j := 113) rfl rfl rfl (Or.inl rfl) H
        · replace H := H.2 q
          refine v_run 110 1 (pc' := 229) (ls' := [(1, 41), (0, a1), (0, a2), (0, a3), (0, a4), (0, a5)]) (st' := [(0, 1)]) rfl ?_
          refine v_goto (j := 111) (tgt := 233) rfl rfl ?_
          exact v_iret (j := 113) rfl rfl rfl (Or.inr rfl) H
    | 5, hk, q =>
      cases hk
      replace H := H.2.2.2.2.2.1 q
      refine v_run 157 3 (pc' := 307) (ls' := [(1, 41), (0, a1), (0, a2), (0, a3), (0, a4), (0, a5)]) (st' := [(0, a5), (0, a4), (1, 41)]) rfl ?_
      refine v_callV (j := 160) (M' := mX10_beginPattern) (as := [(0, a4), (0, a5)]) (st := []) rfl rfl rfl rfl rfl (Nat.le_of_ble_eq_true rfl) (Nat.le_of_ble_eq_true rfl) (by omega) (by decide) (K41_t K) (kv0 (st' := fun v => [(0, v)]) rfl (fun _ => rfl)) (H.mono (fun k v72 m73 H => ⟨H.1, ?_⟩))
      have K74 := H.2.1.2.1 K
      replace H := H.2.2
      obtain ⟨r75, H⟩ := H
      exact v_iret (j := 161) rfl rfl rfl r75 H
    | 6, hk, q =>
      cases hk
      replace H := H.2.2.2.2.2.2.1 q
      refine v_run 162 4 (pc' := 317) (ls' := [(1, 41), (0, a1), (0, a2), (0, a3), (0, a4), (0, a5)]) (st' := [(0, 0), (0, a2), (0, 216), (1, 41)]) rfl ?_
      refine v_callV (j := 166) (M' := mX10_push) (as := [(0, 216), (0, a2), (0, 0)]) (st := []) rfl rfl rfl rfl rfl (Nat.le_of_ble_eq_true rfl) (Nat.le_of_ble_eq_true rfl) (by omega) (by decide) (K41_t K) (kv0 (st' := fun v => []) rfl (fun _ => rfl)) (H.mono (fun k v76 m77 H => ⟨H.1, ?_⟩))
      have K78 := H.2.1.2.1 K
      replace H := H.2.2
      refine v_run 167 1 (pc' := 321) (ls' := [(1, 41), (0, a1), (0, a2), (0, a3), (0, a4), (0, a5)]) (st' := [(0, 1)]) rfl ?_
      exact v_iret (j := 168) rfl rfl rfl (Or.inr rfl) H
    | 7, hk, q =>
      cases hk
      replace H := H.2.2.2.2.2.2.2.1 q
      refine v_run 169 2 (pc' := 326) (ls' := [(1, 41), (0, a1), (0, a2), (0, a3), (0, a4), (0, a5)]) (st' := [(0, 41), (0, a4)]) rfl ?_
      refine v_icmpne (j := 171) rfl rfl rfl (fun q => ?_) (fun q => ?_)
      · replace H := H.1 q
        refine v_run 181 1 (pc' := 346) (ls' := [(1, 41), (0, a1), (0, a2), (0, a3), (0, a4), (0, a5)]) (st' := [(0, a4)]) rfl ?_
        refine v_callS (j := 182) (M' := mX10_isVariable) (as := [(0, a4)]) (st := []) rfl rfl rfl rfl rfl (Nat.le_of_ble_eq_true rfl) (Nat.le_of_ble_eq_true rfl) (by omega) (kv0 (st' := fun v => [(0, v)]) rfl (fun _ => rfl)) (ipX10_isVariable ⟨rfl, ?_⟩)
        refine v_ifeq (j := 183) rfl rfl rfl (fun q => ?_) (fun q => ?_)
        · replace H := H.1 (ite0 q)
          refine v_run 190 1 (pc' := 364) (ls' := [(1, 41), (0, a1), (0, a2), (0, a3), (0, a4), (0, a5)]) (st' := [(0, 0)]) rfl ?_
          exact v_iret (j := 191) rfl rfl rfl (Or.inl rfl) H
        · replace H := H.2 (ite1 q)
          refine v_run 184 1 (pc' := 353) (ls' := [(1, 41), (0, a1), (0, a2), (0, a3), (0, a4), (0, a5)]) (st' := [(1, 41)]) rfl ?_
          refine v_getK (j := 185) (c := 24) (f := 19) rfl rfl rfl rfl rfl rfl rfl rfl (K41_t K) (K41_19 K) ?_
          refine v_run 186 1 (pc' := 357) (ls' := [(1, 41), (0, a1), (0, a2), (0, a3), (0, a4), (0, a5)]) (st' := [(0, a2), (1, 56)]) rfl ?_
          obtain ⟨i79, i80, H⟩ := H
          refine v_ald (j := 187) (t := 1) rfl rfl rfl rfl rfl rfl (K56_t K) i79 (by rw [K56_l K]; exact i80) ?_
          refine v_run 188 1 (pc' := 360) (ls' := [(1, 41), (0, a1), (0, a2), (0, a3), (0, a4), (0, a5)]) (st' := [(0, 6), (0, (m 56 a2))]) rfl ?_
          refine v_icmpne (j := 189) rfl rfl rfl (fun q => ?_) (fun q => ?_)
          · replace H := H.1 q
            refine v_run 192 6 (pc' := 375) (ls' := [(1, 41), (0, a1), (0, a2), (0, a3), (0, a4), (0, a5)]) (st' := [(0, a5), (0, (wr (a4 - 97))), (0, 14), (1, 41)]) rfl ?_
            refine v_callV (j := 198) (M' := mX10_node) (as := [(0, 14), (0, (wr (a4 - 97))), (0, a5)]) (st := []) rfl rfl rfl rfl rfl (Nat.le_of_ble_eq_true rfl) (Nat.le_of_ble_eq_true rfl) (by omega) (by decide) (K41_t K) (kv0 (st' := fun v => [(0, v)]) rfl (fun _ => rfl)) (H.mono (fun k v81 m82 H => ⟨H.1, ?_⟩))
            have K83 := H.2.1.2.1 K
            replace H := H.2.2
            refine v_run 199 2 (pc' := 380) (ls' := [(1, 41), (0, a1), (0, a2), (0, a3), (0, a4), (0, a5)]) (st' := [(1, 41)]) rfl ?_
            refine v_getK (j := 201) (c := 24) (f := 19) rfl rfl rfl rfl rfl rfl rfl rfl (K41_t K83) (K41_19 K83) ?_
            refine v_run 202 2 (pc' := 385) (ls' := [(1, 41), (0, a1), (0, a2), (0, a3), (0, a4), (0, a5)]) (st' := [(0, a2), (1, 56), (0, a2), (1, 56)]) rfl ?_
            obtain ⟨i84, i85, H⟩ := H
            refine v_ald (j := 204) (t := 1) rfl rfl rfl rfl rfl rfl (K56_t K83) i84 (by rw [K56_l K83]; exact i85) ?_
            refine v_run 205 2 (pc' := 388) (ls' := [(1, 41), (0, a1), (0, a2), (0, a3), (0, a4), (0, a5)]) (st' := [(0, (wr ((m82 56 a2) + 1))), (0, a2), (1, 56)]) rfl ?_
            obtain ⟨i86, i87, H⟩ := H
            refine v_ast (j := 207) (t := 1) rfl rfl rfl rfl rfl rfl (by decide) (by decide) (K56_t K83) i86 (by rw [K56_l K83]; exact i87) trivial (fun m88 e89 => ?_)
            have O90 : Ok m82 m88 := Ok.wa e89 (K56_t K83) (by decide) i86
            have K91 := O90.2.1 K83
            replace H := H m88 e89 O90
            refine v_run 208 4 (pc' := 395) (ls' := [(1, 41), (0, a1), (0, a2), (0, a3), (0, a4), (0, a5)]) (st' := [(0, 0), (0, a2), (0, 216), (1, 41)]) rfl ?_
            refine v_callV (j := 212) (M' := mX10_push) (as := [(0, 216), (0, a2), (0, 0)]) (st := []) rfl rfl rfl rfl rfl (Nat.le_of_ble_eq_true rfl) (Nat.le_of_ble_eq_true rfl) (by omega) (by decide) (K41_t K91) (kv0 (st' := fun v => []) rfl (fun _ => rfl)) (H.mono (fun k v92 m93 H => ⟨H.1, ?_⟩))
            have K94 := H.2.1.2.1 K91
            replace H := H.2.2
            refine v_run 213 1 (pc' := 399) (ls' := [(1, 41), (0, a1), (0, a2), (0, a3), (0, a4), (0, a5)]) (st' := [(0, 1)]) rfl ?_
            exact v_iret (j := 214) rfl rfl rfl (Or.inr rfl) H
          · replace H := H.2 q
            refine v_run 190 1 (pc' := 364) (ls' := [(1, 41), (0, a1), (0, a2), (0, a3), (0, a4), (0, a5)]) (st' := [(0, 0)]) rfl ?_
            exact v_iret (j := 191) rfl rfl rfl (Or.inl rfl) H
      · replace H := H.2 q
        refine v_run 172 1 (pc' := 330) (ls' := [(1, 41), (0, a1), (0, a2), (0, a3), (0, a4), (0, a5)]) (st' := [(1, 41)]) rfl ?_
        refine v_getK (j := 173) (c := 24) (f := 19) rfl rfl rfl rfl rfl rfl rfl rfl (K41_t K) (K41_19 K) ?_
        refine v_run 174 1 (pc' := 334) (ls' := [(1, 41), (0, a1), (0, a2), (0, a3), (0, a4), (0, a5)]) (st' := [(0, a2), (1, 56)]) rfl ?_
        obtain ⟨i95, i96, H⟩ := H
        refine v_ald (j := 175) (t := 1) rfl rfl rfl rfl rfl rfl (K56_t K) i95 (by rw [K56_l K]; exact i96) ?_
        refine v_ifle (j := 176) rfl rfl rfl (fun q => ?_) (fun q => ?_)
        · replace H := H.1 q
          refine v_run 179 1 (pc' := 343) (ls' := [(1, 41), (0, a1), (0, a2), (0, a3), (0, a4), (0, a5)]) (st' := [(0, 0)]) rfl ?_
          exact v_iret (j := 180) rfl rfl rfl (Or.inl rfl) H
        · replace H := H.2 q
          refine v_run 177 1 (pc' := 339) (ls' := [(1, 41), (0, a1), (0, a2), (0, a3), (0, a4), (0, a5)]) (st' := [(0, 1)]) rfl ?_
          refine v_goto (j := 178) (tgt := 343) rfl rfl ?_
          exact v_iret (j := 180) rfl rfl rfl (Or.inr rfl) H
    | 8, hk, q =>
      cases hk
      replace H := H.2.2.2.2.2.2.2.2 q
      refine v_run 215 1 (pc' := 401) (ls' := [(1, 41), (0, a1), (0, a2), (0, a3), (0, a4), (0, a5)]) (st' := [(1, 41)]) rfl ?_
      refine v_getK (j := 216) (c := 24) (f := 18) rfl rfl rfl rfl rfl rfl rfl rfl (K41_t K) (K41_18 K) ?_
      refine v_run 217 2 (pc' := 407) (ls' := [(1, 41), (0, a1), (0, a2), (0, a3), (0, a4), (0, a5)]) (st' := [(0, a4), (0, a2), (1, 55)]) rfl ?_
      obtain ⟨i97, i98, H⟩ := H
      refine v_ast (j := 219) (t := 1) rfl rfl rfl rfl rfl rfl (by decide) (by decide) (K55_t K) i97 (by rw [K55_l K]; exact i98) trivial (fun m99 e100 => ?_)
      have O101 : Ok m m99 := Ok.wa e100 (K55_t K) (by decide) i97
      have K102 := O101.2.1 K
      replace H := H m99 e100 O101
      refine v_run 220 2 (pc' := 412) (ls' := [(1, 41), (0, a1), (0, a2), (0, a3), (0, a4), (0, a5)]) (st' := [(0, 61), (0, a4)]) rfl ?_
      refine v_icmpeq (j := 222) rfl rfl rfl (fun q => ?_) (fun q => ?_)
      · replace H := H.1 q
        refine v_run 226 1 (pc' := 423) (ls' := [(1, 41), (0, a1), (0, a2), (0, a3), (0, a4), (0, a5)]) (st' := [(0, 1)]) rfl ?_
        refine v_goto (j := 227) (tgt := 427) rfl rfl ?_
        exact v_iret (j := 229) rfl rfl rfl (Or.inr rfl) H
      · replace H := H.2 q
        refine v_run 223 2 (pc' := 419) (ls' := [(1, 41), (0, a1), (0, a2), (0, a3), (0, a4), (0, a5)]) (st' := [(0, 60), (0, a4)]) rfl ?_
        refine v_icmpne (j := 225) rfl rfl rfl (fun q => ?_) (fun q => ?_)
        · replace H := H.1 q
          refine v_run 228 1 (pc' := 427) (ls' := [(1, 41), (0, a1), (0, a2), (0, a3), (0, a4), (0, a5)]) (st' := [(0, 0)]) rfl ?_
          exact v_iret (j := 229) rfl rfl rfl (Or.inl rfl) H
        · replace H := H.2 q
          refine v_run 226 1 (pc' := 423) (ls' := [(1, 41), (0, a1), (0, a2), (0, a3), (0, a4), (0, a5)]) (st' := [(0, 1)]) rfl ?_
          refine v_goto (j := 227) (tgt := 427) rfl rfl ?_
          exact v_iret (j := 229) rfl rfl rfl (Or.inr rfl) H
    | k + 9, hk, q => exact absurd hk (by simp)

set_option maxRecDepth 100000 in
set_option maxHeartbeats 4000000 in
theorem wX10_takeCoded_74 {G : GM} {d : Nat} {P : Nat → Int → SM → Prop} {m : SM} {a2 a4 : Int} (K : KI m) (hd : 12 ≤ d) 
    (H : (¬ (97 ≤ a4 ∧ a4 ≤ 122) → (P 0 0 m)) ∧ (97 ≤ a4 ∧ a4 ≤ 122 → ((a2 ≠ (4 : Int) → ((0 ≤ a2) ∧ (a2 < 6) ∧ (∀ m3, m3 = up m 86 a2 (wr (a4 - 97)) → Ok m m3 → (∀ m7, m7 = up m3 41 34 (wr (a2 + 1)) → Ok m3 m7 → (WV G mX10_push 0 [(1, 41), (0, 209), (0, (wr (a2 + 1))), (0, 0)] [] m7 (d - 1) (fun k v11 m12 => k = 0 ∧ Ok m7 m12 ∧ (P 0 1 m12))))))) ∧ (a2 = (4 : Int) → (P 0 0 m))))) :
    WV G mX10_takeCoded 74 [(1, 41), (9, 0), (0, a2), (9, 0), (0, a4), (9, 0)] [] m d P := by
  refine v_run 14 1 (pc' := 76) (ls' := [(1, 41), (9, 0), (0, a2), (9, 0), (0, a4), (9, 0)]) (st' := [(0, a4)]) rfl ?_
  refine v_callS (j := 15) (M' := mX10_isVariable) (as := [(0, a4)]) (st := []) rfl rfl rfl rfl rfl (Nat.le_of_ble_eq_true rfl) (Nat.le_of_ble_eq_true rfl) (by omega) (kv0 (st' := fun v => [(0, v)]) rfl (fun _ => rfl)) (ipX10_isVariable ⟨rfl, ?_⟩)
  refine v_ifeq (j := 16) rfl rfl rfl (fun q => ?_) (fun q => ?_)
  · replace H := H.1 (ite0 q)
    refine v_run 20 1 (pc' := 88) (ls' := [(1, 41), (9, 0), (0, a2), (9, 0), (0, a4), (9, 0)]) (st' := [(0, 0)]) rfl ?_
    exact v_iret (j := 21) rfl rfl rfl (Or.inl rfl) H
  · replace H := H.2 (ite1 q)
    refine v_run 17 2 (pc' := 84) (ls' := [(1, 41), (9, 0), (0, a2), (9, 0), (0, a4), (9, 0)]) (st' := [(0, 4), (0, a2)]) rfl ?_
    refine v_icmpne (j := 19) rfl rfl rfl (fun q => ?_) (fun q => ?_)
    · replace H := H.1 q
      refine v_run 22 1 (pc' := 90) (ls' := [(1, 41), (9, 0), (0, a2), (9, 0), (0, a4), (9, 0)]) (st' := [(1, 41)]) rfl ?_
      refine v_getK (j := 23) (c := 24) (f := 65) rfl rfl rfl rfl rfl rfl rfl rfl (K41_t K) (K41_65 K) ?_
      refine v_run 24 4 (pc' := 99) (ls' := [(1, 41), (9, 0), (0, a2), (9, 0), (0, a4), (9, 0)]) (st' := [(0, (wr (a4 - 97))), (0, a2), (1, 86)]) rfl ?_
      obtain ⟨i1, i2, H⟩ := H
      refine v_ast (j := 28) (t := 1) rfl rfl rfl rfl rfl rfl (by decide) (by decide) (K86_t K) i1 (by rw [K86_l K]; exact i2) trivial (fun m3 e4 => ?_)
      have O5 : Ok m m3 := Ok.wa e4 (K86_t K) (by decide) i1
      have K6 := O5.2.1 K
      replace H := H m3 e4 O5
      refine v_run 29 4 (pc' := 104) (ls' := [(1, 41), (9, 0), (0, a2), (9, 0), (0, a4), (9, 0)]) (st' := [(0, (wr (a2 + 1))), (1, 41)]) rfl ?_
      refine v_putf (j := 33) (c := 24) (f := 34) rfl rfl rfl rfl (by decide +kernel) rfl rfl rfl rfl (K41_t K6) trivial (fun m7 e8 => ?_)
      have O9 : Ok m3 m7 := Ok.wf e8 (K41_t K6) (by decide) (by decide)
      have K10 := O9.2.1 K6
      replace H := H m7 e8 O9
      refine v_run 34 6 (pc' := 115) (ls' := [(1, 41), (9, 0), (0, a2), (9, 0), (0, a4), (9, 0)]) (st' := [(0, 0), (0, (wr (a2 + 1))), (0, 209), (1, 41)]) rfl ?_
      refine v_callV (j := 40) (M' := mX10_push) (as := [(0, 209), (0, (wr (a2 + 1))), (0, 0)]) (st := []) rfl rfl rfl rfl rfl (Nat.le_of_ble_eq_true rfl) (Nat.le_of_ble_eq_true rfl) (by omega) (by decide) (K41_t K10) (kv0 (st' := fun v => []) rfl (fun _ => rfl)) (H.mono (fun k v11 m12 H => ⟨H.1, ?_⟩))
      have K13 := H.2.1.2.1 K10
      replace H := H.2.2
      refine v_run 41 1 (pc' := 119) (ls' := [(1, 41), (9, 0), (0, a2), (9, 0), (0, a4), (9, 0)]) (st' := [(0, 1)]) rfl ?_
      exact v_iret (j := 42) rfl rfl rfl (Or.inr rfl) H
    · replace H := H.2 q
      refine v_run 20 1 (pc' := 88) (ls' := [(1, 41), (9, 0), (0, a2), (9, 0), (0, a4), (9, 0)]) (st' := [(0, 0)]) rfl ?_
      exact v_iret (j := 21) rfl rfl rfl (Or.inl rfl) H

set_option maxRecDepth 100000 in
set_option maxHeartbeats 4000000 in
theorem wX10_read {G : GM} {d : Nat} {P : Nat → Int → SM → Prop} {m : SM} {a1 a2 a3 : Int} (K : KI m) (hd : 12 ≤ d) 
    (H : ∀ m1, m1 = up m 41 1 0 → Ok m m1 → (∀ m5, m5 = up m1 41 29 0 → Ok m1 m5 → (∀ m9, m9 = up m5 41 33 (m5 41 23) → Ok m5 m9 → (∀ m13, m13 = up m9 41 20 (m9 41 16) → Ok m9 m13 → (WV G mX10_push 0 [(1, 41), (0, a1), (0, a2), (0, a3)] [] m13 (d - 1) (fun k v17 m18 => k = 0 ∧ Ok m13 m18 ∧ (WV G mX10_read 42 [(1, 41), (9, 0), (9, 0), (9, 0), (0, (m 41 1)), (0, 0), (9, 0), (9, 0)] [] m18 d P))))))) :
    WV G mX10_read 0 [(1, 41), (0, a1), (0, a2), (0, a3), (9, 0), (9, 0), (9, 0), (9, 0)] [] m d P := by
  refine v_run 0 1 (pc' := 1) (ls' := [(1, 41), (0, a1), (0, a2), (0, a3), (9, 0), (9, 0), (9, 0), (9, 0)]) (st' := [(1, 41)]) rfl ?_
  refine v_getf (j := 1) (c := 24) (f := 1) rfl rfl rfl rfl rfl rfl rfl rfl (K41_t K) ?_
  refine v_run 2 3 (pc' := 8) (ls' := [(1, 41), (0, a1), (0, a2), (0, a3), (0, (m 41 1)), (9, 0), (9, 0), (9, 0)]) (st' := [(0, 0), (1, 41)]) rfl ?_
  refine v_putf (j := 5) (c := 24) (f := 1) rfl rfl rfl rfl (by decide +kernel) rfl rfl rfl rfl (K41_t K) trivial (fun m1 e2 => ?_)
  have O3 : Ok m m1 := Ok.wf e2 (K41_t K) (by decide) (by decide)
  have K4 := O3.2.1 K
  replace H := H m1 e2 O3
  refine v_run 6 2 (pc' := 13) (ls' := [(1, 41), (0, a1), (0, a2), (0, a3), (0, (m 41 1)), (9, 0), (9, 0), (9, 0)]) (st' := [(0, 0), (1, 41)]) rfl ?_
  refine v_putf (j := 8) (c := 24) (f := 29) rfl rfl rfl rfl (by decide +kernel) rfl rfl rfl rfl (K41_t K4) trivial (fun m5 e6 => ?_)
  have O7 : Ok m1 m5 := Ok.wf e6 (K41_t K4) (by decide) (by decide)
  have K8 := O7.2.1 K4
  replace H := H m5 e6 O7
  refine v_run 9 2 (pc' := 18) (ls' := [(1, 41), (0, a1), (0, a2), (0, a3), (0, (m 41 1)), (9, 0), (9, 0), (9, 0)]) (st' := [(1, 41), (1, 41)]) rfl ?_
  refine v_getf (j := 11) (c := 24) (f := 23) rfl rfl rfl rfl rfl rfl rfl rfl (K41_t K8) ?_
  refine v_putf (j := 12) (c := 24) (f := 33) rfl rfl rfl rfl (by decide +kernel) rfl rfl rfl rfl (K41_t K8) trivial (fun m9 e10 => ?_)
  have O11 : Ok m5 m9 := Ok.wf e10 (K41_t K8) (by decide) (by decide)
  have K12 := O11.2.1 K8
  replace H := H m9 e10 O11
  refine v_run 13 2 (pc' := 26) (ls' := [(1, 41), (0, a1), (0, a2), (0, a3), (0, (m 41 1)), (9, 0), (9, 0), (9, 0)]) (st' := [(1, 41), (1, 41)]) rfl ?_
  refine v_getf (j := 15) (c := 24) (f := 16) rfl rfl rfl rfl rfl rfl rfl rfl (K41_t K12) ?_
  refine v_putf (j := 16) (c := 24) (f := 20) rfl rfl rfl rfl (by decide +kernel) rfl rfl rfl rfl (K41_t K12) trivial (fun m13 e14 => ?_)
  have O15 : Ok m9 m13 := Ok.wf e14 (K41_t K12) (by decide) (by decide)
  have K16 := O15.2.1 K12
  replace H := H m13 e14 O15
  refine v_run 17 4 (pc' := 36) (ls' := [(1, 41), (0, a1), (0, a2), (0, a3), (0, (m 41 1)), (9, 0), (9, 0), (9, 0)]) (st' := [(0, a3), (0, a2), (0, a1), (1, 41)]) rfl ?_
  refine v_callV (j := 21) (M' := mX10_push) (as := [(0, a1), (0, a2), (0, a3)]) (st := []) rfl rfl rfl rfl rfl (Nat.le_of_ble_eq_true rfl) (Nat.le_of_ble_eq_true rfl) (by omega) (by decide) (K41_t K16) (kv0 (st' := fun v => []) rfl (fun _ => rfl)) (H.mono (fun k v17 m18 H => ⟨H.1, ?_⟩))
  have K19 := H.2.1.2.1 K16
  replace H := H.2.2
  refine v_run 22 2 (pc' := 42) (ls' := [(1, 41), (0, a1), (0, a2), (0, a3), (0, (m 41 1)), (0, 0), (9, 0), (9, 0)]) (st' := []) rfl ?_
  refine v_drp [true, false, false, false, true, true, false, false] ?_
  exact H

set_option maxRecDepth 100000 in
set_option maxHeartbeats 4000000 in
theorem wX10_read_42 {G : GM} {d : Nat} {P : Nat → Int → SM → Prop} {m : SM} {a4 a5 : Int} (K : KI m) (hd : 12 ≤ d) 
    (H : (a4 ≤ a5 → (WV G mX10_read 80 [(1, 41), (9, 0), (9, 0), (9, 0), (0, a4), (0, 1), (0, 0), (9, 0)] [] m d P)) ∧ (a5 < a4 → ((0 ≤ a5) ∧ (a5 < 80) ∧ (WV G mX10_take 0 [(1, 41), (0, (m 42 a5)), (0, a5), (9, 0), (9, 0), (9, 0), (9, 0)] [] m (d - 1) (fun k v3 m4 => k = 0 ∧ Ok m m4 ∧ ((v3 ≠ (0 : Int) → (WV G mX10_read 42 [(1, 41), (9, 0), (9, 0), (9, 0), (0, a4), (0, (wr (a5 + 1))), (9, 0), (9, 0)] [] m4 d P)) ∧ (v3 = (0 : Int) → (P 0 a5 m4)))))))) :
    WV G mX10_read 42 [(1, 41), (9, 0), (9, 0), (9, 0), (0, a4), (0, a5), (9, 0), (9, 0)] [] m d P := by
  refine v_run 24 2 (pc' := 46) (ls' := [(1, 41), (9, 0), (9, 0), (9, 0), (0, a4), (0, a5), (9, 0), (9, 0)]) (st' := [(0, a4), (0, a5)]) rfl ?_
  refine v_icmpge (j := 26) rfl rfl rfl (fun q => ?_) (fun q => ?_)
  · replace H := H.1 q
    refine v_run 39 4 (pc' := 80) (ls' := [(1, 41), (9, 0), (9, 0), (9, 0), (0, a4), (0, 1), (0, 0), (9, 0)]) (st' := []) rfl ?_
    exact H
  · replace H := H.2 q
    refine v_run 27 2 (pc' := 51) (ls' := [(1, 41), (9, 0), (9, 0), (9, 0), (0, a4), (0, a5), (9, 0), (9, 0)]) (st' := [(1, 41), (1, 41)]) rfl ?_
    refine v_getK (j := 29) (c := 24) (f := 2) rfl rfl rfl rfl rfl rfl rfl rfl (K41_t K) (K41_2 K) ?_
    refine v_run 30 1 (pc' := 56) (ls' := [(1, 41), (9, 0), (9, 0), (9, 0), (0, a4), (0, a5), (9, 0), (9, 0)]) (st' := [(0, a5), (1, 42), (1, 41)]) rfl ?_
    obtain ⟨i1, i2, H⟩ := H
    refine v_ald (j := 31) (t := 1) rfl rfl rfl rfl rfl rfl (K42_t K) i1 (by rw [K42_l K]; exact i2) ?_
    refine v_run 32 1 (pc' := 59) (ls' := [(1, 41), (9, 0), (9, 0), (9, 0), (0, a4), (0, a5), (9, 0), (9, 0)]) (st' := [(0, a5), (0, (m 42 a5)), (1, 41)]) rfl ?_
    refine v_callV (j := 33) (M' := mX10_take) (as := [(0, (m 42 a5)), (0, a5)]) (st := []) rfl rfl rfl rfl rfl (Nat.le_of_ble_eq_true rfl) (Nat.le_of_ble_eq_true rfl) (by omega) (by decide) (K41_t K) (kv0 (st' := fun v => [(0, v)]) rfl (fun _ => rfl)) (H.mono (fun k v3 m4 H => ⟨H.1, ?_⟩))
    have K5 := H.2.1.2.1 K
    replace H := H.2.2
    refine v_ifne (j := 34) rfl rfl rfl (fun q => ?_) (fun q => ?_)
    · replace H := H.1 q
      refine v_run 37 1 (pc' := 71) (ls' := [(1, 41), (9, 0), (9, 0), (9, 0), (0, a4), (0, (wr (a5 + 1))), (9, 0), (9, 0)]) (st' := []) rfl ?_
      refine v_goto (j := 38) (tgt := 42) rfl rfl ?_
      exact H
    · replace H := H.2 q
      refine v_run 35 1 (pc' := 67) (ls' := [(1, 41), (9, 0), (9, 0), (9, 0), (0, a4), (0, a5), (9, 0), (9, 0)]) (st' := [(0, a5)]) rfl ?_
      exact v_iret (j := 36) rfl rfl rfl trivial H

set_option maxRecDepth 100000 in
set_option maxHeartbeats 4000000 in
theorem wX10_read_80 {G : GM} {d : Nat} {P : Nat → Int → SM → Prop} {m : SM} {a4 a5 a6 : Int} (K : KI m) (hd : 12 ≤ d) 
    (H : ((m 41 29) ≤ a6 → ((a5 = (0 : Int) → (P 0 a4 m)) ∧ (a5 ≠ (0 : Int) → (P 0 (-1) m)))) ∧ (a6 < (m 41 29) → ((0 ≤ a6) ∧ (a6 < 400) ∧ (∃ Q3 : Int → Prop, (((m 64 a6) = (201 : Int) → (Q3 1)) ∧ ((m 64 a6) ≠ (201 : Int) → ((0 ≤ a6) ∧ (a6 < 400) ∧ (((m 64 a6) = (211 : Int) → (Q3 1)) ∧ ((m 64 a6) ≠ (211 : Int) → ((0 ≤ a6) ∧ (a6 < 400) ∧ (((m 64 a6) = (215 : Int) → (Q3 1)) ∧ ((m 64 a6) ≠ (215 : Int) → ((0 ≤ a6) ∧ (a6 < 400) ∧ (((m 64 a6) ≠ (218 : Int) → (Q3 0)) ∧ ((m 64 a6) = (218 : Int) → ((0 ≤ a6) ∧ (a6 < 400) ∧ (((m 65 a6) ≤ (0 : Int) → (Q3 0)) ∧ ((0 : Int) < (m 65 a6) → (Q3 1))))))))))))))) ∧ (∀ v4, Q3 v4 → (WV G mX10_read 80 [(1, 41), (9, 0), (9, 0), (9, 0), (0, a4), (0, (if a5 = (0 : Int) then 0 else (if v4 = (0 : Int) then 0 else 1))), (0, (wr (a6 + 1))), (9, 0)] [] m d P)))))) :
    WV G mX10_read 80 [(1, 41), (9, 0), (9, 0), (9, 0), (0, a4), (0, a5), (0, a6), (9, 0)] [] m d P := by
  refine v_run 43 2 (pc' := 83) (ls' := [(1, 41), (9, 0), (9, 0), (9, 0), (0, a4), (0, a5), (0, a6), (9, 0)]) (st' := [(1, 41), (0, a6)]) rfl ?_
  refine v_getf (j := 45) (c := 24) (f := 29) rfl rfl rfl rfl rfl rfl rfl rfl (K41_t K) ?_
  refine v_icmpge (j := 46) rfl rfl rfl (fun q => ?_) (fun q => ?_)
  · replace H := H.1 q
    refine v_run 90 1 (pc' := 183) (ls' := [(1, 41), (9, 0), (9, 0), (9, 0), (0, a4), (0, a5), (0, a6), (9, 0)]) (st' := [(0, a5)]) rfl ?_
    refine v_ifeq (j := 91) rfl rfl rfl (fun q => ?_) (fun q => ?_)
    · replace H := H.1 q
      refine v_run 94 1 (pc' := 192) (ls' := [(1, 41), (9, 0), (9, 0), (9, 0), (0, a4), (0, a5), (0, a6), (9, 0)]) (st' := [(0, a4)]) rfl ?_
      exact v_iret (j := 95) rfl rfl rfl trivial H
    · replace H := H.2 q
      refine v_run 92 1 (pc' := 187) (ls' := [(1, 41), (9, 0), (9, 0), (9, 0), (0, a4), (0, a5), (0, a6), (9, 0)]) (st' := [(0, (-1))]) rfl ?_
      refine v_goto (j := 93) (tgt := 192) rfl rfl ?_
      exact v_iret (j := 95) rfl rfl rfl trivial H
  · replace H := H.2 q
    refine v_run 47 1 (pc' := 90) (ls' := [(1, 41), (9, 0), (9, 0), (9, 0), (0, a4), (0, a5), (0, a6), (9, 0)]) (st' := [(1, 41)]) rfl ?_
    refine v_getK (j := 48) (c := 24) (f := 30) rfl rfl rfl rfl rfl rfl rfl rfl (K41_t K) (K41_30 K) ?_
    refine v_run 49 1 (pc' := 95) (ls' := [(1, 41), (9, 0), (9, 0), (9, 0), (0, a4), (0, a5), (0, a6), (9, 0)]) (st' := [(0, a6), (1, 64)]) rfl ?_
    obtain ⟨i1, i2, H⟩ := H
    refine v_ald (j := 50) (t := 1) rfl rfl rfl rfl rfl rfl (K64_t K) i1 (by rw [K64_l K]; exact i2) ?_
    refine v_run 51 1 (pc' := 99) (ls' := [(1, 41), (9, 0), (9, 0), (9, 0), (0, a4), (0, a5), (0, a6), (9, 0)]) (st' := [(0, 201), (0, (m 64 a6))]) rfl ?_
    obtain ⟨Q3, H, J6⟩ := H
    have J6 : ∀ v4, Q3 v4 → WV G mX10_read 156 [(1, 41), (9, 0), (9, 0), (9, 0), (0, a4), (0, a5), (0, a6), (9, 0)] [(0, v4)] m d P := by
      intro v4 q5
      have H := J6 v4 q5
      refine v_run 79 2 (pc' := 160) (ls' := [(1, 41), (9, 0), (9, 0), (9, 0), (0, a4), (0, a5), (0, a6), (0, v4)]) (st' := [(0, a5)]) rfl ?_
      have J7 : WV G mX10_read 173 [(1, 41), (9, 0), (9, 0), (9, 0), (0, a4), (0, a5), (0, a6), (0, v4)] [(0, (if a5 = (0 : Int) then 0 else (if v4 = (0 : Int) then 0 else 1)))] m d P := by
        refine v_run 87 2 (pc' := 178) (ls' := [(1, 41), (9, 0), (9, 0), (9, 0), (0, a4), (0, (if a5 = (0 : Int) then 0 else (if v4 = (0 : Int) then 0 else 1))), (0, (wr (a6 + 1))), (0, v4)]) (st' := []) rfl ?_
        refine v_goto (j := 89) (tgt := 80) rfl rfl ?_
        refine v_drp [true, false, false, false, true, true, true, false] ?_
        exact H
      refine v_ifeq (j := 81) rfl rfl rfl (fun q => ?_) (fun q => ?_)
      · rw [if_pos q] at J7
        refine v_run 86 1 (pc' := 173) (ls' := [(1, 41), (9, 0), (9, 0), (9, 0), (0, a4), (0, a5), (0, a6), (0, v4)]) (st' := [(0, 0)]) rfl ?_
        exact J7
      · rw [if_neg q] at J7
        refine v_run 82 1 (pc' := 165) (ls' := [(1, 41), (9, 0), (9, 0), (9, 0), (0, a4), (0, a5), (0, a6), (0, v4)]) (st' := [(0, v4)]) rfl ?_
        refine v_ifeq (j := 83) rfl rfl rfl (fun q => ?_) (fun q => ?_)
        · rw [if_pos q] at J7
          refine v_run 86 1 (pc' := 173) (ls' := [(1, 41), (9, 0), (9, 0), (9, 0), (0, a4), (0, a5), (0, a6), (0, v4)]) (st' := [(0, 0)]) rfl ?_
          exact J7
        · rw [if_neg q] at J7
          refine v_run 84 1 (pc' := 169) (ls' := [(1, 41), (9, 0), (9, 0), (9, 0), (0, a4), (0, a5), (0, a6), (0, v4)]) (st' := [(0, 1)]) rfl ?_
          refine v_goto (j := 85) (tgt := 173) rfl rfl ?_
          exact J7
    refine v_icmpeq (j := 52) rfl rfl rfl (fun q => ?_) (fun q => ?_)
    · replace H := H.1 q
      refine v_run 76 1 (pc' := 152) (ls' := [(1, 41), (9, 0), (9, 0), (9, 0), (0, a4), (0, a5), (0, a6), (9, 0)]) (st' := [(0, 1)]) rfl ?_
      refine v_goto (j := 77) (tgt := 156) rfl rfl ?_
      exact J6 _ H
    · replace H := H.2 q
      refine v_run 53 1 (pc' := 103) (ls' := [(1, 41), (9, 0), (9, 0), (9, 0), (0, a4), (0, a5), (0, a6), (9, 0)]) (st' := [(1, 41)]) rfl ?_
      refine v_getK (j := 54) (c := 24) (f := 30) rfl rfl rfl rfl rfl rfl rfl rfl (K41_t K) (K41_30 K) ?_
      refine v_run 55 1 (pc' := 108) (ls' := [(1, 41), (9, 0), (9, 0), (9, 0), (0, a4), (0, a5), (0, a6), (9, 0)]) (st' := [(0, a6), (1, 64)]) rfl ?_
      obtain ⟨i8, i9, H⟩ := H
      refine v_ald (j := 56) (t := 1) rfl rfl rfl rfl rfl rfl (K64_t K) i8 (by rw [K64_l K]; exact i9) ?_
      refine v_run 57 1 (pc' := 112) (ls' := [(1, 41), (9, 0), (9, 0), (9, 0), (0, a4), (0, a5), (0, a6), (9, 0)]) (st' := [(0, 211), (0, (m 64 a6))]) rfl ?_
      refine v_icmpeq (j := 58) rfl rfl rfl (fun q => ?_) (fun q => ?_)
      · replace H := H.1 q
        refine v_run 76 1 (pc' := 152) (ls' := [(1, 41), (9, 0), (9, 0), (9, 0), (0, a4), (0, a5), (0, a6), (9, 0)]) (st' := [(0, 1)]) rfl ?_
        refine v_goto (j := 77) (tgt := 156) rfl rfl ?_
        exact J6 _ H
      · replace H := H.2 q
        refine v_run 59 1 (pc' := 116) (ls' := [(1, 41), (9, 0), (9, 0), (9, 0), (0, a4), (0, a5), (0, a6), (9, 0)]) (st' := [(1, 41)]) rfl ?_
        refine v_getK (j := 60) (c := 24) (f := 30) rfl rfl rfl rfl rfl rfl rfl rfl (K41_t K) (K41_30 K) ?_
        refine v_run 61 1 (pc' := 121) (ls' := [(1, 41), (9, 0), (9, 0), (9, 0), (0, a4), (0, a5), (0, a6), (9, 0)]) (st' := [(0, a6), (1, 64)]) rfl ?_
        obtain ⟨i10, i11, H⟩ := H
        refine v_ald (j := 62) (t := 1) rfl rfl rfl rfl rfl rfl (K64_t K) i10 (by rw [K64_l K]; exact i11) ?_
        refine v_run 63 1 (pc' := 125) (ls' := [(1, 41), (9, 0), (9, 0), (9, 0), (0, a4), (0, a5), (0, a6), (9, 0)]) (st' := [(0, 215), (0, (m 64 a6))]) rfl ?_
        refine v_icmpeq (j := 64) rfl rfl rfl (fun q => ?_) (fun q => ?_)
        · replace H := H.1 q
          refine v_run 76 1 (pc' := 152) (ls' := [(1, 41), (9, 0), (9, 0), (9, 0), (0, a4), (0, a5), (0, a6), (9, 0)]) (st' := [(0, 1)]) rfl ?_
          refine v_goto (j := 77) (tgt := 156) rfl rfl ?_
          exact J6 _ H
        · replace H := H.2 q
          refine v_run 65 1 (pc' := 129) (ls' := [(1, 41), (9, 0), (9, 0), (9, 0), (0, a4), (0, a5), (0, a6), (9, 0)]) (st' := [(1, 41)]) rfl ?_
          refine v_getK (j := 66) (c := 24) (f := 30) rfl rfl rfl rfl rfl rfl rfl rfl (K41_t K) (K41_30 K) ?_
          refine v_run 67 1 (pc' := 134) (ls' := [(1, 41), (9, 0), (9, 0), (9, 0), (0, a4), (0, a5), (0, a6), (9, 0)]) (st' := [(0, a6), (1, 64)]) rfl ?_
          obtain ⟨i12, i13, H⟩ := H
          refine v_ald (j := 68) (t := 1) rfl rfl rfl rfl rfl rfl (K64_t K) i12 (by rw [K64_l K]; exact i13) ?_
          refine v_run 69 1 (pc' := 138) (ls' := [(1, 41), (9, 0), (9, 0), (9, 0), (0, a4), (0, a5), (0, a6), (9, 0)]) (st' := [(0, 218), (0, (m 64 a6))]) rfl ?_
          refine v_icmpne (j := 70) rfl rfl rfl (fun q => ?_) (fun q => ?_)
          · replace H := H.1 q
            refine v_run 78 1 (pc' := 156) (ls' := [(1, 41), (9, 0), (9, 0), (9, 0), (0, a4), (0, a5), (0, a6), (9, 0)]) (st' := [(0, 0)]) rfl ?_
            exact J6 _ H
          · replace H := H.2 q
            refine v_run 71 1 (pc' := 142) (ls' := [(1, 41), (9, 0), (9, 0), (9, 0), (0, a4), (0, a5), (0, a6), (9, 0)]) (st' := [(1, 41)]) rfl ?_
            refine v_getK (j := 72) (c := 24) (f := 31) rfl rfl rfl rfl rfl rfl rfl rfl (K41_t K) (K41_31 K) ?_
            refine v_run 73 1 (pc' := 147) (ls' := [(1, 41), (9, 0), (9, 0), (9, 0), (0, a4), (0, a5), (0, a6), (9, 0)]) (st' := [(0, a6), (1, 65)]) rfl ?_
            obtain ⟨i14, i15, H⟩ := H
            refine v_ald (j := 74) (t := 1) rfl rfl rfl rfl rfl rfl (K65_t K) i14 (by rw [K65_l K]; exact i15) ?_
            refine v_ifle (j := 75) rfl rfl rfl (fun q => ?_) (fun q => ?_)
            · replace H := H.1 q
              refine v_run 78 1 (pc' := 156) (ls' := [(1, 41), (9, 0), (9, 0), (9, 0), (0, a4), (0, a5), (0, a6), (9, 0)]) (st' := [(0, 0)]) rfl ?_
              exact J6 _ H
            · replace H := H.2 q
              refine v_run 76 1 (pc' := 152) (ls' := [(1, 41), (9, 0), (9, 0), (9, 0), (0, a4), (0, a5), (0, a6), (9, 0)]) (st' := [(0, 1)]) rfl ?_
              refine v_goto (j := 77) (tgt := 156) rfl rfl ?_
              exact J6 _ H
