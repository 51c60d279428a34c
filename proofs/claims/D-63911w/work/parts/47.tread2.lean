/-! L3, twin: reading, the larger steps -/
section TS
variable {m m' : SM} {b pb : Int} {S : List Itm} {N : List Nd} {nm : Int} {gv : List Int} {pt : List Pt5} {G : GM} {d : Nat} {P : Nat → Int → SM → Prop}
theorem c_bCode (K : KI m) (hd : 14 ≤ d) (h : RS m b pb S N nm gv pt) (hS : S.length < 387) (hN : N.length < 82) {c p q : Int} (hc0 : 0 ≤ c) (hc1 : c ≤ 200) (hq0 : 0 ≤ q) (hq1 : q < 1000) (k : Rz m b pb (bCode b c p q (S, N, nm, gv, pt)) P) : WV G mX10_beginCode 0 [(1, 41), (0, c), (0, p), (0, q), (9, 0)] [] m d P := by
  unfold bCode at k
  dsimp only at k
  have lf : (isV c = true ∨ isD c = true ∨ c = 126) → WV G mX10_beginCode 20 [(1, 41), (0, c), (0, p), (9, 0), (9, 0)] [] m d P := by
    intro hv
    rw [if_pos hv] at k
    refine wX10_beginCode_20 K (by omega) ?_
    have e1 : (if 97 ≤ c ∧ c ≤ 122 then wr (c - 97) else wr (c - 48)) = if isV c = true then c - 97 else c - 48 := by
      by_cases q : isV c = true
      · rw [if_pos (isV_iff.mp q), if_pos q, wr_id (by omega) (by omega)]
      · rw [if_neg (fun z => q (isV_iff.mpr z)), if_neg q, wr_id (by omega) (by omega)]
    have e2 : (if 97 ≤ c ∧ c ≤ 122 then (1 : Int) else (if c ≠ 126 then 2 else 10)) = if isV c = true then 1 else if c = 126 then 10 else 2 := by
      by_cases q : isV c = true
      · rw [if_pos (isV_iff.mp q), if_pos q]
      · rw [if_neg (fun z => q (isV_iff.mpr z)), if_neg q]
        by_cases q2 : c = 126
        · rw [if_neg (fun z => z q2), if_pos q2]
        · rw [if_pos q2, if_neg q2]
    rw [e1, e2]
    exact c_node K (by omega) h hN (fun m' r f o => ⟨rfl, o, k m' r f o⟩)
  have ew : wr (q + 1) = q + 1 := wr_id (by omega) (by omega)
  have pm : ¬ (isV c = true ∨ isD c = true ∨ c = 126) → ¬ isL c = true → q ≠ 12 → (c = 43 ∨ c = 45) → WV G mX10_node 0 [(1, 41), (0, (if c ≠ (43 : Int) then 7 else 6)), (0, 0), (0, p)] [] m (d - 1) (fun k v1 m2 => k = 0 ∧ Ok m m2 ∧ (WV G mX10_push 0 [(1, 41), (0, 210), (0, (wr (q + 1))), (0, 0)] [] m2 (d - 1) (fun k v4 m5 => k = 0 ∧ Ok m2 m5 ∧ (WV G mX10_push 0 [(1, 41), (0, 210), (0, (wr (q + 1))), (0, 0)] [] m5 (d - 1) (fun k v7 m8 => k = 0 ∧ Ok m5 m8 ∧ (P 0 1 m8)))))) := by
    intro n1 n2 n3 n4
    rw [if_neg n1, if_neg n2, if_neg n3, if_pos n4] at k
    have e2 : (if c ≠ 43 then (7 : Int) else 6) = if c = 43 then 6 else 7 := by
      by_cases q : c = 43
      · rw [if_neg (fun z => z q), if_pos q]
      · rw [if_pos q, if_neg q]
    rw [e2, ew]
    refine c_node K (by omega) h hN (fun m1 r1 f1 o1 => ⟨rfl, o1, ?_⟩)
    refine c_push (o1.2.1 K) (by omega) r1 (by omega) (fun m2 r2 f2 o2 => ⟨rfl, o2, ?_⟩)
    refine c_push (o2.2.1 (o1.2.1 K)) (by omega) r2 (by simp; omega) (fun m3 r3 f3 o3 => ⟨rfl, o3, ?_⟩)
    exact k m3 r3 (f1.trans (f2.trans f3)) (o1.trans (o2.trans o3))
  refine wX10_beginCode K (by omega) ⟨fun q1 => lf (Or.inl (isV_iff.mpr q1)), fun q1 => ⟨fun q2 => lf (Or.inr (Or.inl (isD_iff.mpr q2))), fun q2 => ⟨fun q3 => ?_, fun q3 => lf (Or.inr (Or.inr q3))⟩⟩⟩
  have n1 : ¬ (isV c = true ∨ isD c = true ∨ c = 126) := fun z => z.elim (fun z => q1 (isV_iff.mp z)) (fun z => z.elim (fun z => q2 (isD_iff.mp z)) q3)
  refine ⟨fun q4 => ?_, fun q4 => ?_⟩
  · have n2 : ¬ isL c = true := fun z => q4 (isL_iff.mp z)
    refine ⟨fun q5 => ?_, fun q5 => ?_⟩
    · refine ⟨fun q6 => pm n1 n2 q5 (Or.inl q6), fun q6 => ⟨fun q7 => ?_, fun q7 => pm n1 n2 q5 (Or.inr q7)⟩⟩
      rw [if_neg n1, if_neg n2, if_neg q5, if_neg (by omega)] at k
      refine ⟨fun q8 => ⟨fun q9 => ?_, fun q9 => ?_⟩, fun q8 => ?_⟩
      · rw [if_neg (by omega), if_pos q9] at k
        rw [ew]
        refine c_node K (by omega) h hN (fun m1 r1 f1 o1 => ⟨rfl, o1, ?_⟩)
        have K1 := o1.2.1 K
        refine c_push K1 (by omega) r1 (by omega) (fun m2 r2 f2 o2 => ⟨rfl, o2, ?_⟩)
        have K2 := o2.2.1 K1
        refine c_push K2 (by omega) r2 (by simp; omega) (fun m3 r3 f3 o3 => ⟨rfl, o3, ?_⟩)
        have K3 := o3.2.1 K2
        refine c_push K3 (by omega) r3 (by simp; omega) (fun m4 r4 f4 o4 => ⟨rfl, o4, ?_⟩)
        have K4 := o4.2.1 K3
        refine c_push K4 (by omega) r4 (by simp; omega) (fun m5 r5 f5 o5 => ⟨rfl, o5, ?_⟩)
        have K5 := o5.2.1 K4
        refine c_push K5 (by omega) r5 (by simp; omega) (fun m6 r6 f6 o6 => ⟨rfl, o6, ?_⟩)
        have K6 := o6.2.1 K5
        refine c_push K6 (by omega) r6 (by simp; omega) (fun m7 r7 f7 o7 => ⟨rfl, o7, ?_⟩)
        have K7 := o7.2.1 K6
        refine c_push K7 (by omega) r7 (by simp; omega) (fun m8 r8 f8 o8 => ⟨rfl, o8, ?_⟩)
        have K8 := o8.2.1 K7
        refine c_push K8 (by omega) r8 (by simp; omega) (fun m9 r9 f9 o9 => ⟨rfl, o9, ?_⟩)
        exact k m9 r9 (f1.trans (f2.trans (f3.trans (f4.trans (f5.trans (f6.trans (f7.trans (f8.trans f9)))))))) (o1.trans (o2.trans (o3.trans (o4.trans (o5.trans (o6.trans (o7.trans (o8.trans o9))))))))
      · rw [if_neg q8, if_neg q9] at k
        exact k m Fr.refl (Ok.refl m)
      · rw [if_pos q8] at k
        rw [ew]
        refine c_node K (by omega) h hN (fun m1 r1 f1 o1 => ⟨rfl, o1, ?_⟩)
        refine c_push (o1.2.1 K) (by omega) r1 (by omega) (fun m2 r2 f2 o2 => ⟨rfl, o2, ?_⟩)
        refine c_push (o2.2.1 (o1.2.1 K)) (by omega) r2 (by simp; omega) (fun m3 r3 f3 o3 => ⟨rfl, o3, ?_⟩)
        exact k m3 r3 (f1.trans (f2.trans f3)) (o1.trans (o2.trans o3))
    · rw [if_neg n1, if_neg n2, if_pos q5] at k
      exact k m Fr.refl (Ok.refl m)
  · rw [if_neg n1, if_pos (isL_iff.mpr q4)] at k
    rw [wr_id (by omega) (by omega)]
    refine c_node K (by omega) h hN (fun m1 r1 f1 o1 => ⟨rfl, o1, ?_⟩)
    refine c_push (o1.2.1 K) (by omega) r1 (by omega) (fun m2 r2 f2 o2 => ⟨rfl, o2, ?_⟩)
    exact k m2 r2 (f1.trans f2) (o1.trans o2)
theorem Rz.bool {o : Option RSt} (h : Rz m b pb o P) : Rz m b pb o (fun k v m' => k = 0 ∧ Ok m m' ∧ ((v = 0 ∨ v = 1) ∧ P 0 v m')) := by
  cases o with
  | none => exact fun m2 f2 o2 => ⟨rfl, o2, Or.inl rfl, h m2 f2 o2⟩
  | some st =>
    obtain ⟨S, N, nm, gv, pt⟩ := st
    exact fun m2 r f2 o2 => ⟨rfl, o2, Or.inr rfl, h m2 r f2 o2⟩
theorem c_bPart (K : KI m) (hd : 15 ≤ d) (h : RS m b pb S N nm gv pt) (hS : S.length < 380) (hN : N.length < 82) (hP : pt.length < 9) {c p n : Int} (hc0 : 0 ≤ c) (hc1 : c ≤ 200) (hn0 : 0 ≤ n) (hn1 : n < 1000) (k : Rz m b pb (bPart b pb c p n (S, N, nm, gv, pt)) P) : WV G mX10_beginPart 0 [(1, 41), (0, c), (0, p), (0, n), (9, 0)] [] m d P := by
  unfold bPart at k
  dsimp only at k
  have ew : wr (n + 1) = n + 1 := wr_id (by omega) (by omega)
  refine wX10_beginPart K (by omega) ?_
  rw [ew]
  refine c_push K (by omega) h (by omega) (fun m1 r1 f1 o1 => ⟨rfl, o1, ?_⟩)
  have K1 := o1.2.1 K
  have two : ¬ isV c = true → (c = 35 ∨ isL c = true) → WV G mX10_part 0 [(1, 41), (0, 1), (0, (-1)), (0, 1), (0, p)] [] m1 (d - 1) (fun k v4 m5 => k = 0 ∧ Ok m1 m5 ∧ (WV G mX10_beginTerm 0 [(1, 41), (0, c), (0, p), (0, 2)] [] m5 (d - 1) (fun k v7 m8 => k = 0 ∧ Ok m5 m8 ∧ ((v7 = 0 ∨ v7 = 1) ∧ (P 0 v7 m8))))) := by
    intro n1 n2
    rw [if_neg n1, if_pos n2] at k
    refine c_part K1 (by omega) r1 hP (fun m2 r2 f2 o2 => ⟨rfl, o2, ?_⟩)
    exact c_bTerm (o2.2.1 K1) (by omega) r2 (by simp; omega) hN hc0 hc1 (by omega) (by omega) ((k.step f1 o1).step f2 o2).bool
  refine ⟨fun q1 => ⟨fun q2 => two (fun z => q1 (isV_iff.mp z)) (Or.inl q2), fun q2 => ⟨fun q3 => ⟨fun q4 => ?_, fun q4 => ?_⟩, fun q3 => two (fun z => q1 (isV_iff.mp z)) (Or.inr (isL_iff.mpr q3))⟩⟩, fun q1 => ?_⟩
  · rw [if_neg (fun z => q1 (isV_iff.mp z)), if_neg (fun z => z.elim q2 (fun z => q3 (isL_iff.mp z))), if_pos q4] at k
    refine c_part K1 (by omega) r1 hP (fun m2 r2 f2 o2 => ⟨rfl, o2, ?_⟩)
    have K2 := o2.2.1 K1
    refine c_push K2 (by omega) r2 (by simp; omega) (fun m3 r3 f3 o3 => ⟨rfl, o3, ?_⟩)
    have K3 := o3.2.1 K2
    refine c_push K3 (by omega) r3 (by simp; omega) (fun m4 r4 f4 o4 => ⟨rfl, o4, ?_⟩)
    have K4 := o4.2.1 K3
    refine c_push K4 (by omega) r4 (by simp; omega) (fun m5 r5 f5 o5 => ⟨rfl, o5, ?_⟩)
    have K5 := o5.2.1 K4
    refine c_push K5 (by omega) r5 (by simp; omega) (fun m6 r6 f6 o6 => ⟨rfl, o6, ?_⟩)
    have K6 := o6.2.1 K5
    refine c_push K6 (by omega) r6 (by simp; omega) (fun m7 r7 f7 o7 => ⟨rfl, o7, ?_⟩)
    have K7 := o7.2.1 K6
    refine c_push K7 (by omega) r7 (by simp; omega) (fun m8 r8 f8 o8 => ⟨rfl, o8, ?_⟩)
    exact k m8 r8 (f1.trans (f2.trans (f3.trans (f4.trans (f5.trans (f6.trans (f7.trans f8))))))) (o1.trans (o2.trans (o3.trans (o4.trans (o5.trans (o6.trans (o7.trans o8)))))))
  · rw [if_neg (fun z => q1 (isV_iff.mp z)), if_neg (fun z => z.elim q2 (fun z => q3 (isL_iff.mp z))), if_neg q4] at k
    exact k m1 f1 o1
  · rw [if_pos (isV_iff.mpr q1)] at k
    rw [wr_id (by omega) (by omega)]
    refine c_part K1 (by omega) r1 hP (fun m2 r2 f2 o2 => ⟨rfl, o2, ?_⟩)
    have K2 := o2.2.1 K1
    refine c_push K2 (by omega) r2 (by simp; omega) (fun m3 r3 f3 o3 => ⟨rfl, o3, ?_⟩)
    have K3 := o3.2.1 K2
    refine c_push K3 (by omega) r3 (by simp; omega) (fun m4 r4 f4 o4 => ⟨rfl, o4, ?_⟩)
    exact k m4 r4 (f1.trans (f2.trans (f3.trans f4))) (o1.trans (o2.trans (o3.trans o4)))
/-- items in the middle, items at the bottom -/
def mid (b pb p nN nP : Int) (x : Itm) : Prop :=
  (0 ≤ x.1 ∧ x.1 < 218) ∧ (x.1 ≠ 203 ∧ x.1 ≠ 204 ∧ x.1 ≠ 205 ∧ x.1 ≠ 206 ∧ x.1 ≠ 209) ∧
  (x.1 = 201 ∨ x.1 = 202 ∨ x.1 = 211 ∨ x.1 = 212 ∨ x.1 = 213 ∨ x.1 = 215 ∨ x.1 = 216 ∨ x.1 = 217 → b ≤ x.2.1 ∧ x.2.1 < b + nN) ∧
  (x.1 = 207 ∨ x.1 = 208 → pb ≤ x.2.1 ∧ x.2.1 < pb + nP) ∧
  (x.1 = 200 ∨ x.1 = 210 → 0 ≤ x.2.1 ∧ x.2.1 ≤ 3 * p + 20) ∧ (0 ≤ x.2.2 ∧ x.2.2 ≤ 3 * p + 20)
def bot (nP nG : Int) (e : Itm) : Prop := (e.1 = 203 ∧ nP = 0) ∨ (e.1 = 204 ∧ e.2.1 = nP ∧ nP < 6) ∨ (e.1 = 205 ∧ e.2.1 = nP ∧ nP ≤ 6) ∨ e.1 = 206 ∨ (e.1 = 209 ∧ e.2.1 = nG ∧ nG ≤ 4) ∨ (e.1 = 218 ∧ 0 ≤ e.2.1 ∧ e.2.1 ≤ 6)
theorem nd_at (N : List Nd) {b a : Int} (h0 : b ≤ a) (h1 : a < b + N.length) : ∃ e, N[(a - b).toNat]? = some e ∧ ((a - b).toNat : Int) = a - b := by
  have : (a - b).toNat < N.length := by omega
  exact ⟨_, List.getElem?_eq_getElem this, by omega⟩
theorem setC_at {N : List Nd} {i : Nat} {e : Nd} (h : N[i]? = some e) (f : Int → Int) : setC N i f = N.set i (e.1, e.2.1, f e.2.2.1, e.2.2.2) := by unfold setC; rw [h]
theorem cntA_at {N : List Nd} {i : Nat} {e : Nd} (h : N[i]? = some e) : cntA N i = e.2.2.1 := by unfold cntA; rw [h]
theorem c_prt (h : RS m b pb S N nm gv pt) {i : Nat} {e : Pt5} (hi : pt[i]? = some e) {v : Int} (e1 : m' = up m 62 (pb + i) v) : RS m' b pb S N nm gv (pt.set i (e.1, e.2.1, e.2.2.1, v, e.2.2.2.2)) ∧ Fr (rdC b pb) m m' := by
  have hb := h.2.2.2.2.2.2.1
  have E : ∀ z f, m' z f = if z = 62 ∧ f = pb + i then v else m z f := fun z f => by rw [e1]; rfl
  have hlt := (List.getElem?_eq_some_iff.mp hi).1
  refine ⟨h.parts (by rw [E, if_neg (by omega), List.length_set]; exact h.2.2.2.2.1.2.1) (fun j x hx => ?_) (fun z f hz => by rw [E, if_neg (by omega)]), frU (by unfold rdC; omega) e1⟩
  by_cases hj : j = i
  · subst hj
    rw [List.getElem?_set_self hlt] at hx
    cases hx
    obtain ⟨q1, q2, q3, q4, q5⟩ := h.2.2.2.2.1.2.2 j e hi
    simp only [E]
    simp
    exact ⟨q1, q2, q3, q5⟩
  · rw [List.getElem?_set_ne (Ne.symm hj)] at hx
    obtain ⟨q1, q2, q3, q4, q5⟩ := h.2.2.2.2.1.2.2 j x hx
    simp only [E]
    simp
    refine ⟨q1, q2, q3, ?_, q5⟩
    rw [if_neg (by omega)]; exact q4
theorem c_prn (h : RS m b pb S N nm gv pt) {i : Nat} {e : Pt5} (hi : pt[i]? = some e) {l p : Int} {m1 : SM} (e0 : m1 = up m 60 (pb + i) l) (e1 : m' = up m1 63 (pb + i) p) : RS m' b pb S N nm gv (pt.set i (e.1, l, e.2.2.1, e.2.2.2.1, p)) ∧ Fr (rdC b pb) m m' := by
  have hb := h.2.2.2.2.2.2.1
  have E : ∀ z f, m' z f = if z = 63 ∧ f = pb + i then p else if z = 60 ∧ f = pb + i then l else m z f := fun z f => by rw [e1, e0]; rfl
  have hlt := (List.getElem?_eq_some_iff.mp hi).1
  refine ⟨h.parts (by rw [E, if_neg (by omega), if_neg (by omega), List.length_set]; exact h.2.2.2.2.1.2.1) (fun j x hx => ?_) (fun z f hz => by rw [E, if_neg (by omega), if_neg (by omega)]), (frU (by unfold rdC; omega) e0).trans (frU (by unfold rdC; omega) e1)⟩
  by_cases hj : j = i
  · subst hj
    rw [List.getElem?_set_self hlt] at hx
    cases hx
    obtain ⟨q1, q2, q3, q4, q5⟩ := h.2.2.2.2.1.2.2 j e hi
    simp only [E]
    simp
    exact ⟨q1, q3, q4⟩
  · rw [List.getElem?_set_ne (Ne.symm hj)] at hx
    obtain ⟨q1, q2, q3, q4, q5⟩ := h.2.2.2.2.1.2.2 j x hx
    simp only [E]
    simp
    refine ⟨q1, ?_, q3, q4, ?_⟩
    · rw [if_neg (by omega)]; exact q2
    · rw [if_neg (by omega)]; exact q5
theorem pt_at (N : List Pt5) {b a : Int} (h0 : b ≤ a) (h1 : a < b + N.length) : ∃ e, N[(a - b).toNat]? = some e ∧ ((a - b).toNat : Int) = a - b := by
  have : (a - b).toNat < N.length := by omega
  exact ⟨_, List.getElem?_eq_getElem this, by omega⟩
/-- the name of what is read is noted -/
theorem RS.named (h : RS m b pb S N nm gv pt) {v : Int} (e1 : m' = up m 41 34 v) : RS m' b pb S N v gv pt ∧ Fr (rdC b pb) m m' := by
  have E : ∀ z f, m' z f = if z = 41 ∧ f = 34 then v else m z f := fun z f => by rw [e1]; rfl
  obtain ⟨⟨s1, s2⟩, ⟨n1, n2, n3⟩, h3, h4, ⟨p1, p2, p3⟩, h6, h7⟩ := h
  refine ⟨⟨⟨by rw [E, if_neg (by omega)]; exact s1, stk_congr S (fun i _ _ => by simp only [E]; simp) s2⟩, ⟨by rw [E, if_neg (by omega)]; exact n1, by rw [E, if_neg (by omega)]; exact n2, fun i x hx => by simp only [E]; simp; exact n3 i x hx⟩, by rw [E, if_pos ⟨rfl, rfl⟩], fun i x hx => by rw [E, if_neg (by omega)]; exact h4 i x hx, ⟨by rw [E, if_neg (by omega)]; exact p1, by rw [E, if_neg (by omega)]; exact p2, fun i x hx => by simp only [E]; simp; exact p3 i x hx⟩, h6, h7⟩, frU (by unfold rdC; omega) e1⟩
end TS
