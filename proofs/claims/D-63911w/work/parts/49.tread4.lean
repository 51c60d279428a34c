/-! L3, twin: reading, take and read -/
section TT
variable {m m' : SM} {b pb p u c : Int} {S : List Itm} {N : List Nd} {nm : Int} {gv : List Int} {pt : List Pt5} {G : GM} {d : Nat} {P : Nat → Int → SM → Prop}
theorem Rz.tf {o : Option RSt} (h : Rz m b pb o P) : Rz m b pb o (fun k v m' => k = 0 ∧ Ok m m' ∧ ((v = 0 → P 0 0 m') ∧ (v ≠ 0 → P 0 1 m'))) := by
  cases o with
  | none => exact fun m2 f2 o2 => ⟨rfl, o2, fun _ => h m2 f2 o2, fun q => absurd rfl q⟩
  | some st =>
    obtain ⟨S, N, nm, gv, pt⟩ := st
    exact fun m2 r f2 o2 => ⟨rfl, o2, fun q => absurd q (by decide), fun _ => h m2 r f2 o2⟩
theorem c_tDecl (K : KI m) (hd : 17 ≤ d) {w a q : Int} (h : RS m b pb S N nm gv pt) (hk : sOK b pb p u ((w, a, q) :: S, N, nm, gv, pt)) (hS : S.length ≤ 380) (hp0 : 0 ≤ p) (hp1 : p ≤ 75) (hu : u ≤ 100) (hc0 : 0 ≤ c) (hc1 : c ≤ 200) (hw : 200 ≤ w ∧ w < 209) (k : Rz m b pb (tDecl b pb w a q c p (S, N, nm, gv, pt)) P) : WV G mX10_takeDeclared 0 [(1, 41), (0, w), (0, a), (0, q), (0, c), (0, p)] [] m d P := by
  have ht := hk.top
  have hN : (N.length : Int) ≤ p := hk.2.1
  have hP : pt.length ≤ 6 := hk.2.2.2.2.1
  have hcN := hk.2.2.2.1
  have hcP := hk.2.2.2.2.2
  have h6 := h.2.2.2.2.2.1
  have h7 := h.2.2.2.2.2.2
  unfold tDecl at k
  dsimp only at k
  refine wX10_takeDeclared K (by omega) ⟨fun hw2 => ?_, fun hw2 => ?_, fun hw2 => ?_, fun hw2 => ?_, fun hw2 => ?_, fun hw2 => ?_, fun hw2 => ?_, fun hw2 => ?_, fun hw2 => ?_⟩
  · have hw3 : w = 208 := by omega
    subst hw3
    simp only [reduceIte, Int.reduceEq] at k
    unfold mid2 bot2 at ht
    have ha : pb ≤ a ∧ a < pb + pt.length := by omega
    obtain ⟨e, he, hi⟩ := pt_at pt ha.1 ha.2
    have hv := (h.2.2.2.2.1.2.2 _ e he).2.2.2.1
    rw [hi, show pb + (a - pb) = a by omega] at hv
    have e1 : tDecl.cntP pt (a - pb).toNat = e.2.2.2.1 := by unfold tDecl.cntP; rw [he]
    have e2 : tDecl.incP pt (a - pb).toNat = pt.set (a - pb).toNat (e.1, e.2.1, e.2.2.1, e.2.2.2.1 + 1, e.2.2.2.2) := by unfold tDecl.incP; rw [he]
    have hb := hcP e (List.mem_of_getElem? he)
    rw [e1, e2] at k
    refine ⟨fun q1 => ⟨by omega, by omega, fun q2 => ⟨by omega, by omega, by omega, by omega, fun m7 e7 o7 => ?_⟩, fun q2 => ?_⟩, fun q1 => ?_⟩
    · rw [if_neg q1, if_neg (by rw [← hv]; exact q2)] at k
      rw [hv, wr_id (by omega) (by omega)] at e7
      have e7' : m7 = up m 62 (pb + ((a - pb).toNat : Int)) (e.2.2.2.1 + 1) := by rw [e7, hi, show pb + (a - pb) = a by omega]
      obtain ⟨r7, f7⟩ := c_prt h he e7'
      have K7 := o7.2.1 K
      refine c_push K7 (by omega) r7 (by omega) (fun m8 r8 f8 o8 => ⟨rfl, o8, ?_⟩)
      have K8 := o8.2.1 K7
      exact c_bTerm K8 (by omega) r8 (by simp; omega) (by omega) hc0 hc1 (by omega) (by omega) ((k.step f7 o7).step f8 o8).bool
    · rw [if_neg q1, if_pos (by rw [← hv]; exact q2)] at k
      exact k m Fr.refl (Ok.refl m)
    · rw [if_pos q1] at k
      exact k m h Fr.refl (Ok.refl m)
  · subst hw2
    simp only [reduceIte, Int.reduceEq] at k
    unfold mid2 bot2 at ht
    rw [wr_id (by omega) (by omega)]
    exact c_bTerm K (by omega) h (by omega) (by omega) hc0 hc1 (by omega) (by omega) k.bool
  · subst hw2
    simp only [reduceIte, Int.reduceEq] at k
    unfold mid2 bot2 at ht
    have ha : b ≤ a ∧ a < b + N.length := by omega
    obtain ⟨e, he, hi⟩ := nd_at N ha.1 ha.2
    rw [setC_at he] at k
    refine ⟨by omega, by omega, fun m1 e1 o1 => ?_⟩
    have e1' : m1 = up m 56 (b + ((a - b).toNat : Int)) 1 := by rw [e1, hi, show b + (a - b) = a by omega]
    obtain ⟨r1, f1⟩ := c_cnt h he e1'
    have K1 := o1.2.1 K
    refine c_push K1 (by omega) r1 (by omega) (fun m2 r2 f2 o2 => ⟨rfl, o2, ?_⟩)
    rw [wr_id (by omega) (by omega)]
    refine c_push (o2.2.1 K1) (by omega) r2 (by simp; omega) (fun m3 r3 f3 o3 => ⟨rfl, o3, ?_⟩)
    exact k m3 r3 (f1.trans (f2.trans f3)) (o1.trans (o2.trans o3))
  · subst hw2
    simp only [reduceIte, Int.reduceEq] at k
    unfold mid2 bot2 at ht
    have ha : b ≤ a ∧ a < b + N.length := by omega
    obtain ⟨e, he, hi⟩ := nd_at N ha.1 ha.2
    have hv := (h.2.1.2.2 _ e he).2.2.1
    rw [hi, show b + (a - b) = a by omega] at hv
    have hb := hcN e (List.mem_of_getElem? he)
    rw [setC_at he, cntA_at he] at k
    refine ⟨fun q1 => ⟨by omega, by omega, fun q2 => ⟨by omega, by omega, by omega, by omega, fun m1 e1 o1 => ?_⟩, fun q2 => ?_⟩, fun q1 => ?_⟩
    · rw [if_neg q1, if_neg (by rw [← hv]; exact q2)] at k
      rw [hv, wr_id (by omega) (by omega)] at e1
      have e1' : m1 = up m 56 (b + ((a - b).toNat : Int)) (e.2.2.1 + 1) := by rw [e1, hi, show b + (a - b) = a by omega]
      obtain ⟨r1, f1⟩ := c_cnt h he e1'
      have K1 := o1.2.1 K
      refine c_push K1 (by omega) r1 (by omega) (fun m2 r2 f2 o2 => ⟨rfl, o2, ?_⟩)
      rw [wr_id (by omega) (by omega)]
      exact c_bTerm (o2.2.1 K1) (by omega) r2 (by simp; omega) (by rw [List.length_set]; omega) hc0 hc1 (by omega) (by omega) ((k.step f1 o1).step f2 o2).bool
    · rw [if_neg q1, if_pos (by rw [← hv]; exact q2)] at k
      exact k m Fr.refl (Ok.refl m)
    · rw [if_pos q1] at k
      exact k m h Fr.refl (Ok.refl m)
  · subst hw2
    simp only [reduceIte, Int.reduceEq] at k
    unfold mid2 bot2 at ht
    obtain ⟨hSe, hb⟩ := ht.resolve_left (by omega)
    subst hSe
    refine ⟨fun q1 => ?_, fun q1 => ?_⟩
    · rw [if_neg q1] at k
      exact c_bPart K (by omega) h (by simp) (by omega) (by omega) hc0 hc1 (by omega) (by omega) k.bool
    · rw [if_pos q1] at k
      exact c_push K (by omega) h (by simp) (fun m2 r2 f2 o2 => ⟨rfl, o2, k m2 r2 f2 o2⟩)
  · subst hw2
    simp only [reduceIte, Int.reduceEq] at k
    unfold mid2 bot2 at ht
    obtain ⟨hSe, hb⟩ := ht.resolve_left (by omega)
    subst hSe
    exact c_bPart K (by omega) h (by simp) (by omega) (by omega) hc0 hc1 (by omega) (by omega) k.bool
  · subst hw2
    simp only [reduceIte, Int.reduceEq] at k
    refine ⟨fun q1 => ?_, fun q1 => ?_⟩
    · rw [if_neg q1] at k
      refine c_push K (by omega) h (by omega) (fun m2 r2 f2 o2 => ⟨rfl, o2, fun q2 => absurd q2 q1, fun _ => ⟨fun q2 => ?_, fun q2 => ⟨fun q3 => ?_, fun q3 => ?_⟩⟩⟩)
      · rw [if_neg (by omega)] at k
        exact k m2 f2 o2
      · rw [if_neg (by omega)] at k
        exact k m2 f2 o2
      · rw [if_pos ⟨q2, q3⟩] at k
        exact k m2 r2 f2 o2
    · rw [if_pos q1] at k
      exact c_push K (by omega) h (by omega) (fun m2 r2 f2 o2 => ⟨rfl, o2, fun _ => k m2 r2 f2 o2, fun q2 => absurd q1 q2⟩)
  · subst hw2
    simp only [reduceIte, Int.reduceEq] at k
    refine ⟨fun v => v = if c = 42 then -2 else b + N.length, ⟨fun q1 => ?_, fun q1 => ?_⟩, fun v hv m1 e1 o1 => ?_⟩
    · rw [if_neg q1]; exact h.2.1.2.1
    · rw [if_pos q1]
    · rw [hv] at e1
      obtain ⟨r1, f1⟩ := h.named e1
      refine ⟨fun q1 => ?_, fun q1 => ?_⟩
      · rw [if_pos q1] at k r1
        exact k m1 r1 f1 o1
      · rw [if_neg q1] at k r1
        exact c_bTerm (o1.2.1 K) (by omega) r1 (by omega) (by omega) hc0 hc1 (by omega) (by omega) (k.step f1 o1).tf
  · subst hw2
    simp only [reduceIte, Int.reduceEq] at k
    unfold mid2 bot2 at ht
    have ha : pb ≤ a ∧ a < pb + pt.length := by omega
    obtain ⟨e, he, hi⟩ := pt_at pt ha.1 ha.2
    have e2 : tDecl.setPN pt (a - pb).toNat (c - 65) p = pt.set (a - pb).toNat (e.1, c - 65, e.2.2.1, e.2.2.2.1, p) := by unfold tDecl.setPN; rw [he]
    rw [e2] at k
    refine ⟨by omega, by omega, fun m1 e1 o1 => ⟨by omega, by omega, fun m2 e2 o2 => ?_⟩⟩
    rw [wr_id (by omega) (by omega)] at e1
    have e1' : m1 = up m 60 (pb + ((a - pb).toNat : Int)) (c - 65) := by rw [e1, hi, show pb + (a - pb) = a by omega]
    have e2' : m2 = up m1 63 (pb + ((a - pb).toNat : Int)) p := by rw [e2, hi, show pb + (a - pb) = a by omega]
    obtain ⟨r2, f2⟩ := c_prn h he e1' e2'
    by_cases q1 : isL c = true
    · rw [if_pos q1] at k
      rw [if_pos (isL_iff.mp q1)]
      exact ⟨Or.inr rfl, k m2 r2 f2 (o1.trans o2)⟩
    · rw [if_neg q1] at k
      rw [if_neg (fun z => q1 (isL_iff.mpr z))]
      exact ⟨Or.inl rfl, k m2 f2 (o1.trans o2)⟩
/-- a change of one node's value -/
theorem c_val (h : RS m b pb S N nm gv pt) {i : Nat} {e : Nd} (hi : N[i]? = some e) {v : Int} (e1 : m' = up m 55 (b + i) v) : RS m' b pb S (N.set i (e.1, v, e.2.2.1, e.2.2.2)) nm gv pt ∧ Fr (rdC b pb) m m' := by
  have hb := h.2.2.2.2.2.1.1
  have E : ∀ z f, m' z f = if z = 55 ∧ f = b + i then v else m z f := fun z f => by rw [e1]; rfl
  have hlt := (List.getElem?_eq_some_iff.mp hi).1
  refine ⟨h.nodes (by rw [E, if_neg (by omega), List.length_set]; exact h.2.1.2.1) (fun j x hx => ?_) (fun z f hz => by rw [E, if_neg (by omega)]), frU (by unfold rdC; omega) e1⟩
  by_cases hj : j = i
  · subst hj
    rw [List.getElem?_set_self hlt] at hx
    cases hx
    obtain ⟨q1, q2, q3, q4, q5⟩ := h.2.1.2.2 j e hi
    simp only [E]
    simp
    exact ⟨q1, q3, q4, q5⟩
  · rw [List.getElem?_set_ne (Ne.symm hj)] at hx
    obtain ⟨q1, q2, q3, q4, q5⟩ := h.2.1.2.2 j x hx
    simp only [E]
    simp
    refine ⟨q1, ?_, q3, q4, q5⟩
    rw [if_neg (by omega)]; exact q2
/-- one more given letter -/
theorem c_gv (h : RS m b pb S N nm gv pt) {l n : Int} {m1 : SM} (e0 : m1 = up m 86 gv.length l) (e1 : m' = up m1 41 34 n) : RS m' b pb S N n (gv ++ [l]) pt ∧ Fr (rdC b pb) m m' := by
  have E : ∀ z f, m' z f = if z = 41 ∧ f = 34 then n else if z = 86 ∧ f = (gv.length : Int) then l else m z f := fun z f => by rw [e1, e0]; rfl
  obtain ⟨⟨s1, s2⟩, ⟨n1, n2, n3⟩, h3, h4, ⟨p1, p2, p3⟩, h6, h7⟩ := h
  refine ⟨⟨⟨by rw [E, if_neg (by omega), if_neg (by omega)]; exact s1, stk_congr S (fun i _ _ => by simp only [E]; simp) s2⟩, ⟨by rw [E, if_neg (by omega), if_neg (by omega)]; exact n1, by rw [E, if_neg (by omega), if_neg (by omega)]; exact n2, fun i x hx => by simp only [E]; simp; exact n3 i x hx⟩, by rw [E, if_pos ⟨rfl, rfl⟩], fun i x hx => ?_, ⟨by rw [E, if_neg (by omega), if_neg (by omega)]; exact p1, by rw [E, if_neg (by omega), if_neg (by omega)]; exact p2, fun i x hx => by simp only [E]; simp; exact p3 i x hx⟩, h6, h7⟩, (frU (by unfold rdC; omega) e0).trans (frU (by unfold rdC; omega) e1)⟩
  rw [E, if_neg (by omega)]
  by_cases hi : i < gv.length
  · rw [List.getElem?_append_left hi] at hx
    rw [if_neg (by omega)]
    exact h4 i x hx
  · rw [List.getElem?_append_right (by omega)] at hx
    have hi' : i = gv.length := by
      rcases Nat.lt_or_ge (i - gv.length) 1 with q | q
      · omega
      · rw [List.getElem?_eq_none (by simpa using q)] at hx; cases hx
    subst hi'
    rw [Nat.sub_self] at hx
    cases hx
    rw [if_pos ⟨rfl, rfl⟩]
end TT
