/-! L3, twin: reading -/
/-- what is expected lies in the tables 64, 65, 66 -/
def stk (m : SM) : List Itm → Prop
  | [] => True
  | e :: S => m 64 (S.length : Int) = e.1 ∧ m 65 (S.length : Int) = e.2.1 ∧ m 66 (S.length : Int) = e.2.2 ∧ stk m S
/-- the nodes from b on: op 54, val 55, cnt 56, place 57, holeAt 58 -/
def nds (m : SM) (b : Int) (N : List Nd) : Prop := ∀ (i : Nat) (e : Nd), N[i]? = some e → m 54 (b + i) = e.1 ∧ m 55 (b + i) = e.2.1 ∧ m 56 (b + i) = e.2.2.1 ∧ m 57 (i : Int) = e.2.2.2 ∧ m 58 (i : Int) = -1
def pts (m : SM) (b : Int) (L : List Pt5) : Prop := ∀ (i : Nat) (e : Pt5), L[i]? = some e → m 59 (b + i) = e.1 ∧ m 60 (b + i) = e.2.1 ∧ m 61 (b + i) = e.2.2.1 ∧ m 62 (b + i) = e.2.2.2.1 ∧ m 63 (b + i) = e.2.2.2.2
/-- the reader's state in the twin's tables -/
def RS (m : SM) (b pb : Int) (S : List Itm) (N : List Nd) (nm : Int) (gv : List Int) (pt : List Pt5) : Prop :=
  (m 41 29 = (S.length : Int) ∧ stk m S) ∧ (m 41 20 = b ∧ m 41 16 = b + (N.length : Int) ∧ nds m b N) ∧ m 41 34 = nm ∧ (∀ (i : Nat) (e : Int), gv[i]? = some e → m 86 (i : Int) = e) ∧ (m 41 23 = pb ∧ m 41 33 = pb + (pt.length : Int) ∧ pts m pb pt) ∧ (0 ≤ b ∧ b ≤ 2600) ∧ (0 ≤ pb ∧ pb ≤ 170)
/-- where the reading may write -/
def rdC (b pb z f : Int) : Prop := (z = 41 ∧ (f = 16 ∨ f = 29 ∨ f = 33 ∨ f = 34)) ∨ ((z = 54 ∨ z = 55 ∨ z = 56) ∧ b ≤ f) ∨ z = 57 ∨ z = 58 ∨ ((z = 59 ∨ z = 60 ∨ z = 61 ∨ z = 62 ∨ z = 63) ∧ pb ≤ f) ∨ z = 64 ∨ z = 65 ∨ z = 66 ∨ z = 86
def Fr (C : Int → Int → Prop) (m m' : SM) : Prop := ∀ z f, ¬ C z f → m' z f = m z f
theorem Fr.refl {C : Int → Int → Prop} {m : SM} : Fr C m m := fun _ _ _ => rfl
theorem Fr.trans {C : Int → Int → Prop} {a b c : SM} (h1 : Fr C a b) (h2 : Fr C b c) : Fr C a c := fun z f h => (h2 z f h).trans (h1 z f h)
theorem frU {C : Int → Int → Prop} {m m' : SM} {x f v : Int} (hc : C x f) (e : m' = up m x f v) : Fr C m m' := fun z g h => by
  rw [e, up_ne]; rintro ⟨rfl, rfl⟩; exact h hc
theorem stk_congr {m m' : SM} : ∀ (S : List Itm), (∀ i : Int, 0 ≤ i → i < S.length → m' 64 i = m 64 i ∧ m' 65 i = m 65 i ∧ m' 66 i = m 66 i) → stk m S → stk m' S
  | [], _, _ => trivial
  | e :: S, h, hs => by
    obtain ⟨h1, h2, h3, h4⟩ := hs
    obtain ⟨a, b, c⟩ := h (S.length : Int) (by omega) (by rw [List.length_cons]; omega)
    exact ⟨by rw [a]; exact h1, by rw [b]; exact h2, by rw [c]; exact h3, stk_congr S (fun i i0 i1 => h i i0 (by rw [List.length_cons]; omega)) h4⟩
section TR
variable {m m' : SM} {b pb : Int} {S : List Itm} {N : List Nd} {nm : Int} {gv : List Int} {pt : List Pt5}
theorem RS.congr (h : RS m b pb S N nm gv pt) (e : ∀ z f, (z = 41 ∧ (f = 16 ∨ f = 20 ∨ f = 23 ∨ f = 29 ∨ f = 33 ∨ f = 34)) ∨ (54 ≤ z ∧ z ≤ 66) ∨ z = 86 → m' z f = m z f) : RS m' b pb S N nm gv pt := by
  obtain ⟨⟨s1, s2⟩, ⟨n1, n2, n3⟩, h3, h4, ⟨p1, p2, p3⟩, h6, h7⟩ := h
  refine ⟨⟨by rw [e _ _ (by omega)]; exact s1, stk_congr S (fun i _ _ => ⟨e _ _ (by omega), e _ _ (by omega), e _ _ (by omega)⟩) s2⟩, ⟨by rw [e _ _ (by omega)]; exact n1, by rw [e _ _ (by omega)]; exact n2, fun i x hx => ?_⟩, by rw [e _ _ (by omega)]; exact h3, fun i x hx => by rw [e _ _ (by omega)]; exact h4 i x hx, ⟨by rw [e _ _ (by omega)]; exact p1, by rw [e _ _ (by omega)]; exact p2, fun i x hx => ?_⟩, h6, h7⟩
  · rw [e _ _ (by omega), e _ _ (by omega), e _ _ (by omega), e _ _ (by omega), e _ _ (by omega)]; exact n3 i x hx
  · rw [e _ _ (by omega), e _ _ (by omega), e _ _ (by omega), e _ _ (by omega), e _ _ (by omega)]; exact p3 i x hx
/-- the stack changes -/
theorem RS.stack (h : RS m b pb S N nm gv pt) {S' : List Itm} (h1 : m' 41 29 = (S'.length : Int)) (h2 : stk m' S') (e : ∀ z f, (z = 41 ∧ f ≠ 29) ∨ (54 ≤ z ∧ z ≤ 63) ∨ z = 86 → m' z f = m z f) : RS m' b pb S' N nm gv pt := by
  obtain ⟨⟨s1, s2⟩, ⟨n1, n2, n3⟩, h3, h4, ⟨p1, p2, p3⟩, h6, h7⟩ := h
  refine ⟨⟨h1, h2⟩, ⟨by rw [e _ _ (by omega)]; exact n1, by rw [e _ _ (by omega)]; exact n2, fun i x hx => ?_⟩, by rw [e _ _ (by omega)]; exact h3, fun i x hx => by rw [e _ _ (by omega)]; exact h4 i x hx, ⟨by rw [e _ _ (by omega)]; exact p1, by rw [e _ _ (by omega)]; exact p2, fun i x hx => ?_⟩, h6, h7⟩
  · rw [e _ _ (by omega), e _ _ (by omega), e _ _ (by omega), e _ _ (by omega), e _ _ (by omega)]; exact n3 i x hx
  · rw [e _ _ (by omega), e _ _ (by omega), e _ _ (by omega), e _ _ (by omega), e _ _ (by omega)]; exact p3 i x hx
/-- the nodes change -/
theorem RS.nodes (h : RS m b pb S N nm gv pt) {N' : List Nd} (h1 : m' 41 16 = b + (N'.length : Int)) (h2 : nds m' b N') (e : ∀ z f, (z = 41 ∧ f ≠ 16) ∨ (59 ≤ z ∧ z ≤ 66) ∨ z = 86 → m' z f = m z f) : RS m' b pb S N' nm gv pt := by
  obtain ⟨⟨s1, s2⟩, ⟨n1, n2, n3⟩, h3, h4, ⟨p1, p2, p3⟩, h6, h7⟩ := h
  refine ⟨⟨by rw [e _ _ (by omega)]; exact s1, stk_congr S (fun i _ _ => ⟨e _ _ (by omega), e _ _ (by omega), e _ _ (by omega)⟩) s2⟩, ⟨by rw [e _ _ (by omega)]; exact n1, h1, h2⟩, by rw [e _ _ (by omega)]; exact h3, fun i x hx => by rw [e _ _ (by omega)]; exact h4 i x hx, ⟨by rw [e _ _ (by omega)]; exact p1, by rw [e _ _ (by omega)]; exact p2, fun i x hx => ?_⟩, h6, h7⟩
  rw [e _ _ (by omega), e _ _ (by omega), e _ _ (by omega), e _ _ (by omega), e _ _ (by omega)]; exact p3 i x hx
/-- the parts change -/
theorem RS.parts (h : RS m b pb S N nm gv pt) {pt' : List Pt5} (h1 : m' 41 33 = pb + (pt'.length : Int)) (h2 : pts m' pb pt') (e : ∀ z f, (z = 41 ∧ f ≠ 33) ∨ (54 ≤ z ∧ z ≤ 58) ∨ (64 ≤ z ∧ z ≤ 66) ∨ z = 86 → m' z f = m z f) : RS m' b pb S N nm gv pt' := by
  obtain ⟨⟨s1, s2⟩, ⟨n1, n2, n3⟩, h3, h4, ⟨p1, p2, p3⟩, h6, h7⟩ := h
  refine ⟨⟨by rw [e _ _ (by omega)]; exact s1, stk_congr S (fun i _ _ => ⟨e _ _ (by omega), e _ _ (by omega), e _ _ (by omega)⟩) s2⟩, ⟨by rw [e _ _ (by omega)]; exact n1, by rw [e _ _ (by omega)]; exact n2, fun i x hx => ?_⟩, by rw [e _ _ (by omega)]; exact h3, fun i x hx => by rw [e _ _ (by omega)]; exact h4 i x hx, ⟨by rw [e _ _ (by omega)]; exact p1, h1, h2⟩, h6, h7⟩
  rw [e _ _ (by omega), e _ _ (by omega), e _ _ (by omega), e _ _ (by omega), e _ _ (by omega)]; exact n3 i x hx
variable {G : GM} {d : Nat} {P : Nat → Int → SM → Prop}
theorem c_push (K : KI m) (hd : 12 ≤ d) (h : RS m b pb S N nm gv pt) (hS : S.length < 395) {w a q : Int} (k : ∀ m', RS m' b pb ((w, a, q) :: S) N nm gv pt → Fr (rdC b pb) m m' → Ok m m' → P 0 0 m') : WV G mX10_push 0 [(1, 41), (0, w), (0, a), (0, q)] [] m d P := by
  have hn := h.1.1
  have r3 : ∀ {m3 : SM}, m3 = up m 64 (m 41 29) w → m3 41 29 = m 41 29 := fun e => by rw [e, up_na _ (by decide)]
  refine wX10_push K hd ⟨by omega, by omega, fun m3 e3 o3 => ?_⟩
  have n3 : m3 41 29 = m 41 29 := by rw [e3, up_na _ (by decide)]
  rw [n3]
  refine ⟨by omega, by omega, fun m9 e9 o9 => ?_⟩
  have n9 : m9 41 29 = m 41 29 := by rw [e9, up_na _ (by decide), n3]
  rw [n9]
  refine ⟨by omega, by omega, fun m15 e15 o15 m19 e19 o19 => ?_⟩
  have n15 : m15 41 29 = m 41 29 := by rw [e15, up_na _ (by decide), n9]
  rw [n15, wr_id (by omega) (by omega)] at e19
  have E : ∀ z f, m19 z f = if z = 41 ∧ f = 29 then m 41 29 + 1 else if z = 66 ∧ f = m 41 29 then q else if z = 65 ∧ f = m 41 29 then a else if z = 64 ∧ f = m 41 29 then w else m z f := fun z f => by rw [e19, e15, e9, e3]; rfl
  refine k m19 (h.stack (S' := (w, a, q) :: S) ?_ ⟨?_, ?_, ?_, ?_⟩ (fun z f hz => ?_)) (fun z f hz => ?_) (o3.trans (o9.trans (o15.trans o19)))
  · rw [E, if_pos ⟨rfl, rfl⟩, hn]; simp
  · rw [E, ← hn]; simp
  · rw [E, ← hn]; simp
  · rw [E, ← hn]; simp
  · refine stk_congr S (fun i i0 i1 => ?_) h.1.2
    rw [E, E, E]
    simp
    omega
  · rw [E, if_neg (by omega), if_neg (by omega), if_neg (by omega), if_neg (by omega)]
  · have hz' : ¬ ((z = 41 ∧ f = 29) ∨ z = 64 ∨ z = 65 ∨ z = 66) := fun q => hz (by unfold rdC; omega)
    rw [E, if_neg (by omega), if_neg (by omega), if_neg (by omega), if_neg (by omega)]
theorem c_node (K : KI m) (hd : 12 ≤ d) (h : RS m b pb S N nm gv pt) (hN : N.length < 82) {w v p : Int} (k : ∀ m', RS m' b pb S (N ++ [(w, v, 0, p)]) nm gv pt → Fr (rdC b pb) m m' → Ok m m' → P 0 (b + N.length) m') : WV G mX10_node 0 [(1, 41), (0, w), (0, v), (0, p)] [] m d P := by
  obtain ⟨⟨s1, s2⟩, ⟨n1, n2, n3⟩, -, -, -, ⟨hb0, hb1⟩, -⟩ := id h
  refine wX10_node K hd ⟨by omega, by omega, fun m3 e3 o3 => ?_⟩
  have a3 : ∀ f, m3 41 f = m 41 f := fun f => by rw [e3, up_na _ (by decide)]
  rw [a3]
  refine ⟨by omega, by omega, fun m9 e9 o9 => ?_⟩
  have a9 : ∀ f, m9 41 f = m 41 f := fun f => by rw [e9, up_na _ (by decide), a3]
  rw [a9]
  refine ⟨by omega, by omega, fun m15 e15 o15 => ?_⟩
  have a15 : ∀ f, m15 41 f = m 41 f := fun f => by rw [e15, up_na _ (by decide), a9]
  have hw : wr (m 41 16 - m 41 20) = (N.length : Int) := by rw [n1, n2, show b + (N.length : Int) - b = N.length by omega]; exact wr_id (by omega) (by omega)
  rw [a15, a15, hw]
  refine ⟨fun q => absurd q (by omega), fun _ => ⟨fun q => absurd q (by omega), fun _ => ⟨by omega, by omega, fun m29 e29 o29 => ?_⟩⟩⟩
  have a29 : ∀ f, m29 41 f = m 41 f := fun f => by rw [e29, up_na _ (by decide), a15]
  rw [a29, a29, hw]
  refine ⟨by omega, by omega, fun m35 e35 o35 m39 e39 o39 => ?_⟩
  have a35 : ∀ f, m35 41 f = m 41 f := fun f => by rw [e35, up_na _ (by decide), a29]
  rw [a35, n2, wr_id (by omega) (by omega)] at e39
  have E : ∀ z f, m39 z f = if z = 41 ∧ f = 16 then b + N.length + 1 else if z = 58 ∧ f = (N.length : Int) then -1 else if z = 57 ∧ f = (N.length : Int) then p else if z = 56 ∧ f = b + N.length then 0 else if z = 55 ∧ f = b + N.length then v else if z = 54 ∧ f = b + N.length then w else m z f := fun z f => by
    rw [e39, e35, e29, e15, e9, e3, n2]; rfl
  have e16 : m39 41 16 = b + N.length + 1 := by rw [E, if_pos ⟨rfl, rfl⟩]
  rw [e16, wr_id (by omega) (by omega), show b + (N.length : Int) + 1 - 1 = b + N.length by omega]
  refine k m39 (h.nodes (N' := N ++ [(w, v, 0, p)]) (by rw [e16]; simp; omega) (fun i e he => ?_) (fun z f hz => ?_)) (fun z f hz => ?_) (o3.trans (o9.trans (o15.trans (o29.trans (o35.trans o39)))))
  · by_cases hi : i < N.length
    · rw [List.getElem?_append_left hi] at he
      obtain ⟨q1, q2, q3, q4, q5⟩ := n3 i e he
      simp only [E]
      refine ⟨?_, ?_, ?_, ?_, ?_⟩
      · simp; rw [if_neg (by omega)]; exact q1
      · simp; rw [if_neg (by omega)]; exact q2
      · simp; rw [if_neg (by omega)]; exact q3
      · simp; rw [if_neg (by omega)]; exact q4
      · simp; exact fun _ => q5
    · rw [List.getElem?_append_right (by omega)] at he
      have hi' : i = N.length := by
        rcases Nat.lt_or_ge (i - N.length) 1 with q | q
        · omega
        · rw [List.getElem?_eq_none (by simpa using q)] at he; cases he
      subst hi'
      rw [Nat.sub_self] at he
      cases he
      simp [E]
  · rw [E, if_neg (by omega), if_neg (by omega), if_neg (by omega), if_neg (by omega), if_neg (by omega), if_neg (by omega)]
  · have hz' : ¬ ((z = 41 ∧ f = 16) ∨ ((z = 54 ∨ z = 55 ∨ z = 56) ∧ b ≤ f) ∨ z = 57 ∨ z = 58) := fun q => hz (by unfold rdC; omega)
    rw [E, if_neg (by omega), if_neg (by omega), if_neg (by omega), if_neg (by omega), if_neg (by omega), if_neg (by omega)]
theorem c_part (K : KI m) (hd : 12 ≤ d) (h : RS m b pb S N nm gv pt) (hP : pt.length < 9) {w v q p : Int} (k : ∀ m', RS m' b pb S N nm gv (pt ++ [(w, v, b + N.length, q, p)]) → Fr (rdC b pb) m m' → Ok m m' → P 0 (pb + pt.length) m') : WV G mX10_part 0 [(1, 41), (0, w), (0, v), (0, q), (0, p)] [] m d P := by
  obtain ⟨⟨s1, s2⟩, ⟨n1, n2, n3⟩, -, -, ⟨p1, p2, p3⟩, ⟨hb0, hb1⟩, hp0, hp1⟩ := id h
  refine wX10_part K hd ⟨by omega, by omega, fun m1 e1 o1 => ?_⟩
  have a1 : ∀ f, m1 41 f = m 41 f := fun f => by rw [e1, up_na _ (by decide)]
  rw [a1]
  refine ⟨by omega, by omega, fun m2 e2 o2 => ?_⟩
  have a2 : ∀ f, m2 41 f = m 41 f := fun f => by rw [e2, up_na _ (by decide), a1]
  rw [a2, a2]
  refine ⟨by omega, by omega, fun m3 e3 o3 => ?_⟩
  have a3 : ∀ f, m3 41 f = m 41 f := fun f => by rw [e3, up_na _ (by decide), a2]
  rw [a3]
  refine ⟨by omega, by omega, fun m4 e4 o4 => ?_⟩
  have a4 : ∀ f, m4 41 f = m 41 f := fun f => by rw [e4, up_na _ (by decide), a3]
  rw [a4]
  refine ⟨by omega, by omega, fun m5 e5 o5 m6 e6 o6 => ?_⟩
  have a5 : ∀ f, m5 41 f = m 41 f := fun f => by rw [e5, up_na _ (by decide), a4]
  rw [a5, p2, wr_id (by omega) (by omega)] at e6
  have E : ∀ z f, m6 z f = if z = 41 ∧ f = 33 then pb + pt.length + 1 else if z = 63 ∧ f = pb + pt.length then p else if z = 62 ∧ f = pb + pt.length then q else if z = 61 ∧ f = pb + pt.length then b + N.length else if z = 60 ∧ f = pb + pt.length then v else if z = 59 ∧ f = pb + pt.length then w else m z f := fun z f => by
    rw [e6, e5, e4, e3, e2, e1, p2, n2]; rfl
  have e33 : m6 41 33 = pb + pt.length + 1 := by rw [E, if_pos ⟨rfl, rfl⟩]
  rw [e33, wr_id (by omega) (by omega), show pb + (pt.length : Int) + 1 - 1 = pb + pt.length by omega]
  refine k m6 (h.parts (pt' := pt ++ [(w, v, b + N.length, q, p)]) (by rw [e33]; simp; omega) (fun i e he => ?_) (fun z f hz => ?_)) (fun z f hz => ?_) (o1.trans (o2.trans (o3.trans (o4.trans (o5.trans o6)))))
  · by_cases hi : i < pt.length
    · rw [List.getElem?_append_left hi] at he
      obtain ⟨q1, q2, q3, q4, q5⟩ := p3 i e he
      simp only [E]
      refine ⟨?_, ?_, ?_, ?_, ?_⟩
      · simp; rw [if_neg (by omega)]; exact q1
      · simp; rw [if_neg (by omega)]; exact q2
      · simp; rw [if_neg (by omega)]; exact q3
      · simp; rw [if_neg (by omega)]; exact q4
      · simp; rw [if_neg (by omega)]; exact q5
    · rw [List.getElem?_append_right (by omega)] at he
      have hi' : i = pt.length := by
        rcases Nat.lt_or_ge (i - pt.length) 1 with q | q
        · omega
        · rw [List.getElem?_eq_none (by simpa using q)] at he; cases he
      subst hi'
      rw [Nat.sub_self] at he
      cases he
      simp [E]
  · rw [E, if_neg (by omega), if_neg (by omega), if_neg (by omega), if_neg (by omega), if_neg (by omega), if_neg (by omega)]
  · have hz' : ¬ ((z = 41 ∧ f = 33) ∨ ((z = 59 ∨ z = 60 ∨ z = 61 ∨ z = 62 ∨ z = 63) ∧ pb ≤ f)) := fun q => hz (by unfold rdC; omega)
    rw [E, if_neg (by omega), if_neg (by omega), if_neg (by omega), if_neg (by omega), if_neg (by omega), if_neg (by omega)]
/-- a change of one node's count -/
theorem c_cnt (h : RS m b pb S N nm gv pt) {i : Nat} {e : Nd} (hi : N[i]? = some e) {v : Int} (e1 : m' = up m 56 (b + i) v) : RS m' b pb S (N.set i (e.1, e.2.1, v, e.2.2.2)) nm gv pt ∧ Fr (rdC b pb) m m' := by
  have hb := h.2.2.2.2.2.1.1
  have E : ∀ z f, m' z f = if z = 56 ∧ f = b + i then v else m z f := fun z f => by rw [e1]; rfl
  have hlt := (List.getElem?_eq_some_iff.mp hi).1
  refine ⟨h.nodes (by rw [E, if_neg (by omega), List.length_set]; exact h.2.1.2.1) (fun j x hx => ?_) (fun z f hz => by rw [E, if_neg (by omega)]), frU (by unfold rdC; omega) e1⟩
  by_cases hj : j = i
  · subst hj
    rw [List.getElem?_set_self hlt] at hx
    cases hx
    obtain ⟨q1, q2, q3, q4, q5⟩ := h.2.1.2.2 j e hi
    simp only [E]
    simp
    exact ⟨q1, q2, q4, q5⟩
  · rw [List.getElem?_set_ne (Ne.symm hj)] at hx
    obtain ⟨q1, q2, q3, q4, q5⟩ := h.2.1.2.2 j x hx
    simp only [E]
    simp
    refine ⟨q1, q2, ?_, q4, q5⟩
    rw [if_neg (by omega)]; exact q3
/-- how an attempt may end: with the new state, or not -/
def Rz (m : SM) (b pb : Int) (o : Option RSt) (P : Nat → Int → SM → Prop) : Prop := match o with
  | none => ∀ m', Fr (rdC b pb) m m' → Ok m m' → P 0 0 m'
  | some (S, N, nm, gv, pt) => ∀ m', RS m' b pb S N nm gv pt → Fr (rdC b pb) m m' → Ok m m' → P 0 1 m'
theorem Rz.step {o : Option RSt} (h : Rz m b pb o P) (f : Fr (rdC b pb) m m') (ok : Ok m m') : Rz m' b pb o P := by
  cases o with
  | none => exact fun m2 f2 o2 => h m2 (f.trans f2) (ok.trans o2)
  | some st =>
    obtain ⟨S, N, nm, gv, pt⟩ := st
    exact fun m2 r f2 o2 => h m2 r (f.trans f2) (ok.trans o2)
theorem isV_iff {c : Int} : isV c = true ↔ 97 ≤ c ∧ c ≤ 122 := by unfold isV; simp
theorem isL_iff {c : Int} : isL c = true ↔ 65 ≤ c ∧ c ≤ 90 := by unfold isL; simp
theorem isD_iff {c : Int} : isD c = true ↔ 48 ≤ c ∧ c ≤ 57 := by unfold isD; simp
theorem rem2 {q : Int} (h0 : 0 ≤ q) (h1 : q < 1000) : wr (q - wr (wr (q.tdiv 2) * 2)) = q % 2 := by
  rw [Int.tdiv_eq_ediv_of_nonneg h0, wr_id (x := q / 2) (by omega) (by omega), wr_id (x := q / 2 * 2) (by omega) (by omega), wr_id (by omega) (by omega)]
  omega
theorem c_bTerm (K : KI m) (hd : 14 ≤ d) (h : RS m b pb S N nm gv pt) (hS : S.length < 390) (hN : N.length < 82) {c p q : Int} (hc0 : 0 ≤ c) (hc1 : c ≤ 200) (hq0 : 0 ≤ q) (hq1 : q < 1000) (k : Rz m b pb (bTerm b c p q (S, N, nm, gv, pt)) P) : WV G mX10_beginTerm 0 [(1, 41), (0, c), (0, p), (0, q)] [] m d P := by
  unfold bTerm at k
  dsimp only at k
  have vd : isV c = true ∨ isD c = true → WV G mX10_beginTerm 14 [(1, 41), (0, c), (0, p), (9, 0)] [] m d P := by
    intro hv
    rw [if_pos hv] at k
    refine wX10_beginTerm_14 K (by omega) ?_
    have e1 : (if 97 ≤ c ∧ c ≤ 122 then wr (c - 97) else wr (c - 48)) = if isV c = true then c - 97 else c - 48 := by
      by_cases q : isV c = true
      · rw [if_pos (isV_iff.mp q), if_pos q, wr_id (by omega) (by omega)]
      · rw [if_neg (fun z => q (isV_iff.mpr z)), if_neg q, wr_id (by omega) (by omega)]
    have e2 : (if 97 ≤ c ∧ c ≤ 122 then (1 : Int) else 2) = if isV c = true then 1 else 2 := by
      by_cases q : isV c = true
      · rw [if_pos (isV_iff.mp q), if_pos q]
      · rw [if_neg (fun z => q (isV_iff.mpr z)), if_neg q]
    rw [e1, e2]
    exact c_node K (by omega) h hN (fun m' r f o => ⟨rfl, o, k m' r f o⟩)
  have let' : ¬ (isV c = true ∨ isD c = true) → ¬ (c = 35 ∨ (c = 95 ∧ q % 2 = 1)) → isL c = true → WV G mX10_node 0 [(1, 41), (0, 5), (0, (wr (c - 65))), (0, p)] [] m (d - 1) (fun k v5 m6 => k = 0 ∧ Ok m m6 ∧ (WV G mX10_push 0 [(1, 41), (0, 201), (0, v5), (0, q)] [] m6 (d - 1) (fun k v8 m9 => k = 0 ∧ Ok m6 m9 ∧ (P 0 1 m9)))) := by
    intro n1 n2 hl
    rw [if_neg n1, if_neg n2, if_pos hl] at k
    rw [wr_id (by omega) (by omega)]
    refine c_node K (by omega) h hN (fun m' r f o => ⟨rfl, o, ?_⟩)
    refine c_push (o.2.1 K) (by omega) r (by omega) (fun m'' r' f' o' => ⟨rfl, o', ?_⟩)
    exact k m'' r' (f.trans f') (o.trans o')
  have hash : ¬ (isV c = true ∨ isD c = true) → (c = 35 ∨ (c = 95 ∧ q % 2 = 1)) → WV G mX10_node 0 [(1, 41), (0, (if c ≠ 35 then 4 else 3)), (0, 0), (0, p)] [] m (d - 1) (fun k v1 m2 => k = 0 ∧ Ok m m2 ∧ (P 0 1 m2)) := by
    intro n1 n2
    rw [if_neg n1, if_pos n2] at k
    have e2 : (if c ≠ 35 then (4 : Int) else 3) = if c = 35 then 3 else 4 := by
      by_cases q : c = 35
      · rw [if_neg (fun z => z q), if_pos q]
      · rw [if_pos q, if_neg q]
    rw [e2]
    exact c_node K (by omega) h hN (fun m' r f o => ⟨rfl, o, k m' r f o⟩)
  refine wX10_beginTerm K (by omega) ⟨fun q1 => vd (Or.inl (isV_iff.mpr q1)), fun q1 => ⟨fun q2 => ?_, fun q2 => vd (Or.inr (isD_iff.mpr q2))⟩⟩
  have n1 : ¬ (isV c = true ∨ isD c = true) := fun z => z.elim (fun z => q1 (isV_iff.mp z)) (fun z => q2 (isD_iff.mp z))
  refine ⟨fun q3 => hash n1 (Or.inl q3), fun q3 => ⟨fun q4 => ⟨fun q5 => ?_, fun q5 => let' n1 (by omega) (isL_iff.mpr q5)⟩, fun q4 => ?_⟩⟩
  · rw [if_neg n1, if_neg (by omega), if_neg (fun z => q5 (isL_iff.mp z))] at k
    exact k m Fr.refl (Ok.refl m)
  · rw [rem2 hq0 hq1]
    refine ⟨fun q5 => ⟨fun q6 => ?_, fun q6 => absurd q6 (by omega)⟩, fun q5 => hash n1 (Or.inr ⟨q4, q5⟩)⟩
    rw [if_neg n1, if_neg (by omega), if_neg (fun z => q6 (isL_iff.mp z))] at k
    exact k m Fr.refl (Ok.refl m)
theorem c_bPat (K : KI m) (hd : 14 ≤ d) (h : RS m b pb S N nm gv pt) (hS : S.length < 390) (hN : N.length < 82) {c p : Int} (hc0 : 0 ≤ c) (hc1 : c ≤ 200) (k : Rz m b pb (bPat b c p (S, N, nm, gv, pt)) P) : WV G mX10_beginPattern 0 [(1, 41), (0, c), (0, p)] [] m d P := by
  unfold bPat at k
  dsimp only at k
  have e2 : (if c ≠ 95 then (12 : Int) else 11) = if c = 95 then 11 else 12 := by
    by_cases q : c = 95
    · rw [if_neg (fun z => z q), if_pos q]
    · rw [if_pos q, if_neg q]
  have two : isL c ≠ true → (c = 95 ∨ isD c = true) → WV G mX10_node 0 [(1, 41), (0, (if c ≠ (95 : Int) then 12 else 11)), (0, (wr (c - 48))), (0, p)] [] m (d - 1) (fun k v1 m2 => k = 0 ∧ Ok m m2 ∧ (P 0 1 m2)) := by
    intro n1 n2
    rw [if_neg n1, if_pos n2] at k
    rw [e2, wr_id (by omega) (by omega)]
    exact c_node K (by omega) h hN (fun m' r f o => ⟨rfl, o, k m' r f o⟩)
  refine wX10_beginPattern K (by omega) ⟨fun q1 => ⟨fun q2 => two (fun z => q1 (isL_iff.mp z)) (Or.inl q2), fun q2 => ⟨fun q3 => two (fun z => q1 (isL_iff.mp z)) (Or.inr (isD_iff.mpr q3)), fun q3 => ?_⟩⟩, fun q1 => ?_⟩
  · rw [if_neg (fun z => q1 (isL_iff.mp z)), if_neg (fun z => z.elim q2 (fun z => q3 (isD_iff.mp z)))] at k
    exact k m Fr.refl (Ok.refl m)
  · rw [if_pos (isL_iff.mpr q1)] at k
    rw [wr_id (by omega) (by omega)]
    refine c_node K (by omega) h hN (fun m' r f o => ⟨rfl, o, ?_⟩)
    refine c_push (o.2.1 K) (by omega) r (by omega) (fun m'' r' f' o' => ⟨rfl, o', ?_⟩)
    exact k m'' r' (f.trans f') (o.trans o')
end TR
