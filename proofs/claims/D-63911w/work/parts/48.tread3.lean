/-! L3, twin: reading, what is expected stays sound -/
def mid2 (b pb p nN nP w a q : Int) : Prop :=
  (0 ≤ w ∧ w < 218) ∧ (w ≠ 203 ∧ w ≠ 204 ∧ w ≠ 205 ∧ w ≠ 206 ∧ w ≠ 209) ∧
  (w = 201 ∨ w = 202 ∨ w = 211 ∨ w = 212 ∨ w = 213 ∨ w = 215 ∨ w = 216 ∨ w = 217 → b ≤ a ∧ a < b + nN) ∧
  (w = 207 ∨ w = 208 → pb ≤ a ∧ a < pb + nP) ∧
  (w = 200 → 0 ≤ a ∧ a + q ≤ 3 * p + 20) ∧ (w = 210 → 0 ≤ a ∧ a ≤ 3 * p + 20) ∧ (0 ≤ q ∧ q ≤ 3 * p + 20)
def bot2 (nP nG w a : Int) : Prop := (w = 203 ∧ nP = 0) ∨ (w = 204 ∧ a = nP ∧ nP < 6) ∨ (w = 205 ∧ a = nP) ∨ w = 206 ∨ (w = 209 ∧ a = nG ∧ nG ≤ 4) ∨ (w = 218 ∧ 0 ≤ a ∧ a ≤ 6)
def itok (b pb p nN nP nG : Int) : List Itm → Prop
  | [] => True
  | e :: S => (mid2 b pb p nN nP e.1 e.2.1 e.2.2 ∧ itok b pb p nN nP nG S) ∨ (S = [] ∧ bot2 nP nG e.1 e.2.1)
theorem itok.mono {b pb p nN nP nG p' nN' : Int} (h1 : p ≤ p') (h2 : nN ≤ nN') : ∀ {S : List Itm}, itok b pb p nN nP nG S → itok b pb p' nN' nP nG S
  | [], _ => trivial
  | (w, a, q) :: S, h => by
    rcases h with ⟨h3, h4⟩ | h3
    · left
      refine ⟨?_, itok.mono h1 h2 h4⟩
      unfold mid2 at h3 ⊢
      dsimp only at h3 ⊢
      omega
    · exact Or.inr h3
def cN (u : Int) (N : List Nd) : Prop := ∀ e ∈ N, 0 ≤ e.2.2.1 ∧ e.2.2.1 ≤ u
def cP (N : List Pt5) : Prop := ∀ e ∈ N, 0 ≤ e.2.2.2.1 ∧ e.2.2.2.1 ≤ 6
def sOK (b pb p u : Int) (st : RSt) : Prop := itok b pb p st.2.1.length st.2.2.2.2.length st.2.2.2.1.length st.1 ∧ (st.2.1.length : Int) ≤ p ∧ 0 ≤ u ∧ cN u st.2.1 ∧ st.2.2.2.2.length ≤ 6 ∧ cP st.2.2.2.2
section TK
variable {b pb p u c q : Int} {S : List Itm} {N : List Nd} {nm : Int} {gv : List Int} {pt : List Pt5} {st : RSt}
theorem sOK.next (h : sOK b pb p u (S, N, nm, gv, pt)) : sOK b pb (p + 1) u (S, N, nm, gv, pt) := by
  obtain ⟨h1, h2, hu, h3, h4, h5⟩ := h
  exact ⟨h1.mono (by omega) (by omega), by omega, hu, h3, h4, h5⟩
theorem sOK.node (h : sOK b pb p u (S, N, nm, gv, pt)) (w v x : Int) : sOK b pb (p + 1) u (S, N ++ [(w, v, 0, x)], nm, gv, pt) := by
  obtain ⟨h1, h2, hu, h3, h4, h5⟩ := h
  refine ⟨h1.mono (by omega) (by simp; omega), ?_, hu, fun e he => ?_, h4, h5⟩
  · simp only [List.length_append, List.length_cons, List.length_nil]; dsimp only at h2; omega
  · rcases List.mem_append.mp he with h | h
    · exact h3 e h
    · rw [List.mem_singleton.mp h]; exact ⟨by simp, by simpa using hu⟩
theorem sOK.more (h : sOK b pb p u (S, N, nm, gv, pt)) : sOK b pb p (u + 1) (S, N, nm, gv, pt) := by
  obtain ⟨h1, h2, hu, h3, h4, h5⟩ := h
  exact ⟨h1, h2, by omega, fun e he => ⟨(h3 e he).1, by have := (h3 e he).2; omega⟩, h4, h5⟩
theorem sOK.push (h : sOK b pb p u (S, N, nm, gv, pt)) {w a q : Int} (hm : mid2 b pb p N.length pt.length w a q) : sOK b pb p u ((w, a, q) :: S, N, nm, gv, pt) :=
  ⟨Or.inl ⟨hm, h.1⟩, h.2⟩
theorem sOK.base (h : sOK b pb p u (S, N, nm, gv, pt)) {w a q : Int} (hm : bot2 pt.length gv.length w a) : sOK b pb p u ([(w, a, q)], N, nm, gv, pt) :=
  ⟨Or.inr ⟨rfl, hm⟩, h.2⟩
theorem sOK.cnt (h : sOK b pb p u (S, N, nm, gv, pt)) (i : Nat) (f : Int → Int) (hf : ∀ e, N[i]? = some e → 0 ≤ f e.2.2.1 ∧ f e.2.2.1 ≤ u) : sOK b pb p u (S, setC N i f, nm, gv, pt) := by
  unfold setC
  split
  · rename_i e he
    obtain ⟨h1, h2, hu, h3, h4, h5⟩ := h
    refine ⟨by simpa only [List.length_set] using h1, by simpa only [List.length_set] using h2, hu, fun x hx => ?_, h4, h5⟩
    rcases List.mem_or_eq_of_mem_set hx with g | g
    · exact h3 x g
    · rw [g]; exact hf e he
  · exact h
theorem setC_len (N : List Nd) (i : Nat) (f : Int → Int) : (setC N i f).length = N.length := by
  unfold setC; split <;> simp
theorem bTerm_ok (h : sOK b pb p u (S, N, nm, gv, pt)) (hq0 : 0 ≤ q) (hq1 : q ≤ 3 * p + 22) (hp : 0 ≤ p) (e : bTerm b c p q (S, N, nm, gv, pt) = some st) : sOK b pb (p + 1) u st := by
  unfold bTerm at e
  dsimp only at e
  split at e
  · cases e; exact h.node _ _ _
  · split at e
    · cases e; exact h.node _ _ _
    · split at e
      · cases e
        exact (h.node _ _ _).push (by unfold mid2; simp only [List.length_append, List.length_cons, List.length_nil]; omega)
      · cases e
theorem bPat_ok (h : sOK b pb p u (S, N, nm, gv, pt)) (hp : 0 ≤ p) (e : bPat b c p (S, N, nm, gv, pt) = some st) : sOK b pb (p + 1) u st := by
  unfold bPat at e
  dsimp only at e
  split at e
  · cases e
    exact (h.node _ _ _).push (by unfold mid2; simp only [List.length_append, List.length_cons, List.length_nil]; omega)
  · split at e
    · cases e; exact h.node _ _ _
    · cases e
theorem bCode_ok (h : sOK b pb p u (S, N, nm, gv, pt)) (hq0 : 0 ≤ q) (hq1 : q ≤ 3 * p + 21) (hp : 0 ≤ p) (e : bCode b c p q (S, N, nm, gv, pt) = some st) : sOK b pb (p + 1) u st := by
  unfold bCode at e
  dsimp only at e
  have nd : ∀ w v, mid2 b pb (p + 1) (N ++ [(w, v, 0, p)]).length pt.length 210 (q + 1) 0 := fun w v => by unfold mid2; omega
  split at e
  · cases e; exact h.node _ _ _
  · split at e
    · cases e
      exact (h.node _ _ _).push (by unfold mid2; simp only [List.length_append, List.length_cons, List.length_nil]; omega)
    · split at e
      · cases e
      · split at e
        · cases e
          exact ((h.node _ _ _).push (nd _ _)).push (nd _ _)
        · split at e
          · cases e
            exact ((h.node _ _ _).push (by unfold mid2; simp only [List.length_append, List.length_cons, List.length_nil]; omega)).push (nd _ _)
          · split at e
            · cases e
              have ch : ∀ w : Int, 0 ≤ w → w < 200 → mid2 b pb (p + 1) (N ++ [((9 : Int), (0 : Int), (0 : Int), p)]).length pt.length w 0 0 := fun w w0 w1 => by unfold mid2; omega
              exact ((((((((h.node _ _ _).push (ch 93 (by omega) (by omega))).push (nd _ _)).push (ch 58 (by omega) (by omega))).push (nd _ _)).push (ch 63 (by omega) (by omega))).push (nd _ _)).push (by unfold mid2; simp only [List.length_append, List.length_cons, List.length_nil]; omega)).push (nd _ _)
            · cases e
theorem sOK.part (h : sOK b pb p u (S, N, nm, gv, pt)) (hl : pt.length < 6) (w v x y : Int) : sOK b pb (p + 1) u ([(205, (pt.length : Int) + 1, 0)], N, nm, gv, pt ++ [(w, v, x, 1, y)]) := by
  obtain ⟨h1, h2, hu, h3, h4, h5⟩ := h
  refine ⟨Or.inr ⟨rfl, by unfold bot2; simp⟩, by dsimp only at h2 ⊢; omega, hu, h3, by simp; omega, fun e he => ?_⟩
  rcases List.mem_append.mp he with h | h
  · exact h5 e h
  · rw [List.mem_singleton.mp h]; exact ⟨by simp, by simp⟩
theorem bPart_ok (h : sOK b pb p u (S, N, nm, gv, pt)) (hl : pt.length < 6) (hp : 0 ≤ p) (e : bPart b pb c p pt.length ([], N, nm, gv, pt) = some st) : sOK b pb (p + 1) u st := by
  unfold bPart at e
  dsimp only at e
  split at e
  · cases e
    exact ((h.part hl _ _ _ _).push (by unfold mid2; omega)).push (by unfold mid2; omega)
  · split at e
    · have g : sOK b pb p u ([(205, (pt.length : Int) + 1, 0)], N, nm, gv, pt ++ [(1, -1, b + N.length, 1, p)]) := by
        obtain ⟨h1, h2, hu, h3, h4, h5⟩ := h.part hl 1 (-1) (b + N.length) p
        exact ⟨Or.inr ⟨rfl, by unfold bot2; simp⟩, h.2.1, hu, h3, h4, h5⟩
      exact bTerm_ok g (by omega) (by omega) hp e
    · split at e
      · cases e
        have g := h.part hl 2 (-1) (b + N.length) p
        have ch : ∀ w : Int, 0 ≤ w → w < 200 → mid2 b pb (p + 1) N.length (pt ++ [((2 : Int), (-1 : Int), b + (N.length : Int), (1 : Int), p)]).length w 0 0 := fun w w0 w1 => by unfold mid2; omega
        have mm : mid2 b pb (p + 1) N.length (pt ++ [((2 : Int), (-1 : Int), b + (N.length : Int), (1 : Int), p)]).length 200 2 0 := by unfold mid2; omega
        exact (((((g.push mm).push (ch 61 (by omega) (by omega))).push (by unfold mid2; simp only [List.length_append, List.length_cons, List.length_nil]; omega)).push mm).push (ch 40 (by omega) (by omega))).push (by unfold mid2; simp only [List.length_append, List.length_cons, List.length_nil]; omega)
      · cases e
theorem sOK.pop {w a q : Int} (h : sOK b pb p u ((w, a, q) :: S, N, nm, gv, pt)) : sOK b pb p u (S, N, nm, gv, pt) := by
  obtain ⟨h1, h2⟩ := h
  refine ⟨?_, h2⟩
  rcases h1 with h3 | ⟨h3, -⟩
  · exact h3.2
  · rw [h3]; exact trivial
theorem sOK.top {w a q : Int} (h : sOK b pb p u ((w, a, q) :: S, N, nm, gv, pt)) : mid2 b pb p N.length pt.length w a q ∨ (S = [] ∧ bot2 pt.length gv.length w a) := by
  rcases h.1 with h | h
  · exact Or.inl h.1
  · exact Or.inr h
theorem cntA_bd (h : cN u N) (hu : 0 ≤ u) (i : Nat) : 0 ≤ cntA N i ∧ cntA N i ≤ u := by
  unfold cntA
  split
  · rename_i e he
    exact h e (List.mem_of_getElem? he)
  · omega
theorem sOK.inc {i : Nat} (h : sOK b pb p u (S, N, nm, gv, pt)) : sOK b pb p (u + 1) (S, setC N i (fun x => x + 1), nm, gv, pt) :=
  h.more.cnt i _ (fun e he => by
    have := h.2.2.2.1 e (List.mem_of_getElem? he)
    omega)
theorem tDecl_ok {w a q : Int} (h : sOK b pb p u ((w, a, q) :: S, N, nm, gv, pt)) (hw : 200 ≤ w ∧ w < 209) (hp : 0 ≤ p) (e : tDecl b pb w a q c p (S, N, nm, gv, pt) = some st) : sOK b pb (p + 1) (u + 1) st := by
  have ht := h.top
  have hz := h.pop
  have h0 := hz.more
  have hu : 0 ≤ u := h.2.2.1
  unfold mid2 bot2 at ht
  unfold tDecl at e
  dsimp only at e
  split at e
  · exact bTerm_ok h0 (by omega) (by omega) hp e
  · split at e
    · cases e
      exact ((h0.next.cnt _ _ (fun _ _ => by omega)).push (by unfold mid2; rw [setC_len]; omega)).push (by unfold mid2; omega)
    · split at e
      · split at e
        · cases e; exact h0.next
        · split at e
          · cases e
          · rename_i hc
            exact bTerm_ok (hz.inc.push (by unfold mid2; rw [setC_len]; omega)) (by omega) (by omega) hp e
      · split at e
        · split at e
          · cases e
            obtain ⟨hS, -⟩ : S = [] ∧ True := ⟨(ht.resolve_left (by omega)).1, trivial⟩
            subst hS
            exact h0.next.base (by unfold bot2; omega)
          · obtain ⟨hS, hb⟩ := ht.resolve_left (by omega)
            subst hS
            have h9 : pt.length = 0 := by omega
            have e' : bPart b pb c p pt.length ([], N, nm, gv, pt) = some st := by rw [h9]; exact e
            exact bPart_ok h0 (by omega) hp e'
        · split at e
          · obtain ⟨hS, hb⟩ := ht.resolve_left (by omega)
            subst hS
            have h9 : a = pt.length := by omega
            subst h9
            exact bPart_ok h0 (by omega) hp e
          · split at e
            · obtain ⟨hS, hb⟩ := ht.resolve_left (by omega)
              subst hS
              split at e
              · cases e; exact h0.next.base (by unfold bot2; omega)
              · split at e
                · cases e; exact h0.next.base (by unfold bot2; omega)
                · cases e
            · split at e
              · split at e
                · cases e; exact h0.next
                · exact bTerm_ok (nm := b + N.length) h0 (by omega) (by omega) hp e
              · split at e
                · split at e
                  · cases e
                    unfold tDecl.setPN
                    split
                    · rename_i x hx
                      obtain ⟨g1, g2, gu, g3, g4, g5⟩ := h0.next
                      refine ⟨by simpa only [List.length_set] using g1, g2, gu, g3, by simpa only [List.length_set] using g4, fun y hy => ?_⟩
                      rcases List.mem_or_eq_of_mem_set hy with g | g
                      · exact g5 y g
                      · rw [g]; exact g5 x (List.mem_of_getElem? hx)
                    · exact h0.next
                  · cases e
                · split at e
                  · cases e; exact h0.next
                  · split at e
                    · cases e
                    · rename_i hc
                      refine bTerm_ok (S := (208, a, 0) :: S) (pt := tDecl.incP pt (a - pb).toNat) ?_ (by omega) (by omega) hp e
                      have hl : (tDecl.incP pt (a - pb).toNat).length = pt.length := by unfold tDecl.incP; split <;> simp
                      refine sOK.push ?_ (by unfold mid2; rw [hl]; omega)
                      unfold tDecl.incP
                      split
                      · rename_i x hx
                        obtain ⟨g1, g2, gu, g3, g4, g5⟩ := h0
                        refine ⟨by simpa only [List.length_set] using g1, g2, gu, g3, by simpa only [List.length_set] using g4, fun y hy => ?_⟩
                        rcases List.mem_or_eq_of_mem_set hy with g | g
                        · exact g5 y g
                        · unfold tDecl.cntP at hc
                          rw [hx] at hc
                          have := g5 x (List.mem_of_getElem? hx)
                          rw [g]
                          dsimp only at hc this ⊢
                          omega
                      · exact h0
theorem tCode_ok {w a q : Int} (h : sOK b pb p u ((w, a, q) :: S, N, nm, gv, pt)) (hw : 209 ≤ w) (hp : 0 ≤ p) (e : tCode b w a q c p (S, N, nm, gv, pt) = some st) : sOK b pb (p + 1) (u + 1) st := by
  have ht := h.top
  have hz := h.pop
  have h0 := hz.more
  have hu : 0 ≤ u := h.2.2.1
  unfold tCode at e
  dsimp only at e
  have hw' : w = 209 ∨ w = 210 ∨ w = 211 ∨ w = 212 ∨ w = 213 ∨ w = 214 ∨ w = 215 ∨ w = 216 ∨ w = 217 ∨ w = 218 := by unfold mid2 bot2 at ht; omega
  rcases hw' with rfl | rfl | rfl | rfl | rfl | rfl | rfl | rfl | rfl | rfl <;> simp only [reduceIte, Int.reduceEq] at e <;> unfold mid2 bot2 at ht
  · obtain ⟨hS, hb⟩ := ht.resolve_left (by omega)
    subst hS
    by_cases g : c = 61 ∧ 0 < a
    · rw [if_pos g] at e
      cases e; exact h0.next.push (by unfold mid2; omega)
    · rw [if_neg g] at e
      by_cases g : isV c = true ∧ a ≠ 4
      · rw [if_pos g] at e
        cases e
        obtain ⟨g1, g2, gu, g3, g4, g5⟩ := h0.next
        refine ⟨Or.inr ⟨rfl, ?_⟩, g2, gu, g3, g4, g5⟩
        have gl : (((gv ++ [c - 97]).length : Nat) : Int) = gv.length + 1 := by simp
        refine Or.inr (Or.inr (Or.inr (Or.inr (Or.inl ⟨rfl, ?_, ?_⟩))))
        · show a + 1 = (((gv ++ [c - 97]).length : Nat) : Int)
          rw [gl]; omega
        · show (((gv ++ [c - 97]).length : Nat) : Int) ≤ 4
          rw [gl]; omega
      · rw [if_neg g] at e
        cases e
  · exact bCode_ok h0 (by omega) (by omega) hp e
  · cases e
    exact ((h0.next.cnt _ _ (fun _ _ => by omega)).push (by unfold mid2; rw [setC_len]; omega)).push (by unfold mid2; omega)
  · by_cases g : c = 41
    · rw [if_pos g] at e
      cases e; exact h0.next
    · rw [if_neg g] at e
      by_cases hc : cntA N (a - b).toNat = 6
      · rw [if_pos hc] at e
        cases e
      · rw [if_neg hc] at e
        exact bCode_ok (hz.inc.push (by unfold mid2; rw [setC_len]; omega)) (by omega) (by omega) hp e
  · by_cases g : c = 125
    · rw [if_pos g] at e
      by_cases g : 0 < cntA N (a - b).toNat
      · rw [if_pos g] at e
        cases e; exact h0.next
      · rw [if_neg g] at e
        cases e
    · rw [if_neg g] at e
      by_cases g : c = 124 ∧ cntA N (a - b).toNat ≠ 5
      · rw [if_pos g] at e
        cases e
        exact ((((hz.next.inc).push (by unfold mid2; rw [setC_len]; omega)).push (by unfold mid2; omega)).push (by unfold mid2; omega)).push (by unfold mid2; omega)
      · rw [if_neg g] at e
        cases e
  · exact bPat_ok h0 hp e
  · cases e; exact h0.next.push (by unfold mid2; omega)
  · by_cases g : c = 41
    · rw [if_pos g] at e
      by_cases g : 0 < cntA N (a - b).toNat
      · rw [if_pos g] at e
        cases e; exact h0.next
      · rw [if_neg g] at e
        cases e
    · rw [if_neg g] at e
      by_cases g : isV c = true ∧ cntA N (a - b).toNat ≠ 6
      · rw [if_pos g] at e
        cases e
        exact ((hz.node _ _ _).inc).push (by unfold mid2; rw [setC_len]; simp only [List.length_append, List.length_cons, List.length_nil]; omega)
      · rw [if_neg g] at e
        cases e
  · by_cases g : c = 61 ∨ c = 60
    · rw [if_pos g] at e
      cases e
      unfold tCode.setV
      split
      · rename_i x hx
        obtain ⟨g1, g2, gu, g3, g4, g5⟩ := h0.next
        refine ⟨by simpa only [List.length_set] using g1, by simpa only [List.length_set] using g2, gu, fun y hy => ?_, g4, g5⟩
        rcases List.mem_or_eq_of_mem_set hy with g | g
        · exact g3 y g
        · rw [g]; exact g3 x (List.mem_of_getElem? hx)
      · exact h0.next
    · rw [if_neg g] at e
      cases e
  · obtain ⟨hS, hb⟩ := ht.resolve_left (by omega)
    subst hS
    by_cases g : a = 6
    · rw [if_pos g] at e
      cases e
    · rw [if_neg g] at e
      exact bTerm_ok (nm := a + 1) (h0.base (by unfold bot2; omega)) (by omega) (by omega) hp e
end TK
