/-! L3, component: Walk.begin, pop, push -/
section WK2
variable {m m' : SM} {hs : List Int} {G : GM} {d : Nat} {P : Nat → Int → SM → Prop} {B : SM → Int → Prop} {l : Int} {ts : List Tr}
theorem Td.wk (hB : WA B) (K : KI m) (g : Wk m m') (h0 : m 0 (-1) = 0) (e : m' l = m l) (h : Td (B m) m hs l ts) : Td (B m') m' hs l ts := ⟨by rw [e]; exact h.1, fun j t hj => by rw [e]; exact (h.2 j t hj).wk B hB K g h0⟩
theorem Rw.ok (h : Rw m) (hb : wb m) : m 0 0 ≤ 1203200 - 3 ∧ m 0 1 + 2 * 7000 + 20 ≤ 5491882 := by
  have h1 := h.1
  have h2 := h.2
  have := hb.le
  omega
theorem q_wbegin (hB : WA B) (K : KI m) (hd : 12 ≤ d) {w x : Int} {t : Tr} (hw : m w (-1) = 9) (hl : m w 0 = l) (hW : l ∈ WL) (hwl : w ∉ WL) (R : Rw m) (hb : wb m) (hV : VS (B m) m hs x t) (k : ∀ m', Wk m m' → (∀ z, z ≠ l → z ≠ 0 → m' z = m z) → Td (B m') m' hs l [t] → P 0 0 m') : WV G mX7_begin 0 [(1, w), (1, x)] [] m d P := by
  refine v_bs (fun B0 => ?_)
  obtain ⟨tl, l0⟩ := WL.tag K hW
  have w0 : w ≠ 0 := fun e => by rw [e, B0.1] at hw; cases hw
  refine wX7_begin K hd ⟨hw, by rw [hl]; exact tl, fun m3 A3 o3 => ?_⟩
  rw [hl] at A3
  have g3 : Wk m m3 := Wk.lw K hW A3.1 (by rw [A3.2.1]; decide)
  have K3 := g3.ki K
  have e3 : m3 w = m w := g3.2.1 w w0 hwl
  have hl3 : m3 w 0 = l := by rw [e3]; exact hl
  rw [hl3]
  have R3 := (R.mono g3).ok (g3.cb hb)
  have z3 : m3 0 (-1) = 0 := by rw [A3.1.2.2.2.1 (-1) (by decide) (by decide)]; exact B0.1
  have hV3 := hV.wk B hB K g3 B0.1
  refine ⟨(WL.tag K3 hW).1, elOK.of hV3.tag.1 (c := 10) (by decide) (by decide), by rw [A3.2.1]; decide, by omega, by rw [A3.2.1]; omega, fun m9 A9 o9 => ?_⟩
  have s9 : m9 l (-2) = 1 := by rw [A9.2.1, A3.2.1]; rfl
  have g9 : Wk m3 m9 := Wk.lw K3 hW A9.1 (by rw [s9]; decide)
  refine k m9 (g3.trans g9) (fun z h1 h2 => by rw [A9.1.2.1 z h1 h2, A3.1.2.1 z h1 h2]) ⟨s9, fun j y hy => ?_⟩
  cases j with
  | zero =>
    cases hy
    have : m9 l (([t] : List Tr).length - 1 - ((0 : Nat) : Int)) = x := by
      show m9 l 0 = x
      rw [A9.2.2 0 (by decide), if_pos A3.2.1.symm]
    rw [this]
    exact hV3.wk B hB K3 g9 z3
  | succ j => simp at hy
theorem q_pop (hB : WA B) (K : KI m) (hd : 13 ≤ d) {t : Tr} (hW : l ∈ WL) (hT : Td (B m) m hs l (t :: ts)) (hn : ts.length ≤ 7000) (k : ∀ m' y, Wk m m' → (∀ z, z ≠ l → z ≠ 0 → m' z = m z) → Td (B m') m' hs l ts → VE (B m') m' hs y t → P 0 y m') : WV G mX7_pop 0 [(1, l)] [] m d P := by
  refine v_bs (fun B0 => ?_)
  obtain ⟨tl, l0⟩ := WL.tag K hW
  obtain ⟨hs1, hs2⟩ := hT
  have hlen : ((t :: ts).length : Int) = ts.length + 1 := by rw [List.length_cons]; omega
  have ew : wr (m l (-2) - 1) = ts.length := by rw [hs1, hlen, wr_id (by omega) (by omega)]; omega
  rw [hlen] at hs1
  refine wX7_pop K (by omega) ⟨tl, by rw [ew]; omega, by rw [ew]; omega, fun m2 A o2 => ?_⟩
  rw [ew]
  have g2 : Wk m m2 := Wk.lw K hW A.1 (by rw [A.2.1]; omega)
  have K2 := g2.ki K
  have V0 := hs2 0 t rfl
  rw [hlen, show (ts.length : Int) + 1 - 1 - ((0 : Nat) : Int) = ts.length by omega] at V0
  have V2 := V0.wk B hB K g2 B0.1
  refine ⟨Or.inr V2.tag.1, V2.tag.1, q_seen K2 (by omega) V2 (fun y hy => ⟨rfl, Ok.refl m2, ?_⟩)⟩
  refine k m2 y g2 A.1.2.1 ⟨by rw [A.2.1]; omega, fun j x hx => ?_⟩ hy
  have hj : j < ts.length := by
    by_cases c : j < ts.length
    · exact c
    · rw [List.getElem?_eq_none (by omega)] at hx; cases hx
  have V := hs2 (j + 1) x (by simpa using hx)
  have e1 : m2 l (ts.length - 1 - j) = m l (((t :: ts).length : Int) - 1 - ((j + 1 : Nat) : Int)) := by
    rw [A.2.2 _ (by omega), if_neg (by omega)]
    congr 1
    omega
  rw [e1]
  exact V.wk B hB K g2 B0.1
end WK2
