/-! L3, component: Walk.push -/
theorem kids_len : ∀ (f : TF), (kids f).length = lenF f
  | .leaf => rfl
  | .inner _ a _ c s => by
    show (kids s).length + 1 = 1 + lenF s
    rw [kids_len s]; omega
section WK3
variable {m m' : SM} {hs : List Int} {G : GM} {d : Nat} {P : Nat → Int → SM → Prop} {B : SM → Int → Prop} {l : Int} {ts : List Tr}
/-- the arguments are put behind the list -/
theorem q_p10 (hB : WA B) (hd : 12 ≤ d) (hW : l ∈ WL) {fr : Int} : ∀ (f : TF) (c n : Int) (m : SM), KI m → Rw m → wb m → m l (-2) = n → 0 ≤ n → n + lenF f ≤ 7000 → VSf (B m) m hs f c → (∀ m', Wk m m' → (∀ z, z ≠ l → z ≠ 0 → m' z = m z) → m' l (-2) = n + lenF f → (∀ j, 0 ≤ j → j < n → m' l j = m l j) → (∀ (j : Nat) t, (kids f)[j]? = some t → VS (B m') m' hs (m' l (n + j)) t) → WV G mX7_push 41 [(1, l), (9, 0), (9, 0), (0, fr), (0, n + lenF f - 1), (9, 0)] [] m' d P) → WV G mX7_push 10 [(1, l), (9, 0), (0, fr), (1, c), (9, 0), (9, 0)] [] m d P
  | .leaf, c, n, m, K, R, hb, hn, h0, hm, hV, k => by
    have hc : c = 0 := hV
    have h7 : n + ((0 : Nat) : Int) ≤ 7000 := hm
    refine wX7_push_10 K hd ⟨fun _ => ⟨(WL.tag K hW).1, ?_⟩, fun z => absurd hc z⟩
    have := k m Wk.refl (fun _ _ _ => rfl) (by show m l (-2) = n + ((0 : Nat) : Int); omega) (fun _ _ _ => rfl) (fun j t hj => by cases hj)
    rw [hn, wr_id (by omega) (by omega)]
    have e : n + (lenF (.leaf : TF) : Int) - 1 = n - 1 := by show n + ((0 : Nat) : Int) - 1 = n - 1; omega
    rw [e] at this
    exact this
  | .inner z a u kd s, c, n, m, K, R, hb, hn, h0, hm, hV, k => by
    refine v_bs (fun B0 => ?_)
    obtain ⟨⟨c0, cA, ct⟩, ⟨i, y, q1, q2, q6, q3⟩, h4⟩ := hV
    have hls : (lenF (.inner z a u kd s : TF) : Int) = 1 + lenF s := by show ((1 + lenF s : Nat) : Int) = _; omega
    rw [hls] at hm
    have V0 : VS (B m) m hs (m c 0) (a, kd) := VS.of q1 q2 q6 q3
    have Ro := R.ok hb
    obtain ⟨tl, l0⟩ := WL.tag K hW
    refine wX7_push_10 K hd ⟨fun q => absurd q c0, fun _ => ⟨ct, tl, elOK.of V0.tag.1 (c := 10) (by decide) (by decide), by omega, by omega, by omega, fun m4 A4 o4 => ?_⟩⟩
    have s4 : m4 l (-2) = n + 1 := by rw [A4.2.1, hn]
    have g4 : Wk m m4 := Wk.lw K hW A4.1 (by omega)
    have K4 := g4.ki K
    have cne : c ≠ l := fun e => by rw [e, tl] at ct; cases ct
    have e4 : m4 c = m c := A4.1.2.1 c cne c0
    have z4 : m4 0 (-1) = 0 := by rw [A4.1.2.2.2.1 (-1) (by decide) (by decide)]; exact B0.1
    rw [e4]
    have hV4 : VSf (B m4) m4 hs s (m c 1) := VSf.fr (fun x hx ht => ⟨hB.wk K g4 hx, fun f => by rw [g4.2.1 x (fun e => by rw [e, B0.1] at ht; omega) (fun e => by have := (WL.tag K e).1; omega)]⟩) s h4
    refine q_p10 hB hd hW s (m c 1) (n + 1) m4 K4 (R.mono g4) (g4.cb hb) s4 (by omega) (by omega) hV4 (fun m5 g5 e5 s5 f5 t5 => ?_)
    have := k m5 (g4.trans g5) (fun z h1 h2 => by rw [e5 z h1 h2, A4.1.2.1 z h1 h2]) (by rw [s5, hls]; omega) (fun j j0 j1 => ?_) (fun j t hj => ?_)
    · rw [hls] at this
      rw [show n + 1 + (lenF s : Int) - 1 = n + (1 + (lenF s : Int)) - 1 by omega]
      exact this
    · rw [f5 j j0 (by omega), A4.2.2 j j0, if_neg (by omega)]
    · cases j with
      | zero =>
        cases hj
        have ex : m5 l (n + ((0 : Nat) : Int)) = m c 0 := by
          rw [show n + ((0 : Nat) : Int) = n by omega, f5 n h0 (by omega), A4.2.2 n h0, if_pos hn.symm]
        rw [ex]
        exact (V0.wk B hB K g4 B0.1).wk B hB K4 g5 z4
      | succ j =>
        have := t5 j t hj
        rw [show n + 1 + (j : Int) = n + ((j + 1 : Nat) : Int) by omega] at this
        exact this
/-- the reversal -/
theorem q_p41 (hd : 12 ≤ d) (hW : l ∈ WL) {m1 : SM} {F N : Int} (hF : 0 ≤ F) (hN : N ≤ 7000) (h11 : ∀ j, F ≤ j → j < N → m1 (m1 l j) (-1) = 11) (kk : ∀ m', Wk m1 m' → (∀ z, z ≠ l → z ≠ 0 → m' z = m1 z) → m' l (-2) = N → (∀ j, 0 ≤ j → j < N → m' l j = if F ≤ j then m1 l (F + N - 1 - j) else m1 l j) → P 0 0 m') : ∀ (n : Nat) (a b : Int) (m : SM), KI m → b - a ≤ n → F ≤ a → b < N → a + b = F + N - 1 → Wk m1 m → (∀ z, z ≠ l → z ≠ 0 → m z = m1 z) → m l (-2) = N → (∀ j, 0 ≤ j → j < N → m l j = if F ≤ j ∧ (j < a ∨ b < j) then m1 l (F + N - 1 - j) else m1 l j) → WV G mX7_push 41 [(1, l), (9, 0), (9, 0), (0, a), (0, b), (9, 0)] [] m d P := by
  intro n
  induction n with
  | zero =>
    intro a b m K hn ha hb hab g e hs hj
    refine wX7_push_41 K hd ⟨fun _ => kk m g e hs (fun j j0 j1 => ?_), fun q => by omega⟩
    rw [hj j j0 j1]
    by_cases z : F ≤ j
    · rw [if_pos z]
      by_cases y : j < a ∨ b < j
      · rw [if_pos ⟨z, y⟩]
      · rw [if_neg (fun q => y q.2), show F + N - 1 - j = j by omega]
    · rw [if_neg z, if_neg (fun q => z q.1)]
  | succ n ih =>
    intro a b m K hn ha hb hab g e hs hj
    obtain ⟨tl, l0⟩ := WL.tag K hW
    refine wX7_push_41 K hd ⟨fun _ => kk m g e hs (fun j j0 j1 => ?_), fun q => ?_⟩
    · rw [hj j j0 j1]
      by_cases z : F ≤ j
      · rw [if_pos z]
        by_cases y : j < a ∨ b < j
        · rw [if_pos ⟨z, y⟩]
        · rw [if_neg (fun q => y q.2), show F + N - 1 - j = j by omega]
      · rw [if_neg z, if_neg (fun q => z q.1)]
    · have ea : m l a = m1 l a := by rw [hj a (by omega) (by omega), if_neg (by omega)]
      have eb : m l b = m1 l b := by rw [hj b (by omega) (by omega), if_neg (by omega)]
      have ta : m (m l a) (-1) = 11 := by
        have := h11 a (by omega) (by omega)
        rw [ea, g.1.1 _ (by rw [this]; decide)]; exact this
      have tb : m (m l b) (-1) = 11 := by
        have := h11 b (by omega) (by omega)
        rw [eb, g.1.1 _ (by rw [this]; decide)]; exact this
      refine ⟨tl, by omega, by omega, Or.inr ta, by omega, by omega, Or.inr tb, by omega, by omega, elOK.of tb (c := 10) (by decide) (by decide), fun m8 A8 o8 => ?_⟩
      have g8 : Wk m m8 := Wk.lw K hW A8.1 (by rw [A8.2, up_nf _ (by omega)]; omega)
      have s8 : m8 l (-2) = N := by rw [A8.2, up_nf _ (by omega)]; exact hs
      have K8 := g8.ki K
      refine ⟨by omega, by omega, elOK.of (o8.tag ta (by decide)) (c := 10) (by decide) (by decide), fun m16 A16 o16 => ?_⟩
      have g16 : Wk m8 m16 := Wk.lw K8 hW A16.1 (by rw [A16.2, up_nf _ (by omega)]; omega)
      have K16 := g16.ki K8
      rw [wr_id (by omega) (by omega), wr_id (by omega) (by omega)]
      refine ih (a + 1) (b + (-1)) m16 K16 (by omega) (by omega) (by omega) (by omega) (g.trans (g8.trans g16)) (fun z h1 h2 => ?_) (by rw [A16.2, up_nf _ (by omega)]; exact s8) (fun j j0 j1 => ?_)
      · rw [A16.1.2.1 z h1 h2, A8.1.2.1 z h1 h2]; exact e z h1 h2
      · by_cases z1 : j = b
        · rw [z1, A16.2, up_self, if_pos ⟨by omega, by omega⟩, ea]
          congr 1
          omega
        · rw [A16.2, up_nf _ z1]
          by_cases z2 : j = a
          · rw [z2, A8.2, up_self, if_pos ⟨by omega, by omega⟩, eb]
            congr 1
            omega
          · rw [A8.2, up_nf _ z2, hj j j0 j1]
            by_cases z3 : F ≤ j ∧ (j < a ∨ b < j)
            · rw [if_pos z3, if_pos ⟨z3.1, by omega⟩]
            · rw [if_neg z3, if_neg (fun q => z3 ⟨q.1, by omega⟩)]
theorem q_push (hB : WA B) (K : KI m) (hd : 12 ≤ d) {y : Int} {t : Tr} (hW : l ∈ WL) (R : Rw m) (hb : wb m) (hT : Td (B m) m hs l ts) (hV : VE (B m) m hs y t) (hn : ts.length ≤ 6990) (k : ∀ m', Wk m m' → (∀ z, z ≠ l → z ≠ 0 → m' z = m z) → Td (B m') m' hs l (kids t.2 ++ ts) → P 0 0 m') : WV G mX7_push 0 [(1, l), (1, y), (9, 0), (9, 0), (9, 0), (9, 0)] [] m d P := by
  refine v_bs (fun B0 => ?_)
  obtain ⟨tl, l0⟩ := WL.tag K hW
  obtain ⟨⟨vA, vt, v4⟩, vh, v6, vf⟩ := hV
  obtain ⟨hs1, hs2⟩ := hT
  refine wX7_push K hd ⟨tl, vt, ?_⟩
  rw [hs1]
  refine q_p10 hB hd hW t.2 (m y 3) ts.length m K R hb hs1 (by omega) (by omega) vf (fun m1 g1 e1 s1 f1 t1 => ?_)
  have K1 := g1.ki K
  refine v_bs (fun B1 => ?_)
  have hk : (kids t.2).length = lenF t.2 := kids_len t.2
  refine q_p41 hd hW (m1 := m1) (F := ts.length) (N := ts.length + lenF t.2) (by omega) (by omega) (fun j h1 h2 => ?_) (fun m2 g2 e2 s2 f2 => ?_) (lenF t.2) ts.length (ts.length + lenF t.2 - 1) m1 K1 (by omega) (by omega) (by omega) (by omega) Wk.refl (fun _ _ _ => rfl) s1 (fun j j0 j1 => by rw [if_neg (by omega)])
  · have hj : (j - ts.length).toNat < (kids t.2).length := by omega
    have := t1 (j - ts.length).toNat _ (List.getElem?_eq_getElem hj)
    rw [show (ts.length : Int) + ((j - ts.length).toNat : Int) = j by omega] at this
    exact this.tag.1
  · refine k m2 (g1.trans g2) (fun z h1 h2 => by rw [e2 z h1 h2, e1 z h1 h2]) ⟨by rw [s2, List.length_append, hk]; omega, fun j x hx => ?_⟩
    have hl : ((kids t.2 ++ ts).length : Int) = lenF t.2 + ts.length := by rw [List.length_append, hk]; omega
    rw [hl]
    by_cases z : j < lenF t.2
    · rw [List.getElem?_append_left (by omega)] at hx
      have V := (t1 j x hx).wk B hB K1 g2 B1.1
      rw [f2 _ (by omega) (by omega), if_pos (by omega), show (ts.length : Int) + (ts.length + lenF t.2) - 1 - (lenF t.2 + ts.length - 1 - j) = ts.length + j by omega]
      exact V
    · rw [List.getElem?_append_right (by omega), hk] at hx
      have hj : j - lenF t.2 < ts.length := by
        by_cases c : j - lenF t.2 < ts.length
        · exact c
        · rw [List.getElem?_eq_none (by omega)] at hx; cases hx
      have V := ((hs2 _ x hx).wk B hB K g1 B0.1).wk B hB K1 g2 B1.1
      rw [f2 _ (by omega) (by omega), if_neg (by omega), f1 _ (by omega) (by omega)]
      rw [show (lenF t.2 : Int) + ts.length - 1 - j = ts.length - 1 - ((j - lenF t.2 : Nat) : Int) by omega]
      exact V
end WK3
