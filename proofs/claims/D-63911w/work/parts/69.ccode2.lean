/-! L3, component: programs as objects -/
/-- a Code object's own fields; its lists: parts in 4, cases in 5 -/
def CdH (m : SM) (b x : Int) (a : Lb) : Prop := b ≤ x ∧ m x (-1) = 23 ∧ m x 1 = a.2.2 ∧ (m (m x 4) (-1) = 4 ∧ (m x 4 = 14 ∨ b ≤ m x 4)) ∧ (m (m x 5) (-1) = 4 ∧ (m x 5 = 15 ∨ (a.1 = 8 ∧ b ≤ m x 5))) ∧
  ((a.1 = 1 ∧ m x 0 = -1 ∧ m x 2 = a.2.1 + 97) ∨ (a.1 = 2 ∧ m x 0 = -2 ∧ b ≤ m x 3 ∧ Lit m (m x 3) (-14) a.2.1) ∨ (a.1 = 5 ∧ m x 0 = -3 ∧ m x 2 = a.2.1 + 65) ∨ (a.1 = 6 ∧ m x 0 = -4) ∨ (a.1 = 7 ∧ m x 0 = -5) ∨ (a.1 = 8 ∧ m x 0 = -6) ∨ (a.1 = 9 ∧ a.2.1 = 61 ∧ m x 0 = -7) ∨ (a.1 = 9 ∧ a.2.1 = 60 ∧ m x 0 = -8) ∨ (a.1 = 10 ∧ m x 0 = -9))
/-- a Case object's pattern; c: the pattern's variables -/
def PtH (m : SM) (b y : Int) (a : Lb) (c : TF) : Prop := b ≤ y ∧ m y (-1) = 24 ∧ m y 0 = a.2.2 ∧ m (m y 3) (-1) = 13 ∧ VsF m c (m y 3) 0 ∧
  ((a.1 = 11 ∧ m y 1 = 0 ∧ m y 2 = 0) ∨ (a.1 = 12 ∧ b ≤ m y 1 ∧ Lit m (m y 1) (-14) a.2.1 ∧ m y 2 = 0) ∨ (a.1 = 13 ∧ m y 1 = 0 ∧ m y 2 = a.2.1 + 65))
/-- forests of codes. Kind 0: the list l's elements from i on; 1: the cases of the list l from i on, a pattern coming; 3: as 1, the case's code coming; 2: below the match l -/
def CdF (m : SM) (b : Int) : TF → Nat → Int → Int → Prop
  | .leaf, _, l, i => m l (-2) = i
  | .inner _ a _ c s, 0, l, i => CdH m b (m l i) a ∧ CdF m b c (if a.1 = 8 then 2 else 0) (if a.1 = 8 then m l i else m (m l i) 4) 0 ∧ CdF m b s 0 l (i + 1)
  | .inner _ a _ c s, 1, l, i => PtH m b (m l i) a c ∧ CdF m b s 3 l i
  | .inner _ a _ c s, 2, x, _ => CdH m b (m (m x 4) 0) a ∧ m (m x 4) (-2) = 1 ∧ CdF m b c (if a.1 = 8 then 2 else 0) (if a.1 = 8 then m (m x 4) 0 else m (m (m x 4) 0) 4) 0 ∧ CdF m b s 1 (m x 5) 0
  | .inner _ a _ c s, _, l, i => CdH m b (m (m l i) 4) a ∧ CdF m b c (if a.1 = 8 then 2 else 0) (if a.1 = 8 then m (m l i) 4 else m (m (m l i) 4) 4) 0 ∧ CdF m b s 1 l (i + 1)
/-- a code: its object, and what is below it -/
def CdT (b : Int) (m : SM) (v : Int) (nd : Lb × TF) : Prop := CdH m b v nd.1 ∧ CdF m b nd.2 (if nd.1.1 = 8 then 2 else 0) (if nd.1.1 = 8 then v else m v 4) 0
/-- a Program object -/
def PgH (m : SM) (b x : Int) (q : TF × (Lb × TF)) : Prop := b ≤ x ∧ m x (-1) = 22 ∧ m (m x 0) (-1) = 13 ∧ b ≤ m x 0 ∧ VsF m q.1 (m x 0) 0 ∧ CdT b m (m x 1) q.2
theorem CdH.mono {m : SM} {b b' x : Int} {a : Lb} (hb : b' ≤ b) (h : CdH m b x a) : CdH m b' x a := by
  obtain ⟨h1, h2, h3, h4, h5, h6⟩ := h
  refine ⟨by omega, h2, h3, ⟨h4.1, by omega⟩, ⟨h5.1, by omega⟩, ?_⟩
  rcases h6 with h | ⟨q1, q2, q3, q4⟩ | h
  · exact Or.inl h
  · exact Or.inr (Or.inl ⟨q1, q2, by omega, q4⟩)
  · exact Or.inr (Or.inr h)
