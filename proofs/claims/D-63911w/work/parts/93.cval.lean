/-! L3, component: values as trees. A: the cells that count; hs: the cells of holes and rigid ones -/
def Sn (A : Int → Prop) (m : SM) : Nat → Int → Int → Prop
  | 0, x, y => x = y ∧ A x ∧ m x (-1) = 11 ∧ m x 4 = 0
  | n + 1, x, y => A x ∧ m x (-1) = 11 ∧ m x 0 = -18 ∧ m x 4 ≠ 0 ∧ Sn A m n (m x 4) y
/-- a cell that is no filled hole, by its label -/
def VH (m : SM) (hs : List Int) (y : Int) (a : Lb) : Prop := a.2.2 = 0 ∧ ((a.1 = 2 ∧ m y 0 = -14 ∧ m y 1 = a.2.1) ∨ (a.1 = 3 ∧ a.2.1 = 0 ∧ m y 0 = -16) ∨ (a.1 = 4 ∧ m y 0 = -18 ∧ 0 ≤ a.2.1 ∧ hs[a.2.1.toNat]? = some y) ∨ (a.1 = 5 ∧ m y 0 = -19 ∧ m y 2 = a.2.1 + 65) ∨ (a.1 = 6 ∧ m y 0 = -17 ∧ 0 ≤ a.2.1 ∧ hs[a.2.1.toNat]? = some y) ∨ (a.1 = 7 ∧ a.2.1 = 0 ∧ m y 0 = -15))
def VSf (A : Int → Prop) (m : SM) (hs : List Int) : TF → Int → Prop
  | .leaf, c => c = 0
  | .inner _ a _ k s, c => (c ≠ 0 ∧ A c ∧ m c (-1) = 16) ∧ (∃ n y, Sn A m n (m c 0) y ∧ VH m hs y a ∧ lenF k ≤ 6 ∧ VSf A m hs k (m y 3)) ∧ VSf A m hs s (m c 1)
/-- the cell y, no filled hole, is the tree t -/
def VE (A : Int → Prop) (m : SM) (hs : List Int) (y : Int) (t : Tr) : Prop := (A y ∧ m y (-1) = 11 ∧ m y 4 = 0) ∧ VH m hs y t.1 ∧ lenF t.2 ≤ 6 ∧ VSf A m hs t.2 (m y 3)
/-- the cell x, holes being looked through, is the tree t -/
def VS (A : Int → Prop) (m : SM) (hs : List Int) (x : Int) (t : Tr) : Prop := ∃ n y, Sn A m n x y ∧ VE A m hs y t
section VSs
variable {A A' : Int → Prop} {m m' : SM} {hs : List Int} {G : GM} {d : Nat} {P : Nat → Int → SM → Prop}
theorem Sn.end : ∀ (n : Nat) {x y : Int}, Sn A m n x y → A y ∧ m y (-1) = 11 ∧ m y 4 = 0
  | 0, x, y, h => by rw [← h.1]; exact h.2
  | n + 1, x, y, h => Sn.end n h.2.2.2.2
theorem Sn.tag : ∀ (n : Nat) {x y : Int}, Sn A m n x y → m x (-1) = 11 ∧ A x
  | 0, x, y, h => ⟨h.2.2.1, h.2.1⟩
  | n + 1, x, y, h => ⟨h.2.1, h.1⟩
theorem VS.of {n : Nat} {x y : Int} {t : Tr} (h : Sn A m n x y) (h1 : VH m hs y t.1) (h6 : lenF t.2 ≤ 6) (h2 : VSf A m hs t.2 (m y 3)) : VS A m hs x t := ⟨n, y, h, h.end, h1, h6, h2⟩
theorem VE.vs {y : Int} {t : Tr} (h : VE A m hs y t) : VS A m hs y t := ⟨0, y, ⟨rfl, h.1⟩, h⟩
theorem VS.tag {x : Int} {t : Tr} (h : VS A m hs x t) : m x (-1) = 11 ∧ A x := by
  obtain ⟨n, y, h1, -⟩ := h
  exact h1.tag
/-- live cells stay -/
theorem Sn.fr (g : ∀ x, A x → (m x (-1) = 11 ∨ m x (-1) = 16) → A' x ∧ ∀ f, m' x f = m x f) : ∀ (n : Nat) {x y : Int}, Sn A m n x y → Sn A' m' n x y
  | 0, x, y, ⟨h0, h1, h2, h3⟩ => by
    have q := g x h1 (Or.inl h2)
    exact ⟨h0, q.1, by rw [q.2]; exact h2, by rw [q.2]; exact h3⟩
  | n + 1, x, y, ⟨h1, h2, h3, h4, h5⟩ => by
    have q := g x h1 (Or.inl h2)
    exact ⟨q.1, by rw [q.2]; exact h2, by rw [q.2]; exact h3, by rw [q.2]; exact h4, by rw [q.2]; exact Sn.fr g n h5⟩
theorem VH.fr {y : Int} {a : Lb} (e : ∀ f, m' y f = m y f) (h : VH m hs y a) : VH m' hs y a := by
  unfold VH
  rw [e, e, e]
  exact h
theorem VSf.fr (g : ∀ x, A x → (m x (-1) = 11 ∨ m x (-1) = 16) → A' x ∧ ∀ f, m' x f = m x f) : ∀ (t : TF) {c : Int}, VSf A m hs t c → VSf A' m' hs t c
  | .leaf, _, h => h
  | .inner _ a _ k s, c, ⟨⟨h1, h2, h3⟩, ⟨n, y, q1, q2, q6, q3⟩, h4⟩ => by
    have q := g c h2 (Or.inr h3)
    have w := g y q1.end.1 (Or.inl q1.end.2.1)
    refine ⟨⟨h1, q.1, by rw [q.2]; exact h3⟩, ⟨n, y, by rw [q.2]; exact q1.fr g, q2.fr w.2, q6, by rw [w.2]; exact VSf.fr g k q3⟩, by rw [q.2]; exact VSf.fr g s h4⟩
theorem VE.fr (g : ∀ x, A x → (m x (-1) = 11 ∨ m x (-1) = 16) → A' x ∧ ∀ f, m' x f = m x f) {y : Int} {t : Tr} (h : VE A m hs y t) : VE A' m' hs y t := by
  obtain ⟨⟨h1, h2, h3⟩, h4, h6, h5⟩ := h
  have w := g y h1 (Or.inl h2)
  exact ⟨⟨w.1, by rw [w.2]; exact h2, by rw [w.2]; exact h3⟩, h4.fr w.2, h6, by rw [w.2]; exact VSf.fr g _ h5⟩
theorem VS.fr (g : ∀ x, A x → (m x (-1) = 11 ∨ m x (-1) = 16) → A' x ∧ ∀ f, m' x f = m x f) {x : Int} {t : Tr} (h : VS A m hs x t) : VS A' m' hs x t := by
  obtain ⟨n, y, h1, h2⟩ := h
  exact ⟨n, y, h1.fr g, h2.fr g⟩
theorem VH.app {y z : Int} {a : Lb} (h : VH m hs y a) : VH m (hs ++ [z]) y a := by
  obtain ⟨h0, h⟩ := h
  have q : ∀ k : Nat, hs[k]? = some y → (hs ++ [z])[k]? = some y := fun k hk => by
    have hl : k < hs.length := by
      by_cases c : k < hs.length
      · exact c
      · rw [List.getElem?_eq_none (by omega)] at hk; cases hk
    rw [List.getElem?_append_left hl]; exact hk
  refine ⟨h0, ?_⟩
  rcases h with h | h | h | h | h | h
  · exact Or.inl h
  · exact Or.inr (Or.inl h)
  · exact Or.inr (Or.inr (Or.inl ⟨h.1, h.2.1, h.2.2.1, q _ h.2.2.2⟩))
  · exact Or.inr (Or.inr (Or.inr (Or.inl h)))
  · exact Or.inr (Or.inr (Or.inr (Or.inr (Or.inl ⟨h.1, h.2.1, h.2.2.1, q _ h.2.2.2⟩))))
  · exact Or.inr (Or.inr (Or.inr (Or.inr (Or.inr h))))
theorem VSf.app {z : Int} : ∀ (t : TF) {c : Int}, VSf A m hs t c → VSf A m (hs ++ [z]) t c
  | .leaf, _, h => h
  | .inner _ a _ k s, c, ⟨h1, ⟨n, y, q1, q2, q6, q3⟩, h4⟩ => ⟨h1, ⟨n, y, q1, q2.app, q6, VSf.app k q3⟩, VSf.app s h4⟩
theorem VS.app {z x : Int} {t : Tr} (h : VS A m hs x t) : VS A m (hs ++ [z]) x t := by
  obtain ⟨n, y, h1, h2, h3, h6, h4⟩ := h
  exact ⟨n, y, h1, h2, h3.app, h6, VSf.app _ h4⟩
/-- Value.seen -/
theorem q_seen (K : KI m) (hd : 12 ≤ d) {x : Int} {t : Tr} (h : VS A m hs x t) (k : ∀ y, VE A m hs y t → P 0 y m) : WV G mX9_seen 0 [(1, x), (9, 0)] [] m d P := by
  obtain ⟨n, y, h1, h2⟩ := h
  refine wX9_seen K hd ?_
  have : ∀ (n : Nat) (x : Int), Sn A m n x y → WV G mX9_seen 2 [(9, 0), (1, x)] [] m d P := by
    intro n
    induction n with
    | zero =>
      intro x h
      obtain ⟨q0, q1, q2, q3⟩ := h
      subst q0
      exact wX9_seen_2 K hd ⟨q2, fun _ => k x h2, fun z => absurd q3 z⟩
    | succ n ih =>
      intro x h
      obtain ⟨q1, q2, q3, q4, q5⟩ := h
      exact wX9_seen_2 K hd ⟨q2, fun z => absurd z q4, fun _ => ih _ q5⟩
  exact this n x h1
end VSs
