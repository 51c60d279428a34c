/-! L3, component: programs as the runner sees them: cells above 100, digits in no pool -/
def DvH (m : SM) (x : Int) (a : Lb) : Prop := 100 < x ∧ m x (-1) = 23 ∧ m x 1 = a.2.2 ∧ (m (m x 4) (-1) = 4 ∧ (m x 4 = 14 ∨ 100 < m x 4)) ∧ (m (m x 5) (-1) = 4 ∧ (m x 5 = 15 ∨ (a.1 = 8 ∧ 100 < m x 5))) ∧
  ((a.1 = 1 ∧ m x 0 = -1 ∧ m x 2 = a.2.1 + 97 ∧ 0 ≤ a.2.1 ∧ a.2.1 < 26) ∨ (a.1 = 2 ∧ m x 0 = -2 ∧ NP m (m x 3) ∧ Lit m (m x 3) (-14) a.2.1) ∨ (a.1 = 5 ∧ m x 0 = -3 ∧ m x 2 = a.2.1 + 65 ∧ 0 ≤ a.2.1 ∧ a.2.1 < 26) ∨ (a.1 = 6 ∧ m x 0 = -4) ∨ (a.1 = 7 ∧ m x 0 = -5) ∨ (a.1 = 8 ∧ m x 0 = -6) ∨ (a.1 = 9 ∧ a.2.1 = 61 ∧ m x 0 = -7) ∨ (a.1 = 9 ∧ a.2.1 = 60 ∧ m x 0 = -8) ∨ (a.1 = 10 ∧ m x 0 = -9))
def vsR : TF → Bool
  | .leaf => true
  | .inner _ a _ _ s => decide (0 ≤ a.2.1) && decide (a.2.1 < 26) && vsR s
def DvP (m : SM) (y : Int) (a : Lb) (c : TF) : Prop := 100 < y ∧ m y (-1) = 24 ∧ m y 0 = a.2.2 ∧ m (m y 3) (-1) = 13 ∧ (VsF m c (m y 3) 0 ∧ vsR c = true) ∧
  ((a.1 = 11 ∧ m y 1 = 0 ∧ m y 2 = 0 ∧ c = .leaf) ∨ (a.1 = 12 ∧ m y 1 ≠ 0 ∧ NP m (m y 1) ∧ Lit m (m y 1) (-14) a.2.1 ∧ m y 2 = 0 ∧ c = .leaf) ∨ (a.1 = 13 ∧ m y 1 = 0 ∧ m y 2 = a.2.1 + 65 ∧ 0 ≤ a.2.1 ∧ a.2.1 < 26))
def DvF (m : SM) : TF → Nat → Int → Int → Prop
  | .leaf, _, l, i => m l (-2) = i
  | .inner _ a _ c s, 0, l, i => DvH m (m l i) a ∧ DvF m c (if a.1 = 8 then 2 else 0) (if a.1 = 8 then m l i else m (m l i) 4) 0 ∧ DvF m s 0 l (i + 1)
  | .inner _ a _ c s, 1, l, i => DvP m (m l i) a c ∧ DvF m s 3 l i
  | .inner _ a _ c s, 2, x, _ => DvH m (m (m x 4) 0) a ∧ m (m x 4) (-2) = 1 ∧ DvF m c (if a.1 = 8 then 2 else 0) (if a.1 = 8 then m (m x 4) 0 else m (m (m x 4) 0) 4) 0 ∧ DvF m s 1 (m x 5) 0
  | .inner _ a _ c s, _, l, i => DvH m (m (m l i) 4) a ∧ DvF m c (if a.1 = 8 then 2 else 0) (if a.1 = 8 then m (m l i) 4 else m (m (m l i) 4) 4) 0 ∧ DvF m s 1 l (i + 1)
def DvT (m : SM) (v : Int) (nd : Lb × TF) : Prop := DvH m v nd.1 ∧ DvF m nd.2 (if nd.1.1 = 8 then 2 else 0) (if nd.1.1 = 8 then v else m v 4) 0
def Fdv (m m' : SM) : Prop := (∀ z f, ((m z (-1) = 4 ∧ (z = 14 ∨ z = 15 ∨ 100 < z)) ∨ m z (-1) = 13 ∨ m z (-1) = 23 ∨ m z (-1) = 24 ∨ (NP m z ∧ m z (-1) = 11 ∧ m z 0 ≠ -18)) → m' z f = m z f) ∧ ∀ z, NP m z → NP m' z
theorem DvH.fd {m m' : SM} (g : Fdv m m') {x : Int} {a : Lb} (h : DvH m x a) : DvH m' x a := by
  obtain ⟨h1, h2, h3, h4, h5, h6⟩ := h
  have ex : ∀ f, m' x f = m x f := fun f => g.1 x f (Or.inr (Or.inr (Or.inl h2)))
  have e4 : ∀ f, m' (m x 4) f = m (m x 4) f := fun f => g.1 _ f (Or.inl ⟨h4.1, by omega⟩)
  have e5 : ∀ f, m' (m x 5) f = m (m x 5) f := fun f => g.1 _ f (Or.inl ⟨h5.1, by omega⟩)
  unfold DvH
  simp only [ex, e4, e5]
  refine ⟨h1, h2, h3, h4, h5, ?_⟩
  rcases h6 with h | ⟨q1, q2, q3, q4⟩ | h
  · exact Or.inl h
  · refine Or.inr (Or.inl ⟨q1, q2, g.2 _ q3, ?_⟩)
    have e : ∀ f, m' (m x 3) f = m (m x 3) f := fun f => g.1 _ f (Or.inr (Or.inr (Or.inr (Or.inr ⟨q3, q4.1, by rw [q4.2.1]; decide⟩))))
    unfold Lit; rw [e, e, e, e, e]; exact q4
  · exact Or.inr (Or.inr h)
theorem DvP.fd {m m' : SM} (g : Fdv m m') {y : Int} {a : Lb} {t : TF} (h : DvP m y a t) : DvP m' y a t := by
  obtain ⟨h1, h2, h3, h4, h5, h6⟩ := h
  have ex : ∀ f, m' y f = m y f := fun f => g.1 y f (Or.inr (Or.inr (Or.inr (Or.inl h2))))
  have e3 : ∀ f, m' (m y 3) f = m (m y 3) f := fun f => g.1 _ f (Or.inr (Or.inl h4))
  unfold DvP
  simp only [ex, e3]
  refine ⟨h1, h2, h3, h4, ⟨VsF.ext e3 t h5.1, h5.2⟩, ?_⟩
  rcases h6 with h | ⟨q1, q0, q2, q3, q4⟩ | h
  · exact Or.inl h
  · refine Or.inr (Or.inl ⟨q1, q0, g.2 _ q2, ?_, q4⟩)
    have e : ∀ f, m' (m y 1) f = m (m y 1) f := fun f => g.1 _ f (Or.inr (Or.inr (Or.inr (Or.inr ⟨q2, q3.1, by rw [q3.2.1]; decide⟩))))
    unfold Lit; rw [e, e, e, e, e]; exact q3
  · exact Or.inr (Or.inr h)
theorem DvF.fd {m m' : SM} (g : Fdv m m') : ∀ (t : TF) (k : Nat) {l i : Int}, (k = 2 → m l (-1) = 23 ∧ (m (m l 4) (-1) = 4 ∧ (m l 4 = 14 ∨ m l 4 = 15 ∨ 100 < m l 4)) ∧ (m (m l 5) (-1) = 4 ∧ (m l 5 = 14 ∨ m l 5 = 15 ∨ 100 < m l 5))) → (k ≠ 2 → m l (-1) = 4 ∧ (l = 14 ∨ l = 15 ∨ 100 < l)) → (3 ≤ k → m (m l i) (-1) = 24) → DvF m t k l i → DvF m' t k l i
  | .leaf, k, l, i, h2, h4, _, h => by
    unfold DvF at h ⊢
    rw [g.1 l _ (by by_cases e : k = 2
                    · exact Or.inr (Or.inr (Or.inl (h2 e).1))
                    · exact Or.inl (h4 e))]
    exact h
  | .inner _ a _ c s, k, l, i, h2, h4, h3, h => by
    have ch : ∀ z, DvH m z a → DvF m c (if a.1 = 8 then 2 else 0) (if a.1 = 8 then z else m z 4) 0 → DvF m' c (if a.1 = 8 then 2 else 0) (if a.1 = 8 then z else m' z 4) 0 := by
      intro z hz hc
      by_cases e : a.1 = 8
      · simp only [if_pos e] at hc ⊢
        exact DvF.fd g c 2 (fun _ => ⟨hz.2.1, ⟨hz.2.2.2.1.1, by have := hz.2.2.2.1.2; omega⟩, ⟨hz.2.2.2.2.1.1, by have := hz.2.2.2.2.1.2; omega⟩⟩) (fun q => absurd rfl q) (fun q => absurd q (by omega)) hc
      · simp only [if_neg e] at hc ⊢
        rw [g.1 z 4 (Or.inr (Or.inr (Or.inl hz.2.1)))]
        exact DvF.fd g c 0 (fun q => nomatch q) (fun _ => ⟨hz.2.2.2.1.1, by have := hz.2.2.2.1.2; omega⟩) (fun q => absurd q (by omega)) hc
    match k, h2, h4, h3, h with
    | 0, h2, h4, h3, h =>
      have hl := h4 (by decide)
      obtain ⟨q1, q2, q3⟩ := h
      show DvH m' (m' l i) a ∧ DvF m' c (if a.1 = 8 then 2 else 0) (if a.1 = 8 then m' l i else m' (m' l i) 4) 0 ∧ DvF m' s 0 l (i + 1)
      rw [g.1 l i (Or.inl hl)]
      exact ⟨q1.fd g, ch _ q1 q2, DvF.fd g s 0 (fun q => nomatch q) (fun _ => hl) (fun q => absurd q (by omega)) q3⟩
    | 1, h2, h4, h3, h =>
      have hl := h4 (by decide)
      obtain ⟨q1, q2⟩ := h
      show DvP m' (m' l i) a c ∧ DvF m' s 3 l i
      rw [g.1 l i (Or.inl hl)]
      exact ⟨q1.fd g, DvF.fd g s 3 (fun q => absurd q (by omega)) (fun _ => hl) (fun _ => q1.2.1) q2⟩
    | 2, h2, h4, h3, h =>
      obtain ⟨t1, t2, t3⟩ := h2 rfl
      obtain ⟨q1, q2, q3, q4⟩ := h
      show DvH m' (m' (m' l 4) 0) a ∧ m' (m' l 4) (-2) = 1 ∧ DvF m' c (if a.1 = 8 then 2 else 0) (if a.1 = 8 then m' (m' l 4) 0 else m' (m' (m' l 4) 0) 4) 0 ∧ DvF m' s 1 (m' l 5) 0
      rw [g.1 l 4 (Or.inr (Or.inr (Or.inl t1))), g.1 l 5 (Or.inr (Or.inr (Or.inl t1))), g.1 (m l 4) 0 (Or.inl t2), g.1 (m l 4) (-2) (Or.inl t2)]
      exact ⟨q1.fd g, q2, ch _ q1 q3, DvF.fd g s 1 (fun q => absurd q (by omega)) (fun _ => t3) (fun q => absurd q (by omega)) q4⟩
    | k + 3, h2, h4, h3, h =>
      have hl := h4 (by omega)
      have hy := h3 (by omega)
      obtain ⟨q1, q2, q3⟩ := h
      show DvH m' (m' (m' l i) 4) a ∧ DvF m' c (if a.1 = 8 then 2 else 0) (if a.1 = 8 then m' (m' l i) 4 else m' (m' (m' l i) 4) 4) 0 ∧ DvF m' s 1 l (i + 1)
      rw [g.1 l i (Or.inl hl), g.1 (m l i) 4 (Or.inr (Or.inr (Or.inr (Or.inl hy))))]
      exact ⟨q1.fd g, ch _ q1 q2, DvF.fd g s 1 (fun q => absurd q (by omega)) (fun _ => hl) (fun q => absurd q (by omega)) q3⟩
theorem DvT.fd {m m' : SM} {v : Int} {nd : Lb × TF} (g : Fdv m m') (h : DvT m v nd) : DvT m' v nd := by
  obtain ⟨hz, hc⟩ := h
  refine ⟨hz.fd g, ?_⟩
  by_cases e : nd.1.1 = 8
  · simp only [if_pos e] at hc ⊢
    exact DvF.fd g nd.2 2 (fun _ => ⟨hz.2.1, ⟨hz.2.2.2.1.1, by have := hz.2.2.2.1.2; omega⟩, ⟨hz.2.2.2.2.1.1, by have := hz.2.2.2.2.1.2; omega⟩⟩) (fun q => absurd rfl q) (fun q => absurd q (by omega)) hc
  · simp only [if_neg e] at hc ⊢
    rw [g.1 v 4 (Or.inr (Or.inr (Or.inl hz.2.1)))]
    exact DvF.fd g nd.2 0 (fun q => nomatch q) (fun _ => ⟨hz.2.2.2.1.1, by have := hz.2.2.2.1.2; omega⟩) (fun q => absurd q (by omega)) hc
