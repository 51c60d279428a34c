/-! L3, component: programs' forests stay -/
theorem CdF.fc {m m' : SM} {b : Int} (g : Fc m m') : ∀ (t : TF) (k : Nat) {l i : Int}, (k = 2 → m l (-1) = 23 ∧ m (m l 4) (-1) = 4 ∧ m (m l 5) (-1) = 4) → (k ≠ 2 → m l (-1) = 4) → (3 ≤ k → m (m l i) (-1) = 24) → CdF m b t k l i → CdF m' b t k l i
  | .leaf, k, l, i, h2, h4, _, h => by
    unfold CdF at h ⊢
    rw [g l _ (by by_cases e : k = 2
                  · have := (h2 e).1; omega
                  · have := h4 e; omega)]
    exact h
  | .inner _ a _ c s, k, l, i, h2, h4, h3, h => by
    have ch : ∀ z, CdH m b z a → CdF m b c (if a.1 = 8 then 2 else 0) (if a.1 = 8 then z else m z 4) 0 → CdF m' b c (if a.1 = 8 then 2 else 0) (if a.1 = 8 then z else m' z 4) 0 := by
      intro z hz hc
      by_cases e : a.1 = 8
      · simp only [if_pos e] at hc ⊢
        exact CdF.fc g c 2 (fun _ => ⟨hz.2.1, hz.2.2.2.1.1, hz.2.2.2.2.1.1⟩) (fun q => absurd rfl q) (fun q => absurd q (by omega)) hc
      · simp only [if_neg e] at hc ⊢
        rw [g z 4 (by have := hz.2.1; omega)]
        exact CdF.fc g c 0 (fun q => nomatch q) (fun _ => hz.2.2.2.1.1) (fun q => absurd q (by omega)) hc
    match k, h2, h4, h3, h with
    | 0, h2, h4, h3, h =>
      have hl := h4 (by decide)
      obtain ⟨q1, q2, q3⟩ := h
      show CdH m' b (m' l i) a ∧ CdF m' b c (if a.1 = 8 then 2 else 0) (if a.1 = 8 then m' l i else m' (m' l i) 4) 0 ∧ CdF m' b s 0 l (i + 1)
      rw [g l i (by omega)]
      exact ⟨q1.fc g, ch _ q1 q2, CdF.fc g s 0 (fun q => nomatch q) (fun _ => hl) (fun q => absurd q (by omega)) q3⟩
    | 1, h2, h4, h3, h =>
      have hl := h4 (by decide)
      obtain ⟨q1, q2⟩ := h
      show PtH m' b (m' l i) a c ∧ CdF m' b s 3 l i
      rw [g l i (by omega)]
      exact ⟨q1.fc g, CdF.fc g s 3 (fun q => absurd q (by omega)) (fun _ => hl) (fun _ => q1.2.1) q2⟩
    | 2, h2, h4, h3, h =>
      obtain ⟨t1, t2, t3⟩ := h2 rfl
      obtain ⟨q1, q2, q3, q4⟩ := h
      show CdH m' b (m' (m' l 4) 0) a ∧ m' (m' l 4) (-2) = 1 ∧ CdF m' b c (if a.1 = 8 then 2 else 0) (if a.1 = 8 then m' (m' l 4) 0 else m' (m' (m' l 4) 0) 4) 0 ∧ CdF m' b s 1 (m' l 5) 0
      rw [g l 4 (by omega), g l 5 (by omega), g (m l 4) 0 (by omega), g (m l 4) (-2) (by omega)]
      exact ⟨q1.fc g, q2, ch _ q1 q3, CdF.fc g s 1 (fun q => absurd q (by omega)) (fun _ => t3) (fun q => absurd q (by omega)) q4⟩
    | k + 3, h2, h4, h3, h =>
      have hl := h4 (by omega)
      have hy := h3 (by omega)
      obtain ⟨q1, q2, q3⟩ := h
      show CdH m' b (m' (m' l i) 4) a ∧ CdF m' b c (if a.1 = 8 then 2 else 0) (if a.1 = 8 then m' (m' l i) 4 else m' (m' (m' l i) 4) 4) 0 ∧ CdF m' b s 1 l (i + 1)
      rw [g l i (by omega), g (m l i) 4 (by omega)]
      exact ⟨q1.fc g, ch _ q1 q2, CdF.fc g s 1 (fun q => absurd q (by omega)) (fun _ => hl) (fun q => absurd q (by omega)) q3⟩
theorem CdT.fc {m m' : SM} {b v : Int} {nd : Lb × TF} (g : Fc m m') (h : CdT b m v nd) : CdT b m' v nd := by
  obtain ⟨hz, hc⟩ := h
  refine ⟨hz.fc g, ?_⟩
  by_cases e : nd.1.1 = 8
  · simp only [if_pos e] at hc ⊢
    exact CdF.fc g nd.2 2 (fun _ => ⟨hz.2.1, hz.2.2.2.1.1, hz.2.2.2.2.1.1⟩) (fun q => absurd rfl q) (fun q => absurd q (by omega)) hc
  · simp only [if_neg e] at hc ⊢
    rw [g v 4 (by have := hz.2.1; omega)]
    exact CdF.fc g nd.2 0 (fun q => nomatch q) (fun _ => hz.2.2.2.1.1) (fun q => absurd q (by omega)) hc
