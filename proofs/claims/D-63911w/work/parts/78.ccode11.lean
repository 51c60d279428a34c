/-! L3, component: programs' forests stay while an older cell a is written -/
theorem VsF.ext {m m' : SM} {x : Int} (e : ∀ f, m' x f = m x f) : ∀ (t : TF) {i : Int}, VsF m t x i → VsF m' t x i
  | .leaf, i, h => by unfold VsF at h ⊢; rw [e]; exact h
  | .inner _ _ _ _ s, i, h => by unfold VsF at h ⊢; rw [e]; exact ⟨h.1, VsF.ext e s h.2⟩
section CM2
variable {m m' : SM} {a b c n : Int}
theorem Lit.fb (g : Fa a m m') (ht : m a (-1) ≠ 11 ∧ m a (-1) ≠ 13) {v x y : Int} (h : Lit m v x y) : Lit m' v x y := by
  have e : ∀ f, m' v f = m v f := fun f => g v f (by have := h.1; omega) (fun e => by have := h.1; rw [e] at this; omega)
  unfold Lit; rw [e, e, e, e, e]; exact h
theorem VsF.fb (g : Fa a m m') (ht : m a (-1) ≠ 11 ∧ m a (-1) ≠ 13) (t : TF) {x i : Int} (hx : m x (-1) = 13) (h : VsF m t x i) : VsF m' t x i :=
  VsF.ext (fun f => g x f (by omega) (fun e => by rw [e] at hx; omega)) t h
theorem CdH.fb (g : Fa a m m') (ht : m a (-1) ≠ 11 ∧ m a (-1) ≠ 13) (ha : a < b) (h14 : a ≠ 14) (h15 : a ≠ 15) {x : Int} {t : Lb} (h : CdH m b x t) : CdH m' b x t := by
  obtain ⟨h1, h2, h3, h4, h5, h6⟩ := h
  have ex : ∀ f, m' x f = m x f := fun f => g x f (by omega) (by omega)
  have e4 : ∀ f, m' (m x 4) f = m (m x 4) f := fun f => g _ f (by omega) (by omega)
  have e5 : ∀ f, m' (m x 5) f = m (m x 5) f := fun f => g _ f (by omega) (by omega)
  unfold CdH
  simp only [ex, e4, e5]
  refine ⟨h1, h2, h3, h4, h5, ?_⟩
  rcases h6 with h | ⟨q1, q2, q3, q4⟩ | h
  · exact Or.inl h
  · exact Or.inr (Or.inl ⟨q1, q2, q3, q4.fb g ht⟩)
  · exact Or.inr (Or.inr h)
theorem PtH.fb (g : Fa a m m') (ht : m a (-1) ≠ 11 ∧ m a (-1) ≠ 13) (ha : a < b) {y : Int} {q : Lb} {t : TF} (h : PtH m b y q t) : PtH m' b y q t := by
  obtain ⟨h1, h2, h3, h4, h5, h6⟩ := h
  have ex : ∀ f, m' y f = m y f := fun f => g y f (by omega) (by omega)
  have e3 : ∀ f, m' (m y 3) f = m (m y 3) f := fun f => g _ f (by omega) (fun e => by rw [e] at h4; omega)
  unfold PtH
  simp only [ex, e3]
  refine ⟨h1, h2, h3, h4, VsF.fb g ht t h4 h5, ?_⟩
  rcases h6 with h | ⟨q1, q2, q3, q4⟩ | h
  · exact Or.inl h
  · exact Or.inr (Or.inl ⟨q1, q2, q3.fb g ht, q4⟩)
  · exact Or.inr (Or.inr h)
theorem CdF.fb (g : Fa a m m') (ht : m a (-1) ≠ 11 ∧ m a (-1) ≠ 13) (ha : a < b) (h14 : a ≠ 14) (h15 : a ≠ 15) : ∀ (t : TF) (k : Nat) {l i : Int}, (k = 2 → m l (-1) = 23 ∧ m (m l 4) (-1) = 4 ∧ m (m l 5) (-1) = 4 ∧ m l 4 ≠ a ∧ m l 5 ≠ a ∧ l ≠ a) → (k ≠ 2 → m l (-1) = 4 ∧ l ≠ a) → (3 ≤ k → m (m l i) (-1) = 24 ∧ m l i ≠ a) → CdF m b t k l i → CdF m' b t k l i
  | .leaf, k, l, i, h2, h4, _, h => by
    unfold CdF at h ⊢
    by_cases e : k = 2
    · have := h2 e
      rw [g l _ (by omega) this.2.2.2.2.2]; exact h
    · have := h4 e
      rw [g l _ (by omega) this.2]; exact h
  | .inner _ q _ c s, k, l, i, h2, h4, h3, h => by
    have ch : ∀ z, CdH m b z q → CdF m b c (if q.1 = 8 then 2 else 0) (if q.1 = 8 then z else m z 4) 0 → CdF m' b c (if q.1 = 8 then 2 else 0) (if q.1 = 8 then z else m' z 4) 0 := by
      intro z hz hc
      have z4 := hz.2.2.2.1
      have z5 := hz.2.2.2.2.1
      by_cases e : q.1 = 8
      · simp only [if_pos e] at hc ⊢
        exact CdF.fb g ht ha h14 h15 c 2 (fun _ => ⟨hz.2.1, z4.1, z5.1, by omega, by omega, by have := hz.1; omega⟩) (fun q => absurd rfl q) (fun q => absurd q (by omega)) hc
      · simp only [if_neg e] at hc ⊢
        rw [g z 4 (by have := hz.2.1; omega) (by have := hz.1; omega)]
        exact CdF.fb g ht ha h14 h15 c 0 (fun q => nomatch q) (fun _ => ⟨z4.1, by omega⟩) (fun q => absurd q (by omega)) hc
    match k, h2, h4, h3, h with
    | 0, h2, h4, h3, h =>
      obtain ⟨hl, hn⟩ := h4 (by decide)
      obtain ⟨q1, q2, q3⟩ := h
      show CdH m' b (m' l i) q ∧ CdF m' b c (if q.1 = 8 then 2 else 0) (if q.1 = 8 then m' l i else m' (m' l i) 4) 0 ∧ CdF m' b s 0 l (i + 1)
      rw [g l i (by omega) hn]
      exact ⟨q1.fb g ht ha h14 h15, ch _ q1 q2, CdF.fb g ht ha h14 h15 s 0 (fun q => nomatch q) (fun _ => ⟨hl, hn⟩) (fun q => absurd q (by omega)) q3⟩
    | 1, h2, h4, h3, h =>
      obtain ⟨hl, hn⟩ := h4 (by decide)
      obtain ⟨q1, q2⟩ := h
      show PtH m' b (m' l i) q c ∧ CdF m' b s 3 l i
      rw [g l i (by omega) hn]
      exact ⟨q1.fb g ht ha, CdF.fb g ht ha h14 h15 s 3 (fun q => absurd q (by omega)) (fun _ => ⟨hl, hn⟩) (fun _ => ⟨q1.2.1, by have := q1.1; omega⟩) q2⟩
    | 2, h2, h4, h3, h =>
      obtain ⟨t1, t2, t3, t4, t5, hn⟩ := h2 rfl
      obtain ⟨q1, q2, q3, q4⟩ := h
      show CdH m' b (m' (m' l 4) 0) q ∧ m' (m' l 4) (-2) = 1 ∧ CdF m' b c (if q.1 = 8 then 2 else 0) (if q.1 = 8 then m' (m' l 4) 0 else m' (m' (m' l 4) 0) 4) 0 ∧ CdF m' b s 1 (m' l 5) 0
      rw [g l 4 (by omega) hn, g l 5 (by omega) hn, g (m l 4) 0 (by omega) t4, g (m l 4) (-2) (by omega) t4]
      exact ⟨q1.fb g ht ha h14 h15, q2, ch _ q1 q3, CdF.fb g ht ha h14 h15 s 1 (fun q => absurd q (by omega)) (fun _ => ⟨t3, t5⟩) (fun q => absurd q (by omega)) q4⟩
    | k + 3, h2, h4, h3, h =>
      obtain ⟨hl, hn⟩ := h4 (by omega)
      have hy := h3 (by omega)
      obtain ⟨q1, q2, q3⟩ := h
      show CdH m' b (m' (m' l i) 4) q ∧ CdF m' b c (if q.1 = 8 then 2 else 0) (if q.1 = 8 then m' (m' l i) 4 else m' (m' (m' l i) 4) 4) 0 ∧ CdF m' b s 1 l (i + 1)
      rw [g l i (by omega) hn, g (m l i) 4 (by have := hy.1; omega) hy.2]
      exact ⟨q1.fb g ht ha h14 h15, ch _ q1 q2, CdF.fb g ht ha h14 h15 s 1 (fun q => absurd q (by omega)) (fun _ => ⟨hl, hn⟩) (fun q => absurd q (by omega)) q3⟩
theorem CdT.fb {v : Int} {nd : Lb × TF} (g : Fa a m m') (ht : m a (-1) ≠ 11 ∧ m a (-1) ≠ 13) (ha : a < b) (h14 : a ≠ 14) (h15 : a ≠ 15) (h : CdT b m v nd) : CdT b m' v nd := by
  obtain ⟨hz, hc⟩ := h
  have z4 := hz.2.2.2.1
  have z5 := hz.2.2.2.2.1
  refine ⟨hz.fb g ht ha h14 h15, ?_⟩
  by_cases e : nd.1.1 = 8
  · simp only [if_pos e] at hc ⊢
    exact CdF.fb g ht ha h14 h15 nd.2 2 (fun _ => ⟨hz.2.1, z4.1, z5.1, by omega, by omega, by have := hz.1; omega⟩) (fun q => absurd rfl q) (fun q => absurd q (by omega)) hc
  · simp only [if_neg e] at hc ⊢
    rw [g v 4 (by have := hz.2.1; omega) (by have := hz.1; omega)]
    exact CdF.fb g ht ha h14 h15 nd.2 0 (fun q => nomatch q) (fun _ => ⟨z4.1, by omega⟩) (fun q => absurd q (by omega)) hc
/-- writes to one cell -/
theorem Fa.one (e : ∀ z, z ≠ a → m' z = m z) : Fa a m m' := fun z f _ hz => by rw [e z hz]
end CM2
