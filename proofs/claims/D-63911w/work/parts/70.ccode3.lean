/-! L3, component: programs' objects stay -/
def Fc (m m' : SM) : Prop := ∀ z f, (m z (-1) = 4 ∨ m z (-1) = 11 ∨ m z (-1) = 13 ∨ m z (-1) = 23 ∨ m z (-1) = 24) → m' z f = m z f
section CK
variable {m m' : SM} {b c n : Int}
theorem Go.fc (g : Go 11 c n m m') (K : KI m) : Fc m m' := fun z f h => by
  have h8 := K8_t K
  have h11 := K11_t K
  have h : z ≠ 11 ∧ z ≠ 8 ∧ m z (-1) ≠ 0 := by
    refine ⟨fun e => ?_, fun e => ?_, by omega⟩
    · rw [e] at h; omega
    · rw [e] at h; omega
  exact g.1 z f h.2.2 h.1 h.1 (fun e => h.2.1 e.1)
theorem VsF.fc (g : Fc m m') : ∀ (t : TF) {x i : Int}, m x (-1) = 13 → VsF m t x i → VsF m' t x i
  | .leaf, x, i, hx, h => by
    unfold VsF at h ⊢
    rw [g x _ (by omega)]; exact h
  | .inner _ a _ _ s, x, i, hx, h => by
    unfold VsF at h ⊢
    rw [g x _ (by omega)]
    exact ⟨h.1, VsF.fc g s hx h.2⟩
theorem Lit.fc (g : Fc m m') {v x y : Int} (h : Lit m v x y) : Lit m' v x y := by
  have e : ∀ f, m' v f = m v f := fun f => g v f (by have := h.1; omega)
  unfold Lit; rw [e, e, e, e, e]; exact h
theorem CdH.fc (g : Fc m m') {x : Int} {a : Lb} (h : CdH m b x a) : CdH m' b x a := by
  obtain ⟨h1, h2, h3, h4, h5, h6⟩ := h
  have ex : ∀ f, m' x f = m x f := fun f => g x f (by omega)
  have e4 : ∀ f, m' (m x 4) f = m (m x 4) f := fun f => g _ f (by omega)
  have e5 : ∀ f, m' (m x 5) f = m (m x 5) f := fun f => g _ f (by omega)
  unfold CdH
  simp only [ex, e4, e5]
  refine ⟨h1, h2, h3, h4, h5, ?_⟩
  rcases h6 with h | ⟨q1, q2, q3, q4⟩ | h
  · exact Or.inl h
  · exact Or.inr (Or.inl ⟨q1, q2, q3, q4.fc g⟩)
  · exact Or.inr (Or.inr h)
theorem PtH.fc (g : Fc m m') {y : Int} {a : Lb} {t : TF} (h : PtH m b y a t) : PtH m' b y a t := by
  obtain ⟨h1, h2, h3, h4, h5, h6⟩ := h
  have ex : ∀ f, m' y f = m y f := fun f => g y f (by omega)
  have e3 : ∀ f, m' (m y 3) f = m (m y 3) f := fun f => g _ f (by omega)
  unfold PtH
  simp only [ex, e3]
  refine ⟨h1, h2, h3, h4, VsF.fc g t h4 h5, ?_⟩
  rcases h6 with h | ⟨q1, q2, q3, q4⟩ | h
  · exact Or.inl h
  · exact Or.inr (Or.inl ⟨q1, q2, q3.fc g, q4⟩)
  · exact Or.inr (Or.inr h)
end CK
