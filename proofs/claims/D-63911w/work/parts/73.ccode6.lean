/-! L3, component: programs' forests, smaller bounds; leaves -/
section CN
variable {m m' : SM} {a b c n : Int} {G : GM} {d : Nat} {P : Nat → Int → SM → Prop} {s : List Int} {p : Int}
theorem PtH.mono {b' y : Int} {q : Lb} {t : TF} (hb : b' ≤ b) (h : PtH m b y q t) : PtH m b' y q t := by
  obtain ⟨h1, h2, h3, h4, h5, h6⟩ := h
  refine ⟨by omega, h2, h3, h4, h5, ?_⟩
  rcases h6 with h | ⟨q1, q2, q3, q4⟩ | h
  · exact Or.inl h
  · exact Or.inr (Or.inl ⟨q1, by omega, q3, q4⟩)
  · exact Or.inr (Or.inr h)
theorem CdF.mono {b' : Int} (hb : b' ≤ b) : ∀ (t : TF) (k : Nat) {l i : Int}, CdF m b t k l i → CdF m b' t k l i
  | .leaf, _, _, _, h => h
  | .inner _ q _ c s, 0, l, i, h => ⟨h.1.mono hb, CdF.mono hb c _ h.2.1, CdF.mono hb s 0 h.2.2⟩
  | .inner _ q _ c s, 1, l, i, h => ⟨h.1.mono hb, CdF.mono hb s 3 h.2⟩
  | .inner _ q _ c s, 2, l, i, h => ⟨h.1.mono hb, h.2.1, CdF.mono hb c _ h.2.2.1, CdF.mono hb s 1 h.2.2.2⟩
  | .inner _ q _ c s, k + 3, l, i, h => ⟨h.1.mono hb, CdF.mono hb c _ h.2.1, CdF.mono hb s 1 h.2.2⟩
theorem CdT.mono {b' v : Int} {nd : Lb × TF} (hb : b' ≤ b) (h : CdT b m v nd) : CdT b' m v nd := ⟨h.1.mono hb, CdF.mono hb _ _ h.2⟩
theorem CdT.fa {v : Int} {nd : Lb × TF} (g : Fa a m m') (ht : m a (-1) = 4) (ha : a < b) (h14 : a ≠ 14) (h15 : a ≠ 15) (h : CdT b m v nd) : CdT b m' v nd := by
  obtain ⟨hz, hc⟩ := h
  have z4 := hz.2.2.2.1
  have z5 := hz.2.2.2.2.1
  refine ⟨hz.fa g ht ha h14 h15, ?_⟩
  by_cases e : nd.1.1 = 8
  · simp only [if_pos e] at hc ⊢
    exact CdF.fa g ht ha h14 h15 nd.2 2 (fun _ => ⟨hz.2.1, z4.1, z5.1, by omega, by omega⟩) (fun q => absurd rfl q) (fun q => absurd q (by omega)) hc
  · simp only [if_neg e] at hc ⊢
    rw [g v 4 (by have := hz.2.1; omega) (by have := hz.1; omega)]
    exact CdF.fa g ht ha h14 h15 nd.2 0 (fun q => nomatch q) (fun _ => ⟨z4.1, by omega⟩) (fun q => absurd q (by omega)) hc
end CN
