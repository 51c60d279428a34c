/-! L3, component: leaves of programs -/
section CO
variable {m m1 : SM} {c n : Int} {G : GM} {d : Nat} {P : Nat → Int → SM → Prop} {s : List Int} {p : Int}
theorem leafC (K : KI m) (hd : 14 ≤ d) (h14 : m 14 (-2) = 0) (R : Rd m s p) (h0 : hdC s ≠ 0) (g : Go 11 c n m m1) (hc : c ≤ 59) (hn : n ≤ 244) (e1 : m1 8 5 = p + 1) (hb : m1 0 0 ≤ 1203200 ∧ m1 0 1 + 6 ≤ 5491882) {a1 a3 a4 : Int} (h3 : 0 ≤ a3 ∧ a3 ≤ 65535) {t : Lb} (hp : t.2.2 = p)
    (hv : (t.1 = 1 ∧ a1 = -1 ∧ a3 = t.2.1 + 97) ∨ (t.1 = 2 ∧ a1 = -2 ∧ m 0 0 ≤ a4 ∧ Lit m1 a4 (-14) t.2.1) ∨ (t.1 = 10 ∧ a1 = -9))
    (k : ∀ m' v, Go 11 60 250 m m' → Rd m' s.tail (p + 1) → CdT (m 0 0) m' v (t, nil) → P 0 v m') : WV G mX4_leaf 0 [(1, 8), (1, a1), (0, p), (0, a3), (1, a4)] [] m1 d (fun k v m' => k = 0 ∧ Ok m1 m' ∧ P 0 v m') := by
  have K1 := g.ki K
  refine v_bs (fun B => q_leaf K1 hd hb h3 (fun m' x g' e' hx f9 f0 f1 f2 f3 f4 f5 => ⟨rfl, g'.2.1, ?_⟩))
  have gg := g.trans g'
  have n0 : m1 x (-1) = 0 := by rw [hx]; exact B.2.2.1 _ (Int.le_refl _)
  have bg := g.2.2
  have e8 : m' 8 5 = p + 1 := by
    have : (8 : Int) ≠ x := fun e => by rw [← e, K8_t K1] at n0; cases n0
    rw [e' 8 this (by decide)]; exact e1
  have q : Fc m m' := gg.fc K
  have r14 : ∀ f, m' 14 f = m 14 f := fun f => q 14 f (by have := K14_t K; omega)
  have r15 : ∀ f, m' 15 f = m 15 f := fun f => q 15 f (by have := K15_t K; omega)
  have R' := R.next K h0 gg (by decide) e8
  have ht : ¬ t.1 = 8 := by rcases hv with h | h | h <;> omega
  refine k m' x (gg.le (by omega) (by omega)) R'.1 ⟨⟨by omega, f9, by rw [f1, hp], ⟨by rw [f4, r14]; exact K14_t K, Or.inl f4⟩, ⟨by rw [f5, r15]; exact K15_t K, Or.inl f5⟩, ?_⟩, ?_⟩
  · dsimp only
    rw [f0, f2, f3]
    rcases hv with h | ⟨q1, q2, q3, q4⟩ | h
    · exact Or.inl h
    · exact Or.inr (Or.inl ⟨q1, q2, q3, q4.fc (g'.fc K1)⟩)
    · exact Or.inr (Or.inr (Or.inr (Or.inr (Or.inr (Or.inr (Or.inr (Or.inr h)))))))
  · dsimp only
    rw [if_neg ht, if_neg ht, f4]
    show m' 14 (-2) = 0
    rw [r14]; exact h14
end CO
