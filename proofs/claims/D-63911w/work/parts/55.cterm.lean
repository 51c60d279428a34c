/-! L3, component: terms as the reader makes them -/
def TmH (m : SM) (b x : Int) (a : Lb) : Prop := b ≤ x ∧ m x (-1) = 14 ∧ m x 1 = a.2.2 ∧ m (m x 4) (-1) = 4 ∧ (m x 4 = 13 ∨ b ≤ m x 4) ∧
  ((a.1 = 1 ∧ m x 0 = -10 ∧ m x 2 = a.2.1 + 97) ∨ (a.1 = 2 ∧ m x 0 = -11 ∧ b ≤ m x 3 ∧ Lit m (m x 3) (-14) a.2.1) ∨ (a.1 = 3 ∧ m x 0 = -11 ∧ b ≤ m x 3 ∧ Lit m (m x 3) (-16) 0) ∨ (a.1 = 4 ∧ m x 0 = -12) ∨ (a.1 = 5 ∧ m x 0 = -13 ∧ m x 2 = a.2.1 + 65))
/-- the list's elements from i on are the forest -/
def TmF (m : SM) (b : Int) : TF → Int → Int → Prop
  | .leaf, l, i => m l (-2) = i
  | .inner _ a _ c s, l, i => TmH m b (m l i) a ∧ TmF m b c (m (m l i) 4) 0 ∧ TmF m b s l (i + 1)
section CT
variable {m m' : SM} {a b c n : Int}
theorem Go.cell (g : Go a c n m m') (K : KI m) {z f : Int} (hz : m z (-1) = 4 ∨ m z (-1) = 14 ∨ m z (-1) = 11) (ha : z ≠ a) : m' z f = m z f := by
  have h8 := K8_t K
  have h11 := K11_t K
  refine g.1 z f (by omega) ha (fun e => ?_) (fun e => ?_)
  · rw [e] at hz; omega
  · rw [e.1] at hz; omega
theorem TmH.fr (g : Go a c n m m') (K : KI m) (ha : a < b) (h13 : a ≠ 13) {x : Int} {t : Lb} (h : TmH m b x t) : TmH m' b x t := by
  obtain ⟨h1, h2, h3, h4, h5, h6⟩ := h
  have ex : ∀ f, m' x f = m x f := fun f => g.cell K (by omega) (by omega)
  have el : ∀ f, m' (m x 4) f = m (m x 4) f := fun f => g.cell K (by omega) (by omega)
  unfold TmH
  rw [ex, ex, ex, ex, ex, ex, el]
  refine ⟨h1, h2, h3, h4, h5, ?_⟩
  rcases h6 with h | ⟨q1, q2, q3, q4⟩ | ⟨q1, q2, q3, q4⟩ | h | h
  · exact Or.inl h
  · refine Or.inr (Or.inl ⟨q1, q2, q3, ?_⟩)
    have e3 : ∀ f, m' (m x 3) f = m (m x 3) f := fun f => g.cell K (by have := q4.1; omega) (by omega)
    unfold Lit; rw [e3, e3, e3, e3, e3]; exact q4
  · refine Or.inr (Or.inr (Or.inl ⟨q1, q2, q3, ?_⟩))
    have e3 : ∀ f, m' (m x 3) f = m (m x 3) f := fun f => g.cell K (by have := q4.1; omega) (by omega)
    unfold Lit; rw [e3, e3, e3, e3, e3]; exact q4
  · exact Or.inr (Or.inr (Or.inr (Or.inl h)))
  · exact Or.inr (Or.inr (Or.inr (Or.inr h)))
theorem TmF.fr (g : Go a c n m m') (K : KI m) (ha : a < b) (h13 : a ≠ 13) : ∀ (t : TF) {l i : Int}, m l (-1) = 4 → l ≠ a → TmF m b t l i → TmF m' b t l i
  | .leaf, l, i, hl, hn, h => by
    unfold TmF at h ⊢
    rw [g.cell K (by omega) hn]; exact h
  | .inner _ t _ cs s, l, i, hl, hn, h => by
    unfold TmF at h ⊢
    obtain ⟨h1, h2, h3⟩ := h
    have e1 : m' l i = m l i := g.cell K (by omega) hn
    have e2 : m' (m l i) 4 = m (m l i) 4 := g.cell K (by have := h1.2.1; omega) (by have := h1.1; omega)
    rw [e1, e2]
    exact ⟨h1.fr g K ha h13, TmF.fr g K ha h13 cs h1.2.2.2.1 (by have := h1.2.2.2.2.1; omega) h2, TmF.fr g K ha h13 s hl hn h3⟩
theorem TmH.mono {b' x : Int} {t : Lb} (hb : b' ≤ b) (h : TmH m b x t) : TmH m b' x t := by
  obtain ⟨h1, h2, h3, h4, h5, h6⟩ := h
  refine ⟨by omega, h2, h3, h4, by omega, ?_⟩
  rcases h6 with h | ⟨q1, q2, q3, q4⟩ | ⟨q1, q2, q3, q4⟩ | h | h
  · exact Or.inl h
  · exact Or.inr (Or.inl ⟨q1, q2, by omega, q4⟩)
  · exact Or.inr (Or.inr (Or.inl ⟨q1, q2, by omega, q4⟩))
  · exact Or.inr (Or.inr (Or.inr (Or.inl h)))
  · exact Or.inr (Or.inr (Or.inr (Or.inr h)))
theorem TmF.mono {b' : Int} (hb : b' ≤ b) : ∀ (t : TF) {l i : Int}, TmF m b t l i → TmF m b' t l i
  | .leaf, _, _, h => h
  | .inner _ t _ cs s, l, i, h => ⟨h.1.mono hb, TmF.mono hb cs h.2.1, TmF.mono hb s h.2.2⟩
/-- how reading may end -/
def Out {α : Type} (m : SM) (L : Int) (r : RR α) (T : SM → Int → α → Prop) (P : Nat → Int → SM → Prop) : Prop := match r with
  | .inl e => ∀ m' v, Go 11 (60 * L + 60) (250 * L + 250) m m' → m' 8 5 = e → m' v (-1) = 12 → P 1 v m'
  | .inr (x, s', p') => ∀ m' v, Go 11 (60 * (L - s'.length)) (250 * (L - s'.length)) m m' → Rd m' s' p' → T m' v x → P 0 v m'
def Bud (m : SM) (s : List Int) : Prop := m 0 0 + 60 * s.length + 100 ≤ 1203100 ∧ m 0 1 + 250 * s.length + 400 ≤ 5491000
def TmT (b : Int) (m : SM) (v : Int) (nd : Lb × TF) : Prop := TmH m b v nd.1 ∧ TmF m b nd.2 (m v 4) 0
variable {G : GM} {d : Nat} {P : Nat → Int → SM → Prop} {s : List Int} {p : Int}
theorem q_i14 (K : KI m) (hd : 12 ≤ d) {x a1 a2 a3 a4 a5 : Int} (hx : x ≠ 0) (ht : m x (-1) = 14) (h3 : 0 ≤ a3 ∧ a3 ≤ 65535) (k : ∀ m', (∀ z, z ≠ x → m' z = m z) → m' x (-1) = 14 → m' x 0 = a1 → m' x 1 = a2 → m' x 2 = a3 → m' x 3 = a4 → m' x 4 = a5 → Ok m m' → P 0 0 m') : WV G mX11_init 0 [(1, x), (1, a1), (0, a2), (0, a3), (1, a4), (1, a5)] [] m d P := by
  refine wX11_init K hd ⟨hx, ht, fun m1 e1 o1 m2 e2 o2 => ⟨h3, fun m3 e3 o3 m4 e4 o4 m5 e5 o5 => ?_⟩⟩
  have E : ∀ z f, m5 z f = if z = x ∧ f = 4 then a5 else if z = x ∧ f = 3 then a4 else if z = x ∧ f = 2 then a3 else if z = x ∧ f = 1 then a2 else if z = x ∧ f = 0 then a1 else m z f := fun z f => by rw [e5, e4, e3, e2, e1]; rfl
  refine k m5 (fun z hz => ?_) ?_ ?_ ?_ ?_ ?_ ?_ (o1.trans (o2.trans (o3.trans (o4.trans o5))))
  · funext f; rw [E]; simp [hz]
  · rw [E]; simp [ht]
  all_goals (rw [E]; simp)
theorem leafT (K : KI m) (hd : 12 ≤ d) (h13 : m 13 (-2) = 0) (R : Rd m s p) (h0 : hdC s ≠ 0) {m1 : SM} (g : Go 11 c n m m1) (hc : c ≤ 60) (hn : n ≤ 250) {x a1 a3 a4 : Int} (hx : m x (-1) = 0) (x0 : x ≠ 0) (hb : m 0 0 ≤ x) (t1 : m1 x (-1) = 14) (e1 : m1 8 5 = p + 1) (h3 : 0 ≤ a3 ∧ a3 ≤ 65535) {t : Lb} (hp : t.2.2 = p)
    (hv : (t.1 = 1 ∧ a1 = -10 ∧ a3 = t.2.1 + 97) ∨ (t.1 = 2 ∧ a1 = -11 ∧ m 0 0 ≤ a4 ∧ Lit m1 a4 (-14) t.2.1) ∨ (t.1 = 3 ∧ a1 = -11 ∧ m 0 0 ≤ a4 ∧ Lit m1 a4 (-16) 0) ∨ (t.1 = 4 ∧ a1 = -12) ∨ (t.1 = 5 ∧ a1 = -13 ∧ a3 = t.2.1 + 65))
    (k : ∀ m' v, Go 11 60 250 m m' → Rd m' s.tail (p + 1) → TmT (m 0 0) m' v (t, nil) → P 0 v m') : WV G mX11_init 0 [(1, x), (1, a1), (0, p), (0, a3), (1, a4), (1, 13)] [] m1 d (fun k _ m' => k = 0 ∧ Ok m1 m' ∧ P 0 x m') := by
  refine q_i14 (g.ki K) hd x0 t1 h3 (fun m' e' f9 f0 f1 f2 f3 f4 o' => ⟨rfl, o', ?_⟩)
  have n13 : (13 : Int) ≠ x := fun e => by rw [← e, K13_t K] at hx; cases hx
  have n8 : (8 : Int) ≠ x := fun e => by rw [← e, K8_t K] at hx; cases hx
  have g' := g.fr hx x0 e' o'
  have r13 : ∀ f, m' 13 f = m 13 f := fun f => g'.cell K (by have := K13_t K; omega) (by decide)
  have R' := R.next K h0 g' (by decide) (by rw [e' 8 n8]; exact e1)
  refine k m' x (g'.le hc hn) R'.1 ⟨⟨hb, f9, by rw [f1, hp], by rw [f4, r13]; exact K13_t K, Or.inl f4, ?_⟩, ?_⟩
  · dsimp only
    rw [f0, f2, f3]
    have lit : ∀ s n, Lit m1 a4 s n → Lit m' a4 s n := fun s n h => by
      have : a4 ≠ x := fun e => by rw [e] at h; have := h.1; omega
      unfold Lit; rw [e' a4 this]; exact h
    rcases hv with h | ⟨q1, q2, q3, q4⟩ | ⟨q1, q2, q3, q4⟩ | h | h
    · exact Or.inl h
    · exact Or.inr (Or.inl ⟨q1, q2, q3, lit _ _ q4⟩)
    · exact Or.inr (Or.inr (Or.inl ⟨q1, q2, q3, lit _ _ q4⟩))
    · exact Or.inr (Or.inr (Or.inr (Or.inl h)))
    · exact Or.inr (Or.inr (Or.inr (Or.inr h)))
  · show TmF m' (m 0 0) .leaf (m' x 4) 0
    unfold TmF
    rw [f4, r13]; exact h13
end CT
