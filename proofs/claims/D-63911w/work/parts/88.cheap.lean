/-! L3, component: the heap's pools. Pool j of the heap H: the list m H j, the first m H (j + 3) of it being used -/
def PIj (m : SM) (H j tg B : Int) : Prop := m (m H j) (-1) = 4 ∧ 0 ≤ m H (j + 3) ∧ m H (j + 3) ≤ m (m H j) (-2) ∧ m (m H j) (-2) ≤ B ∧ m (m H j) (-3) ≤ 2 * B + 40 ∧ (∀ i, 0 ≤ i → i < m (m H j) (-2) → m (m (m H j) i) (-1) = tg) ∧ (∀ i k, 0 ≤ i → i < k → k < m (m H j) (-2) → m (m H j) i ≠ m (m H j) k)
def PI (m : SM) (H : Int) : Prop := m H (-1) = 3 ∧ (m H 0 ≠ m H 1 ∧ m H 0 ≠ m H 2 ∧ m H 1 ≠ m H 2) ∧ PIj m H 0 11 16000 ∧ PIj m H 1 16 16000 ∧ PIj m H 2 17 96000
def Frj (m : SM) (H j x : Int) : Prop := ∃ i, m H (j + 3) ≤ i ∧ i < m (m H j) (-2) ∧ m (m H j) i = x
/-- a cell that is no part of the heap and is not free in its pools -/
def Lv (m : SM) (H x : Int) : Prop := m x (-1) ≠ 0 ∧ x ≠ H ∧ (x ≠ m H 0 ∧ x ≠ m H 1 ∧ x ≠ m H 2) ∧ ¬ Frj m H 0 x ∧ ¬ Frj m H 1 x ∧ ¬ Frj m H 2 x
def po0 (m : SM) (H : Int) : Int := m (m H 0) (-2) + m (m H 0) (-3) + (m (m H 1) (-2) + m (m H 1) (-3)) + (m (m H 2) (-2) + m (m H 2) (-3))
def po1 (m : SM) (H : Int) : Int := 5 * m (m H 0) (-2) + 4 * m (m H 0) (-3) + (2 * m (m H 1) (-2) + 4 * m (m H 1) (-3)) + (3 * m (m H 2) (-2) + 4 * m (m H 2) (-3))
/-- live cells stay -/
def HpF (H : Int) (m m' : SM) : Prop := ∀ x, Lv m H x → Lv m' H x ∧ ∀ f, m' x f = m x f
/-- no cell that is there gets into the pool of values -/
def NPk (H : Int) (m m' : SM) : Prop := ∀ x, m x (-1) ≠ 0 → (∀ i, 0 ≤ i → i < m (m H 0) (-2) → m (m H 0) i ≠ x) → ∀ i, 0 ≤ i → i < m' (m' H 0) (-2) → m' (m' H 0) i ≠ x
/-- what an operation of the heap does: values, links, scopes taken -/
def Hp (H a b c : Int) (m m' : SM) : Prop := Ok m m' ∧ PI m' H ∧ HpF H m m' ∧ (∀ f, f < 3 → m' H f = m H f) ∧ (m 0 0 ≤ m' 0 0 ∧ m' 0 0 + po0 m H ≤ m 0 0 + po0 m' H) ∧ (m 0 1 ≤ m' 0 1 ∧ m' 0 1 + po1 m H ≤ m 0 1 + po1 m' H) ∧ (m H 3 ≤ m' H 3 ∧ m' H 3 ≤ m H 3 + a) ∧ (m H 4 ≤ m' H 4 ∧ m' H 4 ≤ m H 4 + b) ∧ (m H 5 ≤ m' H 5 ∧ m' H 5 ≤ m H 5 + c) ∧ NPk H m m'
section HPs
variable {m m' m'' : SM} {H a b c a' b' c' : Int}
theorem Hp.trans (h1 : Hp H a b c m m') (h2 : Hp H a' b' c' m' m'') : Hp H (a + a') (b + b') (c + c') m m'' := by
  obtain ⟨o1, p1, f1, g1, r1, s1, u1, v1, w1, n1⟩ := h1
  obtain ⟨o2, p2, f2, g2, r2, s2, u2, v2, w2, n2⟩ := h2
  refine ⟨o1.trans o2, p2, fun x hx => ⟨(f2 x (f1 x hx).1).1, fun f => ?_⟩, fun f hf => by rw [g2 f hf, g1 f hf], by omega, by omega, by omega, by omega, by omega, fun x h0 hx => n2 x (by rw [o1.1 x h0]; exact h0) (n1 x h0 hx)⟩
  rw [(f2 x (f1 x hx).1).2, (f1 x hx).2]
theorem Hp.le (h : Hp H a b c m m') (h1 : a ≤ a') (h2 : b ≤ b') (h3 : c ≤ c') : Hp H a' b' c' m m' := by
  obtain ⟨o1, p1, f1, g1, r1, s1, u1, v1, w1, n1⟩ := h
  exact ⟨o1, p1, f1, g1, r1, s1, by omega, by omega, by omega, n1⟩
theorem Hp.refl (h : PI m H) : Hp H 0 0 0 m m := ⟨Ok.refl m, h, fun _ hx => ⟨hx, fun _ => rfl⟩, fun _ _ => rfl, by omega, by omega, by omega, by omega, by omega, fun _ _ h => h⟩
/-- pools: none of the lists is the heap, none is a pooled cell -/
theorem PI.ne (h : PI m H) : H ≠ m H 0 ∧ H ≠ m H 1 ∧ H ≠ m H 2 := by
  obtain ⟨h1, -, p0, p1, p2⟩ := h
  refine ⟨fun e => ?_, fun e => ?_, fun e => ?_⟩
  · have := p0.1; rw [← e, h1] at this; cases this
  · have := p1.1; rw [← e, h1] at this; cases this
  · have := p2.1; rw [← e, h1] at this; cases this
theorem PIj.el {j tg B : Int} (h : PIj m H j tg B) {i : Int} (h0 : 0 ≤ i) (h1 : i < m (m H j) (-2)) : m (m (m H j) i) (-1) = tg := h.2.2.2.2.2.1 i h0 h1
theorem Frj.tag {j tg B x : Int} (h : PIj m H j tg B) (hx : Frj m H j x) : m x (-1) = tg := by
  obtain ⟨i, h1, h2, h3⟩ := hx
  rw [← h3]
  exact h.el (by have := h.2.1; omega) h2
/-- a new cell is made and put behind the pool j -/
theorem Hp.grow {j tg B l n : Int} (B0 : Bs m) (hP : PI m H) (hj : (j = 0 ∧ tg = 11 ∧ B = 16000 ∧ n = 5) ∨ (j = 1 ∧ tg = 16 ∧ B = 16000 ∧ n = 2) ∨ (j = 2 ∧ tg = 17 ∧ B = 96000 ∧ n = 3)) (hu : m H (j + 3) = m (m H j) (-2)) (hB : m H (j + 3) < B) {m1 : SM} (e1 : m1 = al m tg l n) (A : Radd m1 (m H j) (m 0 0) m') : Hp H 0 0 0 m m' ∧ m' H (j + 3) < m' (m' H j) (-2) ∧ ∀ f, m' H f = m H f := by
  have hN := hP.ne
  obtain ⟨hH, hl, p0, p1, p2⟩ := hP
  have n0 : m (m 0 0) (-1) = 0 := B0.2.2.1 _ (Int.le_refl _)
  have xp : 0 < m 0 0 := B0.2.1
  have tl : ∀ k, k = 0 ∨ k = 1 ∨ k = 2 → m (m H k) (-1) = 4 := by
    intro k hk
    rcases hk with rfl | rfl | rfl
    · exact p0.1
    · exact p1.1
    · exact p2.1
  have hj' : j = 0 ∨ j = 1 ∨ j = 2 := by omega
  have tj := tl j hj'
  have old : ∀ z f, m z (-1) ≠ 0 → m1 z f = m z f := fun z f hz => by rw [e1, al_old B0 hz]
  obtain ⟨L, A1, A2⟩ := A
  have o1 : Ok m m1 := Ok.nw B0 e1
  have o2 : Ok m1 m' := L.ok (by rw [old _ _ (by rw [tj]; decide)]; exact tj) (Or.inl rfl)
  obtain ⟨L0, L1, L2, L3, L4, L5, L6, L7, L8, L9⟩ := L
  have keep : ∀ z f, m z (-1) ≠ 0 → z ≠ m H j → m' z f = m z f := fun z f hz hn => by
    rw [L1 z hn (fun e => hz (by rw [e]; exact B0.1)), old z f hz]
  have nx : m H j ≠ m 0 0 := fun e => by rw [e, n0] at tj; cases tj
  have nH : H ≠ m H j := by rcases hj' with rfl | rfl | rfl; exact hN.1; exact hN.2.1; exact hN.2.2
  have eH : ∀ f, m' H f = m H f := fun f => keep H f (by rw [hH]; decide) nH
  have e3 : m1 (m H j) (-3) = m (m H j) (-3) := old _ _ (by rw [tj]; decide)
  have e2 : m1 (m H j) (-2) = m (m H j) (-2) := old _ _ (by rw [tj]; decide)
  have c1 : m1 0 0 = m 0 0 + 1 := by rw [e1]; unfold al; simp
  have c2 : m1 0 1 = m 0 1 + n := by rw [e1]; unfold al; simp
  have tx : m' (m 0 0) (-1) = tg := by rw [L1 _ (Ne.symm nx) (by omega), e1, al_new B0]; rfl
  have oth : ∀ k, k = 0 ∨ k = 1 ∨ k = 2 → k ≠ j → ∀ f, m' (m H k) f = m (m H k) f := by
    intro k hk hkj f
    refine keep _ f (by rw [tl k hk]; decide) ?_
    rcases hk with rfl | rfl | rfl <;> rcases hj' with rfl | rfl | rfl <;> omega
  have sj : m' (m H j) (-2) = m (m H j) (-2) + 1 := by rw [A1, e2]
  have ej : ∀ i, 0 ≤ i → i < m (m H j) (-2) → m' (m H j) i = m (m H j) i := fun i h0 h1 => by
    rw [A2 i h0, if_neg (by omega), old _ _ (by rw [tj]; decide)]
  have el : m' (m H j) (m (m H j) (-2)) = m 0 0 := by
    have : 0 ≤ m (m H j) (-2) := by
      rcases hj' with rfl | rfl | rfl
      · have := p0.2; omega
      · have := p1.2; omega
      · have := p2.2; omega
    rw [A2 _ this, if_pos e2.symm]
  -- a pool that is not j
  have pk : ∀ k tk Bk, k = 0 ∨ k = 1 ∨ k = 2 → k ≠ j → PIj m H k tk Bk → tk ≠ 0 → tk ≠ 4 → PIj m' H k tk Bk := by
    intro k tk Bk hk hkj h t0 t4
    unfold PIj
    simp only [eH, oth k hk hkj]
    obtain ⟨q1, q2, q3, q4, q5, q6, q7⟩ := h
    refine ⟨q1, q2, q3, q4, q5, fun i h0 h1 => ?_, q7⟩
    rw [keep _ _ (by rw [q6 i h0 h1]; exact t0) (fun e => by have := q6 i h0 h1; rw [e, tj] at this; omega)]
    exact q6 i h0 h1
  have pj : ∀ tk Bk, PIj m H j tk Bk → tk = tg → Bk = B → tg ≠ 0 → tg ≠ 4 → PIj m' H j tk Bk := by
    intro tk Bk h et eB t0 t4
    unfold PIj
    simp only [eH]
    obtain ⟨q1, q2, q3, q4, q5, q6, q7⟩ := h
    refine ⟨by rw [L2, old _ _ (by rw [tj]; decide)]; exact tj, q2, by omega, by omega, by omega, fun i h0 h1 => ?_, fun i k h0 h1 h2 => ?_⟩
    · by_cases z : i < m (m H j) (-2)
      · rw [ej i h0 z, keep _ _ (by rw [q6 i h0 z, et]; exact t0) (fun e => by have := q6 i h0 z; rw [e, tj] at this; omega)]
        exact q6 i h0 z
      · rw [show i = m (m H j) (-2) by omega, el, et]; exact tx
    · by_cases z : k < m (m H j) (-2)
      · rw [ej i h0 (by omega), ej k (by omega) z]
        exact q7 i k h0 h1 z
      · rw [show k = m (m H j) (-2) by omega, el, ej i h0 (by omega)]
        intro e
        have := q6 i h0 (by omega)
        rw [e, n0] at this
        omega
  have P' : PI m' H := by
    refine ⟨by rw [eH]; exact hH, by rw [eH, eH, eH]; exact hl, ?_, ?_, ?_⟩
    · by_cases z : j = 0
      · subst z; exact pj _ _ p0 (by omega) (by omega) (by omega) (by omega)
      · exact pk 0 _ _ (by omega) (by omega) p0 (by decide) (by decide)
    · by_cases z : j = 1
      · subst z; exact pj _ _ p1 (by omega) (by omega) (by omega) (by omega)
      · exact pk 1 _ _ (by omega) (by omega) p1 (by decide) (by decide)
    · by_cases z : j = 2
      · subst z; exact pj _ _ p2 (by omega) (by omega) (by omega) (by omega)
      · exact pk 2 _ _ (by omega) (by omega) p2 (by decide) (by decide)
  have fr : ∀ k, k = 0 ∨ k = 1 ∨ k = 2 → ∀ x, m x (-1) ≠ 0 → Frj m' H k x → Frj m H k x := by
    intro k hk x hx ⟨i, h1, h2, h3⟩
    rw [eH] at h1 h2 h3
    by_cases z : k = j
    · subst z
      by_cases y : i < m (m H k) (-2)
      · exact ⟨i, h1, y, by rw [← ej i (by rcases hk with rfl | rfl | rfl; have := p0.2; omega; have := p1.2; omega; have := p2.2; omega) y]; exact h3⟩
      · rw [show i = m (m H k) (-2) by omega, el] at h3
        rw [← h3, n0] at hx
        exact absurd rfl hx
    · rw [oth k hk z] at h2 h3
      exact ⟨i, h1, h2, h3⟩
  refine ⟨⟨o1.trans o2, P', fun x hx => ?_, fun f _ => eH f, ?_, ?_, by rw [eH]; omega, by rw [eH]; omega, by rw [eH]; omega, ?_⟩, by rw [eH, eH, sj]; omega, eH⟩
  · obtain ⟨h1, h2, h3, h4, h5, h6⟩ := hx
    have hxj : x ≠ m H j := by rcases hj' with rfl | rfl | rfl; exact h3.1; exact h3.2.1; exact h3.2.2
    exact ⟨⟨by rw [keep x _ h1 hxj]; exact h1, h2, by rw [eH, eH, eH]; exact h3, fun z => h4 (fr 0 (by omega) x h1 z), fun z => h5 (fr 1 (by omega) x h1 z), fun z => h6 (fr 2 (by omega) x h1 z)⟩, fun f => keep x f h1 hxj⟩
  · unfold po0
    simp only [eH]
    rcases hj' with rfl | rfl | rfl
    · rw [oth 1 (by omega) (by decide), oth 1 (by omega) (by decide), oth 2 (by omega) (by decide), oth 2 (by omega) (by decide)]; omega
    · rw [oth 0 (by omega) (by decide), oth 0 (by omega) (by decide), oth 2 (by omega) (by decide), oth 2 (by omega) (by decide)]; omega
    · rw [oth 1 (by omega) (by decide), oth 1 (by omega) (by decide), oth 0 (by omega) (by decide), oth 0 (by omega) (by decide)]; omega
  · unfold po1
    simp only [eH]
    rcases hj' with rfl | rfl | rfl
    · rw [oth 1 (by omega) (by decide), oth 1 (by omega) (by decide), oth 2 (by omega) (by decide), oth 2 (by omega) (by decide)]; omega
    · rw [oth 0 (by omega) (by decide), oth 0 (by omega) (by decide), oth 2 (by omega) (by decide), oth 2 (by omega) (by decide)]; omega
    · rw [oth 1 (by omega) (by decide), oth 1 (by omega) (by decide), oth 0 (by omega) (by decide), oth 0 (by omega) (by decide)]; omega
  · intro x h0 hx i i0 i1
    rw [eH] at i1 ⊢
    by_cases z : j = 0
    · subst z
      by_cases y : i < m (m H 0) (-2)
      · rw [ej i i0 y]; exact hx i i0 y
      · rw [show i = m (m H 0) (-2) by omega, el]
        intro e
        rw [← e, n0] at h0
        exact h0 rfl
    · rw [oth 0 (by omega) (Ne.symm z)] at i1 ⊢
      exact hx i i0 i1
end HPs
