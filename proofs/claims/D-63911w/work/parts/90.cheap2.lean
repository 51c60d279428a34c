/-! L3, component: a cell is taken from a pool and written -/
section HPt
variable {m m' : SM} {H a b c : Int}
theorem Hp.take {j tg : Int} (B0 : Bs m) (hP : PI m H) (hj : (j = 0 ∧ tg = 11 ∧ a = 1 ∧ b = 0 ∧ c = 0) ∨ (j = 1 ∧ tg = 16 ∧ a = 0 ∧ b = 1 ∧ c = 0) ∨ (j = 2 ∧ tg = 17 ∧ a = 0 ∧ b = 0 ∧ c = 1)) (hu : m H (j + 3) < m (m H j) (-2)) {x : Int} (hx : x = m (m H j) (m H (j + 3))) (e : ∀ z, z ≠ x → z ≠ H → m' z = m z) (eH : ∀ f, f ≠ j + 3 → m' H f = m H f) (eu : m' H (j + 3) = m H (j + 3) + 1) (ex : m' x (-1) = m x (-1)) (o : Ok m m') : Hp H a b c m m' ∧ m x (-1) = tg ∧ x ≠ 0 ∧ x ≠ H ∧ Lv m' H x ∧ ¬ Lv m H x := by
  obtain ⟨hH, hl, p0, p1, p2⟩ := hP
  have hj' : j = 0 ∨ j = 1 ∨ j = 2 := by omega
  have tl : ∀ k, k = 0 ∨ k = 1 ∨ k = 2 → m (m H k) (-1) = 4 := by
    intro k hk
    rcases hk with rfl | rfl | rfl
    · exact p0.1
    · exact p1.1
    · exact p2.1
  have u0 : ∀ k, k = 0 ∨ k = 1 ∨ k = 2 → 0 ≤ m H (k + 3) := by
    intro k hk
    rcases hk with rfl | rfl | rfl
    · exact p0.2.1
    · exact p1.2.1
    · exact p2.2.1
  have tx : m x (-1) = tg := by
    rw [hx]
    rcases hj' with rfl | rfl | rfl
    · rw [p0.el (u0 _ (by omega)) hu]; omega
    · rw [p1.el (u0 _ (by omega)) hu]; omega
    · rw [p2.el (u0 _ (by omega)) hu]; omega
  have xH : x ≠ H := fun z => by rw [z, hH] at tx; omega
  have x0 : x ≠ 0 := fun z => by rw [z, B0.1] at tx; omega
  have ne4 : ∀ z, m z (-1) = 4 → m' z = m z := fun z hz => e z (fun q => by rw [q, tx] at hz; omega) (fun q => by rw [q, hH] at hz; omega)
  have lk : ∀ k, k = 0 ∨ k = 1 ∨ k = 2 → m' H k = m H k := fun k hk => eH k (by omega)
  have ll : ∀ k, k = 0 ∨ k = 1 ∨ k = 2 → m' (m H k) = m (m H k) := fun k hk => ne4 _ (tl k hk)
  have tg' : ∀ z t, m z (-1) = t → t ≠ 0 → m' z (-1) = t := fun z t ht h0 => o.tag ht h0
  have pk : ∀ k tk Bk, k = 0 ∨ k = 1 ∨ k = 2 → PIj m H k tk Bk → tk ≠ 0 → PIj m' H k tk Bk := by
    intro k tk Bk hk h t0
    unfold PIj
    simp only [lk k hk, ll k hk]
    obtain ⟨q1, q2, q3, q4, q5, q6, q7⟩ := h
    have ku : m' H (k + 3) = m H (k + 3) ∨ (k = j ∧ m' H (k + 3) = m H (k + 3) + 1) := by
      by_cases z : k = j
      · exact Or.inr ⟨z, by rw [z]; exact eu⟩
      · exact Or.inl (eH _ (by omega))
    refine ⟨q1, ?_, ?_, q4, q5, fun i h0 h1 => tg' _ _ (q6 i h0 h1) t0, q7⟩
    · omega
    · rcases ku with z | ⟨rfl, z⟩ <;> omega
  have P' : PI m' H := ⟨tg' _ _ hH (by decide), by rw [lk 0 (by omega), lk 1 (by omega), lk 2 (by omega)]; exact hl, pk 0 _ _ (by omega) p0 (by decide), pk 1 _ _ (by omega) p1 (by decide), pk 2 _ _ (by omega) p2 (by decide)⟩
  have nd : ∀ i k, 0 ≤ i → i < k → k < m (m H j) (-2) → m (m H j) i ≠ m (m H j) k := by
    rcases hj' with rfl | rfl | rfl
    · exact p0.2.2.2.2.2.2
    · exact p1.2.2.2.2.2.2
    · exact p2.2.2.2.2.2.2
  have ft : ∀ k, k = 0 ∨ k = 1 ∨ k = 2 → ∀ z, Frj m' H k z → Frj m H k z ∧ (k = j → z ≠ x) := by
    intro k hk z ⟨i, h1, h2, h3⟩
    rw [lk k hk, ll k hk] at h2 h3
    by_cases y : k = j
    · subst y
      rw [eu] at h1
      have := u0 k hk
      exact ⟨⟨i, by omega, h2, h3⟩, fun _ q => nd (m H (k + 3)) i (by omega) (by omega) h2 (by rw [h3, q, hx])⟩
    · rw [eH _ (by omega)] at h1
      exact ⟨⟨i, h1, h2, h3⟩, fun q => absurd q y⟩
  have fre : Frj m H j x := ⟨m H (j + 3), Int.le_refl _, hu, hx.symm⟩
  have nlv : ¬ Lv m H x := fun ⟨_, _, _, q0, q1, q2⟩ => by
    rcases hj' with rfl | rfl | rfl
    · exact q0 fre
    · exact q1 fre
    · exact q2 fre
  have F : HpF H m m' := by
    intro z hz
    have hzx : z ≠ x := fun q => nlv (by rw [← q]; exact hz)
    obtain ⟨h1, h2, h3, h4, h5, h6⟩ := hz
    have ez := e z hzx h2
    exact ⟨⟨by rw [ez]; exact h1, h2, by rw [lk 0 (by omega), lk 1 (by omega), lk 2 (by omega)]; exact h3, fun y => h4 (ft 0 (by omega) z y).1, fun y => h5 (ft 1 (by omega) z y).1, fun y => h6 (ft 2 (by omega) z y).1⟩, fun f => by rw [ez]⟩
  have e0 : m' 0 = m 0 := e 0 (Ne.symm x0) (fun q => by rw [← q, B0.1] at hH; cases hH)
  have q0 : po0 m' H = po0 m H := by
    unfold po0
    rw [lk 0 (by omega), lk 1 (by omega), lk 2 (by omega), ll 0 (by omega), ll 1 (by omega), ll 2 (by omega)]
  have q1 : po1 m' H = po1 m H := by
    unfold po1
    rw [lk 0 (by omega), lk 1 (by omega), lk 2 (by omega), ll 0 (by omega), ll 1 (by omega), ll 2 (by omega)]
  have tne : ∀ k tk Bk, k = 0 ∨ k = 1 ∨ k = 2 → PIj m H k tk Bk → k ≠ j → tk ≠ tg → ¬ Frj m' H k x := fun k tk Bk hk h hkj ht z => ht (by have := Frj.tag h (ft k hk x z).1; omega)
  refine ⟨⟨o, P', F, fun f hf => eH f (by omega), by rw [e0, q0]; omega, by rw [e0, q1]; omega, ?_, ?_, ?_, ?_⟩, tx, x0, xH, ⟨by rw [ex, tx]; omega, xH, ?_, ?_, ?_, ?_⟩, nlv⟩
  · rcases hj' with rfl | rfl | rfl
    · rw [show (3 : Int) = 0 + 3 by rfl, eu]; omega
    · rw [eH 3 (by decide)]; omega
    · rw [eH 3 (by decide)]; omega
  · rcases hj' with rfl | rfl | rfl
    · rw [eH 4 (by decide)]; omega
    · rw [show (4 : Int) = 1 + 3 by rfl, eu]; omega
    · rw [eH 4 (by decide)]; omega
  · rcases hj' with rfl | rfl | rfl
    · rw [eH 5 (by decide)]; omega
    · rw [eH 5 (by decide)]; omega
    · rw [show (5 : Int) = 2 + 3 by rfl, eu]; omega
  · intro z h0 hz i i0 i1
    rw [lk 0 (by omega), ll 0 (by omega)] at i1 ⊢
    exact hz i i0 i1
  · rw [lk 0 (by omega), lk 1 (by omega), lk 2 (by omega)]
    refine ⟨fun q => ?_, fun q => ?_, fun q => ?_⟩
    · have := p0.1; rw [← q, tx] at this; omega
    · have := p1.1; rw [← q, tx] at this; omega
    · have := p2.1; rw [← q, tx] at this; omega
  · by_cases z : (0 : Int) = j
    · exact fun y => (ft 0 (by omega) x y).2 z rfl
    · exact tne 0 _ _ (by omega) p0 z (by omega)
  · by_cases z : (1 : Int) = j
    · exact fun y => (ft 1 (by omega) x y).2 z rfl
    · exact tne 1 _ _ (by omega) p1 z (by omega)
  · by_cases z : (2 : Int) = j
    · exact fun y => (ft 2 (by omega) x y).2 z rfl
    · exact tne 2 _ _ (by omega) p2 z (by omega)
end HPt
