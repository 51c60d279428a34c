/-! L3, component: a list a that grows while its elements are read (since the memory m0) -/
def LSq {α : Type} (E : SM → Int → α → Prop) (m0 : SM) (a L : Int) (l : List α) (m : SM) (s : List Int) (p : Int) : Prop :=
  GoA a (130 * (L - s.length)) (600 * (L - s.length)) m0 m ∧ KI m ∧ m 14 (-2) = 0 ∧ m 15 (-2) = 0 ∧ Rd m s p ∧ 7 ≤ m 11 (-3) ∧ m a (-1) = 4 ∧ m a (-2) = l.length ∧ m a (-3) ≤ 56 ∧ (s.length : Int) ≤ L ∧ ∀ (j : Nat) x, l[j]? = some x → E m (m a j) x
def FL (m0 : SM) (a L : Int) (P : Nat → Int → SM → Prop) (e : Int) : Prop := ∀ m' v, GoA a (130 * L + 130) (600 * L + 600) m0 m' → m' 8 5 = e → m' v (-1) = 12 → P 1 v m'
/-- room for a list that began at m0 -/
def BdL (m0 : SM) (a L : Int) : Prop := m0 0 0 + 130 * L + 256 ≤ 1203100 + m0 a (-3) ∧ m0 0 1 + 600 * L + 1124 ≤ 5491000 + 4 * m0 a (-3)
/-- what is said of the elements stays while the list is written -/
def EFa {α : Type} (E : SM → Int → α → Prop) (a : Int) : Prop := ∀ m m' v x, Fa a m m' → m a (-1) = 4 → E m v x → E m' v x
section LSs
variable {α : Type} {E : SM → Int → α → Prop} {m0 m m' : SM} {a L : Int} {l : List α} {s : List Int} {p : Int} {G : GM} {d : Nat} {P : Nat → Int → SM → Prop}
theorem LSq.bd (S : LSq E m0 a L l m s p) (hB : BdL m0 a L) : BdC m s.length := by
  obtain ⟨⟨-, -, g3, g4, -⟩, -, -, -, -, -, -, -, h56, hl, -⟩ := S
  have h1 := hB.1
  have h2 := hB.2
  exact ⟨by omega, by omega⟩
theorem LSq.pl (S : LSq E m0 a L l m s p) (hE : EFa E a) (h0 : hdC s ≠ 0) (e : m' = up m 8 5 (p + 1)) (o : Ok m m') : LSq E m0 a L l m' s.tail (p + 1) ∧ s = hdC s :: s.tail := by
  obtain ⟨g, K, h14, h15, R, h7, ht, hs, hc, hl, hj⟩ := S
  have g' := Go.pl K e o
  have n8 : (8 : Int) ≠ a := fun q => by rw [← q, K8_t K] at ht; cases ht
  have n11 : a ≠ 11 := fun q => by rw [q, K11_t K] at ht; cases ht
  obtain ⟨R', l', es⟩ := R.next K h0 g' (by decide) (by rw [e, up_self])
  have ea : ∀ f, m' a f = m a f := fun f => by rw [e, up_na _ (Ne.symm n8)]
  have w := g'.2.2.2.2 (by rw [K11_t K]; decide)
  refine ⟨⟨(g.trans (GoA.of g' K ht)).le (by omega) (by omega), g'.ki K, ?_, ?_, R', by omega, by rw [ea]; exact ht, by rw [ea]; exact hs, by rw [ea]; exact hc, by omega, fun j x hx => ?_⟩, es⟩
  · rw [g'.cell K (by have := K14_t K; omega) (by decide)]; exact h14
  · rw [g'.cell K (by have := K15_t K; omega) (by decide)]; exact h15
  · rw [ea]
    exact hE m m' _ _ ((GoA.of g' K ht).go.fa K) ht (hj j x hx)
theorem LSq.take (S : LSq E m0 a L l m s p) (hE : EFa E a) (hB : BdL m0 a L) (hd : 15 ≤ d) {c0 : Int} (hc : 1 ≤ c0) {X : SM → Prop} (kf : pCh c0 s p = .inl p → FL m0 a L P p) (kt : pCh c0 s p = .inr ((), s.tail, p + 1) → ∀ m', LSq E m0 a L l m' s.tail (p + 1) → X m') : WV G mX4_take 0 [(1, 8), (0, c0), (0, c0)] [] m d (fun k v m' => Ok m m' ∧ (k = 0 → X m') ∧ (k ≠ 0 → P 1 v m')) := by
  have hb := S.bd hB
  have hb1 := hb.1
  have hb2 := hb.2
  have S' := id S
  obtain ⟨g, K, h14, h15, R, h7, ht, hs, hc56, hl, hj⟩ := S
  refine q_take K hd R hc (by omega) (fun q m' e o => ⟨o, fun _ => ?_, fun z => absurd rfl z⟩) (fun q m' x g' e t => ⟨g'.2.1, fun z => absurd z (by decide), fun _ => ?_⟩)
  · obtain ⟨S2, es⟩ := S'.pl hE (by omega) e o
    refine kt ?_ m' S2
    rw [es, show hdC s = c0 by omega]; unfold pCh; dsimp only; rw [if_pos rfl]; rfl
  · refine kf ?_ m' x ((g.trans (GoA.of g' K ht)).le (by omega) (by omega)) e t
    unfold pCh
    cases s with
    | nil => rfl
    | cons y r => dsimp only; rw [if_neg (fun z => q (by show c0 ≤ y ∧ y ≤ c0; omega))]
/-- something is read and put behind the list -/
theorem LSq.read (S : LSq E m0 a L l m s p) (hE : EFa E a) (hB : BdL m0 a L) (h14a : a ≠ 14) (h15a : a ≠ 15) (hl5 : l.length ≤ 5) {M : Mt} {pc : Nat} {ls : List AV} {r : RR α} {T : SM → Int → α → Prop} (hQ : ∀ P', OutC m s.length r T P' → WV G M pc ls [] m d P') (hTE : ∀ m' v x, T m' v x → E m' v x ∧ elOK m' v) {X : SM → Prop}
    (kf : ∀ e, r = .inl e → FL m0 a L P e) (kt : ∀ x s' p', r = .inr (x, s', p') → ∀ m', LSq E m0 a L (l ++ [x]) m' s' p' → X m') :
    WV G M pc ls [] m d (fun k v14 m15 => Ok m m15 ∧ (k = 0 → ((elOK m15 v14) ∧ (m15 a (-2) < 100000) ∧ (m15 0 0 ≤ 1203200) ∧ (m15 0 1 + 2 * m15 a (-2) + 20 ≤ 5491882) ∧ (∀ m18, Radd m15 a v14 m18 → Ok m15 m18 → X m18))) ∧ (k ≠ 0 → P 1 v14 m15)) := by
  have hb := S.bd hB
  have hb1 := hb.1
  have hb2 := hb.2
  obtain ⟨g0, K, h14, h15, R, h7, ht, hs, hc56, hl, hj⟩ := S
  refine hQ _ ?_
  cases r with
  | inl e => exact fun m' v g e' t => ⟨g.2.1, fun z => absurd z (by decide), fun _ => kf e rfl m' v ((g0.trans (GoA.of g K ht)).le (by omega) (by omega)) e' t⟩
  | inr w =>
    obtain ⟨x, s', p'⟩ := w
    intro m' v g R' T'
    obtain ⟨Tv, Tel⟩ := hTE m' v x T'
    have K' := g.ki K
    have ea : ∀ f, m' a f = m a f := fun f => g.cell K (by omega) (fun e => by rw [e, K11_t K] at ht; cases ht)
    have hg := g.2.2
    have w11 := g.2.2.2.2 (by rw [K11_t K]; decide)
    have sl : (0 : Int) ≤ s'.length := by omega
    refine ⟨g.2.1, fun _ => ⟨Tel, by rw [ea]; omega, by omega, by rw [ea]; omega, fun m18 A o18 => ?_⟩, fun z => absurd rfl z⟩
    have ht' : m' a (-1) = 4 := by rw [ea]; exact ht
    have hs' : m' a (-2) = l.length := by rw [ea]; exact hs
    have gA := GoA.add A K' ht' (by omega)
    have gO := GoA.of g K ht
    have g18 := gO.trans gA
    have gv := gA.go
    have ev : m18 a l.length = v := by rw [A.2.2 _ (by omega), if_pos hs'.symm]
    have e18 : ∀ z f, z ≠ a → m' z (-1) ≠ 0 → m18 z f = m' z f := fun z f hz h0 => by rw [A.1.2.1 z hz (fun e => h0 (by rw [e]; exact A.1.1))]
    have n8 : (8 : Int) ≠ a := fun e => by rw [← e, K8_t K] at ht; cases ht
    have n9 : a ≠ 9 := fun e => by rw [e, K9_t K] at ht; cases ht
    have w18 := gv.2.2.2.2 (by rw [K11_t K']; decide)
    refine kt x s' p' rfl m18 ⟨(g0.trans g18).le (by omega) (by omega), o18.2.1 K', ?_, ?_, R'.mv K' gv n9 ?_, by omega, o18.tag ht' (by decide), by rw [A.2.1, hs', List.length_append]; simp, gA.2.2.2.2.1 (by rw [ea]; exact hc56), by omega, fun j y hy => ?_⟩
    · rw [gv.cell K' (by have := K14_t K'; omega) (Ne.symm h14a), g.cell K (by have := K14_t K; omega) (by decide)]; exact h14
    · rw [gv.cell K' (by have := K15_t K'; omega) (Ne.symm h15a), g.cell K (by have := K15_t K; omega) (by decide)]; exact h15
    · rw [e18 8 5 n8 (by rw [K8_t K']; decide)]; exact R'.1
    · by_cases z : j < l.length
      · rw [List.getElem?_append_left z] at hy
        have e1 : m18 a j = m a j := by rw [A.2.2 j (by omega), if_neg (by omega), ea]
        rw [e1]
        exact hE m m18 _ _ (fun z f hz hza => by rw [gv.fa K' z f (by rw [g.2.1.1 z (by omega)]; exact hz) hza, gO.go.fa K z f hz hza]) ht (hj j y hy)
      · rw [List.getElem?_append_right (by omega)] at hy
        have j0 : j = l.length := by
          by_cases y0 : j - l.length = 0
          · omega
          · rw [List.getElem?_eq_none (by simp; omega)] at hy; cases hy
        rw [j0, Nat.sub_self] at hy
        cases hy
        rw [j0, ev]
        exact hE m' m18 _ _ (gv.fa K') ht' Tv
end LSs
