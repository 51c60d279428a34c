/-! L3, component: lists of terms -/
/-- as Go, the growth of the list a apart -/
def GoA (a c n : Int) (m m' : SM) : Prop := FrX a m m' ∧ Ok m m' ∧ (m 0 0 ≤ m' 0 0 ∧ m' 0 0 + m a (-3) ≤ m 0 0 + m' a (-3) + c) ∧ (m 0 1 ≤ m' 0 1 ∧ m' 0 1 + 4 * m a (-3) ≤ m 0 1 + 4 * m' a (-3) + n) ∧ (m a (-3) ≤ 56 → m' a (-3) ≤ 56) ∧ (m 11 (-1) ≠ 0 → m 11 (-3) ≤ m' 11 (-3))
section CL
variable {m m' m'' : SM} {a b c n c' n' : Int}
theorem GoA.trans (h1 : GoA a c n m m') (h2 : GoA a c' n' m' m'') : GoA a (c + c') (n + n') m m'' := by
  obtain ⟨f1, o1, b1, d1, k1, w1⟩ := h1
  obtain ⟨f2, o2, b2, d2, k2, w2⟩ := h2
  exact ⟨fun z f hz h0 h3 h4 => by rw [f2 z f (by rw [o1.1 z hz]; exact hz) h0 h3 h4]; exact f1 z f hz h0 h3 h4, o1.trans o2, by omega, by omega, fun q => k2 (k1 q), fun q => Int.le_trans (w1 q) (w2 (by rw [o1.1 11 q]; exact q))⟩
theorem GoA.le (h : GoA a c n m m') (hc : c ≤ c') (hn : n ≤ n') : GoA a c' n' m m' := ⟨h.1, h.2.1, by have := h.2.2.1; omega, by have := h.2.2.2.1; omega, h.2.2.2.2⟩
theorem GoA.of (g : Go 11 c n m m') (K : KI m) (ht : m a (-1) = 4) : GoA a c n m m' := by
  have ea : m' a (-3) = m a (-3) := g.cell K (by omega) (fun e => by rw [e, K11_t K] at ht; cases ht)
  refine ⟨fun z f hz _ h3 h4 => g.1 z f hz h3 h3 h4, g.2.1, ?_, ?_, ?_, g.2.2.2.2⟩
  · rw [ea]; have := g.2.2.1; omega
  · rw [ea]; have := g.2.2.2.1; omega
  · rw [ea]; exact id
theorem GoA.go (h : GoA a c n m m') : Go a (m' 0 0 - m 0 0) (m' 0 1 - m 0 1) m m' := ⟨h.1, h.2.1, by have := h.2.2.1; omega, by have := h.2.2.2.1; omega, h.2.2.2.2.2⟩
theorem GoA.add {v : Int} (A : Radd m a v m') (K : KI m) (ht : m a (-1) = 4) (hs : m a (-2) ≤ 5) : GoA a 0 0 m m' := by
  have o := A.1.ok ht (Or.inl rfl)
  obtain ⟨⟨l0, l1, l2, l3, l4, l5, l6, l7, l8, l9⟩, a1, a2⟩ := A
  refine ⟨fun z f hz h0 _ _ => ?_, o, by omega, by omega, fun q => by omega, fun _ => by rw [l1 11 (fun e => by rw [← e, K11_t K] at ht; cases ht) (by decide)]; exact Int.le_refl _⟩
  rw [l1 z h0 (fun e => hz (by rw [e]; exact l0))]
/-- how the rest of a list may end -/
def OutA (m : SM) (a b cnt : Int) (L : Int) (r : RR TF) (P : Nat → Int → SM → Prop) : Prop := match r with
  | .inl e => ∀ m' v, GoA a (60 * L + 60) (250 * L + 250) m m' → m' 8 5 = e → m' v (-1) = 12 → P 1 v m'
  | .inr (f, s', p') => ∀ m', GoA a (60 * (L - s'.length)) (250 * (L - s'.length)) m m' → Rd m' s' p' → (∀ j, 0 ≤ j → j < cnt → m' a j = m a j) → TmF m' b f a cnt → P 0 a m'
variable {G : GM} {P : Nat → Int → SM → Prop} {hol : Bool}
/-- one more term is read and put behind the list; then the rest -/
theorem q_one {M18 : SM → Prop} {nn dep d0 d : Nat} (hT : QT G hol nn dep d0) (hd : d0 ≤ d) (hab : a < b) (h13a : a ≠ 13) {s : List Int} {p : Int} {cnt : Int} (hc0 : 0 ≤ cnt) (hc6 : cnt ≤ 5) (K : KI m) (h13 : m 13 (-2) = 0) (R : Rd m s p) (hh : m 8 6 = hf hol) (ht : m a (-1) = 4) (hs : m a (-2) = cnt) (hcap : m a (-3) ≤ 56) (hb : b ≤ m 0 0) (hB : Bd m s.length)
    (kf : ∀ e, pT hol nn dep s p = .inl e → ∀ m' v, GoA a (60 * s.length + 60) (250 * s.length + 250) m m' → m' 8 5 = e → m' v (-1) = 12 → P 1 v m')
    (kt : ∀ nd s' p', pT hol nn dep s p = .inr (nd, s', p') → ∀ m', GoA a (60 * (s.length - s'.length)) (250 * (s.length - s'.length)) m m' → KI m' → m' 13 (-2) = 0 → Rd m' s' p' → m' 8 6 = hf hol → m' a (-1) = 4 → m' a (-2) = cnt + 1 → (∀ j, 0 ≤ j → j < cnt → m' a j = m a j) → TmT b m' (m' a cnt) nd → M18 m') :
    WV G mX4_term 0 [(1, 8), (0, (dep : Int)), (9, 0), (9, 0)] [] m d (fun k v14 m15 => Ok m m15 ∧ (k = 0 → ((elOK m15 v14) ∧ (m15 a (-2) < 100000) ∧ (m15 0 0 ≤ 1203200) ∧ (m15 0 1 + 2 * m15 a (-2) + 20 ≤ 5491882) ∧ (∀ m18, Radd m15 a v14 m18 → Ok m15 m18 → M18 m18))) ∧ (k ≠ 0 → P 1 v14 m15)) := by
  refine hT d m s p _ hd K h13 R hh hB ?_
  cases e : pT hol nn dep s p with
  | inl x => exact fun m' v g e' t => ⟨g.2.1, fun z => absurd z (by decide), fun _ => kf x e m' v (GoA.of g K ht) e' t⟩
  | inr w =>
    obtain ⟨nd, s', p'⟩ := w
    intro m' v g R' T'
    have K' := g.ki K
    have ea : ∀ f, m' a f = m a f := fun f => g.cell K (by omega) (fun e => by rw [e, K11_t K] at ht; cases ht)
    have hg := g.2.2
    have hB1 := hB.1
    have hB2 := hB.2
    have rl : (s'.length : Int) ≥ 0 := by omega
    refine ⟨g.2.1, fun _ => ⟨elOK.of T'.1.2.1 (c := 13) (by decide) (by decide), by rw [ea]; omega, by omega, by rw [ea]; omega, fun m18 A o18 => ?_⟩, fun z => absurd rfl z⟩
    have ht' : m' a (-1) = 4 := by rw [ea]; exact ht
    have hs' : m' a (-2) = cnt := by rw [ea]; exact hs
    have gA := GoA.add A K' ht' (by omega)
    have g18 := (GoA.of g K ht).trans gA
    have gv := gA.go
    have v1 := T'.1.1
    have ev : m18 a cnt = v := by rw [A.2.2 cnt hc0, if_pos hs'.symm]
    have e18 : ∀ z f, z ≠ a → m' z (-1) ≠ 0 → m18 z f = m' z f := fun z f hz h0 => by rw [A.1.2.1 z hz (fun e => h0 (by rw [e]; exact A.1.1))]
    have n8 : (8 : Int) ≠ a := fun e => by rw [← e, K8_t K] at ht; cases ht
    have n9 : a ≠ 9 := fun e => by rw [e, K9_t K] at ht; cases ht
    have K18 := o18.2.1 K'
    refine kt nd s' p' e m18 (g18.le (by omega) (by omega)) K18 ?_ (R'.mv K' gv n9 ?_) ?_ (o18.tag ht' (by decide)) (by rw [A.2.1, hs']) (fun j j0 j1 => ?_) ?_
    · rw [gv.cell K' (by have := K13_t K'; omega) (Ne.symm h13a), g.cell K (by have := K13_t K; omega) (by decide)]; exact h13
    · rw [e18 8 5 n8 (by rw [K8_t K']; decide)]; exact R'.1
    · rw [e18 8 6 n8 (by rw [K8_t K']; decide), g.1 8 6 (by rw [K8_t K]; decide) (by decide) (by decide) (by omega)]; exact hh
    · rw [A.2.2 j j0, if_neg (by omega), ea]
    · rw [ev]
      have hv4 : m18 v 4 = m' v 4 := gv.cell K' (by have := T'.1.2.1; omega) (by omega)
      have H1 := T'.1.mono hb
      have H2 := T'.2.mono hb
      refine ⟨H1.fr gv K' hab h13a, ?_⟩
      rw [hv4]
      exact TmF.fr gv K' hab h13a nd.2 H1.2.2.2.1 (by have := H1.2.2.2.2.1; omega) H2
theorem q_tl {nn dep d0 d : Nat} (hT : QT G hol nn dep d0) (hd : d0 + 1 ≤ d) (hd0 : 20 ≤ d0) (hab : a < b) (h13a : a ≠ 13) : ∀ (k cnt : Nat) (s : List Int) (p : Int) (m : SM), k + cnt = 7 → 1 ≤ cnt → cnt ≤ 6 → KI m → m 13 (-2) = 0 → Rd m s p → m 8 6 = hf hol → m a (-1) = 4 → m a (-2) = cnt → m a (-3) ≤ 56 → b ≤ m 0 0 → m 0 0 + 60 * s.length + 156 ≤ 1203100 + m a (-3) → m 0 1 + 250 * s.length + 624 ≤ 5491000 + 4 * m a (-3) → OutA m a b cnt s.length (pTs (pT hol nn dep) hol k cnt s p) P → WV G mX4_terms 18 [(1, 8), (0, (dep : Int)), (1, a)] [] m d P
  | 0, cnt, s, p, m, hk, h1, h6, K, h13, R, hh, ht, hs, hcap, hb, hB1, hB2, k => by omega
  | k + 1, cnt, s, p, m, hk, h1, h6, K, h13, R, hh, ht, hs, hcap, hb, hB1, hB2, kk => by
    unfold pTs at kk
    have h0 := R.hd0
    have n9 : a ≠ 9 := fun e => by rw [e, K9_t K] at ht; cases ht
    have n11 : a ≠ 11 := fun e => by rw [e, K11_t K] at ht; cases ht
    have fin : ¬ (cnt = 0 ∨ (cnt < 6 ∧ isTm hol s = true)) → WV G mX4_take 0 [(1, 8), (0, 41), (0, 41)] [] m (d - 1) (fun k v2 m3 => Ok m m3 ∧ (k = 0 → (P 0 a m3)) ∧ (k ≠ 0 → P 1 v2 m3)) := by
      intro z
      rw [if_neg z] at kk
      refine q_take K (by omega) R (by omega) (by omega) (fun q m' e' o' => ⟨o', fun _ => ?_, fun z => absurd rfl z⟩) (fun q m' x g e t => ⟨g.2.1, fun z => absurd z (by decide), fun _ => ?_⟩)
      · have g := Go.pl K e' o'
        cases s with
        | nil => exact absurd q.1 (by show ¬ (41 : Int) ≤ 0; decide)
        | cons c r =>
          have hc : c = 41 := by have : 41 ≤ c ∧ c ≤ 41 := q; omega
          dsimp only at kk
          rw [if_pos hc] at kk
          obtain ⟨R', hl, -⟩ := R.next K (by show c ≠ 0; omega) g (by decide) (by rw [e', up_self])
          refine kk m' ((GoA.of g K ht).le (by simp; omega) (by simp; omega)) R' (fun j _ _ => g.cell K (by omega) n11) ?_
          show m' a (-2) = cnt
          rw [g.cell K (by omega) n11]; exact hs
      · have gA := GoA.of g K ht
        cases s with
        | nil => exact kk m' x (gA.le (by simp) (by simp)) e t
        | cons c r =>
          have hc : ¬ c = 41 := fun y => q (by show 41 ≤ c ∧ c ≤ 41; omega)
          dsimp only at kk
          rw [if_neg hc] at kk
          exact kk m' x (gA.le (by omega) (by omega)) e t
    refine wX4_terms_18 K (by omega) ⟨ht, fun q1 => fin (by omega), fun q1 => ?_⟩
    refine q_isTerm K (by omega) R (hol := hol) hh ⟨rfl, Ok.refl m, fun q2 => fin (fun z => ?_), fun q2 => ?_⟩
    · have : isTm hol s = true := by
        rcases z with z | z
        · omega
        · exact z.2
      rw [if_pos this] at q2
      exact absurd q2 (by decide)
    · have q3 : isTm hol s = true := by
        by_cases z : isTm hol s = true
        · exact z
        · rw [if_neg z] at q2; exact absurd rfl q2
      rw [if_pos (Or.inr ⟨by omega, q3⟩)] at kk
      refine q_one hT (by omega) hab h13a (cnt := cnt) (by omega) (by omega) K h13 R hh ht hs hcap hb ⟨by omega, by omega⟩ (fun e he m' v g e' t => ?_) (fun nd s' p' he m' g K' h13' R' hh' ht' hs' hj hT' => ?_)
      · rw [he] at kk
        exact kk m' v g e' t
      · rw [he] at kk
        dsimp only at kk
        have hg := g.2.2
        refine q_tl hT hd hd0 hab h13a k (cnt + 1) s' p' m' (by omega) (by omega) (by omega) K' h13' R' hh' ht' (by rw [hs']; simp) (hg.2.2.1 hcap) (by omega) (by omega) (by omega) ?_
        revert kk
        cases pTs (pT hol nn dep) hol k (cnt + 1) s' p' with
        | inl e => exact fun kk m2 v g2 e2 t2 => kk m2 v ((g.trans g2).le (by omega) (by omega)) e2 t2
        | inr w =>
          obtain ⟨f, s2, p2⟩ := w
          intro kk m2 g2 R2 hj2 hF2
          refine kk m2 ((g.trans g2).le (by omega) (by omega)) R2 (fun j j0 j1 => ?_) ?_
          · rw [hj2 j j0 (by simp; omega), hj j j0 j1]
          · have ex : m2 a cnt = m' a cnt := hj2 cnt (by omega) (by simp; omega)
            have gv := g2.go
            show TmH m2 b (m2 a cnt) nd.1 ∧ TmF m2 b nd.2 (m2 (m2 a cnt) 4) 0 ∧ TmF m2 b f a (cnt + 1)
            rw [ex]
            have hx := hT'.1
            have e4 : m2 (m' a cnt) 4 = m' (m' a cnt) 4 := gv.cell K' (by have := hx.2.1; omega) (by have := hx.1; omega)
            rw [e4]
            exact ⟨hx.fr gv K' hab h13a, TmF.fr gv K' hab h13a nd.2 hx.2.2.2.1 (by have := hx.2.2.2.2.1; omega) hT'.2, by simpa using hF2⟩
end CL
