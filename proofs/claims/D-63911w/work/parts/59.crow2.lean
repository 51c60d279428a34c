/-! L3, component: rows -/
section CX
variable {m m' m3 : SM} {a b c n c' n' : Int} {G : GM} {P : Nat → Int → SM → Prop} {hol : Bool}
def OutR (m : SM) (a b cnt : Int) (L : Int) (r : Int ⊕ TF) (P : Nat → Int → SM → Prop) : Prop := match r with
  | .inl e => ∀ m' v, GoA a (60 * L + 60) (250 * L + 250) m m' → m' 8 5 = e → m' v (-1) = 12 → P 1 v m'
  | .inr f => ∀ m', GoA a (60 * L) (250 * L) m m' → (∀ j, 0 ≤ j → j < cnt → m' a j = m a j) → TmF m' b f a cnt → P 0 a m'
theorem q_r46 {d : Nat} (hd : 20 ≤ d) {cnt : Int} (K : KI m) {s : List Int} {p : Int} (R : Rd m s p) (ht : m a (-1) = 4) (hs : m a (-2) = cnt) (hb : m 0 0 ≤ 1203200 ∧ m 0 1 + 6 ≤ 5491882) (k : OutR m a b cnt s.length (pEnd (.inr ((nil : TF), s, p))) P) : WV G mX4_row 46 [(1, 8), (9, 0), (1, a)] [] m d P := by
  refine wX4_row_46 K (by omega) (q_need K (by omega) hb (fun q => ⟨Ok.refl m, fun _ => ?_, fun z => absurd rfl z⟩) (fun q m' x g e t => ⟨g.2.1, fun z => absurd z (by decide), fun _ => ?_⟩))
  · have e : m 8 5 = m 9 (-2) := by
      by_cases z : m 8 5 = m 9 (-2)
      · exact z
      · rw [if_pos z] at q; exact absurd rfl q
    rw [R.1, R.2.2.1] at e
    cases s with
    | nil =>
      unfold pEnd at k
      exact k m ((GoA.of Go.refl K ht).le (by simp) (by simp)) (fun _ _ _ => rfl) hs
    | cons x r => simp at e; omega
  · cases s with
    | nil =>
      have e : m 8 5 = m 9 (-2) := by rw [R.1, R.2.2.1]; simp
      rw [if_neg (fun y => y e)] at q
      exact absurd q (by decide)
    | cons y r =>
      unfold pEnd at k
      exact k m' x ((GoA.of g K ht).le (by omega) (by omega)) (by rw [e]; exact R.1) t
theorem q_rl {nn d0 d : Nat} (hT : QT G hol nn 1 d0) (hd : d0 + 1 ≤ d) (hd0 : 20 ≤ d0) (hab : a < b) (h13a : a ≠ 13) {most : Nat} (hm6 : most ≤ 6) : ∀ (k cnt : Nat) (s : List Int) (p : Int) (m : SM), k + cnt = most → 1 ≤ cnt → KI m → m 13 (-2) = 0 → Rd m s p → m 8 6 = hf hol → m a (-1) = 4 → m a (-2) = cnt → m a (-3) ≤ 56 → b ≤ m 0 0 → m 0 0 + 60 * s.length + 156 ≤ 1203100 + m a (-3) → m 0 1 + 250 * s.length + 624 ≤ 5491000 + 4 * m a (-3) → OutR m a b cnt s.length (pEnd (pRow hol nn k false s p)) P → WV G mX4_row 18 [(1, 8), (0, (most : Int)), (1, a)] [] m d P
  | 0, cnt, s, p, m, hk, h1, K, h13, R, hh, ht, hs, hcap, hb, hB1, hB2, k => by
    unfold pRow at k
    exact wX4_row_18 K (by omega) ⟨ht, fun q1 => q_r46 (by omega) K R ht hs (by omega) k, fun q1 => absurd q1 (by omega)⟩
  | k + 1, cnt, s, p, m, hk, h1, K, h13, R, hh, ht, hs, hcap, hb, hB1, hB2, kk => by
    unfold pRow at kk
    refine wX4_row_18 K (by omega) ⟨ht, fun q1 => absurd q1 (by omega), fun q1 => ?_⟩
    refine q_isTerm K (by omega) R (hol := hol) hh ⟨rfl, Ok.refl m, fun q2 => ?_, fun q2 => ?_⟩
    · have q3 : ¬ isTm hol s = true := fun z => by rw [if_pos z] at q2; exact absurd q2 (by decide)
      rw [if_neg (fun z => z.elim (fun y => nomatch y) q3)] at kk
      exact q_r46 (by omega) K R ht hs (by omega) kk
    · have q3 : isTm hol s = true := by
        by_cases z : isTm hol s = true
        · exact z
        · rw [if_neg z] at q2; exact absurd rfl q2
      rw [if_pos (Or.inr q3)] at kk
      refine q_one (dep := 1) hT (by omega) hab h13a (cnt := cnt) (by omega) (by omega) K h13 R hh ht hs hcap hb ⟨by omega, by omega⟩ (fun e he m' v g e' t => ?_) (fun nd s' p' he m' g K' h13' R' hh' ht' hs' hj hT' => ?_)
      · rw [he] at kk
        exact kk m' v g e' t
      · rw [he] at kk
        dsimp only at kk
        have hg := g.2.2
        refine q_rl hT hd hd0 hab h13a hm6 k (cnt + 1) s' p' m' (by omega) (by omega) K' h13' R' hh' ht' (by rw [hs']; simp) (hg.2.2.1 hcap) (by omega) (by omega) (by omega) ?_
        revert kk
        cases pRow hol nn k false s' p' with
        | inl e => exact fun kk m2 v g2 e2 t2 => kk m2 v ((g.trans g2).le (by omega) (by omega)) e2 t2
        | inr w =>
          obtain ⟨f, s2, p2⟩ := w
          cases s2 with
          | cons y r => exact fun kk m2 v g2 e2 t2 => kk m2 v ((g.trans g2).le (by omega) (by omega)) e2 t2
          | nil =>
            intro kk m2 g2 hj2 hF2
            refine kk m2 ((g.trans g2).le (by omega) (by omega)) (fun j j0 j1 => ?_) ?_
            · rw [hj2 j j0 (by simp; omega), hj j j0 j1]
            · have ex : m2 a cnt = m' a cnt := hj2 cnt (by omega) (by simp; omega)
              have gv := g2.go
              show TmH m2 b (m2 a cnt) nd.1 ∧ TmF m2 b nd.2 (m2 (m2 a cnt) 4) 0 ∧ TmF m2 b f a (cnt + 1)
              rw [ex]
              have hx := hT'.1
              have e4 : m2 (m' a cnt) 4 = m' (m' a cnt) 4 := gv.cell K' (by have := hx.2.1; omega) (by have := hx.1; omega)
              rw [e4]
              exact ⟨hx.fr gv K' hab h13a, TmF.fr gv K' hab h13a nd.2 hx.2.2.2.1 (by have := hx.2.2.2.2.1; omega) hT'.2, by simpa using hF2⟩
/-- the whole text as a row of terms -/
theorem q_row {nn d0 d : Nat} (hT : QT G hol nn 1 d0) (hd : d0 + 1 ≤ d) (hd0 : 20 ≤ d0) {most : Nat} (hm6 : most ≤ 6) (hm1 : 1 ≤ most) {s : List Int} {p : Int} (K : KI m) (h13 : m 13 (-2) = 0) (R : Rd m s p) (hh : m 8 6 = hf hol) (hB : Bd m (s.length + 1))
    (k : match pEnd (pRow hol nn most true s p) with
      | .inl e => ∀ m' v, Go 11 (60 * s.length + 120) (250 * s.length + 500) m m' → m' 8 5 = e → m' v (-1) = 12 → P 1 v m'
      | .inr f => ∀ m' v, Go 11 (60 * s.length + 60) (250 * s.length + 250) m m' → LsT (m 0 0) m' v f → P 0 v m') : WV G mX4_row 0 [(1, 8), (0, (most : Int)), (9, 0)] [] m d P := by
  refine v_bs (fun B => ?_)
  have hB1 := hB.1
  have hB2 := hB.2
  have xp : 0 < m 0 0 := B.2.1
  have n0 : m (m 0 0) (-1) = 0 := B.2.2.1 _ (Int.le_refl _)
  have n13 : m 0 0 ≠ 13 := fun e => by rw [e, K13_t K] at n0; cases n0
  refine wX4_row K (by omega) ⟨by omega, by omega, fun m3 A3 o3 => ?_⟩
  have g3 := Go.nw B (by decide) A3.2
  have K3 := g3.ki K
  have x3 : m3 0 0 = m 0 0 + 1 := by rw [A3.2]; unfold al; simp
  have y3 : m3 0 1 = m 0 1 + 3 := by rw [A3.2]; unfold al; simp
  have t3 : ∀ f, m3 (m 0 0) f = if f = -1 then 4 else if f = -2 then 0 else 0 := fun f => by rw [A3.2, al_new B]
  have p3 : ∀ f, m3 8 f = m 8 f := fun f => by rw [A3.2, al_old B (by rw [K8_t K]; decide)]
  have c3 : m3 (m 0 0) (-3) = 0 := by rw [t3]; decide
  have h13' : m3 13 (-2) = 0 := by rw [g3.cell K (by have := K13_t K; omega) (by decide)]; exact h13
  obtain ⟨j, rfl⟩ : ∃ j, most = j + 1 := ⟨most - 1, by omega⟩
  unfold pRow at k
  rw [if_pos (Or.inl rfl)] at k
  refine q_one (b := m 0 0 + 1) (dep := 1) hT (by omega) (by omega) n13 (cnt := 0) (by omega) (by omega) K3 h13' (R.mv K g3 (by decide) (by rw [p3]; exact R.1)) (by rw [p3]; exact hh) (by rw [t3]; rfl) (by rw [t3]; decide) (by omega) (by omega) ⟨by omega, by omega⟩ (fun e he m' v g e' t => ?_) (fun nd s' p' he m' g K' h13' R' hh' ht' hs' hj hT' => ?_)
  · rw [he] at k
    exact k m' v ((GoA.up g3 n0 g c3).le (by omega) (by omega)) e' t
  · rw [he] at k
    dsimp only at k
    have hg := g.2.2
    refine q_rl hT (by omega) hd0 (b := m 0 0 + 1) (by omega) n13 hm6 j 1 s' p' m' (by omega) (by omega) K' h13' R' hh' ht' (by rw [hs']; rfl) (hg.2.2.1 (by omega)) (by omega) (by omega) (by omega) ?_
    revert k
    cases pRow hol nn j false s' p' with
    | inl e => exact fun k m2 v g2 e2 t2 => k m2 v ((GoA.up g3 n0 (g.trans g2) c3).le (by omega) (by omega)) e2 t2
    | inr w =>
      obtain ⟨f, s2, p2⟩ := w
      cases s2 with
      | cons y r => exact fun k m2 v g2 e2 t2 => k m2 v ((GoA.up g3 n0 (g.trans g2) c3).le (by omega) (by omega)) e2 t2
      | nil =>
        intro k m2 g2 hj2 hF2
        have ex : m2 (m 0 0) 0 = m' (m 0 0) 0 := hj2 0 (by omega) (by decide)
        have gv := g2.go
        have hx := hT'.1
        have t2 : m2 (m 0 0) (-1) = 4 := g2.2.1.tag ht' (by decide)
        refine k m2 (m 0 0) ((GoA.up g3 n0 (g.trans g2) c3).le (by omega) (by omega)) ⟨t2, Int.le_refl _, ?_⟩
        show TmH m2 (m 0 0 + 1) (m2 (m 0 0) 0) nd.1 ∧ TmF m2 (m 0 0 + 1) nd.2 (m2 (m2 (m 0 0) 0) 4) 0 ∧ TmF m2 (m 0 0 + 1) f (m 0 0) (0 + 1)
        rw [ex]
        have e4 : m2 (m' (m 0 0) 0) 4 = m' (m' (m 0 0) 0) 4 := gv.cell K' (by have := hx.2.1; omega) (by have := hx.1; omega)
        rw [e4]
        exact ⟨hx.fr gv K' (by omega) n13, TmF.fr gv K' (by omega) n13 nd.2 hx.2.2.2.1 (by have := hx.2.2.2.2.1; omega) hT'.2, hF2⟩
end CX
