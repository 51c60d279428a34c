/-! L3, component: lists of terms, whole; rows -/
section CW
variable {m m' m3 : SM} {a b c n c' n' : Int} {G : GM} {P : Nat → Int → SM → Prop} {hol : Bool}
theorem GoA.up (g : Go 11 c n m m3) (hx : m a (-1) = 0) (gA : GoA a c' n' m3 m') (h0 : m3 a (-3) = 0) : Go 11 (c + 56 + c') (n + 224 + n') m m' := by
  obtain ⟨f1, o1, b1, d1, w1⟩ := g
  obtain ⟨f2, o2, b2, d2, k2, w2⟩ := gA
  have h56 := k2 (by omega)
  refine ⟨fun z f hz q1 q2 q3 => ?_, o1.trans o2, by omega, by omega, fun q => Int.le_trans (w1 q) (w2 (by rw [o1.1 11 q]; exact q))⟩
  rw [f2 z f (by rw [o1.1 z hz]; exact hz) (fun e => hz (by rw [e]; exact hx)) q2 q3]
  exact f1 z f hz q1 q2 q3
theorem q_termsS {nn dep d0 : Nat} (hT : QT G hol nn dep d0) (hd0 : 20 ≤ d0) : QTs G hol nn dep (d0 + 1) := by
  intro d m s p P hd K h13 R hh hB k
  refine v_bs (fun B => ?_)
  have hB1 := hB.1
  have hB2 := hB.2
  have xp : 0 < m 0 0 := B.2.1
  have n0 : m (m 0 0) (-1) = 0 := B.2.2.1 _ (Int.le_refl _)
  have n13 : m 0 0 ≠ 13 := fun e => by rw [e, K13_t K] at n0; cases n0
  refine wX4_terms K (by omega) ⟨by omega, by omega, fun m3 A3 o3 => ?_⟩
  have g3 := Go.nw B (by decide) A3.2
  have K3 := g3.ki K
  have x3 : m3 0 0 = m 0 0 + 1 := by rw [A3.2]; unfold al; simp
  have y3 : m3 0 1 = m 0 1 + 3 := by rw [A3.2]; unfold al; simp
  have t3 : ∀ f, m3 (m 0 0) f = if f = -1 then 4 else if f = -2 then 0 else 0 := fun f => by rw [A3.2, al_new B]
  have p3 : ∀ f, m3 8 f = m 8 f := fun f => by rw [A3.2, al_old B (by rw [K8_t K]; decide)]
  have c3 : m3 (m 0 0) (-3) = 0 := by rw [t3]; decide
  have h13' : m3 13 (-2) = 0 := by rw [g3.cell K (by have := K13_t K; omega) (by decide)]; exact h13
  unfold pTs at k
  rw [if_pos (Or.inl rfl)] at k
  refine q_one (b := m 0 0 + 1) hT (by omega) (by omega) n13 (cnt := 0) (by omega) (by omega) K3 h13' (R.mv K g3 (by decide) (by rw [p3]; exact R.1)) (by rw [p3]; exact hh) (by rw [t3]; rfl) (by rw [t3]; decide) (by omega) (by omega) ⟨by omega, by omega⟩ (fun e he m' v g e' t => ?_) (fun nd s' p' he m' g K' h13' R' hh' ht' hs' hj hT' => ?_)
  · rw [he] at k
    exact k m' v ((GoA.up g3 n0 g c3).le (by omega) (by omega)) e' t
  · rw [he] at k
    dsimp only at k
    have hg := g.2.2
    refine q_tl hT (by omega) hd0 (b := m 0 0 + 1) (by omega) n13 6 1 s' p' m' (by omega) (by omega) (by omega) K' h13' R' hh' ht' (by rw [hs']; rfl) (hg.2.2.1 (by omega)) (by omega) (by omega) (by omega) ?_
    revert k
    rw [show (0 : Nat) + 1 = 1 from rfl]
    cases pTs (pT hol nn dep) hol 6 1 s' p' with
    | inl e => exact fun k m2 v g2 e2 t2 => k m2 v ((GoA.up g3 n0 (g.trans g2) c3).le (by omega) (by omega)) e2 t2
    | inr w =>
      obtain ⟨f, s2, p2⟩ := w
      intro k m2 g2 R2 hj2 hF2
      have ex : m2 (m 0 0) 0 = m' (m 0 0) 0 := hj2 0 (by omega) (by decide)
      have gv := g2.go
      have hx := hT'.1
      have t2 : m2 (m 0 0) (-1) = 4 := g2.2.1.tag ht' (by decide)
      refine k m2 (m 0 0) ((GoA.up g3 n0 (g.trans g2) c3).le (by omega) (by omega)) R2 ⟨t2, Int.le_refl _, ?_⟩
      show TmH m2 (m 0 0 + 1) (m2 (m 0 0) 0) nd.1 ∧ TmF m2 (m 0 0 + 1) nd.2 (m2 (m2 (m 0 0) 0) 4) 0 ∧ TmF m2 (m 0 0 + 1) f (m 0 0) (0 + 1)
      rw [ex]
      have e4 : m2 (m' (m 0 0) 0) 4 = m' (m' (m 0 0) 0) 4 := gv.cell K' (by have := hx.2.1; omega) (by have := hx.1; omega)
      rw [e4]
      exact ⟨hx.fr gv K' (by omega) n13, TmF.fr gv K' (by omega) n13 nd.2 hx.2.2.2.1 (by have := hx.2.2.2.2.1; omega) hT'.2, hF2⟩
/-- the reader of terms, at any depth -/
theorem q_term : ∀ (k nn dep : Nat), 9 ≤ nn + dep → dep + k = 8 → QT G hol nn dep (2 * nn + 20)
  | 0, nn, dep, h, h1 => by
    obtain ⟨j, rfl⟩ : ∃ j, nn = j + 1 := ⟨nn - 1, by omega⟩
    exact q_termS (d1 := 2 * j + 21) (fun z => absurd z (by omega)) (by omega) (by omega) (by omega)
  | k + 1, nn, dep, h, h1 => by
    obtain ⟨j, rfl⟩ : ∃ j, nn = j + 1 := ⟨nn - 1, by omega⟩
    exact q_termS (d1 := 2 * j + 21) (fun _ => q_termsS (q_term k j (dep + 1) (by omega) (by omega)) (by omega)) (by omega) (by omega) (by omega)
end CW
