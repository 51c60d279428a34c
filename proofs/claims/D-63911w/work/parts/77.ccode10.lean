/-! L3, component: Reader.codes -/
def LsC (b : Int) (m : SM) (v : Int) (f : TF) : Prop := m v (-1) = 4 ∧ b ≤ v ∧ CdF m (v + 1) f 0 v 0
def QCs (G : GM) (n dep d0 : Nat) : Prop := ∀ (d : Nat) (m : SM) (s : List Int) (p : Int) (P : Nat → Int → SM → Prop), d0 ≤ d → KI m → m 14 (-2) = 0 → m 15 (-2) = 0 → Rd m s p → 7 ≤ m 11 (-3) → BdC m (s.length + 1) → OutC m (s.length + 1) (pCs (pC n dep) 7 0 s p) (LsC (m 0 0)) P → WV G mX4_codes 0 [(1, 8), (0, (dep : Int)), (9, 0)] [] m d P
theorem q_codesS {G : GM} {nn dep d0 : Nat} (hT : QC G nn dep d0) (hd0 : 20 ≤ d0) : QCs G nn dep (d0 + 1) := by
  intro d m s p P hd K h14 h15 R h7 hB k
  refine v_bs (fun B => ?_)
  have hB1 := hB.1
  have hB2 := hB.2
  have xp : 0 < m 0 0 := B.2.1
  have n0 : m (m 0 0) (-1) = 0 := B.2.2.1 _ (Int.le_refl _)
  have n14 : m 0 0 ≠ 14 := fun e => by rw [e, K14_t K] at n0; cases n0
  have n15 : m 0 0 ≠ 15 := fun e => by rw [e, K15_t K] at n0; cases n0
  refine wX4_codes K (by omega) ⟨by omega, by omega, fun m3 A3 o3 => ?_⟩
  have g3 := Go.nw B (by decide) A3.2
  have K3 := g3.ki K
  have x3 : m3 0 0 = m 0 0 + 1 := by rw [A3.2]; unfold al; simp
  have y3 : m3 0 1 = m 0 1 + 3 := by rw [A3.2]; unfold al; simp
  have t3 : ∀ f, m3 (m 0 0) f = if f = -1 then 4 else if f = -2 then 0 else 0 := fun f => by rw [A3.2, al_new B]
  have p3 : ∀ f, m3 8 f = m 8 f := fun f => by rw [A3.2, al_old B (by rw [K8_t K]; decide)]
  have c3 : m3 (m 0 0) (-3) = 0 := by rw [t3]; decide
  have h14' : m3 14 (-2) = 0 := by rw [g3.cell K (by have := K14_t K; omega) (by decide)]; exact h14
  have h15' : m3 15 (-2) = 0 := by rw [g3.cell K (by have := K15_t K; omega) (by decide)]; exact h15
  have w3 := g3.2.2.2.2 (by rw [K11_t K]; decide)
  unfold pCs at k
  rw [if_pos (Or.inl rfl)] at k
  refine q_onec (b := m 0 0 + 1) hT (by omega) (by omega) n14 n15 (cnt := 0) (by omega) (by omega) K3 h14' h15' (R.mv K g3 (by decide) (by rw [p3]; exact R.1)) (by omega) (by rw [t3]; rfl) (by rw [t3]; decide) (by omega) ⟨by omega, by omega⟩ (fun e he m' v g e' t => ?_) (fun nd s' p' he m' g K' h14' h15' R' h7' ht' hs' hj hT' => ?_)
  · rw [he] at k
    exact k m' v ((GoA.up g3 n0 g c3).le (by omega) (by omega)) e' t
  · rw [he] at k
    dsimp only at k
    have hg := g.2.2
    refine q_cl hT (by omega) hd0 (b := m 0 0 + 1) (by omega) n14 n15 6 1 s' p' m' (by omega) (by omega) (by omega) K' h14' h15' R' h7' ht' (by rw [hs']; rfl) (hg.2.2.1 (by omega)) (by omega) (by omega) (by omega) ?_
    revert k
    rw [show (0 : Nat) + 1 = 1 from rfl]
    cases pCs (pC nn dep) 6 1 s' p' with
    | inl e => exact fun k m2 v g2 e2 t2 => k m2 v ((GoA.up g3 n0 (g.trans g2) c3).le (by omega) (by omega)) e2 t2
    | inr w =>
      obtain ⟨f, s2, p2⟩ := w
      intro k m2 g2 R2 hj2 hF2
      have ex : m2 (m 0 0) 0 = m' (m 0 0) 0 := hj2 0 (by omega) (by decide)
      have hx := hT'.fa (g2.go.fa K') ht' (by omega) n14 n15
      have t2 : m2 (m 0 0) (-1) = 4 := g2.2.1.tag ht' (by decide)
      refine k m2 (m 0 0) ((GoA.up g3 n0 (g.trans g2) c3).le (by omega) (by omega)) R2 ⟨t2, Int.le_refl _, ?_⟩
      show CdH m2 (m 0 0 + 1) (m2 (m 0 0) 0) nd.1 ∧ CdF m2 (m 0 0 + 1) nd.2 (if nd.1.1 = 8 then 2 else 0) (if nd.1.1 = 8 then m2 (m 0 0) 0 else m2 (m2 (m 0 0) 0) 4) 0 ∧ CdF m2 (m 0 0 + 1) f 0 (m 0 0) (0 + 1)
      rw [ex]
      exact ⟨hx.1, hx.2, hF2⟩
