/-! L3, component: Reader.code at every depth; Reader.program -/
theorem q_code {G : GM} : ∀ (k nn dep : Nat), 13 ≤ nn + dep → dep + k = 12 → QC G nn dep (3 * nn + 20)
  | 0, nn, dep, h, h1 => by
    obtain ⟨j, rfl⟩ : ∃ j, nn = j + 1 := ⟨nn - 1, by omega⟩
    exact q_codeS (d1 := 3 * j + 20) (fun z => absurd z (by omega)) (by omega) (by omega) (by omega)
  | k + 1, nn, dep, h, h1 => by
    obtain ⟨j, rfl⟩ : ∃ j, nn = j + 1 := ⟨nn - 1, by omega⟩
    exact q_codeS (d1 := 3 * j + 20) (fun _ => q_code k j (dep + 1) (by omega) (by omega)) (by omega) (by omega) (by omega)
section CX
variable {m : SM} {G : GM} {d : Nat} {P : Nat → Int → SM → Prop} {s : List Int} {p : Int}
theorem q_program {nn d0 : Nat} (hT : QC G nn 1 d0) (hd : d0 + 1 ≤ d) (hd0 : 20 ≤ d0) (K : KI m) (h14 : m 14 (-2) = 0) (h15 : m 15 (-2) = 0) (R : Rd m s p) (h7 : 7 ≤ m 11 (-3)) (hBd : BdC m (s.length + 1))
    (k : match pEnd (pProg nn s p) with
      | .inl e => ∀ m' v, Go 11 (130 * s.length + 400) (600 * s.length + 1500) m m' → m' 8 5 = e → m' v (-1) = 12 → P 1 v m'
      | .inr q => ∀ m' v, Go 11 (130 * s.length + 400) (600 * s.length + 1500) m m' → PgH m' (m 0 0) v q → P 0 v m') : WV G mX4_program 0 [(1, 8), (9, 0), (9, 0)] [] m d P := by
  have hB1 := hBd.1
  have hB2 := hBd.2
  unfold pProg at k
  refine wX4_program K (by omega) (q_vars (most := 4) (by omega) (by omega) (by omega) K R h7 ⟨by omega, by omega⟩ ?_)
  revert k
  cases pVs 4 true s p with
  | inl e => exact fun k m' v g e' t => ⟨g.2.1, fun z => absurd z (by decide), fun _ => k m' v (g.le (by omega) (by omega)) e' t⟩
  | inr w =>
    obtain ⟨f, s1, p1⟩ := w
    intro k m1 v1 g1 R1 T1
    obtain ⟨T1a, T1b, T1c⟩ := T1
    have K1 := g1.ki K
    have b1 := g1.2.2
    dsimp only at k
    have l1 : (0 : Int) ≤ s1.length := by omega
    refine ⟨g1.2.1, fun _ => ?_, fun z => absurd rfl z⟩
    refine q_take K1 (by omega) R1 (by omega) (by omega) (fun q m2 e2 o2 => ⟨o2, fun _ => ?_, fun z => absurd rfl z⟩) (fun q m' x g' e t => ⟨g'.2.1, fun z => absurd z (by decide), fun _ => ?_⟩)
    rotate_left
    · have : pCh 61 s1 p1 = .inl p1 := by
        unfold pCh
        cases s1 with
        | nil => rfl
        | cons y r => dsimp only; rw [if_neg (fun z => q (by show 61 ≤ y ∧ y ≤ 61; omega))]
      rw [this] at k
      exact k m' x ((g1.trans g').le (by omega) (by omega)) e t
    have g2' := Go.pl K1 e2 o2
    have g2 := g1.trans g2'
    have K2 := g2'.ki K1
    have p2 : m2 8 5 = p1 + 1 := by rw [e2, up_self]
    obtain ⟨R2, l2, es⟩ := R1.next K1 (by omega) g2' (by decide) p2
    have b2 := g2.2.2
    have : pCh 61 s1 p1 = .inr ((), s1.tail, p1 + 1) := by
      rw [es, show hdC s1 = 61 by omega]; unfold pCh; dsimp only; rw [if_pos rfl]; rfl
    rw [this] at k
    dsimp only at k
    refine ⟨by omega, by omega, fun B2 m6 e6 o6 => ?_⟩
    have xp : 0 < m2 0 0 := B2.2.1
    have x0 : m2 0 0 ≠ 0 := by omega
    have g6' := Go.nw B2 (by decide) e6
    have g6 := g2.trans g6'
    have K6 := g6'.ki K2
    have b6' := g6'.2.2
    have b6 := g6.2.2
    have x6 : m6 0 0 = m2 0 0 + 1 := by rw [e6]; unfold al; simp
    have n0 : m2 (m2 0 0) (-1) = 0 := B2.2.2.1 _ (Int.le_refl _)
    have p6 : m6 8 5 = p1 + 1 := by rw [e6, al_old B2 (by rw [K8_t K2]; decide)]; exact p2
    have R6 := R2.mv K2 g6' (by decide) p6
    have r14 : m6 14 (-2) = 0 := by rw [g6.cell K (by have := K14_t K; omega) (by decide)]; exact h14
    have r15 : m6 15 (-2) = 0 := by rw [g6.cell K (by have := K15_t K; omega) (by decide)]; exact h15
    have w6 := g6.2.2.2.2 (by rw [K11_t K]; decide)
    refine hT (d - 1) m6 s1.tail (p1 + 1) _ (by omega) K6 r14 r15 R6 (by omega) ⟨by omega, by omega⟩ ?_
    revert k
    cases pC nn 1 s1.tail (p1 + 1) with
    | inl e => exact fun k m' v g' e' t => ⟨g'.2.1, fun z => absurd z (by decide), fun _ => k m' v ((g6.trans g').le (by omega) (by omega)) e' t⟩
    | inr w =>
      obtain ⟨b, s3, p3⟩ := w
      intro k m' v g' R' T'
      dsimp only at k
      have l3 : (0 : Int) ≤ s3.length := by omega
      have gg := g6.trans g'
      have K' := gg.ki K
      have hx0 : m (m2 0 0) (-1) = 0 := by
        by_cases z : m (m2 0 0) (-1) = 0
        · exact z
        · rw [g2.2.1.1 _ z] at n0; exact absurd n0 z
      have tx : m' (m2 0 0) (-1) = 22 := g'.2.1.tag (al_tag B2 e6) (by decide)
      refine ⟨g'.2.1, fun _ => ⟨x0, wX17_init K' (by omega) ⟨x0, tx, fun m7 e7 o7 m8 e8 o8 => ⟨rfl, o7.trans o8, ?_⟩⟩⟩, fun z => absurd rfl z⟩
      have n9 : m2 0 0 ≠ 9 := fun e => by rw [e, K9_t K2] at n0; cases n0
      have n8 : (8 : Int) ≠ m2 0 0 := fun e => by rw [← e, K8_t K2] at n0; cases n0
      have n11 : m2 0 0 ≠ 11 := fun e => by rw [e, K11_t K2] at n0; cases n0
      have n14 : m2 0 0 ≠ 14 := fun e => by rw [e, K14_t K2] at n0; cases n0
      have n15 : m2 0 0 ≠ 15 := fun e => by rw [e, K15_t K2] at n0; cases n0
      have e'' : ∀ z, z ≠ m2 0 0 → m8 z = m' z := fun z hz => by funext f; rw [e8, up_na _ hz, e7, up_na _ hz]
      have o'' := o7.trans o8
      have K8 := o''.2.1 K'
      have gx : Go (m2 0 0) 0 0 m' m8 := Go.one x0 n11 e'' o''
      have g8 := (gg.fr hx0 x0 e'' o'')
      have b8 := g8.2.2
      have R8 := R'.mv K' gx n9 (by rw [e'' 8 n8]; exact R'.1)
      have f0 : m8 (m2 0 0) 0 = v1 := by rw [e8, up_nf _ (by decide), e7, up_self]
      have f1 : m8 (m2 0 0) 1 = v := by rw [e8, up_self]
      have f9 : m8 (m2 0 0) (-1) = 22 := by rw [e8, up_nf _ (by decide), e7, up_nf _ (by decide)]; exact tx
      have Fv : Fc m1 m8 := fun z f hz => by
        have hz0 : m1 z (-1) ≠ 0 := by omega
        have hzx : z ≠ m2 0 0 := fun e => by rw [e, ← g2'.2.1.1 _ (by rw [← e]; exact hz0)] at hz; rw [n0] at hz; omega
        rw [e'' z hzx]
        exact (g2'.trans (g6'.trans g')).fc K1 z f hz
      have tv : m8 v1 (-1) = 13 := by rw [Fv v1 (-1) (by omega)]; exact T1b
      have hP : PgH m8 (m 0 0) (m2 0 0) (f, b) := by
        refine ⟨b2.1.1, f9, by rw [f0]; exact tv, by rw [f0]; exact T1a, ?_, ?_⟩
        · rw [f0]; exact VsF.fc Fv f T1b T1c
        · rw [f1]; exact (T'.fb (Fa.one e'') ⟨by rw [tx]; decide, by rw [tx]; decide⟩ (by omega) n14 n15).mono (by omega)
      refine q_need K8 (by omega) (by omega) (fun z => ⟨Ok.refl m8, fun _ => ?_, fun y => absurd rfl y⟩) (fun z m9 x g9 e9 t9 => ⟨g9.2.1, fun y => absurd y (by decide), fun _ => ?_⟩)
      · have e : m8 8 5 = m8 9 (-2) := by
          by_cases y : m8 8 5 = m8 9 (-2)
          · exact y
          · rw [if_pos y] at z; exact absurd rfl z
        rw [R8.1, R8.2.2.1] at e
        cases s3 with
        | nil => exact k m8 (m2 0 0) (g8.le (by omega) (by omega)) hP
        | cons x r => simp at e; omega
      · cases s3 with
        | nil =>
          have e : m8 8 5 = m8 9 (-2) := by rw [R8.1, R8.2.2.1]; simp
          rw [if_neg (fun y => y e)] at z
          exact absurd z (by decide)
        | cons y r => exact k m9 x ((g8.trans g9).le (by omega) (by omega)) (by rw [e9]; exact R8.1) t9
end CX
