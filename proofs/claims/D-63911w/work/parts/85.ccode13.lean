/-! L3, component: Reader.code, whole -/
theorem q_sumT {G : GM} {nn dep d0 d : Nat} {P : Nat → Int → SM → Prop} {m0 m : SM} {a b L : Int} {s : List Int} {p : Int} (hT : QC G nn dep d0) (hd : d0 ≤ d) (hd0 : 20 ≤ d0) (S : LSq (CdT b) m0 a L [] m s p) (hab : a < b) (h14a : a ≠ 14) (h15a : a ≠ 15) (hb : b ≤ m0 0 0) (hB : BdL m0 a L) (ha0 : 0 < a) {act pl : Int} {t : Lb} (hp : t.2.2 = pl) (hact : (t.1 = 6 ∧ act = -4) ∨ (t.1 = 7 ∧ act = -5))
    (k : OutG m0 a L (sS (pC nn dep) t s p) (fun k v m' => Ok m0 m' ∧ (k = 0 → P 0 v m') ∧ (k ≠ 0 → P 1 v m'))) :
    WV G mX4_code 0 [(1, 8), (0, (dep : Int)), (9, 0), (9, 0), (9, 0)] [] m d (fun k v42 m43 => Ok m m43 ∧ (k = 0 → ((elOK m43 v42) ∧ (m43 a (-2) < 100000) ∧ (m43 0 0 ≤ 1203200) ∧ (m43 0 1 + 2 * m43 a (-2) + 20 ≤ 5491882) ∧ (∀ m46, Radd m43 a v42 m46 → Ok m43 m46 → (WV G mX4_code 0 [(1, 8), (0, (dep : Int)), (9, 0), (9, 0), (9, 0)] [] m46 d (fun k v55 m56 => Ok m46 m56 ∧ (k = 0 → ((elOK m56 v55) ∧ (m56 a (-2) < 100000) ∧ (m56 0 0 ≤ 1203200) ∧ (m56 0 1 + 2 * m56 a (-2) + 20 ≤ 5491882) ∧ (∀ m59, Radd m56 a v55 m59 → Ok m56 m59 → ((m59 0 0 ≤ 1203200) ∧ (m59 0 1 + 6 ≤ 5491882) ∧ (Bs m59 → ∀ m70, m70 = al m59 23 0 6 → Ok m59 m70 → (((m59 0 0) ≠ 0) ∧ (WV G mX18_init 0 [(1, (m59 0 0)), (1, act), (0, pl), (0, 32), (1, 0), (1, a), (1, 15)] [] m70 d (fun k v77 m78 => k = 0 ∧ Ok m70 m78 ∧ (P 0 (m59 0 0) m78))))))))) ∧ (k ≠ 0 → P 1 v55 m56)))))) ∧ (k ≠ 0 → P 1 v42 m43)) := by
  have fl : ∀ e, FL m0 a L (fun k v m' => Ok m0 m' ∧ (k = 0 → P 0 v m') ∧ (k ≠ 0 → P 1 v m')) e → FL m0 a L P e := fun e h m' v g e' t => (h m' v g e' t).2.2 (by decide)
  unfold sS at k
  refine S.code hT hd hab h14a h15a hb hB (by simp) (fun e he => by rw [he] at k; exact fl e k) (fun a1 s1 p1 he m1 S1 => ?_)
  rw [he] at k
  dsimp only at k
  refine S1.code hT hd hab h14a h15a hb hB (by simp) (fun e he => by rw [he] at k; exact fl e k) (fun a2 s2 p2 he m2 S2 => ?_)
  rw [he] at k
  dsimp only at k
  exact S2.fin (by omega) hab hB ha0 (by omega) hp (by omega) (by rcases hact with h | h; exact Or.inl h; exact Or.inr (Or.inl h)) (fun m' v g R T => (k m' v g R T).2.1 rfl)
theorem q_codeS {G : GM} {nn dep d1 d0 : Nat} (hT : dep < 12 → QC G nn (dep + 1) d1) (hd1 : d1 + 3 ≤ d0) (hd0 : 20 ≤ d1) (hdep : dep ≤ 12) : QC G (nn + 1) dep d0 := by
  intro d m s p P hd K h14 h15 R h7 hBd k
  have h0 := R.hd0
  have r1 := R.1
  subst r1
  refine v_bs (fun B => ?_)
  have hB1 := hBd.1
  have hB2 := hBd.2
  have n0 : m (m 0 0) (-1) = 0 := B.2.2.1 _ (Int.le_refl _)
  have xp : 0 < m 0 0 := B.2.1
  have x0 : m 0 0 ≠ 0 := by omega
  have n14 : m 0 0 ≠ 14 := fun e => by rw [e, K14_t K] at n0; cases n0
  have n15 : m 0 0 ≠ 15 := fun e => by rw [e, K15_t K] at n0; cases n0
  have n8 : (8 : Int) ≠ m 0 0 := fun e => by rw [← e, K8_t K] at n0; cases n0
  have n9 : m 0 0 ≠ 9 := fun e => by rw [e, K9_t K] at n0; cases n0
  have n11 : m 0 0 ≠ 11 := fun e => by rw [e, K11_t K] at n0; cases n0
  refine wX4_code K (by omega) (q_isNext K (by omega) R ⟨rfl, Ok.refl m, fun q1 => ?_, fun q1 => ?_⟩)
  rotate_left
  · -- a variable
    have n1 := on1 q1
    rw [pC_V n1] at k
    refine q_take K (by omega) R (by omega) (by omega) (fun q m2 e2 o2 => ⟨o2, fun _ => ?_, fun z => absurd rfl z⟩) (fun q => absurd n1 q)
    have g2 := Go.pl K e2 o2
    have x2 : m2 0 = m 0 := by funext f; rw [e2, up_na _ (by decide)]
    have l2 := (R.next K (by omega) g2 (by decide) (by rw [e2, up_self])).2.1
    exact leafC K (by omega) h14 R (by omega) g2 (by omega) (by omega) (by rw [e2, up_self]) (by rw [x2]; omega) (by omega) (t := (1, hdC s - 97, m 8 5)) rfl (Or.inl ⟨rfl, rfl, by show hdC s = hdC s - 97 + 97; omega⟩) (fun m' v g' R' T' => k m' v (g'.le (by omega) (by omega)) R' T')
  have n1 := off1 q1
  refine q_isNext K (by omega) R ⟨rfl, Ok.refl m, fun q2 => ?_, fun q2 => ?_⟩
  rotate_left
  · -- a digit
    have n2 := on1 q2
    rw [pC_D n2] at k
    refine q_digit K (by omega) R (by omega) n2 (fun m2 v g2 e2 hv lit => ⟨g2.2.1, fun _ => ?_, fun z => absurd rfl z⟩)
    have l2 := (R.next K (by omega) g2 (by decide) e2).2.1
    have b2 := g2.2.2
    exact leafC K (by omega) h14 R (by omega) g2 (by omega) (by omega) e2 (by omega) (by decide) (t := (2, hdC s - 48, m 8 5)) rfl (Or.inr (Or.inl ⟨rfl, rfl, hv, lit⟩)) (fun m' v g' R' T' => k m' v (g'.le (by omega) (by omega)) R' T')
  have n2 := off1 q2
  refine q_passes K (by omega) R (fun q3 m2 e2 o2 => ⟨rfl, o2, fun z => absurd z (by decide), fun _ => ?_⟩) (fun q3 => ⟨rfl, Ok.refl m, fun _ => ?_, fun z => absurd rfl z⟩)
  · rw [pC_F q3] at k
    have g2 := Go.pl K e2 o2
    have x2 : m2 0 = m 0 := by funext f; rw [e2, up_na _ (by decide)]
    have l2 := (R.next K (by omega) g2 (by decide) (by rw [e2, up_self])).2.1
    exact leafC K (by omega) h14 R (by omega) g2 (by omega) (by omega) (by rw [e2, up_self]) (by rw [x2]; omega) (by decide) (t := (10, 78, m 8 5)) rfl (Or.inr (Or.inr ⟨rfl, rfl⟩)) (fun m' v g' R' T' => k m' v (g'.le (by omega) (by omega)) R' T')
  refine q_isNext K (by omega) R ⟨rfl, Ok.refl m, fun q4 => ?_, fun q4 => ?_⟩
  rotate_left
  · -- a letter
    have n4 := on1 q4
    refine q_take K (by omega) R (by omega) (by omega) (fun q m2 e2 o2 => ⟨o2, fun _ => ?_, fun z => absurd rfl z⟩) (fun q => absurd n4 q)
    have g2 := Go.pl K e2 o2
    have K2 := g2.ki K
    have x2 : m2 0 = m 0 := by funext f; rw [e2, up_na _ (by decide)]
    refine ⟨by rw [x2]; omega, by rw [x2]; omega, fun B2 m6 e6 o6 => ?_⟩
    have g6 := g2.trans (Go.nw B2 (by decide) e6)
    have K6 := o6.2.1 K2
    rw [x2]
    have t6 : m6 (m 0 0) (-1) = 23 := by have := al_tag B2 e6; rw [x2] at this; exact this
    have p6 : m6 8 5 = m 8 5 + 1 := by rw [e6, al_old B2 (by rw [K8_t K2]; decide), e2, up_self]
    obtain ⟨R6, hlen, -⟩ := R.next K (by omega) g6 (by decide) p6
    have lf : ¬ (hdC s.tail = 40 ∧ dep < 12) → WV G mX18_init 0 [(1, (m 0 0)), (1, (-3)), (0, (m 8 5)), (0, hdC s), (1, 0), (1, 14), (1, 15)] [] m6 (d - 1) (fun k v151 m152 => k = 0 ∧ Ok m6 m152 ∧ (P 0 (m 0 0) m152)) := by
      intro z
      rw [pC_L0 n4 z] at k
      refine q_i23 K6 (by omega) x0 t6 (by omega) (fun m' e' f9 f0 f1 f2 f3 f4 f5 o' => ⟨rfl, o', ?_⟩)
      have gg := g6.fr n0 x0 e' o'
      have F := gg.fc K
      have r14 : ∀ f, m' 14 f = m 14 f := fun f => F 14 f (by have := K14_t K; omega)
      have r15 : ∀ f, m' 15 f = m 15 f := fun f => F 15 f (by have := K15_t K; omega)
      have e8 : m' 8 5 = m 8 5 + 1 := by rw [e' 8 n8]; exact p6
      have R' := R.next K (by omega) gg (by decide) e8
      refine k m' (m 0 0) (gg.le (by omega) (by omega)) R'.1 ⟨⟨Int.le_refl _, f9, f1, ⟨by rw [f4, r14]; exact K14_t K, Or.inl f4⟩, ⟨by rw [f5, r15]; exact K15_t K, Or.inl f5⟩, Or.inr (Or.inr (Or.inl ⟨rfl, f0, ?_⟩))⟩, ?_⟩
      · rw [f2]; show hdC s = hdC s - 65 + 65; omega
      · show m' (m' (m 0 0) 4) (-2) = 0
        rw [f4, r14]; exact h14
    refine ⟨fun q5 => ⟨x0, lf (by omega)⟩, fun q5 => ?_⟩
    have hdp : dep < 12 := by omega
    refine q_passes K6 (by omega) R6 (fun q6 m7 e7 o7 => ⟨rfl, o7, fun z => absurd z (by decide), fun _ => ?_⟩) (fun q6 => ⟨rfl, Ok.refl m6, fun _ => ⟨x0, lf (fun z => q6 z.1)⟩, fun z => absurd rfl z⟩)
    rw [pC_L1 n4 ⟨q6, hdp⟩] at k
    have g7' := Go.pl K6 e7 o7
    have g7 := g6.trans g7'
    have K7 := g7.ki K
    have p7 : m7 8 5 = m 8 5 + 1 + 1 := by rw [e7, up_self]
    obtain ⟨R7, hlen7, -⟩ := R6.next K6 (by omega) g7' (by decide) p7
    have x7 : m7 0 0 = m 0 0 + 1 := by rw [e7, up_na _ (by decide), e6]; unfold al; simp; rw [x2]
    have b7 := g7.2.2
    have w7 := g7.2.2.2.2 (by rw [K11_t K]; decide)
    have r14 : m7 14 (-2) = 0 := by rw [g7.cell K (by have := K14_t K; omega) (by decide)]; exact h14
    have r15 : m7 15 (-2) = 0 := by rw [g7.cell K (by have := K15_t K; omega) (by decide)]; exact h15
    rw [wr_id (by omega) (by omega), show (dep : Int) + 1 = ((dep + 1 : Nat) : Int) by omega]
    rw [show m 8 5 + 1 + 1 = m 8 5 + 2 by omega] at R7
    refine q_codesS (hT hdp) hd0 (d - 1) m7 s.tail.tail (m 8 5 + 2) _ (by omega) K7 r14 r15 R7 (by omega) ⟨by omega, by omega⟩ ?_
    revert k
    cases pCs (pC nn (dep + 1)) 7 0 s.tail.tail (m 8 5 + 2) with
    | inl e => exact fun k m' v g' e' t' => ⟨g'.2.1, fun z => absurd z (by decide), fun _ => k m' v ((g7.trans g').le (by omega) (by omega)) e' t'⟩
    | inr w =>
      obtain ⟨f, s'', p''⟩ := w
      intro k m' v g' R' T'
      obtain ⟨t1, t2, t3⟩ := T'
      have g'' := g7.trans g'
      have K' := g''.ki K
      have tx : m' (m 0 0) (-1) = 23 := g'.2.1.tag (o7.tag t6 (by decide)) (by decide)
      refine ⟨g'.2.1, fun _ => ⟨x0, q_i23 K' (by omega) x0 tx (by omega) (fun m'' e'' f9 f0 f1 f2 f3 f4 f5 o'' => ⟨rfl, o'', ?_⟩)⟩, fun z => absurd rfl z⟩
      have vx : v ≠ m 0 0 := fun e => by rw [e, tx] at t1; cases t1
      have gx : Go (m 0 0) 0 0 m' m'' := Go.one x0 n11 e'' o''
      have ggg := g''.fr n0 x0 e'' o''
      have e15 : ∀ f, m'' 15 f = m 15 f := fun f => ggg.fc K 15 f (by have := K15_t K; omega)
      refine k m'' (m 0 0) (ggg.le (by omega) (by omega)) (R'.mv K' gx n9 (by rw [e'' 8 n8]; exact R'.1)) ⟨⟨Int.le_refl _, f9, f1, ⟨by rw [f4, e'' v vx]; exact t1, Or.inr (by rw [f4]; omega)⟩, ⟨by rw [f5, e15]; exact K15_t K, Or.inl f5⟩, Or.inr (Or.inr (Or.inl ⟨rfl, f0, by rw [f2]; show hdC s = hdC s - 65 + 65; omega⟩))⟩, ?_⟩
      show CdF m'' (m 0 0) f 0 (m'' (m 0 0) 4) 0
      rw [f4]
      exact CdF.mono (b := v + 1) (by omega) _ _ (CdF.fb (Fa.one e'') ⟨by rw [tx]; decide, by rw [tx]; decide⟩ (by omega) n14 n15 f 0 (fun q => nomatch q) (fun _ => ⟨t1, vx⟩) (fun q => absurd q (by omega)) t3)
  have n4 := off1 q4
  -- the forms
  refine q_need K (by omega) (by omega) (fun q5 => ⟨Ok.refl m, fun _ => ?_, fun z => absurd rfl z⟩) (fun q5 m' x g e t => ⟨g.2.1, fun z => absurd z (by decide), fun _ => ?_⟩)
  rotate_left
  · have hdp : ¬ dep < 12 := fun z => by rw [if_neg (by omega)] at q5; exact absurd q5 (by decide)
    rw [pC_E n1 n2 q3 n4 (Or.inl hdp)] at k
    exact k m' x (g.le (by omega) (by omega)) e t
  have hdp : dep < 12 := by
    by_cases z : dep < 12
    · exact z
    · rw [if_pos (by omega)] at q5; exact absurd rfl q5
  have hT := hT hdp
  have hw : wr ((dep : Int) + 1) = ((dep + 1 : Nat) : Int) := by rw [wr_id (by omega) (by omega)]; omega
  refine q_passes K (by omega) R (fun q6 m2 e2 o2 => ⟨rfl, o2, fun z => absurd z (by decide), fun _ => ?_⟩) (fun q6 => ⟨rfl, Ok.refl m, fun _ => ?_, fun z => absurd rfl z⟩)
  · -- a match
    rw [pC_M q6 hdp] at k
    have g2 := Go.pl K e2 o2
    have K2 := g2.ki K
    have x2 : m2 0 = m 0 := by funext f; rw [e2, up_na _ (by decide)]
    obtain ⟨R2, l2, -⟩ := R.next K (by omega) g2 (by decide) (by rw [e2, up_self])
    have w2 := g2.2.2.2.2 (by rw [K11_t K]; decide)
    have r14 : m2 14 (-2) = 0 := by rw [g2.cell K (by have := K14_t K; omega) (by decide)]; exact h14
    have r15 : m2 15 (-2) = 0 := by rw [g2.cell K (by have := K15_t K; omega) (by decide)]; exact h15
    rw [hw]
    refine q_match hT hd0 (by omega) K2 r14 r15 R2 (by omega) ⟨by rw [x2]; omega, by rw [x2]; omega⟩ ?_
    rw [show (s.tail.length : Int) + 1 = s.length by omega, x2]
    exact k.pre g2
  -- the list of parts
  refine ⟨by omega, by omega, fun m21 A21 o21 => ?_⟩
  have g21 := Go.nw B (by decide) A21.2
  have K21 := g21.ki K
  have x21 : m21 0 0 = m 0 0 + 1 := by rw [A21.2]; unfold al; simp
  have y21 : m21 0 1 = m 0 1 + 3 := by rw [A21.2]; unfold al; simp
  have t21 : ∀ f, m21 (m 0 0) f = if f = -1 then 4 else if f = -2 then 0 else 0 := fun f => by rw [A21.2, al_new B]
  have p21 : m21 8 5 = m 8 5 := by rw [A21.2, al_old B (by rw [K8_t K]; decide)]
  have R21 := R.mv K g21 (by decide) p21
  have mk : hdC s ≠ 0 → ∀ m2, m2 = up m21 8 5 (m 8 5 + 1) → Ok m21 m2 → LSq (CdT (m 0 0 + 1)) m2 (m 0 0) s.tail.length [] m2 s.tail (m 8 5 + 1) ∧ Go 11 1 3 m m2 ∧ s.length = s.tail.length + 1 ∧ BdL m2 (m 0 0) s.tail.length ∧ m2 (m 0 0) (-3) = 0 ∧ m2 0 = m21 0 := by
    intro hne m2 e2 o2
    have g2' := Go.pl K21 e2 o2
    have g2 := g21.trans g2'
    have K2 := g2.ki K
    obtain ⟨R2, l2, -⟩ := R21.next K21 hne g2' (by decide) (by rw [e2, up_self])
    have a2 : ∀ f, m2 (m 0 0) f = m21 (m 0 0) f := fun f => by rw [e2, up_na _ (Ne.symm n8)]
    have x2 : m2 0 = m21 0 := by funext f; rw [e2, up_na _ (by decide)]
    have w2 := g2.2.2.2.2 (by rw [K11_t K]; decide)
    have c2 : m2 (m 0 0) (-3) = 0 := by rw [a2, t21]; decide
    refine ⟨⟨(GoA.of Go.refl K2 (by rw [a2, t21]; rfl)).le (by omega) (by omega), K2, ?_, ?_, R2, by omega, by rw [a2, t21]; rfl, by rw [a2, t21]; rfl, by omega, by omega, fun j x hx => by simp at hx⟩, g2.le (by omega) (by omega), l2, ⟨by rw [x2]; omega, by rw [x2]; omega⟩, c2, x2⟩
    · rw [g2.cell K (by have := K14_t K; omega) (by decide)]; exact h14
    · rw [g2.cell K (by have := K15_t K; omega) (by decide)]; exact h15
  rw [hw]
  refine q_passes K21 (by omega) R21 (fun q7 m2 e2 o2 => ⟨rfl, o2, fun z => absurd z (by decide), fun _ => ?_⟩) (fun q7 => ⟨rfl, Ok.refl m21, fun _ => ?_, fun z => absurd rfl z⟩)
  · -- a test
    rw [pC_T q7 hdp] at k
    obtain ⟨S2, g2, l2, hBL, c2, x2⟩ := mk (by omega) m2 e2 o2
    exact q_test hT (by omega) hd0 S2 (by omega) n14 n15 (by rw [x2]; omega) hBL xp (OutG.of g2 (by omega) (by omega) n0 c2 (Int.le_refl _) (by omega) k)
  refine q_peek K21 (by omega) R21 ⟨rfl, Ok.refl m21, ?_⟩
  refine q_passes K21 (by omega) R21 (fun q8 m2 e2 o2 => ⟨rfl, o2, fun _ => ?_, fun z => absurd z (by decide)⟩) (fun q8 => ⟨rfl, Ok.refl m21, fun z => absurd rfl z, fun _ => ?_⟩)
  · rw [pC_S (Or.inl q8) hdp, if_pos q8] at k
    obtain ⟨S2, g2, l2, hBL, c2, x2⟩ := mk (by omega) m2 e2 o2
    have K2 := g2.ki K
    refine q_need K2 (by omega) (by rw [x2]; omega) (fun _ => ⟨Ok.refl m2, fun _ => ?_, fun z => absurd rfl z⟩) (fun z => absurd z (by decide))
    rw [if_pos (show hdC s ≠ 45 by omega)]
    exact q_sumT hT (by omega) hd0 S2 (by omega) n14 n15 (by rw [x2]; omega) hBL xp (t := (6, 0, m 8 5)) rfl (Or.inl ⟨rfl, rfl⟩) (OutG.of g2 (by omega) (by omega) n0 c2 (Int.le_refl _) (by omega) k)
  · refine q_passes K21 (by omega) R21 (fun q9 m2 e2 o2 => ⟨rfl, o2, ?_⟩) (fun q9 => ⟨rfl, Ok.refl m21, ?_⟩)
    · rw [pC_S (Or.inr q9) hdp, if_neg q8] at k
      obtain ⟨S2, g2, l2, hBL, c2, x2⟩ := mk (by omega) m2 e2 o2
      have K2 := g2.ki K
      refine q_need K2 (by omega) (by rw [x2]; omega) (fun _ => ⟨Ok.refl m2, fun _ => ?_, fun z => absurd rfl z⟩) (fun z => absurd z (by decide))
      rw [if_neg (show ¬ hdC s ≠ 45 by omega)]
      exact q_sumT hT (by omega) hd0 S2 (by omega) n14 n15 (by rw [x2]; omega) hBL xp (t := (7, 0, m 8 5)) rfl (Or.inr ⟨rfl, rfl⟩) (OutG.of g2 (by omega) (by omega) n0 c2 (Int.le_refl _) (by omega) k)
    · rw [pC_E n1 n2 q3 n4 (Or.inr ⟨q6, q7, q8, q9⟩)] at k
      refine q_need K21 (by omega) (by omega) (fun z => absurd rfl z) (fun _ m' x g e t => ⟨g.2.1, fun z => absurd z (by decide), fun _ => ?_⟩)
      exact k m' x ((g21.trans g).le (by omega) (by omega)) (by rw [e]; exact p21) t
