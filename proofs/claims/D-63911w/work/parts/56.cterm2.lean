/-! L3, component: the reader of terms -/
def Bd (m : SM) (L : Int) : Prop := m 0 0 + 60 * L + 100 ≤ 1203100 ∧ m 0 1 + 250 * L + 400 ≤ 5491000
def hf (hol : Bool) : Int := if hol = true then 1 else 0
def QT (G : GM) (hol : Bool) (n dep d0 : Nat) : Prop := ∀ (d : Nat) (m : SM) (s : List Int) (p : Int) (P : Nat → Int → SM → Prop), d0 ≤ d → KI m → m 13 (-2) = 0 → Rd m s p → m 8 6 = hf hol → Bd m s.length → Out m s.length (pT hol n dep s p) (TmT (m 0 0)) P → WV G mX4_term 0 [(1, 8), (0, (dep : Int)), (9, 0), (9, 0)] [] m d P
def LsT (b : Int) (m : SM) (v : Int) (f : TF) : Prop := m v (-1) = 4 ∧ b ≤ v ∧ TmF m (v + 1) f v 0
def QTs (G : GM) (hol : Bool) (n dep d0 : Nat) : Prop := ∀ (d : Nat) (m : SM) (s : List Int) (p : Int) (P : Nat → Int → SM → Prop), d0 ≤ d → KI m → m 13 (-2) = 0 → Rd m s p → m 8 6 = hf hol → Bd m (s.length + 1) → Out m (s.length + 1) (pTs (pT hol n dep) hol 7 0 s p) (LsT (m 0 0)) P → WV G mX4_terms 0 [(1, 8), (0, (dep : Int)), (9, 0)] [] m d P
theorem q_termS {G : GM} {hol : Bool} {n dep d1 d0 : Nat} (hQ : dep < 8 → QTs G hol n (dep + 1) d1) (hd1 : d1 + 1 ≤ d0) (hd0 : 20 ≤ d0) (hdep : dep ≤ 8) : QT G hol (n + 1) dep d0 := by
  intro d m s p P hd K h13 R hh hB k
  have h0 := R.hd0
  have r1 := R.1
  subst r1
  refine v_bs (fun B => ?_)
  have hB1 := hB.1
  have hB2 := hB.2
  -- what the spec says
  have kV : 97 ≤ hdC s ∧ hdC s ≤ 122 → Out m s.length (.inr (((1, hdC s - 97, m 8 5), nil), s.tail, m 8 5 + 1)) (TmT (m 0 0)) P := fun h => by
    cases s with
    | nil => exact absurd h.1 (by show ¬ (97 : Int) ≤ 0; decide)
    | cons c r =>
      have h' : 97 ≤ c ∧ c ≤ 122 := h
      unfold pT at k; dsimp only at k; rw [if_pos (isV_iff.mpr h')] at k; exact k
  have kD : 48 ≤ hdC s ∧ hdC s ≤ 57 → Out m s.length (.inr (((2, hdC s - 48, m 8 5), nil), s.tail, m 8 5 + 1)) (TmT (m 0 0)) P := fun h => by
    cases s with
    | nil => exact absurd h.1 (by show ¬ (48 : Int) ≤ 0; decide)
    | cons c r =>
      have h' : 48 ≤ c ∧ c ≤ 57 := h
      unfold pT at k; dsimp only at k; rw [if_neg (fun z => by have := isV_iff.mp z; omega), if_pos (isD_iff.mpr h')] at k; exact k
  have kH : hdC s = 35 → Out m s.length (.inr (((3, 0, m 8 5), nil), s.tail, m 8 5 + 1)) (TmT (m 0 0)) P := fun h => by
    cases s with
    | nil => exact absurd h (by show ¬ (0 : Int) = 35; decide)
    | cons c r =>
      have h' : c = 35 := h
      unfold pT at k; dsimp only at k; rw [if_neg (fun z => by have := isV_iff.mp z; omega), if_neg (fun z => by have := isD_iff.mp z; omega), if_pos h'] at k; exact k
  have kB : hol = true → hdC s = 95 → Out m s.length (.inr (((4, 0, m 8 5), nil), s.tail, m 8 5 + 1)) (TmT (m 0 0)) P := fun hl h => by
    cases s with
    | nil => exact absurd h (by show ¬ (0 : Int) = 95; decide)
    | cons c r =>
      have h' : c = 95 := h
      unfold pT at k; dsimp only at k; rw [if_neg (fun z => by have := isV_iff.mp z; omega), if_neg (fun z => by have := isD_iff.mp z; omega), if_neg (by omega), if_pos ⟨hl, h'⟩] at k; exact k
  have kL : 65 ≤ hdC s ∧ hdC s ≤ 90 → (¬ (hdC s.tail = 40 ∧ dep < 8) → Out m s.length (.inr (((5, hdC s - 65, m 8 5), nil), s.tail, m 8 5 + 1)) (TmT (m 0 0)) P) ∧ (hdC s.tail = 40 ∧ dep < 8 → Out m s.length (match pTs (pT hol n (dep + 1)) hol 7 0 s.tail.tail (m 8 5 + 2) with
            | .inl e => .inl e
            | .inr (f, s'', p'') => .inr (((5, hdC s - 65, m 8 5), f), s'', p'')) (TmT (m 0 0)) P) := fun h => by
    cases s with
    | nil => exact absurd h.1 (by show ¬ (65 : Int) ≤ 0; decide)
    | cons c r =>
      have h' : 65 ≤ c ∧ c ≤ 90 := h
      unfold pT at k; dsimp only at k
      rw [if_neg (fun z => by have := isV_iff.mp z; omega), if_neg (fun z => by have := isD_iff.mp z; omega), if_neg (by omega), if_neg (fun z => by omega), if_pos (isL_iff.mpr h')] at k
      cases r with
      | nil => exact ⟨fun _ => k, fun z => absurd z.1 (by show ¬ (0 : Int) = 40; decide)⟩
      | cons x r' =>
        refine ⟨fun z => ?_, fun z => ?_⟩
        · dsimp only at k; rw [if_neg (show ¬ (x = 40 ∧ dep < 8) from z)] at k; exact k
        · dsimp only at k; rw [if_pos (show x = 40 ∧ dep < 8 from z)] at k; exact k
  have kN : ¬ (97 ≤ hdC s ∧ hdC s ≤ 122) → ¬ (48 ≤ hdC s ∧ hdC s ≤ 57) → hdC s ≠ 35 → ¬ (hol = true ∧ hdC s = 95) → ¬ (65 ≤ hdC s ∧ hdC s ≤ 90) → Out m s.length (.inl (m 8 5)) (TmT (m 0 0)) P := fun n1 n2 n3 n4 n5 => by
    cases s with
    | nil => unfold pT at k; exact k
    | cons c r => unfold pT at k; dsimp only at k; rw [if_neg (show ¬ isV c = true from fun z => n1 (isV_iff.mp z)), if_neg (show ¬ isD c = true from fun z => n2 (isD_iff.mp z)), if_neg (show ¬ c = 35 from n3), if_neg (show ¬ (hol = true ∧ c = 95) from n4), if_neg (show ¬ isL c = true from fun z => n5 (isL_iff.mp z))] at k; exact k
  clear k
  -- a letter, or nothing
  have j152 : ¬ (97 ≤ hdC s ∧ hdC s ≤ 122) → ¬ (48 ≤ hdC s ∧ hdC s ≤ 57) → hdC s ≠ 35 → ¬ (hol = true ∧ hdC s = 95) → WV G mX4_term 152 [(1, 8), (0, (dep : Int)), (0, m 8 5), (9, 0)] [] m d P := by
    intro n1 n2 n3 n4
    refine wX4_term_152 K (by omega) (q_take K (by omega) R (by omega) (by omega) (fun q m2 e2 o2 => ⟨o2, fun _ => ?_, fun z => absurd rfl z⟩) (fun q m' x g e t => ⟨g.2.1, fun z => absurd z (by decide), fun _ => kN n1 n2 n3 n4 q m' x (g.le (by omega) (by omega)) e t⟩))
    have g2 := Go.pl K e2 o2
    have K2 := g2.ki K
    have x2 : m2 0 0 = m 0 0 := by rw [e2, up_na _ (by decide)]
    have y2 : m2 0 1 = m 0 1 := by rw [e2, up_na _ (by decide)]
    refine ⟨by omega, by omega, fun B2 m6 e6 o6 => ?_⟩
    have g6 := g2.trans (Go.nw B2 (by decide) e6)
    have K6 := o6.2.1 K2
    have n0 : m (m 0 0) (-1) = 0 := by
      have := B2.2.2.1 _ (Int.le_refl (m2 0 0))
      rw [x2, e2, up_nf _ (by decide)] at this; exact this
    have x0 : m 0 0 ≠ 0 := by have := B2.2.1; omega
    have t6 : m6 (m 0 0) (-1) = 14 := by have := al_tag B2 e6; rw [x2] at this; exact this
    have p6 : m6 8 5 = m 8 5 + 1 := by rw [e6, al_old B2 (by rw [K8_t K2]; decide), e2, up_self]
    have hne : hdC s ≠ 0 := by omega
    obtain ⟨R6, hlen, -⟩ := R.next K hne g6 (by decide) p6
    rw [x2]
    refine ⟨fun q1 => ⟨x0, ?_⟩, fun q1 => ?_⟩
    · exact leafT K (by omega) h13 R hne g6 (by omega) (by omega) n0 x0 (Int.le_refl _) t6 p6 (by omega) (t := (5, hdC s - 65, m 8 5)) rfl (Or.inr (Or.inr (Or.inr (Or.inr ⟨rfl, rfl, by show hdC s = hdC s - 65 + 65; omega⟩)))) (fun m' v g' R' T' => (kL q).1 (by omega) m' v (g'.le (by omega) (by omega)) R' T')
    · refine q_passes K6 (by omega) R6 (fun q2 m7 e7 o7 => ⟨rfl, o7, fun z => absurd z (by decide), fun _ => ?_⟩) (fun q2 => ⟨rfl, Ok.refl m6, fun _ => ⟨x0, ?_⟩, fun z => absurd rfl z⟩)
      · have g7' := Go.pl K6 e7 o7
        have g7 := g6.trans g7'
        have K7 := g7.ki K
        have hdp : dep < 8 := by omega
        have p7 : m7 8 5 = m 8 5 + 1 + 1 := by rw [e7, up_self]
        obtain ⟨R7, hlen7, -⟩ := R6.next K6 (by omega) g7' (by decide) p7
        have x7 : m7 0 0 = m 0 0 + 1 := by
          rw [e7, up_na _ (by decide), e6]; unfold al; simp; exact x2
        have b7 := g7.2.2
        have r13 : m7 13 (-2) = 0 := by rw [g7.cell K (by have := K13_t K; omega) (by decide)]; exact h13
        have h86 : m7 8 6 = hf hol := by rw [g7.1 8 6 (by rw [K8_t K]; decide) (by decide) (by decide) (by omega)]; exact hh
        have kk := (kL q).2 ⟨q2, hdp⟩
        rw [wr_id (by omega) (by omega), show (dep : Int) + 1 = ((dep + 1 : Nat) : Int) by omega]
        rw [show m 8 5 + 1 + 1 = m 8 5 + 2 by omega] at R7
        refine hQ hdp (d - 1) m7 s.tail.tail (m 8 5 + 2) _ (by omega) K7 r13 R7 h86 ⟨by omega, by omega⟩ ?_
        revert kk
        cases pTs (pT hol n (dep + 1)) hol 7 0 s.tail.tail (m 8 5 + 2) with
        | inl e => exact fun kk m' v g' e' t' => ⟨g'.2.1, fun z => absurd z (by decide), fun _ => kk m' v ((g7.trans g').le (by omega) (by omega)) e' t'⟩
        | inr w =>
          obtain ⟨f, s'', p''⟩ := w
          intro kk m' v g' R' T'
          obtain ⟨t1, t2, t3⟩ := T'
          have g'' := g7.trans g'
          have K' := g''.ki K
          have tx : m' (m 0 0) (-1) = 14 := g'.2.1.tag (o7.tag t6 (by decide)) (by decide)
          refine ⟨g'.2.1, fun _ => ⟨x0, q_i14 K' (by omega) x0 tx (by omega) (fun m'' e'' f9 f0 f1 f2 f3 f4 o'' => ⟨rfl, o'', ?_⟩)⟩, fun z => absurd rfl z⟩
          have vx : v ≠ m 0 0 := fun e => by rw [e, tx] at t1; cases t1
          have n13 : m 0 0 ≠ 13 := fun e => by rw [e, K13_t K] at n0; cases n0
          have n9 : m 0 0 ≠ 9 := fun e => by rw [e, K9_t K] at n0; cases n0
          have n8 : (8 : Int) ≠ m 0 0 := fun e => by rw [← e, K8_t K] at n0; cases n0
          have gx : Go (m 0 0) 0 0 m' m'' := Go.one x0 (fun e => by rw [e, K11_t K] at n0; cases n0) e'' o''
          refine kk m'' (m 0 0) ((g''.fr n0 x0 e'' o'').le (by omega) (by omega)) (R'.mv K' gx n9 (by rw [e'' 8 n8]; exact R'.1)) ⟨⟨Int.le_refl _, f9, f1, by rw [f4, e'' v vx]; exact t1, Or.inr (by rw [f4]; omega), Or.inr (Or.inr (Or.inr (Or.inr ⟨rfl, f0, by rw [f2]; show hdC s = hdC s - 65 + 65; omega⟩)))⟩, ?_⟩
          rw [f4]
          exact (TmF.fr gx K' (by omega) n13 f t1 vx t3).mono (by omega)
      · exact leafT K (by omega) h13 R hne g6 (by omega) (by omega) n0 x0 (Int.le_refl _) t6 p6 (by omega) (t := (5, hdC s - 65, m 8 5)) rfl (Or.inr (Or.inr (Or.inr (Or.inr ⟨rfl, rfl, by show hdC s = hdC s - 65 + 65; omega⟩)))) (fun m' v g' R' T' => (kL q).1 (fun z => q2 z.1) m' v (g'.le (by omega) (by omega)) R' T')
  have n0 : m (m 0 0) (-1) = 0 := B.2.2.1 _ (Int.le_refl _)
  have xp : 0 < m 0 0 := B.2.1
  have x0 : m 0 0 ≠ 0 := by omega
  refine wX4_term K (by omega) (q_isNext K (by omega) R ⟨rfl, Ok.refl m, fun q1 => ?_, fun q1 => ?_⟩)
  · have n1 : ¬ (97 ≤ hdC s ∧ hdC s ≤ 122) := fun z => by rw [if_pos z] at q1; exact absurd q1 (by decide)
    refine q_isNext K (by omega) R ⟨rfl, Ok.refl m, fun q2 => ?_, fun q2 => ?_⟩
    · have n2 : ¬ (48 ≤ hdC s ∧ hdC s ≤ 57) := fun z => by rw [if_pos z] at q2; exact absurd q2 (by decide)
      refine q_passes K (by omega) R (fun q3 m8 e8 o8 => ⟨rfl, o8, fun z => absurd z (by decide), fun _ => ?_⟩) (fun q3 => ⟨rfl, Ok.refl m, fun _ => ⟨fun q4 => ?_, fun q4 => ?_⟩, fun z => absurd rfl z⟩)
      · have g8 := Go.pl K e8 o8
        have K8 := g8.ki K
        have x8 : m8 0 0 = m 0 0 := by rw [e8, up_na _ (by decide)]
        have y8 : m8 0 1 = m 0 1 := by rw [e8, up_na _ (by decide)]
        refine ⟨by omega, by omega, fun B8 m27 e27 o27 => ⟨by omega, ?_⟩⟩
        have g27 := g8.trans (Go.nw B8 (by decide) e27)
        have K27 := g27.ki K
        rw [x8]
        refine wX9_init K27 (by omega) ⟨x0, rfl, Ok.refl m27, fun m37 e37 o37 => ?_⟩
        have g37 := g27.fr n0 x0 (m'' := m37) (fun z hz => by funext f; rw [e37, up_na _ hz]) o37
        have K37 := g37.ki K
        have b37 := g37.2.2
        have n8 : (8 : Int) ≠ m 0 0 := fun e => by rw [← e, K8_t K] at n0; cases n0
        have x37 : m37 0 0 = m 0 0 + 1 := by rw [e37, up_na _ (Ne.symm x0), e27]; unfold al; simp; exact x8
        refine ⟨by omega, by omega, fun B37 m44 e44 o44 => ⟨by omega, ?_⟩⟩
        have g44 := g37.trans (Go.nw B37 (by decide) e44)
        have f37 : ∀ f, m37 (m 0 0) f = if f = 0 then -16 else if f = -1 then 11 else 0 := fun f => by
          rw [e37]
          by_cases z : f = 0
          · rw [z, up_self, if_pos rfl]
          · rw [up_nf _ z, if_neg z, e27, ← x8, al_new B8]
            by_cases w : f = -1
            · rw [if_pos w, if_pos w]
            · rw [if_neg w, if_neg w]; split <;> rfl
        have f44 : ∀ f, m44 (m 0 0) f = if f = 0 then -16 else if f = -1 then 11 else 0 := fun f => by rw [e44, al_old B37 (by rw [f37]; decide), f37]
        have p44 : m44 8 5 = m 8 5 + 1 := by rw [e44, al_old B37 (by rw [K8_t K37]; decide), e37, up_na _ n8, e27, al_old B8 (by rw [K8_t K8]; decide), e8, up_self]
        exact leafT K (by omega) h13 R (by omega) g44 (by omega) (by omega) (x := m37 0 0) (by rw [x37]; exact B.2.2.1 _ (by omega)) (by omega) (by omega) (al_tag B37 e44) p44 (by omega) (t := (3, 0, m 8 5)) rfl (Or.inr (Or.inr (Or.inl ⟨rfl, rfl, Int.le_refl _, by rw [f44]; rfl, by rw [f44]; rfl, by rw [f44]; rfl, by rw [f44]; rfl, by rw [f44]; rfl⟩))) (fun m' v g' R' T' => kH q3 m' v (g'.le (by have := R'.2.2.1; have := (R.next K (by omega) g44 (by decide) p44).2.1; omega) (by have := (R.next K (by omega) g44 (by decide) p44).2.1; omega)) R' T')
      · exact j152 n1 n2 q3 (fun z => by rw [hh] at q4; unfold hf at q4; rw [if_pos z.1] at q4; exact absurd q4 (by decide))
      · have hl : hol = true := by
          by_cases z : hol = true
          · exact z
          · rw [hh] at q4; unfold hf at q4; rw [if_neg z] at q4; exact absurd rfl q4
        refine q_passes K (by omega) R (fun q5 m11 e11 o11 => ⟨rfl, o11, fun z => absurd z (by decide), fun _ => ?_⟩) (fun q5 => ⟨rfl, Ok.refl m, fun _ => j152 n1 n2 q3 (fun z => q5 z.2), fun z => absurd rfl z⟩)
        have g11 := Go.pl K e11 o11
        have K11 := g11.ki K
        have x11 : m11 0 0 = m 0 0 := by rw [e11, up_na _ (by decide)]
        have y11 : m11 0 1 = m 0 1 := by rw [e11, up_na _ (by decide)]
        refine ⟨by omega, by omega, fun B11 m15 e15 o15 => ⟨by omega, ?_⟩⟩
        have g15 := g11.trans (Go.nw B11 (by decide) e15)
        have p15 : m15 8 5 = m 8 5 + 1 := by rw [e15, al_old B11 (by rw [K8_t K11]; decide), e11, up_self]
        have hl1 := (R.next K (by omega) g15 (by decide) p15).2.1
        exact leafT K (by omega) h13 R (by omega) g15 (by omega) (by omega) (x := m11 0 0) (by rw [x11]; exact n0) (by omega) (by omega) (al_tag B11 e15) p15 (by omega) (t := (4, 0, m 8 5)) rfl (Or.inr (Or.inr (Or.inr (Or.inl ⟨rfl, rfl⟩)))) (fun m' v g' R' T' => kB hl q5 m' v (g'.le (by omega) (by omega)) R' T')
    · have n2 : 48 ≤ hdC s ∧ hdC s ≤ 57 := by
        by_cases z : 48 ≤ hdC s ∧ hdC s ≤ 57
        · exact z
        · rw [if_neg z] at q2; exact absurd rfl q2
      refine ⟨by omega, by omega, fun B5 m58 e58 o58 => ?_⟩
      have g58 := Go.nw B5 (by decide) e58
      have K58 := g58.ki K
      have b58 := g58.2.2
      have p58 : m58 8 5 = m 8 5 := by rw [e58, al_old B5 (by rw [K8_t K]; decide)]
      refine q_digit K58 (by omega) (R.mv K g58 (by decide) p58) (by omega) n2 (fun m64 v g64 e64 hv lit => ⟨g64.2.1, fun _ => ⟨x0, ?_⟩, fun z => absurd rfl z⟩)
      have g := g58.trans g64
      have hl1 := (R.next K (by omega) g (by decide) e64).2.1
      exact leafT K (by omega) h13 R (by omega) g (by omega) (by omega) n0 x0 (Int.le_refl _) (g64.2.1.tag (al_tag B5 e58) (by decide)) e64 (by omega) (t := (2, hdC s - 48, m 8 5)) rfl (Or.inr (Or.inl ⟨rfl, rfl, by omega, lit⟩)) (fun m' v g' R' T' => kD n2 m' v (g'.le (by omega) (by omega)) R' T')
  · have n1 : 97 ≤ hdC s ∧ hdC s ≤ 122 := by
      by_cases z : 97 ≤ hdC s ∧ hdC s ≤ 122
      · exact z
      · rw [if_neg z] at q1; exact absurd rfl q1
    refine ⟨by omega, by omega, fun B5 m58 e58 o58 => ?_⟩
    have g58 := Go.nw B5 (by decide) e58
    have K58 := g58.ki K
    have b58 := g58.2.2
    have p58 : m58 8 5 = m 8 5 := by rw [e58, al_old B5 (by rw [K8_t K]; decide)]
    refine q_take K58 (by omega) (R.mv K g58 (by decide) p58) (by omega) (by omega) (fun q m64 e64 o64 => ⟨o64, fun _ => ⟨x0, ?_⟩, fun z => absurd rfl z⟩) (fun q => absurd n1 q)
    have g := g58.trans (Go.pl K58 e64 o64)
    have p64 : m64 8 5 = m 8 5 + 1 := by rw [e64, up_self]
    have hl1 := (R.next K (by omega) g (by decide) p64).2.1
    exact leafT K (by omega) h13 R (by omega) g (by omega) (by omega) n0 x0 (Int.le_refl _) (o64.tag (al_tag B5 e58) (by decide)) p64 (by omega) (t := (1, hdC s - 97, m 8 5)) rfl (Or.inl ⟨rfl, rfl, by show hdC s = hdC s - 97 + 97; omega⟩) (fun m' v g' R' T' => kV n1 m' v (g'.le (by omega) (by omega)) R' T')
