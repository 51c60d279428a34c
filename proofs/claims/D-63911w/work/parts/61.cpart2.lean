/-! L3, component: Reader.part -/
/-- a Part object: kind, name, place, its terms -/
def PaH (m : SM) (b x : Int) (a : Pa) : Prop := b ≤ x ∧ m x (-1) = 20 ∧
  ((a.1 = 0 ∧ m x 0 = 0 ∧ m x 2 = a.2.1 + 97 ∧ ∃ nd : Lb × TF, a.2.2.2 = cons nd.1 nd.2 nil ∧ TmT b m (m x 3) nd) ∨
   (a.1 = 1 ∧ m x 0 = 0 ∧ m x 2 = 0 ∧ ∃ nd : Lb × TF, a.2.2.2 = cons nd.1 nd.2 nil ∧ TmT b m (m x 3) nd) ∨
   (a.1 = 2 ∧ m x 0 = 1 ∧ m x 1 = a.2.2.1 ∧ m x 2 = a.2.1 + 65 ∧ m (m x 4) (-1) = 4 ∧ b ≤ m x 4 ∧ TmF m b a.2.2.2 (m x 4) 0))
theorem pCh_eq {x p : Int} {s : List Int} (hx : x ≠ 0) : pCh x s p = if hdC s = x then .inr ((), s.tail, p + 1) else .inl p := by
  cases s with
  | nil => unfold pCh hdC; rw [if_neg (fun e => hx e.symm)]
  | cons c r => rfl
theorem pTs_len {pt : List Int → Int → RR (Lb × TF)} {hol : Bool} : ∀ (k cnt : Nat) (s : List Int) (p : Int) (f : TF) (s' : List Int) (p' : Int), pTs pt hol k cnt s p = .inr (f, s', p') → lenF f ≤ k
  | 0, _, _, _, _, _, _, h => nomatch h
  | k + 1, cnt, s, p, f, s', p', h => by
    unfold pTs at h
    split at h
    · split at h
      · cases h
      · split at h
        · cases h
        · rename_i e
          cases h
          have := pTs_len k _ _ _ _ _ _ e
          show 1 + lenF _ ≤ k + 1
          omega
    · split at h
      · cases h
      · split at h
        · cases h; exact Nat.zero_le _
        · cases h
section CP2
variable {m m' : SM} {G : GM} {d : Nat} {P : Nat → Int → SM → Prop} {s : List Int} {p : Int}
theorem q_part {nn d0 d1 : Nat} (hT : QT G false nn 1 d0) (hTs : QTs G false nn 1 d1) (hd : d0 + 1 ≤ d) (hd' : d1 + 1 ≤ d) (hd0 : 20 ≤ d0) (K : KI m) (h13 : m 13 (-2) = 0) (R : Rd m s p) (hh : m 8 6 = 0) (hB : Bd m (s.length + 2)) (k : Out m (s.length + 2) (pPart nn s p) (PaH · (m 0 0) · ·) P) : WV G mX4_part 0 [(1, 8), (9, 0), (9, 0), (9, 0)] [] m d P := by
  have h0 := R.hd0
  have hB1 := hB.1
  have hB2 := hB.2
  have r1 := R.1
  -- a type without a name
  have un : hdC s ≠ 63 → ¬ (97 ≤ hdC s ∧ hdC s ≤ 122) → ((65 ≤ hdC s ∧ hdC s ≤ 90) ∨ hdC s = 35) → _ := fun n1 n2 n3 => q_ptyp (P := P) (d := d - 1) hT (by omega) hd0 K h13 R hh (show Bd m (s.length + 1) from ⟨by omega, by omega⟩) (a3 := 0) (by omega) (fun e he m' v g e' t => by
      cases s with
      | nil => exact absurd n3 (by show ¬ (((65 : Int) ≤ 0 ∧ (0 : Int) ≤ 90) ∨ (0 : Int) = 35); decide)
      | cons x r =>
        unfold pPart at k
        dsimp only at k
        rw [if_neg (show ¬ x = 63 from n1), if_neg (show ¬ isV x = true from fun z => n2 (isV_iff.mp z)), if_pos (show isL x = true ∨ x = 35 from n3.imp (fun z => isL_iff.mpr z) id), he] at k
        exact k m' v (g.le (by omega) (by omega)) e' t) (fun nd s' p' he m' x' g R' hx t0 t1 t2 T' => by
      cases s with
      | nil => exact absurd n3 (by show ¬ (((65 : Int) ≤ 0 ∧ (0 : Int) ≤ 90) ∨ (0 : Int) = 35); decide)
      | cons x r =>
        unfold pPart at k
        dsimp only at k
        rw [if_neg (show ¬ x = 63 from n1), if_neg (show ¬ isV x = true from fun z => n2 (isV_iff.mp z)), if_pos (show isL x = true ∨ x = 35 from n3.imp (fun z => isL_iff.mpr z) id), he] at k
        exact k m' x' (g.le (by omega) (by omega)) R' ⟨hx, t0, Or.inr (Or.inl ⟨rfl, t1, t2, nd, rfl, T'⟩)⟩)
  have kN : hdC s ≠ 63 → ¬ (97 ≤ hdC s ∧ hdC s ≤ 122) → ¬ ((65 ≤ hdC s ∧ hdC s ≤ 90) ∨ hdC s = 35) → Out m (s.length + 2) (.inl p : RR Pa) (PaH · (m 0 0) · ·) P := fun n1 n2 n3 => by
    cases s with
    | nil => exact k
    | cons x r =>
      unfold pPart at k
      dsimp only at k
      rw [if_neg (show ¬ x = 63 from n1), if_neg (show ¬ isV x = true from fun z => n2 (isV_iff.mp z)), if_neg (show ¬ (isL x = true ∨ x = 35) from fun z => n3 (z.imp (fun z => isL_iff.mp z) id))] at k
      exact k
  have kM : hdC s ≠ 63 → (97 ≤ hdC s ∧ hdC s ≤ 122) → Out (α := Pa) m (s.length + 2) (match pCh 58 s.tail (p + 1) with
      | .inl e => .inl e
      | .inr (_, r2, p2) => match pT false nn 1 r2 p2 with
        | .inl e => .inl e
        | .inr (nd, r3, p3) => .inr ((0, hdC s - 97, p, cons nd.1 nd.2 nil), r3, p3)) (PaH · (m 0 0) · ·) P := fun n1 n2 => by
    cases s with
    | nil => exact absurd n2.1 (by show ¬ (97 : Int) ≤ 0; decide)
    | cons x r =>
      unfold pPart at k
      dsimp only at k
      rw [if_neg (show ¬ x = 63 from n1), if_pos (show isV x = true from isV_iff.mpr n2)] at k
      exact k
  have kC : hdC s = 63 → (¬ (65 ≤ hdC s.tail ∧ hdC s.tail ≤ 90) → Out m (s.length + 2) (.inl (p + 1) : RR Pa) (PaH · (m 0 0) · ·) P) ∧ ((65 ≤ hdC s.tail ∧ hdC s.tail ≤ 90) → Out (α := Pa) m (s.length + 2) (match pCh 40 s.tail.tail (p + 2) with
          | .inl e => .inl e
          | .inr (_, r2, p2) => match pTs (pT false nn 1) false 7 0 r2 p2 with
            | .inl e => .inl e
            | .inr (f, r3, p3) => match pCh 61 r3 p3 with
              | .inl e => .inl e
              | .inr (_, r4, p4) => match pT false nn 1 r4 p4 with
                | .inl e => .inl e
                | .inr (nd, r5, p5) => .inr ((2, hdC s.tail - 65, p + 1, apF f (cons nd.1 nd.2 nil)), r5, p5)) (PaH · (m 0 0) · ·) P) := fun n1 => by
    cases s with
    | nil => exact absurd n1 (by show ¬ (0 : Int) = 63; decide)
    | cons x r =>
      unfold pPart at k
      dsimp only at k
      rw [if_pos (show x = 63 from n1)] at k
      cases r with
      | nil => exact ⟨fun _ => k, fun z => absurd z.1 (by show ¬ (65 : Int) ≤ 0; decide)⟩
      | cons l r1 =>
        dsimp only at k
        refine ⟨fun z => ?_, fun z => ?_⟩
        · rw [if_neg (show ¬ isL l = true from fun y => z (isL_iff.mp y))] at k; exact k
        · rw [if_pos (show isL l = true from isL_iff.mpr z)] at k; exact k
  clear k
  refine v_bs (fun B => ?_)
  have big : 13 < m 0 0 := by
    rcases Int.lt_or_le 13 (m 0 0) with z | z
    · exact z
    · have := B.2.2.1 13 z; rw [K13_t K] at this; cases this
  refine wX4_part K (by omega) (q_passes K (by omega) R (fun q1 m2 e2 o2 => ⟨rfl, o2, fun z => absurd z (by decide), fun _ => ?_⟩) (fun q1 => ⟨rfl, Ok.refl m, fun _ => ?_, fun z => absurd rfl z⟩))
  · -- a condition
    have g2 := Go.pl K e2 o2
    have K2 := g2.ki K
    obtain ⟨R2, l2, -⟩ := R.next K (by omega) g2 (by decide) (by rw [e2, up_self])
    have x2 : m2 0 = m 0 := by funext f; rw [e2, up_na _ (by decide)]
    obtain ⟨kc1, kc2⟩ := kC q1
    refine q_take K2 (by omega) R2 (by omega) (by rw [x2]; omega) (fun q3 m3 e3 o3 => ⟨o3, fun _ => ?_, fun z => absurd rfl z⟩) (fun q3 m' x g e t => ⟨g.2.1, fun z => absurd z (by decide), fun _ => kc1 q3 m' x ((g2.trans g).le (by omega) (by omega)) e t⟩)
    have kc := kc2 q3
    clear kc1 kc2
    have g3' := Go.pl K2 e3 o3
    have g3 := g2.trans g3'
    have K3 := g3.ki K
    obtain ⟨R3, l3, -⟩ := R2.next K2 (by omega) g3' (by decide) (by rw [e3, up_self])
    have x3 : m3 0 = m 0 := by funext f; rw [e3, up_na _ (by decide), x2]
    rw [show p + 1 + 1 = p + 2 by omega] at R3
    rw [pCh_eq (by decide)] at kc
    refine q_take K3 (by omega) R3 (by omega) (by rw [x3]; omega) (fun q4 m4 e4 o4 => ⟨o4, fun _ => ?_, fun z => absurd rfl z⟩) (fun q4 m' x g e t => ⟨g.2.1, fun z => absurd z (by decide), fun _ => ?_⟩)
    rotate_left
    · rw [if_neg (by omega)] at kc
      exact kc m' x ((g3.trans g).le (by omega) (by omega)) e t
    rw [if_pos (by omega)] at kc
    dsimp only at kc
    have g4' := Go.pl K3 e4 o4
    have g4 := g3.trans g4'
    have K4 := g4.ki K
    obtain ⟨R4, l4, -⟩ := R3.next K3 (by omega) g4' (by decide) (by rw [e4, up_self])
    have x4 : m4 0 = m 0 := by funext f; rw [e4, up_na _ (by decide), x3]
    have r13 : ∀ {mm : SM} {c n : Int}, Go 11 c n m mm → mm 13 (-2) = 0 := fun g => by rw [g.cell K (by have := K13_t K; omega) (by decide)]; exact h13
    have r86 : ∀ {mm : SM} {c n : Int}, Go 11 c n m mm → mm 8 6 = hf false := fun g => by rw [g.1 8 6 (by rw [K8_t K]; decide) (by decide) (by decide) (by omega), hh]; rfl
    refine hTs (d - 1) m4 s.tail.tail.tail (p + 2 + 1) _ (by omega) K4 (r13 g4) R4 (r86 g4) ⟨by rw [x4]; omega, by rw [x4]; omega⟩ ?_
    cases et : pTs (pT false nn 1) false 7 0 s.tail.tail.tail (p + 2 + 1) with
    | inl e =>
      rw [et] at kc
      exact fun m' v g e' t => ⟨g.2.1, fun z => absurd z (by decide), fun _ => kc m' v ((g4.trans g).le (by omega) (by omega)) e' t⟩
    | inr w =>
      obtain ⟨f, s1, p1⟩ := w
      rw [et] at kc
      dsimp only at kc
      intro m5 v g5' R5 T5
      have hlf := pTs_len _ _ _ _ _ _ _ et
      obtain ⟨t1, t2, t3⟩ := T5
      have g5 := g4.trans g5'
      have K5 := g5.ki K
      have b5 := g5.2.2
      rw [x4] at t2
      refine ⟨g5'.2.1, fun _ => v_bs (fun B5 => v_sz (fun Z5 => ?_)), fun z => absurd rfl z⟩
      have hv5 : v < m5 0 0 := by
        rcases Int.lt_or_le v (m5 0 0) with z | z
        · exact z
        · have := B5.2.2.1 v z; rw [t1] at this; cases this
      have sz5 : m5 v (-2) = lenF f := by have := TmF.size f t3; omega
      have cap5 := Z5.2 v (Or.inl t1)
      have ls1 : 0 ≤ (s1.length : Int) := by omega
      rw [pCh_eq (by decide)] at kc
      refine q_take K5 (by omega) R5 (by omega) (by omega) (fun q6 m6 e6 o6 => ⟨o6, fun _ => ?_, fun z => absurd rfl z⟩) (fun q6 m' x g e t => ⟨g.2.1, fun z => absurd z (by decide), fun _ => ?_⟩)
      rotate_left
      · rw [if_neg (by omega)] at kc
        exact kc m' x ((g5.trans g).le (by omega) (by omega)) e t
      rw [if_pos (by omega)] at kc
      dsimp only at kc
      have g6' := Go.pl K5 e6 o6
      have g6 := g5.trans g6'
      have K6 := g6.ki K
      obtain ⟨R6, l6, -⟩ := R5.next K5 (by omega) g6' (by decide) (by rw [e6, up_self])
      have x6 : m6 0 = m5 0 := by funext f; rw [e6, up_na _ (by decide)]
      refine hT (d - 1) m6 s1.tail (p1 + 1) _ (by omega) K6 (r13 g6) R6 (r86 g6) ⟨by rw [x6]; omega, by rw [x6]; omega⟩ ?_
      cases eq : pT false nn 1 s1.tail (p1 + 1) with
      | inl e =>
        rw [eq] at kc
        exact fun m' v g e' t => ⟨g.2.1, fun z => absurd z (by decide), fun _ => kc m' v ((g6.trans g).le (by omega) (by omega)) e' t⟩
      | inr w =>
        obtain ⟨nd, s2, p2⟩ := w
        rw [eq] at kc
        dsimp only at kc
        intro m7 y g7' R7 T7
        have g57 := g6'.trans g7'
        have g7 := g6.trans g7'
        have K7 := g7.ki K
        have b7 := g7.2.2
        have ev : ∀ f, m7 v f = m5 v f := fun f => g57.cell K5 (by omega) (fun e => by rw [e, K11_t K5] at t1; cases t1)
        refine ⟨g7'.2.1, fun _ => ⟨by rw [ev]; exact t1, elOK.of T7.1.2.1 (c := 13) (by decide) (by decide), by rw [ev]; omega, by omega, by rw [ev]; omega, fun m8 A8 o8 => ?_⟩, fun z => absurd rfl z⟩
        have K8 := o8.2.1 K7
        have L8 := A8.1
        have s8 := A8.2.1
        rw [ev] at s8
        have g8 : Go v 58 232 m7 m8 := ⟨fun z f hz h0 _ _ => by rw [L8.2.1 z h0 (fun e => hz (by rw [e]; exact L8.1))], o8, by have := L8.2.2.2.2; rw [ev] at this; omega, by have := L8.2.2.2.2; rw [ev] at this; omega, fun _ => by rw [L8.2.1 11 (by omega) (by decide)]; exact Int.le_refl _⟩
        have nv11 : v ≠ 13 := by omega
        have b8 := g8.2.2
        have hTF : TmF m8 (v + 1) (apF f (cons nd.1 nd.2 nil)) v 0 := by
          refine TmF.snoc K7 A8 g8 (by omega) nv11 nd ?_ f (by omega) (TmF.fr g57 K5 (by omega) (by decide) f t1 (fun e => by omega) t3)
          rw [x6] at T7
          exact ⟨T7.1.mono (by omega), T7.2.mono (by omega)⟩
        have t8 : m8 v (-1) = 4 := o8.tag (by rw [ev]; exact t1) (by decide)
        refine ⟨by omega, by omega, fun B8 m9 e9 o9 => ?_⟩
        have g9 := Go.nw B8 (by decide) e9
        have K9 := g9.ki K8
        have n8 : m8 (m8 0 0) (-1) = 0 := B8.2.2.1 _ (Int.le_refl _)
        have z8 : m8 0 0 ≠ 0 := by omega
        refine ⟨z8, q_i20 K9 (by omega) z8 (al_tag B8 e9) (Or.inr rfl) (by omega) (fun m' e' f9 f0 f1 f2 f3 f4 o' => ⟨rfl, o', ?_⟩)⟩
        have gN := g9.fr n8 z8 e' o'
        have n88 : (8 : Int) ≠ m8 0 0 := by omega
        have n89 : (8 : Int) ≠ v := by omega
        have r8 : m8 8 5 = p2 := by rw [L8.2.1 8 n89 (by decide)]; exact R7.1
        have r9 : m' 8 5 = p2 := by rw [e' 8 n88, e9, al_old B8 (by rw [K8_t K8]; decide)]; exact r8
        have R8 := R7.mv K7 g8 (by omega) r8
        have hfin : Go 11 (60 * ((s.length : Int) + 2 - s2.length)) (250 * ((s.length : Int) + 2 - s2.length)) m m' := by
          obtain ⟨F7, O7, -, -, W7⟩ := g7
          refine ⟨fun z f hz h1 h2 h3 => ?_, O7.trans (o8.trans gN.2.1), by have := gN.2.2; omega, by have := gN.2.2; omega, fun q => Int.le_trans (W7 q) (Int.le_trans (g8.2.2.2.2 (by rw [O7.1 11 q]; exact q)) (gN.2.2.2.2 (by rw [K11_t K8]; decide)))⟩
          have hz7 : m7 z (-1) ≠ 0 := by rw [O7.1 z hz]; exact hz
          have hzv : z ≠ v := fun e => hz (by rw [e]; exact B.2.2.1 v t2)
          rw [gN.1 z f (by rw [o8.1 z hz7]; exact hz7) h1 h2 h3, g8.1 z f hz7 hzv h2 h3, F7 z f hz h1 h2 h3]
        refine kc m' (m8 0 0) hfin (R8.mv K8 gN (by decide) r9) ⟨by omega, f9, Or.inr (Or.inr ⟨rfl, f0, ?_, ?_, ?_, ?_, ?_⟩)⟩
        · rw [f1]; exact R2.1
        · rw [f2]; show hdC s.tail = hdC s.tail - 65 + 65; omega
        · rw [f4]; exact gN.2.1.tag t8 (by decide)
        · rw [f4]; exact t2
        · rw [f4]
          exact (TmF.fr gN K8 (by omega) (by decide) _ t8 (by omega) hTF).mono (by omega)
  · refine q_isNext K (by omega) R ⟨rfl, Ok.refl m, fun q2 => ?_, fun q2 => ?_⟩
    · have n2 : ¬ (97 ≤ hdC s ∧ hdC s ≤ 122) := fun z => by rw [if_pos z] at q2; exact absurd q2 (by decide)
      refine q_isNext K (by omega) R ⟨rfl, Ok.refl m, fun q3 => ?_, fun q3 => ?_⟩
      · have n3 : 65 ≤ hdC s ∧ hdC s ≤ 90 := by
          by_cases z : 65 ≤ hdC s ∧ hdC s ≤ 90
          · exact z
          · rw [if_neg z] at q3; exact absurd rfl q3
        exact q_need K (by omega) (by omega) (fun _ => ⟨Ok.refl m, fun _ => un q1 n2 (Or.inl n3), fun z => absurd rfl z⟩) (fun z => absurd z (by decide))
      · have n3 : ¬ (65 ≤ hdC s ∧ hdC s ≤ 90) := fun z => by rw [if_pos z] at q3; exact absurd q3 (by decide)
        refine q_peek K (by omega) R ⟨rfl, Ok.refl m, q_need K (by omega) (by omega) (fun q4 => ⟨Ok.refl m, fun _ => ?_, fun z => absurd rfl z⟩) (fun q4 m' x g e t => ⟨g.2.1, fun z => absurd z (by decide), fun _ => ?_⟩)⟩
        · have n4 : hdC s = 35 := by
            by_cases z : hdC s = 35
            · exact z
            · rw [if_pos z] at q4; exact absurd rfl q4
          exact un q1 n2 (Or.inr n4)
        · have n4 : hdC s ≠ 35 := fun z => by rw [if_neg (fun y => y z)] at q4; exact absurd q4 (by decide)
          exact kN q1 n2 (fun z => z.elim n3 n4) m' x (g.le (by omega) (by omega)) (by rw [e]; exact r1) t
    · have n2 : 97 ≤ hdC s ∧ hdC s ≤ 122 := by
        by_cases z : 97 ≤ hdC s ∧ hdC s ≤ 122
        · exact z
        · rw [if_neg z] at q2; exact absurd rfl q2
      have kc := kM q1 n2
      refine q_take K (by omega) R (by omega) (by omega) (fun q3 m2 e2 o2 => ⟨o2, fun _ => ?_, fun z => absurd rfl z⟩) (fun q3 => absurd n2 q3)
      have g2 := Go.pl K e2 o2
      have K2 := g2.ki K
      obtain ⟨R2, l2, -⟩ := R.next K (by omega) g2 (by decide) (by rw [e2, up_self])
      have x2 : m2 0 = m 0 := by funext f; rw [e2, up_na _ (by decide)]
      rw [pCh_eq (by decide)] at kc
      refine q_take K2 (by omega) R2 (by omega) (by rw [x2]; omega) (fun q4 m3 e3 o3 => ⟨o3, fun _ => ?_, fun z => absurd rfl z⟩) (fun q4 m' x g e t => ⟨g.2.1, fun z => absurd z (by decide), fun _ => ?_⟩)
      · rw [if_pos (by omega)] at kc
        dsimp only at kc
        have g3' := Go.pl K2 e3 o3
        have g3 := g2.trans g3'
        have K3 := g3.ki K
        obtain ⟨R3, l3, -⟩ := R2.next K2 (by omega) g3' (by decide) (by rw [e3, up_self])
        have x3 : m3 0 = m 0 := by funext f; rw [e3, up_na _ (by decide), x2]
        have h13' : m3 13 (-2) = 0 := by rw [g3.cell K (by have := K13_t K; omega) (by decide)]; exact h13
        have hh' : m3 8 6 = 0 := by rw [g3.1 8 6 (by rw [K8_t K]; decide) (by decide) (by decide) (by omega)]; exact hh
        refine q_ptyp (d := d - 1) hT (by omega) hd0 K3 h13' R3 hh' ⟨by rw [x3]; omega, by rw [x3]; omega⟩ (by omega) (fun e he m' v g e' t => ?_) (fun nd s' p' he m' x' g R' hx t0 t1 t2 T' => ?_)
        · rw [he] at kc
          exact kc m' v ((g3.trans g).le (by omega) (by omega)) e' t
        · rw [he] at kc
          rw [x3] at hx T'
          exact kc m' x' ((g3.trans g).le (by omega) (by omega)) R' ⟨hx, t0, Or.inl ⟨rfl, t1, by rw [t2]; show hdC s = hdC s - 97 + 97; omega, nd, rfl, T'⟩⟩
      · rw [if_neg (by omega)] at kc
        exact kc m' x ((g2.trans g).le (by omega) (by omega)) e t
end CP2
