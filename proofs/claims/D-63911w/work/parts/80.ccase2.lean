/-! L3, component: Reader.oneCase -/
def QCa (G : GM) (n dep d0 : Nat) : Prop := ∀ (d : Nat) (m : SM) (s : List Int) (p : Int) (P : Nat → Int → SM → Prop), d0 ≤ d → KI m → m 14 (-2) = 0 → m 15 (-2) = 0 → Rd m s p → 7 ≤ m 11 (-3) → BdC m s.length → OutC m s.length (pCase (pC n dep) s p) (CaT (m 0 0)) P → WV G mX4_oneCase 0 [(1, 8), (0, (dep : Int)), (9, 0), (9, 0), (9, 0), (9, 0)] [] m d P
section CS3
variable {s : List Int} {p : Int}
theorem pPat_D (h : 48 ≤ hdC s ∧ hdC s ≤ 57) : pPat s p = .inr (((12, hdC s - 48, p), nil), s.tail, p + 1) := by
  cases s with
  | nil => exact absurd h.1 (by show ¬ (48 : Int) ≤ 0; decide)
  | cons c r => unfold pPat; dsimp only; rw [if_pos (show isD c = true from isD_iff.mpr h)]; rfl
theorem pPat_U (h : hdC s = 95) : pPat s p = .inr (((11, 47, p), nil), s.tail, p + 1) := by
  cases s with
  | nil => exact absurd h (by show ¬ (0 : Int) = 95; decide)
  | cons c r =>
    have h' : c = 95 := h
    unfold pPat; dsimp only; rw [if_neg (fun z => by have := isD_iff.mp z; omega), if_pos h']; rfl
theorem pPat_L (h : 65 ≤ hdC s ∧ hdC s ≤ 90) (h5 : hdC s.tail ≠ 40) : pPat s p = .inr (((13, hdC s - 65, p), nil), s.tail, p + 1) := by
  cases s with
  | nil => exact absurd h.1 (by show ¬ (65 : Int) ≤ 0; decide)
  | cons c r =>
    have h' : 65 ≤ c ∧ c ≤ 90 := h
    unfold pPat; dsimp only; rw [if_neg (fun z => by have := isD_iff.mp z; omega), if_neg (by omega), if_pos (isL_iff.mpr h')]
    cases r with
    | nil => rfl
    | cons x r' => dsimp only; rw [if_neg (show ¬ x = 40 from h5)]; rfl
theorem pPat_P (h : 65 ≤ hdC s ∧ hdC s ≤ 90) (h5 : hdC s.tail = 40) : pPat s p = match pVs 6 true s.tail.tail (p + 2) with
    | .inl e => .inl e
    | .inr (f, s1, p1) => match pCh 41 s1 p1 with
      | .inl e => .inl e
      | .inr (_, s2, p2) => .inr (((13, hdC s - 65, p), f), s2, p2) := by
  cases s with
  | nil => exact absurd h.1 (by show ¬ (65 : Int) ≤ 0; decide)
  | cons c r =>
    have h' : 65 ≤ c ∧ c ≤ 90 := h
    conv => lhs; unfold pPat
    dsimp only; rw [if_neg (fun z => by have := isD_iff.mp z; omega), if_neg (by omega), if_pos (isL_iff.mpr h')]
    cases r with
    | nil => exact absurd h5 (by show ¬ (0 : Int) = 40; decide)
    | cons x r' => dsimp only; rw [if_pos (show x = 40 from h5)]; rfl
theorem pPat_N (n1 : ¬ (48 ≤ hdC s ∧ hdC s ≤ 57)) (n2 : hdC s ≠ 95) (n3 : ¬ (65 ≤ hdC s ∧ hdC s ≤ 90)) : pPat s p = .inl p := by
  cases s with
  | nil => rfl
  | cons c r => unfold pPat; dsimp only; rw [if_neg (show ¬ isD c = true from fun z => n1 (isD_iff.mp z)), if_neg (show ¬ c = 95 from n2), if_neg (show ¬ isL c = true from fun z => n3 (isL_iff.mp z))]
theorem pCase_eq {pc : List Int → Int → RR (Lb × TF)} : pCase pc s p = match pPat s p with
    | .inl e => .inl e
    | .inr (a, s1, p1) => cRest pc a s1 p1 := by
  unfold pCase
  cases pPat s p with
  | inl e => rfl
  | inr w => rfl
theorem on1 {A : Prop} [Decidable A] (z : (if A then (1 : Int) else 0) ≠ 0) : A := by
  by_cases y : A
  · exact y
  · rw [if_neg y] at z; exact absurd rfl z
theorem off1 {A : Prop} [Decidable A] (z : (if A then (1 : Int) else 0) = 0) : ¬ A := fun y => by
  rw [if_pos y] at z; exact absurd z (by decide)
theorem q_oneCase {G : GM} {nn dep d0 : Nat} (hT : QC G nn dep d0) (hd0 : 20 ≤ d0) : QCa G nn dep (d0 + 1) := by
  intro d m s p P hd K h14 h15 R h7 hB k
  have h0 := R.hd0
  have r1 := R.1
  subst r1
  have hB1 := hB.1
  have hB2 := hB.2
  rw [pCase_eq] at k
  refine wX4_oneCase K (by omega) (q_isNext K (by omega) R ⟨rfl, Ok.refl m, fun q1 => ⟨fun z => absurd rfl z, fun _ => ?_⟩, fun q1 => ?_⟩)
  · have n1 := off1 q1
    refine q_passes K (by omega) R (fun q2 m5 e5 o5 => ⟨rfl, o5, fun z => absurd z (by decide), fun _ => ?_⟩) (fun q2 => ⟨rfl, Ok.refl m, fun _ => ?_, fun z => absurd rfl z⟩)
    · -- _
      have g5 := Go.pl K e5 o5
      have K5 := g5.ki K
      obtain ⟨R5, l5, -⟩ := R.next K (by omega) g5 (by decide) (by rw [e5, up_self])
      rw [pPat_U q2] at k
      dsimp only at k
      refine v_e0 (fun t0 z0 => wX4_oneCase_38 K5 (by omega) (q_caseT (c := nil) hT (by omega) hd0 K h14 h15 h7 g5 R5 (by omega) (by omega) hB rfl (by omega) ⟨t0, z0, Or.inl ⟨rfl, rfl, rfl⟩⟩ k))
    · refine q_take K (by omega) R (by omega) (by omega) (fun q3 m8 e8 o8 => ⟨o8, fun _ => ⟨fun z => ?_, fun z => ?_⟩, fun z => absurd rfl z⟩) (fun q3 m' x g e t => ⟨g.2.1, fun z => absurd z (by decide), fun _ => ?_⟩)
      rotate_right
      · rw [pPat_N n1 q2 q3] at k
        exact k m' x (g.le (by omega) (by omega)) e t
      · omega
      have g8 := Go.pl K e8 o8
      have K8 := g8.ki K
      have b8 := g8.2.2
      obtain ⟨R8, l8, -⟩ := R.next K (by omega) g8 (by decide) (by rw [e8, up_self])
      refine q_passes K8 (by omega) R8 (fun q4 m9 e9 o9 => ⟨rfl, o9, fun z => absurd z (by decide), fun _ => ?_⟩) (fun q4 => ⟨rfl, Ok.refl m8, fun _ => ?_, fun z => absurd rfl z⟩)
      · have g9' := Go.pl K8 e9 o9
        have g9 := g8.trans g9'
        have K9 := g9'.ki K8
        have b9 := g9.2.2
        have w9 := g9.2.2.2.2 (by rw [K11_t K]; decide)
        obtain ⟨R9, l9, -⟩ := R8.next K8 (by omega) g9' (by decide) (by rw [e9, up_self])
        rw [pPat_P q3 q4] at k
        rw [show m 8 5 + 1 + 1 = m 8 5 + 2 by omega] at R9
        refine q_vars (most := 6) (by omega) (by omega) (by omega) K9 R9 (by omega) ⟨by omega, by omega⟩ ?_
        revert k
        cases pVs 6 true s.tail.tail (m 8 5 + 2) with
        | inl e => exact fun k m' v g' e' t => ⟨g'.2.1, fun z => absurd z (by decide), fun _ => k m' v ((g9.trans g').le (by omega) (by omega)) e' t⟩
        | inr w =>
          obtain ⟨f, s', p'⟩ := w
          intro k m' v g' R' T'
          have gg := g9.trans g'
          have K' := gg.ki K
          have b' := gg.2.2
          dsimp only at k
          refine ⟨g'.2.1, fun _ => ?_, fun z => absurd rfl z⟩
          refine q_take K' (by omega) R' (by omega) (by omega) (fun q5 m10 e10 o10 => ⟨o10, fun _ => ?_, fun z => absurd rfl z⟩) (fun q5 m'' x g'' e'' t'' => ⟨g''.2.1, fun z => absurd z (by decide), fun _ => ?_⟩)
          rotate_left
          · have : pCh 41 s' p' = .inl p' := by
              unfold pCh
              cases s' with
              | nil => rfl
              | cons y r => dsimp only; rw [if_neg (fun z => q5 (by show 41 ≤ y ∧ y ≤ 41; omega))]
            rw [this] at k
            exact k m'' x ((gg.trans g'').le (by omega) (by omega)) e'' t''
          have g10' := Go.pl K' e10 o10
          have g10 := gg.trans g10'
          obtain ⟨R10, l10, es⟩ := R'.next K' (by omega) g10' (by decide) (by rw [e10, up_self])
          have : pCh 41 s' p' = .inr ((), s'.tail, p' + 1) := by
            rw [es, show hdC s' = 41 by omega]; unfold pCh; dsimp only; rw [if_pos rfl]; rfl
          rw [this] at k
          dsimp only at k
          have F := g10'.fc K'
          refine q_caseT hT (by omega) hd0 K h14 h15 h7 g10 R10 (by omega) (by omega) hB rfl (by omega) ⟨?_, ?_, Or.inr (Or.inr ⟨rfl, rfl, ?_⟩)⟩ k
          · exact o10.tag T'.2.1 (by decide)
          · exact VsF.fc F f T'.2.1 T'.2.2
          · show hdC s = hdC s - 65 + 65; omega
      · rw [pPat_L q3 q4] at k
        dsimp only at k
        refine v_e0 (fun t0 z0 => q_caseT (c := nil) hT (by omega) hd0 K h14 h15 h7 g8 R8 (by omega) (by omega) hB rfl (by omega) ⟨t0, z0, Or.inr (Or.inr ⟨rfl, rfl, ?_⟩)⟩ k)
        show hdC s = hdC s - 65 + 65; omega
  · have n1 := on1 q1
    refine q_digit K (by omega) R (by omega) n1 (fun m64 v g64 e64 hv lit => ⟨g64.2.1, fun _ => ⟨fun _ => ?_, fun z => ?_⟩, fun z => absurd rfl z⟩)
    rotate_left
    · refine v_bs (fun B => ?_)
      have tv := lit.1
      rw [z, B.1] at tv
      cases tv
    have K64 := g64.ki K
    obtain ⟨R64, l64, -⟩ := R.next K (by omega) g64 (by decide) e64
    rw [pPat_D n1] at k
    dsimp only at k
    refine v_e0 (fun t0 z0 => wX4_oneCase_38 K64 (by omega) (q_caseT (c := nil) hT (by omega) hd0 K h14 h15 h7 g64 R64 (by omega) (by omega) hB rfl (by omega) ⟨t0, z0, Or.inr (Or.inl ⟨rfl, hv, lit, rfl⟩)⟩ k))
end CS3
