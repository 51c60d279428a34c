/-! L3, component: Reader.variables, whole -/
section CW2
variable {m : SM} {G : GM} {d : Nat} {P : Nat → Int → SM → Prop} {s : List Int} {p : Int}
theorem pVs_le : ∀ (k : Nat) (s : List Int) (p : Int) (f : TF) (s' : List Int) (p' : Int), pVs k false s p = .inr (f, s', p') → s'.length ≤ s.length
  | 0, s, p, f, s', p', h => by unfold pVs at h; cases h; exact Nat.le_refl _
  | k + 1, [], p, f, s', p', h => by unfold pVs at h; cases h; exact Nat.le_refl _
  | k + 1, c :: r, p, f, s', p', h => by
    unfold pVs at h
    dsimp only at h
    split at h
    · split at h
      · cases h
      · rename_i e
        cases h
        have := pVs_le k r _ _ _ _ e
        rw [List.length_cons]; omega
    · rw [if_neg (fun z => nomatch z)] at h
      cases h; exact Nat.le_refl _
theorem q_vars (hd : 18 ≤ d) {most : Nat} (hm1 : 1 ≤ most) (hm6 : most ≤ 6) (K : KI m) (R : Rd m s p) (h7 : 7 ≤ m 11 (-3)) (hB : Bd m (s.length + 2)) (k : Out m s.length (pVs most true s p) (fun m' v f => m 0 0 ≤ v ∧ m' v (-1) = 13 ∧ VsF m' f v 0) P) : WV G mX4_variables 0 [(1, 8), (0, (most : Int))] [] m d P := by
  have hB1 := hB.1
  have hB2 := hB.2
  have h0 := R.hd0
  refine v_sz (fun Z => ?_)
  have z11 := Z.1 11 (Or.inr (Or.inl (K11_t K)))
  refine wX4_variables K (by omega) ⟨by omega, by omega, fun m1 A1 o1 => ?_⟩
  have K1 := o1.2.1 K
  have g1 := GoV.lw A1.1 K (by rw [A1.2.1]; omega)
  have w1 := g1.2.2
  have b1 := g1.go h7
  have c1 := A1.1.2.2.2.2
  have e1 : m1 8 5 = p := by rw [A1.1.2.1 8 (by decide) (by decide)]; exact R.1
  have R1 := R.mv K b1 (by decide) e1
  obtain ⟨j, rfl⟩ : ∃ j, most = j + 1 := ⟨most - 1, by omega⟩
  refine q_take K1 (by omega) R1 (by omega) (by omega) (fun q m2 e2 o2 => ⟨o2, fun _ => ?_, fun z => absurd rfl z⟩) (fun q m' x g e t => ⟨g.2.1, fun z => absurd z (by decide), fun _ => ?_⟩)
  rotate_left
  · unfold pVs at k
    cases s with
    | nil => exact k m' x ((b1.trans g).le (by simp) (by simp)) e t
    | cons y r =>
      dsimp only at k
      rw [if_neg (show ¬ isV y = true from fun z => q (isV_iff.mp z)), if_pos rfl] at k
      exact k m' x ((b1.trans g).le (by omega) (by omega)) e t
  have g2' := GoV.pl K1 e2 o2
  have g2 := g1.trans g2'
  have K2 := o2.2.1 K1
  have gp := Go.pl K1 e2 o2
  obtain ⟨R2, l2, es⟩ := R1.next K1 (by omega) gp (by decide) (by rw [e2, up_self])
  have x2 : m2 0 = m1 0 := by funext f; rw [e2, up_na _ (by decide)]
  have y2 : m2 11 = m1 11 := by funext f; rw [e2, up_na _ (by decide)]
  have s1 := A1.2.1
  refine ⟨by omega, by omega, by rw [y2]; omega, by rw [x2]; omega, by rw [x2, y2]; omega, fun m3 A3 o3 => ?_⟩
  have s3 : m3 11 (-2) = ((1 : Nat) : Int) := by rw [A3.2.1, y2, s1]; rfl
  have g3' := GoV.lw A3.1 K2 (by rw [s3]; decide)
  have g3 := g2.trans g3'
  have K3 := o3.2.1 K2
  have w3 := g3.2.2
  have e38 : m3 8 5 = p + 1 := by rw [A3.1.2.1 8 (by decide) (by decide), e2, up_self]
  have R3 := R2.mv K2 (a := 11) (c := m3 0 0 - m2 0 0) (n := m3 0 1 - m2 0 1) (m' := m3) ⟨g3'.1, o3, by have := g3'.2.2; omega, by have := g3'.2.2; omega, fun _ => g3'.2.2.2.2.1⟩ (by decide) e38
  refine q_vl hd hm6 j 1 s.tail (p + 1) m3 0 (by omega) K3 R3 s3 (by omega) (by omega) (by omega) (by omega) ?_
  have e1 : pVs (j + 1) true s p = match pVs j false s.tail (p + 1) with
      | .inl e => .inl e
      | .inr (f, s', p') => .inr (cons (14, hdC s - 97, p) nil f, s', p') := by
    rw [es]
    conv => lhs; unfold pVs
    dsimp only
    rw [if_pos (show isV (hdC s) = true from isV_iff.mpr q)]
    rfl
  rw [e1] at k
  revert k
  cases ev : pVs j false s.tail (p + 1) with
  | inl e => exact fun k m' v g e' t => k m' v (((g3.trans g).go h7).le (by omega) (by omega)) e' t
  | inr w =>
    obtain ⟨f, s', p'⟩ := w
    have hl := pVs_le _ _ _ _ _ _ ev
    intro k m' v g R' hv t hj hF
    refine k m' v (((g3.trans g).go h7).le (by omega) (by omega)) R' ⟨by omega, t, ?_⟩
    show m' v 0 = (hdC s - 97) + 97 ∧ VsF m' f v (0 + 1)
    refine ⟨?_, hF⟩
    rw [hj 0 (by omega) (by decide), A3.2.2 0 (by omega), y2, if_pos s1.symm]; omega
end CW2
