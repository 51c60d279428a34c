/-! L3, component: Reader.declaration against pDecl -/
section CG
variable {m m' m3 : SM} {G : GM} {d : Nat} {P : Nat → Int → SM → Prop} {s : List Int} {p : Int}
theorem pDecl_no {nn : Nat} (h : hdC s = 62) : pDecl nn s p = dTail nn [] s p := by
  cases s with
  | nil => exact absurd h (by show ¬ (0 : Int) = 62; decide)
  | cons c r =>
    unfold pDecl
    dsimp only
    rw [if_pos (show c = 62 from h)]
    rfl
theorem pDecl_yes {nn : Nat} (h : hdC s ≠ 62) : pDecl nn s p = match pPart nn s p with
    | .inl e => .inl e
    | .inr (q, s', p') => dRest nn 5 [q] s' p' := by
  have e : pDecl nn s p = match pParts nn 6 true s p with
      | .inl e => .inl e
      | .inr (l, s1, p1) => dTail nn l s1 p1 := by
    cases s with
    | nil => rfl
    | cons c r => unfold pDecl; dsimp only; rw [if_neg (show ¬ c = 62 from h)]; rfl
  rw [e]
  conv => lhs; unfold pParts
  rw [if_pos rfl]
  cases pPart nn s p with
  | inl e => rfl
  | inr w =>
    obtain ⟨q, s', p'⟩ := w
    dsimp only
    unfold dRest
    cases pParts nn 5 false s' p' with
    | inl e => rfl
    | inr w => obtain ⟨l, s1, p1⟩ := w; rfl
theorem q_decl {nn d0 d1 : Nat} (hT : QT G false nn 1 d0) (hTs : QTs G false nn 1 d1) (hd : d0 + 2 ≤ d) (hd' : d1 + 2 ≤ d) (hd0 : 20 ≤ d0) (K : KI m) (h13 : m 13 (-2) = 0) (R : Rd m s p) (hh : m 8 6 = 0) (hB : Bd m (s.length + 10))
    (k : match pEnd (pDecl nn s p) with
      | .inl e => ∀ m' v, Go 11 (60 * s.length + 900) (250 * s.length + 4000) m m' → m' 8 5 = e → m' v (-1) = 12 → P 1 v m'
      | .inr q => ∀ m' v, Go 11 (60 * s.length + 900) (250 * s.length + 4000) m m' → CoH m' (m 0 0) v q → P 0 v m') : WV G mX4_declaration 0 [(1, 8), (9, 0), (9, 0), (9, 0)] [] m d P := by
  refine v_bs (fun B => ?_)
  have hB1 := hB.1
  have hB2 := hB.2
  have xp : 0 < m 0 0 := B.2.1
  have n0 : m (m 0 0) (-1) = 0 := B.2.2.1 _ (Int.le_refl _)
  have n13 : m 0 0 ≠ 13 := fun e => by rw [e, K13_t K] at n0; cases n0
  refine wX4_declaration K (by omega) ⟨by omega, by omega, fun m3 A3 o3 => ?_⟩
  have g3 := Go.nw B (by decide) A3.2
  have K3 := g3.ki K
  have x3 : m3 0 0 = m 0 0 + 1 := by rw [A3.2]; unfold al; simp
  have y3 : m3 0 1 = m 0 1 + 3 := by rw [A3.2]; unfold al; simp
  have t3 : ∀ f, m3 (m 0 0) f = if f = -1 then 4 else if f = -2 then 0 else 0 := fun f => by rw [A3.2, al_new B]
  have p3 : ∀ f, m3 8 f = m 8 f := fun f => by rw [A3.2, al_old B (by rw [K8_t K]; decide)]
  have c3 : m3 (m 0 0) (-3) = 0 := by rw [t3]; decide
  have s3 : m3 (m 0 0) (-2) = 0 := by rw [t3]; decide
  have h13' : m3 13 (-2) = 0 := by rw [g3.cell K (by have := K13_t K; omega) (by decide)]; exact h13
  have R3 := R.mv K g3 (by decide) (by rw [p3]; exact R.1)
  have hh' : m3 8 6 = 0 := by rw [p3]; exact hh
  have ht3 : m3 (m 0 0) (-1) = 4 := by rw [t3]; rfl
  refine q_peek K3 (by omega) R3 ⟨rfl, Ok.refl m3, fun q1 => ?_, fun q1 => ?_⟩
  · rw [pDecl_no q1] at k
    refine q_d56 hT (by omega) hd0 K3 h13' R3 hh' ⟨by omega, by omega⟩ ht3 (Int.le_refl _) (ps := []) s3 (by simp) ?_
    revert k
    cases pEnd (dTail nn [] s p) with
    | inl e => exact fun k m' v g e' t => k m' v ((g3.trans g).le (by omega) (by omega)) e' t
    | inr q => exact fun k m' v g hC => k m' v ((g3.trans g).le (by omega) (by omega)) hC
  · rw [pDecl_yes q1] at k
    refine q_onep (b := m 0 0 + 1) hT hTs (by omega) (by omega) hd0 (by omega) n13 (ps := []) (by simp) K3 h13' R3 hh' ht3 s3 (by omega) ⟨by omega, by omega⟩ (fun e he m' v g e' t => ?_) (fun q s' p' he m' g K' h13' R' hh' ht' hF' => ?_)
    · rw [he] at k
      exact k m' v ((GoA.up g3 n0 g c3).le (by omega) (by omega)) e' t
    · rw [he] at k
      dsimp only at k
      have hg := g.2.2
      refine q_dl hT hTs hd hd' hd0 (b := m 0 0 + 1) (by omega) n13 5 [q] s' p' m' (by simp) (by simp) K' h13' R' hh' ht' hF' (hg.2.2.1 (by omega)) (by omega) (by omega) (by omega) ?_
      revert k
      cases pEnd (dRest nn 5 [q] s' p') with
      | inl e => exact fun k m2 v g2 e' t => k m2 v ((GoA.up g3 n0 (g.trans g2) c3).le (by omega) (by omega)) e' t
      | inr q => exact fun k m2 v g2 hC => k m2 v ((GoA.up g3 n0 (g.trans g2) c3).le (by omega) (by omega)) hC
end CG
