/-! L3, component: lists of codes -/
def OutL (m : SM) (a b cnt : Int) (L : Int) (r : RR TF) (P : Nat → Int → SM → Prop) : Prop := match r with
  | .inl e => ∀ m' v, GoA a (130 * L + 130) (600 * L + 600) m m' → m' 8 5 = e → m' v (-1) = 12 → P 1 v m'
  | .inr (f, s', p') => ∀ m', GoA a (130 * (L - s'.length)) (600 * (L - s'.length)) m m' → Rd m' s' p' → (∀ j, 0 ≤ j → j < cnt → m' a j = m a j) → CdF m' b f 0 a cnt → P 0 a m'
section CQ
variable {a b : Int} {G : GM} {P : Nat → Int → SM → Prop}
theorem q_cl {nn dep d0 d : Nat} (hT : QC G nn dep d0) (hd : d0 + 1 ≤ d) (hd0 : 20 ≤ d0) (hab : a < b) (h14a : a ≠ 14) (h15a : a ≠ 15) : ∀ (k cnt : Nat) (s : List Int) (p : Int) (m : SM), k + cnt = 7 → 1 ≤ cnt → cnt ≤ 6 → KI m → m 14 (-2) = 0 → m 15 (-2) = 0 → Rd m s p → 7 ≤ m 11 (-3) → m a (-1) = 4 → m a (-2) = cnt → m a (-3) ≤ 56 → b ≤ m 0 0 → m 0 0 + 130 * s.length + 256 ≤ 1203100 + m a (-3) → m 0 1 + 600 * s.length + 1124 ≤ 5491000 + 4 * m a (-3) → OutL m a b cnt s.length (pCs (pC nn dep) k cnt s p) P → WV G mX4_codes 18 [(1, 8), (0, (dep : Int)), (1, a)] [] m d P
  | 0, cnt, s, p, m, hk, h1, h6, K, h14, h15, R, h7, ht, hs, hcap, hb, hB1, hB2, k => by omega
  | k + 1, cnt, s, p, m, hk, h1, h6, K, h14, h15, R, h7, ht, hs, hcap, hb, hB1, hB2, kk => by
    unfold pCs at kk
    have h0 := R.hd0
    have n11 : a ≠ 11 := fun e => by rw [e, K11_t K] at ht; cases ht
    have fin : ¬ (cnt = 0 ∨ (cnt < 6 ∧ isCd s = true)) → WV G mX4_take 0 [(1, 8), (0, 41), (0, 41)] [] m (d - 1) (fun k v2 m3 => Ok m m3 ∧ (k = 0 → (P 0 a m3)) ∧ (k ≠ 0 → P 1 v2 m3)) := by
      intro z
      rw [if_neg z] at kk
      refine q_take K (by omega) R (by omega) (by omega) (fun q m' e' o' => ⟨o', fun _ => ?_, fun z => absurd rfl z⟩) (fun q m' x g e t => ⟨g.2.1, fun z => absurd z (by decide), fun _ => ?_⟩)
      · have g := Go.pl K e' o'
        cases s with
        | nil => exact absurd q.1 (by show ¬ (41 : Int) ≤ 0; decide)
        | cons c r =>
          have hc : c = 41 := by have : 41 ≤ c ∧ c ≤ 41 := q; omega
          dsimp only at kk
          rw [if_pos hc] at kk
          obtain ⟨R', hl, -⟩ := R.next K (by show c ≠ 0; omega) g (by decide) (by rw [e', up_self])
          refine kk m' ((GoA.of g K ht).le (by simp; omega) (by simp; omega)) R' (fun j _ _ => g.cell K (by omega) n11) ?_
          show m' a (-2) = cnt
          rw [g.cell K (by omega) n11]; exact hs
      · have gA := GoA.of g K ht
        cases s with
        | nil => exact kk m' x (gA.le (by simp) (by simp)) e t
        | cons c r =>
          have hc : ¬ c = 41 := fun y => q (by show 41 ≤ c ∧ c ≤ 41; omega)
          dsimp only at kk
          rw [if_neg hc] at kk
          exact kk m' x (gA.le (by omega) (by omega)) e t
    refine wX4_codes_18 K (by omega) ⟨ht, fun q1 => fin (by omega), fun q1 => ?_⟩
    refine q_isCode K (by omega) R ⟨rfl, Ok.refl m, fun q2 => fin (fun z => ?_), fun q2 => ?_⟩
    · have : isCd s = true := by
        rcases z with z | z
        · omega
        · exact z.2
      rw [if_pos this] at q2
      exact absurd q2 (by decide)
    · have q3 : isCd s = true := by
        by_cases z : isCd s = true
        · exact z
        · rw [if_neg z] at q2; exact absurd rfl q2
      rw [if_pos (Or.inr ⟨by omega, q3⟩)] at kk
      refine q_onec hT (by omega) hab h14a h15a (cnt := cnt) (by omega) (by omega) K h14 h15 R h7 ht hs hb ⟨by omega, by omega⟩ (fun e he m' v g e' t => ?_) (fun nd s' p' he m' g K' h14' h15' R' h7' ht' hs' hj hT' => ?_)
      · rw [he] at kk
        exact kk m' v g e' t
      · rw [he] at kk
        dsimp only at kk
        have hg := g.2.2
        refine q_cl hT hd hd0 hab h14a h15a k (cnt + 1) s' p' m' (by omega) (by omega) (by omega) K' h14' h15' R' h7' ht' (by rw [hs']; simp) (hg.2.2.1 hcap) (by omega) (by omega) (by omega) ?_
        revert kk
        cases pCs (pC nn dep) k (cnt + 1) s' p' with
        | inl e => exact fun kk m2 v g2 e2 t2 => kk m2 v ((g.trans g2).le (by omega) (by omega)) e2 t2
        | inr w =>
          obtain ⟨f, s2, p2⟩ := w
          intro kk m2 g2 R2 hj2 hF2
          refine kk m2 ((g.trans g2).le (by omega) (by omega)) R2 (fun j j0 j1 => ?_) ?_
          · rw [hj2 j j0 (by simp; omega), hj j j0 j1]
          · have ex : m2 a cnt = m' a cnt := hj2 cnt (by omega) (by simp; omega)
            have hx := hT'.fa (g2.go.fa K') ht' hab h14a h15a
            show CdH m2 b (m2 a cnt) nd.1 ∧ CdF m2 b nd.2 (if nd.1.1 = 8 then 2 else 0) (if nd.1.1 = 8 then m2 a cnt else m2 (m2 a cnt) 4) 0 ∧ CdF m2 b f 0 a (cnt + 1)
            rw [ex]
            exact ⟨hx.1, hx.2, by simpa using hF2⟩
end CQ
