/-! L3, component: cases -/
def CaT (b : Int) (m : SM) (v : Int) (q : (Lb × TF) × (Lb × TF)) : Prop := PtH m b v q.1.1 q.1.2 ∧ CdT b m (m v 4) q.2
/-- a pattern's data, ahead of the Case object -/
def PtD (m : SM) (b dg lt nm : Int) (a : Lb) (c : TF) : Prop := m nm (-1) = 13 ∧ VsF m c nm 0 ∧
  ((a.1 = 11 ∧ dg = 0 ∧ lt = 0) ∨ (a.1 = 12 ∧ b ≤ dg ∧ Lit m dg (-14) a.2.1 ∧ lt = 0) ∨ (a.1 = 13 ∧ dg = 0 ∧ lt = a.2.1 + 65))
/-- behind the pattern, in the spec -/
def cRest (pc : List Int → Int → RR (Lb × TF)) (a : Lb × TF) (s1 : List Int) (p1 : Int) : RR ((Lb × TF) × (Lb × TF)) := match pCh 62 s1 p1 with
  | .inl e => .inl e
  | .inr (_, s2, p2) => match pc s2 p2 with
    | .inl e => .inl e
    | .inr (b, s3, p3) => .inr ((a, b), s3, p3)
section CR3
variable {m m1 : SM} {c1 n1 : Int} {G : GM} {d : Nat} {P : Nat → Int → SM → Prop}
/-- Case's constructor -/
theorem q_i24 (K : KI m) (hd : 12 ≤ d) {x a1 a2 a3 a4 a5 : Int} (hx : x ≠ 0) (ht : m x (-1) = 24) (h3 : 0 ≤ a3 ∧ a3 ≤ 65535) (k : ∀ m', (∀ z, z ≠ x → m' z = m z) → m' x (-1) = 24 → m' x 0 = a1 → m' x 1 = a2 → m' x 2 = a3 → m' x 3 = a4 → m' x 4 = a5 → Ok m m' → P 0 0 m') : WV G mX19_init 0 [(1, x), (0, a1), (1, a2), (0, a3), (1, a4), (1, a5)] [] m d P := by
  refine wX19_init K hd ⟨hx, ht, fun m1 e1 o1 m2 e2 o2 => ⟨h3, fun m3 e3 o3 m4 e4 o4 m5 e5 o5 => ?_⟩⟩
  have E : ∀ z f, m5 z f = if z = x ∧ f = 4 then a5 else if z = x ∧ f = 3 then a4 else if z = x ∧ f = 2 then a3 else if z = x ∧ f = 1 then a2 else if z = x ∧ f = 0 then a1 else m z f := fun z f => by rw [e5, e4, e3, e2, e1]; rfl
  refine k m5 (fun z hz => ?_) ?_ ?_ ?_ ?_ ?_ ?_ (o1.trans (o2.trans (o3.trans (o4.trans o5))))
  · funext f; rw [E]; simp [hz]
  · rw [E]; simp [ht]
  all_goals (rw [E]; simp)
/-- behind the pattern -/
theorem q_caseT {nn dep d0 : Nat} (hT : QC G nn dep d0) (hd : d0 ≤ d) (hd0 : 20 ≤ d0) (K : KI m) (h14 : m 14 (-2) = 0) (h15 : m 15 (-2) = 0) (h7 : 7 ≤ m 11 (-3)) {s1 : List Int} {p1 L : Int} (g : Go 11 c1 n1 m m1) (R1 : Rd m1 s1 p1) (hc : c1 ≤ 130 * (L - s1.length)) (hn : n1 ≤ 600 * (L - s1.length)) (hB : BdC m L) {dg lt nm pl : Int} {a : Lb} {c : TF} (hp : a.2.2 = pl) (hl : 0 ≤ lt ∧ lt ≤ 65535) (hD : PtD m1 (m 0 0) dg lt nm a c)
    (k : OutC m L (cRest (pC nn dep) (a, c) s1 p1) (CaT (m 0 0)) P) :
    WV G mX4_take 0 [(1, 8), (0, 62), (0, 62)] [] m1 d (fun k v1 m2 => Ok m1 m2 ∧ (k = 0 → ((m2 0 0 ≤ 1203200) ∧ (m2 0 1 + 5 ≤ 5491882) ∧ (Bs m2 → ∀ m6, m6 = al m2 24 0 5 → Ok m2 m6 → (WV G mX4_code 0 [(1, 8), (0, (dep : Int)), (9, 0), (9, 0), (9, 0)] [] m6 d (fun k v11 m12 => Ok m6 m12 ∧ (k = 0 → (((m2 0 0) ≠ 0) ∧ (WV G mX19_init 0 [(1, (m2 0 0)), (0, pl), (1, dg), (0, lt), (1, nm), (1, v11)] [] m12 d (fun k v16 m17 => k = 0 ∧ Ok m12 m17 ∧ (P 0 (m2 0 0) m17))))) ∧ (k ≠ 0 → P 1 v11 m12)))))) ∧ (k ≠ 0 → P 1 v1 m2)) := by
  unfold cRest at k
  have K1 := g.ki K
  have hB1 := hB.1
  have hB2 := hB.2
  have b1 := g.2.2
  have w1 := g.2.2.2.2 (by rw [K11_t K]; decide)
  have l1 : (0 : Int) ≤ s1.length := by omega
  refine q_take K1 (by omega) R1 (by omega) (by omega) (fun q m2 e2 o2 => ⟨o2, fun _ => ?_, fun z => absurd rfl z⟩) (fun q m' x g' e t => ⟨g'.2.1, fun z => absurd z (by decide), fun _ => ?_⟩)
  rotate_left
  · have : pCh 62 s1 p1 = .inl p1 := by
      unfold pCh
      cases s1 with
      | nil => rfl
      | cons y r => dsimp only; rw [if_neg (fun z => q (by show 62 ≤ y ∧ y ≤ 62; omega))]
    rw [this] at k
    exact k m' x ((g.trans g').le (by omega) (by omega)) e t
  have e62 : hdC s1 = 62 := by omega
  have g2' := Go.pl K1 e2 o2
  have g2 := g.trans g2'
  have K2 := g2'.ki K1
  have p2 : m2 8 5 = p1 + 1 := by rw [e2, up_self]
  obtain ⟨R2, l2, es⟩ := R1.next K1 (by omega) g2' (by decide) p2
  have b2 := g2.2.2
  have : pCh 62 s1 p1 = .inr ((), s1.tail, p1 + 1) := by
    rw [es, e62]; unfold pCh; dsimp only; rw [if_pos rfl]; rfl
  rw [this] at k
  dsimp only at k
  refine ⟨by omega, by omega, fun B2 m6 e6 o6 => ?_⟩
  have xp : 0 < m2 0 0 := B2.2.1
  have x0 : m2 0 0 ≠ 0 := by omega
  have g6' := Go.nw B2 (by decide) e6
  have g6 := g2.trans g6'
  have K6 := g6'.ki K2
  have b6' := g6'.2.2
  have b6 := g6.2.2
  have x6 : m6 0 0 = m2 0 0 + 1 := by rw [e6]; unfold al; simp
  have n0 : m2 (m2 0 0) (-1) = 0 := B2.2.2.1 _ (Int.le_refl _)
  have p6 : m6 8 5 = p1 + 1 := by rw [e6, al_old B2 (by rw [K8_t K2]; decide)]; exact p2
  have R6 := R2.mv K2 g6' (by decide) p6
  have r14 : m6 14 (-2) = 0 := by rw [g6.cell K (by have := K14_t K; omega) (by decide)]; exact h14
  have r15 : m6 15 (-2) = 0 := by rw [g6.cell K (by have := K15_t K; omega) (by decide)]; exact h15
  have w6 := g6.2.2.2.2 (by rw [K11_t K]; decide)
  refine hT d m6 s1.tail (p1 + 1) _ hd K6 r14 r15 R6 (by omega) ⟨by omega, by omega⟩ ?_
  revert k
  cases pC nn dep s1.tail (p1 + 1) with
  | inl e => exact fun k m' v g' e' t => ⟨g'.2.1, fun z => absurd z (by decide), fun _ => k m' v ((g6.trans g').le (by omega) (by omega)) e' t⟩
  | inr w =>
    obtain ⟨b, s3, p3⟩ := w
    intro k m' v g' R' T'
    have gg := g6.trans g'
    have K' := gg.ki K
    have hx0 : m (m2 0 0) (-1) = 0 := by
      by_cases z : m (m2 0 0) (-1) = 0
      · exact z
      · rw [g2.2.1.1 _ z] at n0; exact absurd n0 z
    have tx : m' (m2 0 0) (-1) = 24 := g'.2.1.tag (al_tag B2 e6) (by decide)
    refine ⟨g'.2.1, fun _ => ⟨x0, q_i24 K' (by omega) x0 tx hl (fun m'' e'' f9 f0 f1 f2 f3 f4 o'' => ⟨rfl, o'', ?_⟩)⟩, fun z => absurd rfl z⟩
    have n9 : m2 0 0 ≠ 9 := fun e => by rw [e, K9_t K2] at n0; cases n0
    have n8 : (8 : Int) ≠ m2 0 0 := fun e => by rw [← e, K8_t K2] at n0; cases n0
    have n11 : m2 0 0 ≠ 11 := fun e => by rw [e, K11_t K2] at n0; cases n0
    have gx : Go (m2 0 0) 0 0 m' m'' := Go.one x0 n11 e'' o''
    have hD1 := hD.1
    have F1 : Fc m1 m' := (g2'.trans (g6'.trans g')).fc K1
    have F2 : ∀ z f, m' z (-1) ≠ 24 → m'' z f = m' z f := fun z f hz => by rw [e'' z (fun e => hz (by rw [e]; exact tx))]
    have t1 : ∀ z, m1 z (-1) ≠ 0 → m' z (-1) = m1 z (-1) := fun z hz => (o2.trans (o6.trans g'.2.1)).1 z hz
    have hnm : m' nm (-1) = 13 := by rw [t1 nm (by rw [hD1]; decide)]; exact hD1
    have enm : ∀ f, m'' nm f = m1 nm f := fun f => by rw [F2 nm f (by rw [hnm]; decide), F1 nm f (by omega)]
    have hxl : m 0 0 ≤ m2 0 0 := b2.1.1
    have n14 : m2 0 0 ≠ 14 := fun e => by rw [e, K14_t K2] at n0; cases n0
    have n15 : m2 0 0 ≠ 15 := fun e => by rw [e, K15_t K2] at n0; cases n0
    refine k m'' (m2 0 0) ((gg.fr hx0 x0 e'' o'').le (by omega) (by omega)) (R'.mv K' gx n9 (by rw [e'' 8 n8]; exact R'.1)) ⟨⟨hxl, f9, by rw [f0, hp], ?_, ?_, ?_⟩, ?_⟩
    · rw [f3, enm]; exact hD1
    · rw [f3]
      exact VsF.ext (fun f => enm f) c hD.2.1
    · dsimp only
      rw [f1, f2]
      rcases hD.2.2 with h | ⟨q1, q2, q3, q4⟩ | h
      · exact Or.inl h
      · refine Or.inr (Or.inl ⟨q1, q2, ?_, q4⟩)
        have ed : ∀ f, m'' dg f = m1 dg f := fun f => by
          rw [F2 dg f (by rw [t1 dg (by rw [q3.1]; decide), q3.1]; decide), F1 dg f (by have := q3.1; omega)]
        unfold Lit; rw [ed, ed, ed, ed, ed]; exact q3
      · exact Or.inr (Or.inr h)
    · rw [f4]
      exact (T'.fb (Fa.one e'') ⟨by rw [tx]; decide, by rw [tx]; decide⟩ (by omega) n14 n15).mono (by omega)
end CR3
