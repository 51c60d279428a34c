/-! L3, component: Reader.match -/
def apK : List ((Lb × TF) × (Lb × TF)) → TF → TF
  | [], f => f
  | x :: l, f => cons x.1.1 x.1.2 (cons x.2.1 x.2.2 (apK l f))
theorem apK_snoc {x : (Lb × TF) × (Lb × TF)} {f : TF} : ∀ (l : List ((Lb × TF) × (Lb × TF))), apK (l ++ [x]) f = apK l (cons x.1.1 x.1.2 (cons x.2.1 x.2.2 f))
  | [] => rfl
  | y :: l => by
    show cons y.1.1 y.1.2 (cons y.2.1 y.2.2 (apK (l ++ [x]) f)) = _
    rw [apK_snoc l]; rfl
theorem CdF.ofK {m : SM} {a b : Int} : ∀ (l : List ((Lb × TF) × (Lb × TF))) (i : Nat), m a (-2) = i + l.length → (∀ (j : Nat) x, l[j]? = some x → CaT b m (m a (i + j)) x) → CdF m b (apK l nil) 1 a i
  | [], i, hs, h => by
    show m a (-2) = i
    rw [hs]; simp
  | x :: l, i, hs, h => by
    have h0 := h 0 x rfl
    rw [show (i : Int) + ((0 : Nat) : Int) = i by omega] at h0
    refine ⟨h0.1, h0.2.1, h0.2.2, ?_⟩
    have := CdF.ofK (m := m) (a := a) (b := b) l (i + 1) (by rw [hs, List.length_cons]; omega) (fun j y hy => by
      have := h (j + 1) y (by simpa using hy)
      rw [show (i : Int) + ((j + 1 : Nat) : Int) = ((i + 1 : Nat) : Int) + j by omega] at this
      exact this)
    rw [show ((i + 1 : Nat) : Int) = (i : Int) + 1 by omega] at this
    exact this
theorem EFa.ca {a b : Int} (hab : a < b) (h14 : a ≠ 14) (h15 : a ≠ 15) : EFa (CaT b) a := fun m m' v x g ht h => by
  have t := h.1.2.1
  refine ⟨h.1.fa g ht, ?_⟩
  rw [g v 4 (by omega) (fun e => by rw [e] at t; omega)]
  exact h.2.fa g ht hab h14 h15
theorem CaT.mono {m : SM} {b b' v : Int} {x : (Lb × TF) × (Lb × TF)} (hb : b' ≤ b) (h : CaT b m v x) : CaT b' m v x := ⟨h.1.mono hb, h.2.mono hb⟩
theorem CaT.fc {m m' : SM} {b v : Int} {x : (Lb × TF) × (Lb × TF)} (g : Fc m m') (h : CaT b m v x) : CaT b m' v x := by
  refine ⟨h.1.fc g, ?_⟩
  rw [g v 4 (by have := h.1.2.1; omega)]
  exact h.2.fc g
def MtH (m0 m' : SM) (v a3 a pl : Int) : Prop := m0 0 0 ≤ v ∧ m' v (-1) = 23 ∧ m' v 0 = -6 ∧ m' v 1 = pl ∧ m' v 4 = a3 ∧ m' v 5 = a
def OutK (m0 : SM) (a a3 b pl L : Int) (l : List ((Lb × TF) × (Lb × TF))) (r : RR TF) (P : Nat → Int → SM → Prop) : Prop := match r with
  | .inl e => FL m0 a L P e
  | .inr (f, s', p') => ∀ m' v, GoA a (130 * (L - s'.length) + 1) (600 * (L - s'.length) + 6) m0 m' → Rd m' s' p' → MtH m0 m' v a3 a pl → CdF m' b (apK l f) 1 a 0 → P 0 v m'
section CM4
variable {m0 m : SM} {a b L : Int} {s : List Int} {p : Int} {G : GM} {d : Nat} {P : Nat → Int → SM → Prop}
theorem LSq.case {nn dep d0 : Nat} (hT : QCa G nn dep d0) (hd : d0 ≤ d) {l : List ((Lb × TF) × (Lb × TF))} (S : LSq (CaT b) m0 a L l m s p) (hab : a < b) (h14a : a ≠ 14) (h15a : a ≠ 15) (hb : b ≤ m0 0 0) (hB : BdL m0 a L) (hl5 : l.length ≤ 5) {X : SM → Prop}
    (kf : ∀ e, pCase (pC nn dep) s p = .inl e → FL m0 a L P e) (kt : ∀ x s' p', pCase (pC nn dep) s p = .inr (x, s', p') → ∀ m', LSq (CaT b) m0 a L (l ++ [x]) m' s' p' → X m') :
    WV G mX4_oneCase 0 [(1, 8), (0, (dep : Int)), (9, 0), (9, 0), (9, 0), (9, 0)] [] m d (fun k v14 m15 => Ok m m15 ∧ (k = 0 → ((elOK m15 v14) ∧ (m15 a (-2) < 100000) ∧ (m15 0 0 ≤ 1203200) ∧ (m15 0 1 + 2 * m15 a (-2) + 20 ≤ 5491882) ∧ (∀ m18, Radd m15 a v14 m18 → Ok m15 m18 → X m18))) ∧ (k ≠ 0 → P 1 v14 m15)) := by
  have hb' := S.bd hB
  obtain ⟨g, K, h14, h15, R, h7, ht, hs, hc56, hl, hj⟩ := id S
  have g3 := g.2.2.1.1
  exact LSq.read S (EFa.ca hab h14a h15a) hB h14a h15a hl5 (fun P' k => hT d m s p P' hd K h14 h15 R h7 hb' k) (fun m' v x T => ⟨T.mono (by omega), elOK.of T.1.2.1 (c := 23) (by decide) (by decide)⟩) kf kt
/-- the Code object over the cases -/
theorem LSq.finm {l : List ((Lb × TF) × (Lb × TF))} (S : LSq (CaT b) m0 a L l m s p) (hd : 12 ≤ d) (hB : BdL m0 a L) {a3 pl : Int}
    (k : ∀ m' v, GoA a (130 * (L - s.length) + 1) (600 * (L - s.length) + 6) m0 m' → Rd m' s p → MtH m0 m' v a3 a pl → CdF m' b (apK l nil) 1 a 0 → P 0 v m') :
    (m 0 0 ≤ 1203200) ∧ (m 0 1 + 6 ≤ 5491882) ∧ (Bs m → ∀ m8, m8 = al m 23 0 6 → Ok m m8 → (((m 0 0) ≠ 0) ∧ (WV G mX18_init 0 [(1, (m 0 0)), (1, (-6)), (0, pl), (0, 32), (1, 0), (1, a3), (1, a)] [] m8 d (fun k v15 m16 => k = 0 ∧ Ok m8 m16 ∧ (P 0 (m 0 0) m16))))) := by
  have hb := S.bd hB
  have hb1 := hb.1
  have hb2 := hb.2
  obtain ⟨g, K, h14, h15, R, h7, ht, hs, hc56, hl, hj⟩ := S
  refine ⟨by omega, by omega, fun B m8 e8 o8 => ?_⟩
  have xp : 0 < m 0 0 := B.2.1
  have x0 : m 0 0 ≠ 0 := by omega
  have n0 : m (m 0 0) (-1) = 0 := B.2.2.1 _ (Int.le_refl _)
  have g8 := Go.nw B (by decide) e8
  have K8 := g8.ki K
  refine ⟨x0, q_i23 K8 hd x0 (al_tag B e8) (by decide) (fun m' e' f9 f0 f1 f2 f3 f4 f5 o' => ⟨rfl, o', ?_⟩)⟩
  have gg := g8.fr n0 x0 e' o'
  have n8 : (8 : Int) ≠ m 0 0 := fun e => by rw [← e, K8_t K] at n0; cases n0
  have e85 : m' 8 5 = p := by rw [e' 8 n8, e8, al_old B (by rw [K8_t K]; decide)]; exact R.1
  have F := gg.fc K
  have ea : ∀ f, m' a f = m a f := fun f => F a f (by omega)
  refine k m' (m 0 0) ((g.trans (GoA.of gg K ht)).le (by omega) (by omega)) (R.mv K gg (by decide) e85) ⟨g.2.2.1.1, f9, f0, f1, f4, f5⟩ ?_
  refine CdF.ofK l 0 (by rw [ea, hs]; omega) (fun j x hx => ?_)
  rw [ea, show (((0 : Nat) : Int) + j) = j by omega]
  exact (hj j x hx).fc F
theorem q_ml {nn dep d0 : Nat} (hT : QCa G nn dep d0) (hd : d0 + 1 ≤ d) (hd0 : 20 ≤ d0) (hab : a < b) (h14a : a ≠ 14) (h15a : a ≠ 15) (hb : b ≤ m0 0 0) (hB : BdL m0 a L) {a3 pl : Int} : ∀ (k : Nat) (l : List ((Lb × TF) × (Lb × TF))) (s : List Int) (p : Int) (m : SM), k + l.length = 5 → 1 ≤ l.length → LSq (CaT b) m0 a L l m s p → OutK m0 a a3 b pl L l (pCases (pC nn dep) k l.length s p) P → WV G mX4_match 47 [(1, 8), (0, pl), (0, (dep : Int)), (1, a3), (1, a)] [] m d P := by
  have hE := EFa.ca hab h14a h15a
  -- the end of it
  have fin : ∀ (l : List ((Lb × TF) × (Lb × TF))) (s : List Int) (p : Int) (m : SM), LSq (CaT b) m0 a L l m s p → (hdC s = 125 → OutK m0 a a3 b pl L l (.inr (nil, s.tail, p + 1)) P) → (hdC s ≠ 125 → FL m0 a L P p) → WV G mX4_take 0 [(1, 8), (0, 125), (0, 125)] [] m (d - 1) (fun k v2 m3 => Ok m m3 ∧ (k = 0 → ((m3 0 0 ≤ 1203200) ∧ (m3 0 1 + 6 ≤ 5491882) ∧ (Bs m3 → ∀ m8, m8 = al m3 23 0 6 → Ok m3 m8 → (((m3 0 0) ≠ 0) ∧ (WV G mX18_init 0 [(1, (m3 0 0)), (1, (-6)), (0, pl), (0, 32), (1, 0), (1, a3), (1, a)] [] m8 (d - 1) (fun k v15 m16 => k = 0 ∧ Ok m8 m16 ∧ (P 0 (m3 0 0) m16))))))) ∧ (k ≠ 0 → P 1 v2 m3)) := by
    intro l s p m S k1 k0
    refine S.take hE hB (by omega) (by decide) (fun he => k0 (fun z => ?_)) (fun he m3 S3 => ?_)
    · unfold pCh at he
      cases s with
      | nil => exact absurd z (by show ¬ (0 : Int) = 125; decide)
      | cons c r => dsimp only at he; rw [if_pos (show c = 125 from z)] at he; cases he
    · have h5 : hdC s = 125 := by
        unfold pCh at he
        cases s with
        | nil => cases he
        | cons c r =>
          by_cases z : c = 125
          · exact z
          · dsimp only at he; rw [if_neg z] at he; cases he
      exact S3.finm (by omega) hB (k1 h5)
  intro k
  induction k with
  | zero =>
    intro l s p m hk h1 S kk
    have K := S.2.1
    have ht := S.2.2.2.2.2.2.1
    have hs := S.2.2.2.2.2.2.2.1
    refine wX4_match_47 K (by omega) ⟨ht, fun q => fin l s p m S (fun h5 => ?_) (fun h5 => ?_), fun q => by omega⟩
    · unfold pCases at kk
      cases s with
      | nil => exact absurd h5 (by show ¬ (0 : Int) = 125; decide)
      | cons c r => dsimp only at kk; rw [if_pos (show c = 125 from h5)] at kk; exact kk
    · unfold pCases at kk
      cases s with
      | nil => exact kk
      | cons c r => dsimp only at kk; rw [if_neg (show ¬ c = 125 from h5)] at kk; exact kk
  | succ k ih =>
    intro l s p m hk h1 S kk
    have K := S.2.1
    have ht := S.2.2.2.2.2.2.1
    have hs := S.2.2.2.2.2.2.2.1
    have R := S.2.2.2.2.1
    refine wX4_match_47 K (by omega) ⟨ht, fun q => by omega, fun q => ?_⟩
    refine q_passes K (by omega) R (fun q2 m2 e2 o2 => ⟨rfl, o2, fun z => absurd z (by decide), fun _ => ?_⟩) (fun q2 => ⟨rfl, Ok.refl m, fun _ => ?_, fun z => absurd rfl z⟩)
    · obtain ⟨S2, es⟩ := S.pl hE (by omega) e2 o2
      have e1 : pCases (pC nn dep) (k + 1) l.length s p = match pCase (pC nn dep) s.tail (p + 1) with
          | .inl e => .inl e
          | .inr ((a, b), s1, p1) => match pCases (pC nn dep) k (l.length + 1) s1 p1 with
            | .inl e => .inl e
            | .inr (f, s2, p2) => .inr (cons a.1 a.2 (cons b.1 b.2 f), s2, p2) := by
        rw [es]
        conv => lhs; unfold pCases
        dsimp only
        rw [if_pos q2]
        rfl
      rw [e1] at kk
      refine S2.case hT (by omega) hab h14a h15a hb hB (by omega) (fun e he => by rw [he] at kk; exact kk) (fun x s3 p3 he m3 S3 => ?_)
      rw [he] at kk
      obtain ⟨xa, xb⟩ := x
      dsimp only at kk
      refine ih (l ++ [(xa, xb)]) s3 p3 m3 (by rw [List.length_append]; simp; omega) (by rw [List.length_append]; simp) S3 ?_
      rw [show (l ++ [(xa, xb)]).length = l.length + 1 by simp]
      revert kk
      cases pCases (pC nn dep) k (l.length + 1) s3 p3 with
      | inl e => exact fun kk => kk
      | inr w =>
        obtain ⟨f, s4, p4⟩ := w
        intro kk m' v g R' M C
        rw [apK_snoc] at C
        exact kk m' v g R' M C
    · refine fin l s p m S (fun h5 => ?_) (fun h5 => ?_)
      · unfold pCases at kk
        cases s with
        | nil => exact absurd h5 (by show ¬ (0 : Int) = 125; decide)
        | cons c r => dsimp only at kk; rw [if_neg (show ¬ c = 124 from q2), if_pos (show c = 125 ∧ 0 < l.length from ⟨h5, h1⟩)] at kk; exact kk
      · unfold pCases at kk
        cases s with
        | nil => exact kk
        | cons c r => dsimp only at kk; rw [if_neg (show ¬ c = 124 from q2), if_neg (show ¬ (c = 125 ∧ 0 < l.length) from fun z => h5 z.1)] at kk; exact kk
/-- a match, in the spec -/
def mS (pc : List Int → Int → RR (Lb × TF)) (pl : Int) (s : List Int) (p : Int) : RR (Lb × TF) := match pc s p with
  | .inl e => .inl e
  | .inr (a, s1, p1) => match pCases pc 5 0 s1 p1 with
    | .inl e => .inl e
    | .inr (f, s2, p2) => .inr (((8, 0, pl), cons a.1 a.2 f), s2, p2)
theorem pCases5 {pc : List Int → Int → RR (Lb × TF)} : pCases pc 5 0 s p = match pCh 124 s p with
    | .inl e => .inl e
    | .inr (_, s2, p2) => match pCase pc s2 p2 with
      | .inl e => .inl e
      | .inr (x, s1, p1) => match pCases pc 4 1 s1 p1 with
        | .inl e => .inl e
        | .inr (f, s2, p2) => .inr (cons x.1.1 x.1.2 (cons x.2.1 x.2.2 f), s2, p2) := by
  conv => lhs; unfold pCases
  unfold pCh
  cases s with
  | nil => rfl
  | cons c r =>
    dsimp only
    by_cases z : c = 124
    · rw [if_pos z, if_pos z]
      dsimp only
      cases pCase pc r (p + 1) with
      | inl e => rfl
      | inr w => rfl
    · rw [if_neg z, if_neg z, if_neg (fun q => absurd q.2 (by decide))]
theorem q_match {nn dep d0 : Nat} (hT : QC G nn dep d0) (hd0 : 20 ≤ d0) {d : Nat} (hd : d0 + 2 ≤ d) (K : KI m) (h14 : m 14 (-2) = 0) (h15 : m 15 (-2) = 0) (R : Rd m s p) (h7 : 7 ≤ m 11 (-3)) (hBd : BdC m (s.length + 1)) {pl : Int} (k : OutC m (s.length + 1) (mS (pC nn dep) pl s p) (CdT (m 0 0)) P) : WV G mX4_match 0 [(1, 8), (0, pl), (0, (dep : Int)), (9, 0), (9, 0)] [] m d P := by
  refine v_bs (fun B => ?_)
  have hB1 := hBd.1
  have hB2 := hBd.2
  have xp : 0 < m 0 0 := B.2.1
  have n0 : ∀ x, m 0 0 ≤ x → m x (-1) = 0 := B.2.2.1
  refine wX4_match K (by omega) ⟨by omega, by omega, fun m3 A3 o3 => ?_⟩
  have g3 := Go.nw B (by decide) A3.2
  have K3 := g3.ki K
  have x3 : m3 0 0 = m 0 0 + 1 := by rw [A3.2]; unfold al; simp
  have y3 : m3 0 1 = m 0 1 + 3 := by rw [A3.2]; unfold al; simp
  have t3 : ∀ f, m3 (m 0 0) f = if f = -1 then 4 else if f = -2 then 0 else 0 := fun f => by rw [A3.2, al_new B]
  refine ⟨by omega, by omega, fun m10 A10 o10 => ?_⟩
  have B3 := A10.1
  have g10' := Go.nw B3 (by decide) A10.2
  have g10 := g3.trans g10'
  have K10 := g10.ki K
  have x10 : m10 0 0 = m 0 0 + 2 := by rw [A10.2]; unfold al; simp; omega
  have y10 : m10 0 1 = m 0 1 + 6 := by rw [A10.2]; unfold al; simp; omega
  have a10 : ∀ f, m10 (m 0 0) f = if f = -1 then 4 else if f = -2 then 0 else 0 := fun f => by rw [A10.2, al_old B3 (by rw [t3]; decide), t3]
  have c10 : ∀ f, m10 (m 0 0 + 1) f = if f = -1 then 4 else if f = -2 then 0 else 0 := fun f => by rw [← x3, A10.2, al_new B3]
  have nn14 : m 0 0 ≠ 14 ∧ m 0 0 ≠ 15 ∧ m 0 0 + 1 ≠ 14 ∧ m 0 0 + 1 ≠ 15 := by
    have k14 := K14_t K
    have k15 := K15_t K
    refine ⟨fun e => ?_, fun e => ?_, fun e => ?_, fun e => ?_⟩
    · rw [← e, n0 _ (by omega)] at k14; cases k14
    · rw [← e, n0 _ (by omega)] at k15; cases k15
    · rw [← e, n0 _ (by omega)] at k14; cases k14
    · rw [← e, n0 _ (by omega)] at k15; cases k15
  obtain ⟨n14, n15, n14', n15'⟩ := nn14
  have p10 : m10 8 5 = p := by rw [A10.2, al_old B3 (by rw [K8_t K3]; decide), A3.2, al_old B (by rw [K8_t K]; decide)]; exact R.1
  have w10 := g10.2.2.2.2 (by rw [K11_t K]; decide)
  have hB10 : BdL m10 (m 0 0) s.length := by
    have : m10 (m 0 0) (-3) = 0 := by rw [a10]; decide
    exact ⟨by omega, by omega⟩
  have S10 : LSq (CdT (m 0 0 + 2)) m10 (m 0 0) s.length [] m10 s p := by
    refine ⟨(GoA.of Go.refl K10 (by rw [a10]; rfl)).le (by omega) (by omega), K10, ?_, ?_, R.mv K g10 (by decide) p10, by omega, by rw [a10]; rfl, by rw [a10]; rfl, by rw [a10]; decide, by omega, fun j x hx => by simp at hx⟩
    · rw [g10.cell K (by have := K14_t K; omega) (by decide)]; exact h14
    · rw [g10.cell K (by have := K15_t K; omega) (by decide)]; exact h15
  rw [show m3 0 0 = m 0 0 + 1 from x3]
  have hE := EFa.cd (a := m 0 0) (b := m 0 0 + 2) (by omega) n14 n15
  have c30 : m10 (m 0 0) (-3) = 0 := by rw [a10]; decide
  unfold mS at k
  -- a failure while the code is read
  have kfl : ∀ e, OutC m (s.length + 1) (.inl e : RR (Lb × TF)) (CdT (m 0 0)) P → FL m10 (m 0 0) s.length P e := fun e k m' v g e' t => k m' v ((GoA.up g10 (n0 _ (Int.le_refl _)) g c30).le (by omega) (by omega)) e' t
  refine S10.code hT (by omega) (by omega) n14 n15 (by omega) hB10 (by decide) (fun e he => by rw [he] at k; exact kfl e k) (fun a s1 p1 he m21 S1 => ?_)
  rw [he] at k
  dsimp only at k
  rw [pCases5] at k
  refine S1.take hE hB10 (by omega) (by decide) (fun he => by rw [he] at k; exact kfl p1 k) (fun he m32 S2 => ?_)
  rw [he] at k
  dsimp only at k
  obtain ⟨g2, K2, r14, r15, R2, r7, ht2, hs2, hc2, hl2, hj2⟩ := S2
  have gA := GoA.up g10 (n0 _ (Int.le_refl _)) g2 c30
  have bA := gA.2.2
  have cc : ∀ f, m32 (m 0 0 + 1) f = m10 (m 0 0 + 1) f := fun f => g2.1 _ f (by rw [c10]; decide) (by omega) (fun e => by have := c10 (-1); rw [e, K11_t K10] at this; cases this) (fun e => by have := c10 (-1); rw [e.1, K8_t K10] at this; cases this)
  have t32 : m32 (m 0 0 + 1) (-1) = 4 := by rw [cc, c10]; rfl
  have s32 : m32 (m 0 0 + 1) (-2) = 0 := by rw [cc, c10]; rfl
  have c32 : m32 (m 0 0 + 1) (-3) = 0 := by rw [cc, c10]; rfl
  have q3 := g2.2.2
  have hB32 : BdL m32 (m 0 0 + 1) s1.tail.length := ⟨by omega, by omega⟩
  have S3 : LSq (CaT (m 0 0 + 2)) m32 (m 0 0 + 1) s1.tail.length [] m32 s1.tail (p1 + 1) := ⟨(GoA.of Go.refl K2 t32).le (by omega) (by omega), K2, r14, r15, R2, r7, t32, s32, by omega, by omega, fun j x hx => by simp at hx⟩
  have kfm : ∀ e, OutC m (s.length + 1) (.inl e : RR (Lb × TF)) (CdT (m 0 0)) P → FL m32 (m 0 0 + 1) s1.tail.length P e := fun e k m' v g e' t => k m' v ((GoA.up gA (n0 _ (by omega)) g c32).le (by omega) (by omega)) e' t
  refine S3.case (q_oneCase hT hd0) (by omega) (by omega) n14' n15' (by omega) hB32 (by decide) (fun e he => by rw [he] at k; exact kfm e k) (fun x s4 p4 he m41 S4 => ?_)
  rw [he] at k
  dsimp only at k
  refine q_ml (q_oneCase hT hd0) (by omega) (by omega) (by omega) n14' n15' (b := m 0 0 + 2) (by omega) hB32 4 [x] s4 p4 m41 rfl (Nat.le_refl _) S4 ?_
  show OutK m32 (m 0 0 + 1) (m 0 0) (m 0 0 + 2) pl s1.tail.length [x] (pCases (pC nn dep) 4 1 s4 p4) P
  revert k
  cases pCases (pC nn dep) 4 1 s4 p4 with
  | inl e => exact fun k => kfm e k
  | inr w =>
    obtain ⟨f, s5, p5⟩ := w
    intro k m' v g R' M C
    dsimp only at k
    obtain ⟨M1, M2, M3, M4, M5, M6⟩ := M
    have gB := GoA.up gA (n0 _ (by omega)) g c32
    have Fg := g.go.fa K2
    have ea : ∀ f, m' (m 0 0) f = m32 (m 0 0) f := fun f => Fg _ f (by omega) (by omega)
    have E0 := (hj2 0 a rfl).fa Fg t32 (by omega) n14' n15'
    have t0 : m' (m 0 0 + 1) (-1) = 4 := g.2.1.tag t32 (by decide)
    refine k m' v (gB.le (by omega) (by omega)) R' ⟨⟨by omega, M2, M4, ⟨by rw [M5, ea]; exact ht2, Or.inr (by rw [M5]; exact Int.le_refl _)⟩, ⟨by rw [M6]; exact t0, Or.inr ⟨rfl, by rw [M6]; omega⟩⟩, Or.inr (Or.inr (Or.inr (Or.inr (Or.inr (Or.inl ⟨rfl, M3⟩)))))⟩, ?_⟩
    show CdH m' (m 0 0) (m' (m' v 4) 0) a.1 ∧ m' (m' v 4) (-2) = 1 ∧ CdF m' (m 0 0) a.2 (if a.1.1 = 8 then 2 else 0) (if a.1.1 = 8 then m' (m' v 4) 0 else m' (m' (m' v 4) 0) 4) 0 ∧ CdF m' (m 0 0) (cons x.1.1 x.1.2 (cons x.2.1 x.2.2 f)) 1 (m' v 5) 0
    rw [M5, M6]
    have E1 := E0.mono (b' := m 0 0) (by omega)
    rw [show ((0 : Nat) : Int) = 0 from rfl, ← ea] at E1
    exact ⟨E1.1, by rw [ea, hs2]; rfl, E1.2, CdF.mono (by omega) _ _ C⟩
end CM4
