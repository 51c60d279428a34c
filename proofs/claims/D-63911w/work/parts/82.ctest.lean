/-! L3, component: lists of codes into a Code object; Reader.test -/
def ofL : List (Lb × TF) → TF
  | [] => nil
  | x :: l => cons x.1 x.2 (ofL l)
theorem CdF.ofL {m : SM} {a b : Int} : ∀ (l : List (Lb × TF)) (i : Nat), m a (-2) = i + l.length → (∀ (j : Nat) x, l[j]? = some x → CdT b m (m a (i + j)) x) → CdF m b (ofL l) 0 a i
  | [], i, hs, h => by
    show m a (-2) = i
    rw [hs]; simp
  | x :: l, i, hs, h => by
    have h0 := h 0 x rfl
    rw [show (i : Int) + ((0 : Nat) : Int) = i by omega] at h0
    refine ⟨h0.1, h0.2, ?_⟩
    have := CdF.ofL (m := m) (a := a) (b := b) l (i + 1) (by rw [hs, List.length_cons]; omega) (fun j y hy => by
      have := h (j + 1) y (by simpa using hy)
      rw [show (i : Int) + ((j + 1 : Nat) : Int) = ((i + 1 : Nat) : Int) + j by omega] at this
      exact this)
    rw [show ((i + 1 : Nat) : Int) = (i : Int) + 1 by omega] at this
    exact this
theorem EFa.cd {a b : Int} (hab : a < b) (h14 : a ≠ 14) (h15 : a ≠ 15) : EFa (CdT b) a := fun _ _ _ _ g ht h => h.fa g ht hab h14 h15
/-- how a reader that fills the list a may end with a code over it -/
def OutG (m0 : SM) (a L : Int) (r : RR (Lb × TF)) (P : Nat → Int → SM → Prop) : Prop := match r with
  | .inl e => FL m0 a L P e
  | .inr (x, s', p') => ∀ m' v, GoA a (130 * (L - s'.length) + 1) (600 * (L - s'.length) + 6) m0 m' → Rd m' s' p' → CdT a m' v x → P 0 v m'
section CT4
variable {m0 m : SM} {a b L : Int} {l : List (Lb × TF)} {s : List Int} {p : Int} {G : GM} {d : Nat} {P : Nat → Int → SM → Prop}
/-- a code is read and put behind the list -/
theorem LSq.code {nn dep d0 : Nat} (hT : QC G nn dep d0) (hd : d0 ≤ d) (S : LSq (CdT b) m0 a L l m s p) (hab : a < b) (h14a : a ≠ 14) (h15a : a ≠ 15) (hb : b ≤ m0 0 0) (hB : BdL m0 a L) (hl5 : l.length ≤ 5) {X : SM → Prop}
    (kf : ∀ e, pC nn dep s p = .inl e → FL m0 a L P e) (kt : ∀ x s' p', pC nn dep s p = .inr (x, s', p') → ∀ m', LSq (CdT b) m0 a L (l ++ [x]) m' s' p' → X m') :
    WV G mX4_code 0 [(1, 8), (0, (dep : Int)), (9, 0), (9, 0), (9, 0)] [] m d (fun k v14 m15 => Ok m m15 ∧ (k = 0 → ((elOK m15 v14) ∧ (m15 a (-2) < 100000) ∧ (m15 0 0 ≤ 1203200) ∧ (m15 0 1 + 2 * m15 a (-2) + 20 ≤ 5491882) ∧ (∀ m18, Radd m15 a v14 m18 → Ok m15 m18 → X m18))) ∧ (k ≠ 0 → P 1 v14 m15)) := by
  have hb' := S.bd hB
  obtain ⟨g, K, h14, h15, R, h7, ht, hs, hc56, hl, hj⟩ := id S
  have g3 := g.2.2.1.1
  exact LSq.read S (EFa.cd hab h14a h15a) hB h14a h15a hl5 (fun P' k => hT d m s p P' hd K h14 h15 R h7 hb' k) (fun m' v x T => ⟨T.mono (by omega), elOK.of T.1.2.1 (c := 22) (by decide) (by decide)⟩) kf kt
/-- the Code object over the list -/
theorem LSq.fin (S : LSq (CdT b) m0 a L l m s p) (hd : 12 ≤ d) (hab : a < b) (hB : BdL m0 a L) (ha0 : 0 < a) (ham : a ≤ m0 0 0) {act pl : Int} {t : Lb} (hp : t.2.2 = pl) (ht8 : t.1 ≠ 8) (hact : (t.1 = 6 ∧ act = -4) ∨ (t.1 = 7 ∧ act = -5) ∨ (t.1 = 9 ∧ t.2.1 = 61 ∧ act = -7) ∨ (t.1 = 9 ∧ t.2.1 = 60 ∧ act = -8))
    (k : ∀ m' v, GoA a (130 * (L - s.length) + 1) (600 * (L - s.length) + 6) m0 m' → Rd m' s p → CdT a m' v (t, ofL l) → P 0 v m') :
    (m 0 0 ≤ 1203200) ∧ (m 0 1 + 6 ≤ 5491882) ∧ (Bs m → ∀ m8, m8 = al m 23 0 6 → Ok m m8 → (((m 0 0) ≠ 0) ∧ (WV G mX18_init 0 [(1, (m 0 0)), (1, act), (0, pl), (0, 32), (1, 0), (1, a), (1, 15)] [] m8 d (fun k v15 m16 => k = 0 ∧ Ok m8 m16 ∧ (P 0 (m 0 0) m16))))) := by
  have hb := S.bd hB
  have hb1 := hb.1
  have hb2 := hb.2
  obtain ⟨g, K, h14, h15, R, h7, ht, hs, hc56, hl, hj⟩ := S
  refine ⟨by omega, by omega, fun B m8 e8 o8 => ?_⟩
  have xp : 0 < m 0 0 := B.2.1
  have x0 : m 0 0 ≠ 0 := by omega
  have n0 : m (m 0 0) (-1) = 0 := B.2.2.1 _ (Int.le_refl _)
  have g8 := Go.nw B (by decide) e8
  have K8 := g8.ki K
  refine ⟨x0, q_i23 K8 hd x0 (al_tag B e8) (by decide) (fun m' e' f9 f0 f1 f2 f3 f4 f5 o' => ⟨rfl, o', ?_⟩)⟩
  have gg := g8.fr n0 x0 e' o'
  have n8 : (8 : Int) ≠ m 0 0 := fun e => by rw [← e, K8_t K] at n0; cases n0
  have e85 : m' 8 5 = p := by rw [e' 8 n8, e8, al_old B (by rw [K8_t K]; decide)]; exact R.1
  have F := gg.fc K
  have g3 := g.2.2.1.1
  have ea : ∀ f, m' a f = m a f := fun f => F a f (by omega)
  have e15 : ∀ f, m' 15 f = m 15 f := fun f => F 15 f (by have := K15_t K; omega)
  refine k m' (m 0 0) ((g.trans (GoA.of gg K ht)).le (by omega) (by omega)) (R.mv K gg (by decide) e85) ⟨⟨by omega, f9, by rw [f1, hp], ⟨by rw [f4, ea]; exact ht, Or.inr (by rw [f4]; exact Int.le_refl _)⟩, ⟨by rw [f5, e15]; exact K15_t K, Or.inl f5⟩, ?_⟩, ?_⟩
  · dsimp only
    rw [f0]
    rcases hact with h | h | h | h
    · exact Or.inr (Or.inr (Or.inr (Or.inl h)))
    · exact Or.inr (Or.inr (Or.inr (Or.inr (Or.inl h))))
    · exact Or.inr (Or.inr (Or.inr (Or.inr (Or.inr (Or.inr (Or.inl h))))))
    · exact Or.inr (Or.inr (Or.inr (Or.inr (Or.inr (Or.inr (Or.inr (Or.inl h)))))))
  · dsimp only
    rw [if_neg ht8, if_neg ht8, f4]
    refine CdF.mono (b := b) (by omega) _ _ ?_
    refine CdF.ofL l 0 (by rw [ea, hs]; omega) (fun j x hx => ?_)
    rw [ea, show (((0 : Nat) : Int) + j) = j by omega]
    exact (hj j x hx).fc F
/-- behind the sign of a test, in the spec -/
def tR (pc : List Int → Int → RR (Lb × TF)) (t : Lb) (a1 : Lb × TF) (s1 : List Int) (p1 : Int) : RR (Lb × TF) := match pc s1 p1 with
  | .inl e => .inl e
  | .inr (a2, s2, p2) => match pCh 63 s2 p2 with
    | .inl e => .inl e
    | .inr (_, s3, p3) => match pc s3 p3 with
      | .inl e => .inl e
      | .inr (a3, s4, p4) => match pCh 58 s4 p4 with
        | .inl e => .inl e
        | .inr (_, s5, p5) => match pc s5 p5 with
          | .inl e => .inl e
          | .inr (a4, s6, p6) => match pCh 93 s6 p6 with
            | .inl e => .inl e
            | .inr (_, s7, p7) => .inr ((t, cons a1.1 a1.2 (cons a2.1 a2.2 (cons a3.1 a3.2 (cons a4.1 a4.2 nil)))), s7, p7)
theorem q_testT {nn dep d0 : Nat} (hT : QC G nn dep d0) (hd : d0 ≤ d) (hd0 : 20 ≤ d0) {a1 : Lb × TF} (S : LSq (CdT b) m0 a L [a1] m s p) (hab : a < b) (h14a : a ≠ 14) (h15a : a ≠ 15) (hb : b ≤ m0 0 0) (hB : BdL m0 a L) (ha0 : 0 < a) {act pl : Int} {t : Lb} (hp : t.2.2 = pl) (hact : (t.1 = 9 ∧ t.2.1 = 61 ∧ act = -7) ∨ (t.1 = 9 ∧ t.2.1 = 60 ∧ act = -8))
    (k : OutG m0 a L (tR (pC nn dep) t a1 s p) P) :
    WV G mX4_code 0 [(1, 8), (0, (dep : Int)), (9, 0), (9, 0), (9, 0)] [] m d (fun k v26 m27 => Ok m m27 ∧ (k = 0 → ((elOK m27 v26) ∧ (m27 a (-2) < 100000) ∧ (m27 0 0 ≤ 1203200) ∧ (m27 0 1 + 2 * m27 a (-2) + 20 ≤ 5491882) ∧ (∀ m30, Radd m27 a v26 m30 → Ok m27 m30 → (WV G mX4_take 0 [(1, 8), (0, 63), (0, 63)] [] m30 d (fun k v39 m40 => Ok m30 m40 ∧ (k = 0 → (WV G mX4_code 0 [(1, 8), (0, (dep : Int)), (9, 0), (9, 0), (9, 0)] [] m40 d (fun k v43 m44 => Ok m40 m44 ∧ (k = 0 → ((elOK m44 v43) ∧ (m44 a (-2) < 100000) ∧ (m44 0 0 ≤ 1203200) ∧ (m44 0 1 + 2 * m44 a (-2) + 20 ≤ 5491882) ∧ (∀ m47, Radd m44 a v43 m47 → Ok m44 m47 → (WV G mX4_take 0 [(1, 8), (0, 58), (0, 58)] [] m47 d (fun k v56 m57 => Ok m47 m57 ∧ (k = 0 → (WV G mX4_code 0 [(1, 8), (0, (dep : Int)), (9, 0), (9, 0), (9, 0)] [] m57 d (fun k v60 m61 => Ok m57 m61 ∧ (k = 0 → ((elOK m61 v60) ∧ (m61 a (-2) < 100000) ∧ (m61 0 0 ≤ 1203200) ∧ (m61 0 1 + 2 * m61 a (-2) + 20 ≤ 5491882) ∧ (∀ m64, Radd m61 a v60 m64 → Ok m61 m64 → (WV G mX4_take 0 [(1, 8), (0, 93), (0, 93)] [] m64 d (fun k v73 m74 => Ok m64 m74 ∧ (k = 0 → ((m74 0 0 ≤ 1203200) ∧ (m74 0 1 + 6 ≤ 5491882) ∧ (Bs m74 → ∀ m79, m79 = al m74 23 0 6 → Ok m74 m79 → (((m74 0 0) ≠ 0) ∧ (WV G mX18_init 0 [(1, (m74 0 0)), (1, act), (0, pl), (0, 32), (1, 0), (1, a), (1, 15)] [] m79 d (fun k v86 m87 => k = 0 ∧ Ok m79 m87 ∧ (P 0 (m74 0 0) m87))))))) ∧ (k ≠ 0 → P 1 v73 m74)))))) ∧ (k ≠ 0 → P 1 v60 m61)))) ∧ (k ≠ 0 → P 1 v56 m57)))))) ∧ (k ≠ 0 → P 1 v43 m44)))) ∧ (k ≠ 0 → P 1 v39 m40)))))) ∧ (k ≠ 0 → P 1 v26 m27)) := by
  have hE := EFa.cd hab h14a h15a
  unfold tR at k
  refine S.code hT hd hab h14a h15a hb hB (by simp) (fun e he => by rw [he] at k; exact k) (fun a2 s2 p2 he m2 S2 => ?_)
  rw [he] at k
  dsimp only at k
  refine S2.take hE hB (by omega) (by decide) (fun he => by rw [he] at k; exact k) (fun he m3 S3 => ?_)
  rw [he] at k
  dsimp only at k
  refine S3.code hT hd hab h14a h15a hb hB (by simp) (fun e he => by rw [he] at k; exact k) (fun a3 s4 p4 he m4 S4 => ?_)
  rw [he] at k
  dsimp only at k
  refine S4.take hE hB (by omega) (by decide) (fun he => by rw [he] at k; exact k) (fun he m5 S5 => ?_)
  rw [he] at k
  dsimp only at k
  refine S5.code hT hd hab h14a h15a hb hB (by simp) (fun e he => by rw [he] at k; exact k) (fun a4 s6 p6 he m6 S6 => ?_)
  rw [he] at k
  dsimp only at k
  refine S6.take hE hB (by omega) (by decide) (fun he => by rw [he] at k; exact k) (fun he m7 S7 => ?_)
  rw [he] at k
  dsimp only at k
  exact S7.fin (by omega) hab hB ha0 (by omega) hp (by omega) (Or.inr (Or.inr hact)) k
/-- a test, in the spec -/
def tS (pc : List Int → Int → RR (Lb × TF)) (pl : Int) (s : List Int) (p : Int) : RR (Lb × TF) := match pc s p with
  | .inl e => .inl e
  | .inr (a1, s1, p1) => match s1 with
    | [] => .inl p1
    | x :: s1' => if x = 61 ∨ x = 60 then tR pc (9, x, pl) a1 s1' (p1 + 1) else .inl p1
theorem q_test {nn dep d0 : Nat} (hT : QC G nn dep d0) (hd : d0 + 1 ≤ d) (hd0 : 20 ≤ d0) (S : LSq (CdT b) m0 a L [] m s p) (hab : a < b) (h14a : a ≠ 14) (h15a : a ≠ 15) (hb : b ≤ m0 0 0) (hB : BdL m0 a L) (ha0 : 0 < a) {pl : Int}
    (k : OutG m0 a L (tS (pC nn dep) pl s p) P) : WV G mX4_test 0 [(1, 8), (0, pl), (0, (dep : Int)), (1, a), (9, 0)] [] m d P := by
  have hE := EFa.cd hab h14a h15a
  have K := S.2.1
  have ta := S.2.2.2.2.2.2.1
  unfold tS at k
  refine wX4_test K (by omega) (WV.mono (S.code (X := _) hT (by omega) hab h14a h15a hb hB (by simp) (fun e he => by rw [he] at k; exact k) (fun a1 s1 p1 he m1 S1 => ?_)) (fun k' v m' h => ⟨h.1, fun z => ⟨h.1.tag ta (by decide), h.2.1 z⟩, h.2.2⟩))
  rw [he] at k
  dsimp only at k
  obtain ⟨g1, K1, h14, h15, R1, h7, ht, hs, hc56, hl, hj⟩ := id S1
  have hbd := S1.bd hB
  have hb1 := hbd.1
  have hb2 := hbd.2
  refine q_peek K1 (by omega) R1 ⟨rfl, Ok.refl m1, ?_⟩
  refine q_passes K1 (by omega) R1 (fun q2 m2 e2 o2 => ⟨rfl, o2, fun _ => ?_, fun z => absurd z (by decide)⟩) (fun q2 => ⟨rfl, Ok.refl m1, fun z => absurd rfl z, fun _ => ?_⟩)
  · obtain ⟨S2, es⟩ := S1.pl hE (by omega) e2 o2
    have K2 := S2.2.1
    have x2 : m2 0 = m1 0 := by funext f; rw [e2, up_na _ (by decide)]
    refine q_need K2 (by omega) (by rw [x2]; omega) (fun _ => ⟨Ok.refl m2, fun _ => ?_, fun z => absurd rfl z⟩) (fun z => absurd z (by decide))
    rw [es] at k
    dsimp only at k
    rw [if_pos (Or.inl q2), q2] at k
    rw [if_pos (show hdC s1 ≠ 60 by omega)]
    exact q_testT hT (by omega) hd0 S2 hab h14a h15a hb hB ha0 (t := (9, 61, pl)) rfl (Or.inl ⟨rfl, rfl, rfl⟩) k
  · refine q_passes K1 (by omega) R1 (fun q3 m2 e2 o2 => ⟨rfl, o2, ?_⟩) (fun q3 => ⟨rfl, Ok.refl m1, ?_⟩)
    · obtain ⟨S2, es⟩ := S1.pl hE (by omega) e2 o2
      have K2 := S2.2.1
      have x2 : m2 0 = m1 0 := by funext f; rw [e2, up_na _ (by decide)]
      refine q_need K2 (by omega) (by rw [x2]; omega) (fun _ => ⟨Ok.refl m2, fun _ => ?_, fun z => absurd rfl z⟩) (fun z => absurd z (by decide))
      rw [es] at k
      dsimp only at k
      rw [if_pos (Or.inr q3), q3] at k
      rw [if_neg (show ¬ hdC s1 ≠ 60 by omega)]
      exact q_testT hT (by omega) hd0 S2 hab h14a h15a hb hB ha0 (t := (9, 60, pl)) rfl (Or.inr ⟨rfl, rfl, rfl⟩) k
    · refine q_need K1 (by omega) (by omega) (fun z => absurd rfl z) (fun _ m' x g e t => ⟨g.2.1, fun z => absurd z (by decide), fun _ => ?_⟩)
      have kk : FL m0 a L P p1 := by
        cases s1 with
        | nil => exact k
        | cons y r => dsimp only at k; rw [if_neg (fun z => by rcases z with z | z; exact q2 z; exact q3 z)] at k; exact k
      exact kk m' x ((g1.trans (GoA.of g K1 ht)).le (by omega) (by omega)) (by rw [e]; exact R1.1) t
end CT4
