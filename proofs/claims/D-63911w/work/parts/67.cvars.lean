/-! L3, component: Reader.variables -/
/-- the letters from i on are the forest's -/
def VsF (m : SM) : TF → Int → Int → Prop
  | .leaf, x, i => m x (-2) = i
  | .inner _ a _ _ s, x, i => m x i = a.2.1 + 97 ∧ VsF m s x (i + 1)
/-- as Go, the builder's growth apart -/
def GoV (c n : Int) (m m' : SM) : Prop := FrX 11 m m' ∧ Ok m m' ∧ (m 0 0 ≤ m' 0 0 ∧ m' 0 0 + m 11 (-3) ≤ m 0 0 + m' 11 (-3) + c) ∧ (m 0 1 ≤ m' 0 1 ∧ m' 0 1 + 4 * m 11 (-3) ≤ m 0 1 + 4 * m' 11 (-3) + n) ∧ (m 11 (-3) ≤ m' 11 (-3) ∧ (m' 11 (-3) ≤ m 11 (-3) ∨ m' 11 (-3) ≤ 56))
section CV
variable {m m' m'' : SM} {c n c' n' : Int} {G : GM} {d : Nat} {P : Nat → Int → SM → Prop} {s : List Int} {p : Int}
theorem GoV.trans (h1 : GoV c n m m') (h2 : GoV c' n' m' m'') : GoV (c + c') (n + n') m m'' := by
  obtain ⟨f1, o1, b1, d1, w1⟩ := h1
  obtain ⟨f2, o2, b2, d2, w2⟩ := h2
  exact ⟨fun z f hz h0 h3 h4 => by rw [f2 z f (by rw [o1.1 z hz]; exact hz) h0 h3 h4]; exact f1 z f hz h0 h3 h4, o1.trans o2, by omega, by omega, by omega⟩
theorem GoV.le (h : GoV c n m m') (hc : c ≤ c') (hn : n ≤ n') : GoV c' n' m m' := ⟨h.1, h.2.1, by have := h.2.2.1; omega, by have := h.2.2.2.1; omega, h.2.2.2.2⟩
theorem GoV.go (h : GoV c n m m') (h7 : 7 ≤ m 11 (-3)) : Go 11 (c + 50) (n + 200) m m' := by
  obtain ⟨f1, o1, b1, d1, w1⟩ := h
  exact ⟨f1, o1, by omega, by omega, fun _ => w1.1⟩
theorem GoV.pl (K : KI m) {v : Int} (e : m' = up m 8 5 v) (o : Ok m m') : GoV 0 0 m m' := by
  have g := Go.pl K e o
  have e11 : m' 11 (-3) = m 11 (-3) := by rw [e, up_na _ (by decide)]
  have e0 : m' 0 = m 0 := by funext f; rw [e, up_na _ (by decide)]
  exact ⟨g.1, o, by rw [e11, e0]; omega, by rw [e11, e0]; omega, by rw [e11]; omega⟩
theorem GoV.lw (L : Lw m 11 m') (K : KI m) (hs : m' 11 (-2) ≤ 8) : GoV 0 0 m m' := by
  have o := L.ok (K11_t K) (Or.inr rfl)
  obtain ⟨l0, l1, l2, l3, l4, l5, l6, l7, l8, l9⟩ := L
  refine ⟨fun z f hz h0 _ _ => ?_, o, by omega, by omega, by omega⟩
  rw [l1 z h0 (fun e => hz (by rw [e]; exact l0))]
def OutV (m : SM) (cnt L : Int) (r : RR TF) (P : Nat → Int → SM → Prop) : Prop := match r with
  | .inl e => ∀ m' v, GoV 1 6 m m' → m' 8 5 = e → m' v (-1) = 12 → P 1 v m'
  | .inr (f, s', p') => ∀ m' v, GoV 2 20 m m' → Rd m' s' p' → m 0 0 ≤ v → m' v (-1) = 13 → (∀ j, 0 ≤ j → j < cnt → m' v j = m 11 j) → VsF m' f v cnt → P 0 v m'
theorem q_vfin (K : KI m) (R : Rd m s p) {cnt L : Int} (hs : m 11 (-2) = cnt) (hc : 0 ≤ cnt ∧ cnt ≤ 6) {v : Int} (S : Rstr m 11 v m') (o : Ok m m') (k : OutV m cnt L (.inr ((nil : TF), s, p)) P) : P 0 v m' := by
  obtain ⟨B, hv, h3, h4, h5, h6, h7, h8, h9⟩ := S
  have n0 : m v (-1) = 0 := by rw [hv]; exact B.2.2.1 _ (Int.le_refl _)
  have xp := B.2.1
  have old : ∀ z f, m z (-1) ≠ 0 → m' z f = m z f := fun z f hz => by rw [h3 z (fun e => hz (by rw [e]; exact n0)) (fun e => hz (by rw [e]; exact B.1))]
  have e11 : m' 11 (-3) = m 11 (-3) := old _ _ (by rw [K11_t K]; decide)
  have g : GoV 2 20 m m' := ⟨fun z f hz _ _ _ => old z f hz, o, by rw [e11]; omega, by rw [e11]; omega, by rw [e11]; omega⟩
  have e8 : m' 8 5 = p := by rw [old _ _ (by rw [K8_t K]; decide)]; exact R.1
  have gg : Go 11 2 20 m m' := ⟨g.1, o, by omega, by omega, fun _ => by rw [e11]; exact Int.le_refl _⟩
  exact k m' v g (R.mv K gg (by decide) e8) (by omega) h4 (fun j j0 _ => h6 j j0) (by show m' v (-2) = cnt; rw [h5]; exact hs)
theorem q_vl (hd : 18 ≤ d) {most : Nat} (hm6 : most ≤ 6) : ∀ (k cnt : Nat) (s : List Int) (p : Int) (m : SM) (L : Int), k + cnt = most → KI m → Rd m s p → m 11 (-2) = cnt → 7 ≤ m 11 (-3) → m 0 0 + 100 ≤ 1203100 → m 0 1 + 400 ≤ 5491000 → (m 0 0 + 170 ≤ 1203100 + m 11 (-3) ∧ m 0 1 + 700 ≤ 5491000 + 4 * m 11 (-3)) → OutV m cnt L (pVs k false s p) P → WV G mX4_variables 24 [(1, 8), (0, (most : Int))] [] m d P
  | 0, cnt, s, p, m, L, hk, K, R, hs, h7, hb1, hb2, hb3, kk => by
    unfold pVs at kk
    exact wX4_variables_24 K (by omega) ⟨fun _ => ⟨by omega, by omega, by omega, fun v m1 S o => q_vfin (L := L) K R hs (by omega) S o kk⟩, fun q => absurd q (by omega)⟩
  | k + 1, cnt, s, p, m, L, hk, K, R, hs, h7, hb1, hb2, hb3, kk => by
    have h0 := R.hd0
    refine wX4_variables_24 K (by omega) ⟨fun q => absurd q (by omega), fun _ => q_isNext K (by omega) R ⟨rfl, Ok.refl m, fun q1 => ⟨by omega, by omega, by omega, fun v m1 S o => ?_⟩, fun q1 => ?_⟩⟩
    · have n1 : ¬ (97 ≤ hdC s ∧ hdC s ≤ 122) := fun z => by rw [if_pos z] at q1; exact absurd q1 (by decide)
      refine q_vfin (L := L) K R hs (by omega) S o ?_
      unfold pVs at kk
      cases s with
      | nil => exact kk
      | cons x r =>
        dsimp only at kk
        rw [if_neg (show ¬ isV x = true from fun z => n1 (isV_iff.mp z)), if_neg (fun z => nomatch z)] at kk
        exact kk
    · have n1 : 97 ≤ hdC s ∧ hdC s ≤ 122 := by
        by_cases z : 97 ≤ hdC s ∧ hdC s ≤ 122
        · exact z
        · rw [if_neg z] at q1; exact absurd rfl q1
      refine q_take K (by omega) R (by omega) (by omega) (fun q m2 e2 o2 => ⟨o2, fun _ => ?_, fun z => absurd rfl z⟩) (fun q => absurd n1 q)
      have g2 := GoV.pl K e2 o2
      have K2 := o2.2.1 K
      have gp := Go.pl K e2 o2
      obtain ⟨R2, l2, es⟩ := R.next K (by omega) gp (by decide) (by rw [e2, up_self])
      have x2 : m2 0 = m 0 := by funext f; rw [e2, up_na _ (by decide)]
      have y2 : m2 11 = m 11 := by funext f; rw [e2, up_na _ (by decide)]
      refine ⟨by omega, by omega, by rw [y2]; omega, by rw [x2]; omega, by rw [x2, y2]; omega, fun m3 A3 o3 => ?_⟩
      have s3 : m3 11 (-2) = ((cnt + 1 : Nat) : Int) := by rw [A3.2.1, y2, hs]; simp
      have g3' := GoV.lw A3.1 K2 (by rw [s3]; omega)
      have g3 := g2.trans g3'
      have K3 := o3.2.1 K2
      have w3 := g3.2.2
      have e38 : m3 8 5 = p + 1 := by rw [A3.1.2.1 8 (by decide) (by decide), e2, up_self]
      have R3 := R2.mv K2 (a := 11) (c := m3 0 0 - m2 0 0) (n := m3 0 1 - m2 0 1) (m' := m3) ⟨g3'.1, o3, by have := g3'.2.2; omega, by have := g3'.2.2; omega, fun _ => g3'.2.2.2.2.1⟩ (by decide) e38
      refine q_vl hd hm6 k (cnt + 1) s.tail (p + 1) m3 L (by omega) K3 R3 s3 (by omega) (by omega) (by omega) (by omega) ?_
      have e1 : pVs (k + 1) false s p = match pVs k false s.tail (p + 1) with
          | .inl e => .inl e
          | .inr (f, s', p') => .inr (cons (14, hdC s - 97, p) nil f, s', p') := by
        rw [es]
        conv => lhs; unfold pVs
        dsimp only
        rw [if_pos (show isV (hdC s) = true from isV_iff.mpr n1)]
        rfl
      rw [e1] at kk
      revert kk
      cases pVs k false s.tail (p + 1) with
      | inl e => exact fun kk m' v g e' t => kk m' v ((g3.trans g).le (by omega) (by omega)) e' t
      | inr w =>
        obtain ⟨f, s', p'⟩ := w
        intro kk m' v g R' hv t hj hF
        refine kk m' v ((g3.trans g).le (by omega) (by omega)) R' (by omega) t (fun j j0 j1 => ?_) ?_
        · rw [hj j j0 (by simp; omega), A3.2.2 j j0, y2, if_neg (by omega)]
        · show m' v cnt = (hdC s - 97) + 97 ∧ VsF m' f v (cnt + 1)
          refine ⟨?_, by simpa using hF⟩
          rw [hj cnt (by omega) (by simp; omega), A3.2.2 cnt (by omega), y2, if_pos hs.symm]; omega
end CV
