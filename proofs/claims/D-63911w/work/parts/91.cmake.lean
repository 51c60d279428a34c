/-! L3, component: Heap.make, made, bind -/
def Rq (H : Int) (m : SM) : Prop := m 0 0 ≤ 500000 + po0 m H ∧ m 0 1 ≤ 3000000 + po1 m H
section HPm
variable {m m' : SM} {H a b c : Int} {G : GM} {d : Nat} {P : Nat → Int → SM → Prop}
theorem Rq.mono (h : Rq H m) (g : Hp H a b c m m') : Rq H m' := by
  obtain ⟨-, -, -, -, r, s, -⟩ := g
  exact ⟨by have := h.1; omega, by have := h.2; omega⟩
theorem PI.po (h : PI m H) : po0 m H ≤ 384120 ∧ po1 m H ≤ 1424480 := by
  obtain ⟨-, -, ⟨-, -, -, a1, a2, -⟩, ⟨-, -, -, b1, b2, -⟩, ⟨-, -, -, c1, c2, -⟩⟩ := h
  unfold po0 po1
  omega
theorem Hp.ki (g : Hp H a b c m m') (K : KI m) : KI m' := g.1.2.1 K
/-- writes outside of the heap -/
theorem PI.keep (hP : PI m H) (oo : Ok m m') (eH : m' H = m H) (e0 : m' (m H 0) = m (m H 0)) (e1 : m' (m H 1) = m (m H 1)) (e2 : m' (m H 2) = m (m H 2)) : PI m' H ∧ (∀ x, Lv m H x → Lv m' H x) ∧ po0 m' H = po0 m H ∧ po1 m' H = po1 m H := by
  have Fr : ∀ j, j = 0 ∨ j = 1 ∨ j = 2 → ∀ x, Frj m' H j x → Frj m H j x := by
    intro j hj x ⟨i, h1, h2, h3⟩
    rw [eH] at h1 h2 h3
    rcases hj with rfl | rfl | rfl
    · rw [e0] at h2 h3; exact ⟨i, h1, h2, h3⟩
    · rw [e1] at h2 h3; exact ⟨i, h1, h2, h3⟩
    · rw [e2] at h2 h3; exact ⟨i, h1, h2, h3⟩
  have LL : ∀ x, Lv m H x → Lv m' H x := fun x ⟨h1, h2, h3, h4, h5, h6⟩ => ⟨by rw [oo.1 x h1]; exact h1, h2, by rw [eH]; exact h3, fun z => h4 (Fr 0 (by omega) x z), fun z => h5 (Fr 1 (by omega) x z), fun z => h6 (Fr 2 (by omega) x z)⟩
  have pj : ∀ j tg B, j = 0 ∨ j = 1 ∨ j = 2 → PIj m H j tg B → tg ≠ 0 → PIj m' H j tg B := by
    intro j tg B hj h t0
    have el : m' (m H j) = m (m H j) := by rcases hj with rfl | rfl | rfl; exact e0; exact e1; exact e2
    unfold PIj
    simp only [eH, el]
    obtain ⟨q1, q2, q3, q4, q5, q6, q7⟩ := h
    exact ⟨q1, q2, q3, q4, q5, fun i h0 h1 => oo.tag (q6 i h0 h1) t0, q7⟩
  refine ⟨⟨by rw [eH]; exact hP.1, by rw [eH]; exact hP.2.1, pj 0 _ _ (by omega) hP.2.2.1 (by decide), pj 1 _ _ (by omega) hP.2.2.2.1 (by decide), pj 2 _ _ (by omega) hP.2.2.2.2 (by decide)⟩, LL, ?_, ?_⟩
  · unfold po0; rw [eH, e0, e1, e2]
  · unfold po1; rw [eH, e0, e1, e2]
theorem q_make (K : KI m) (hd : 14 ≤ d) (hP : PI m H) (hu : m H 3 < 16000) (hR : Rq H m) {s n : Int} (k : ∀ m' v, Hp H 1 0 0 m m' → Lv m' H v → ¬ Lv m H v → v ≠ 0 → m' v (-1) = 11 → m' v 0 = s → m' v 1 = n → m' v 3 = 0 → m' v 4 = 0 → P 0 v m') : WV G mX3_make 0 [(1, H), (1, s), (0, n), (9, 0)] [] m d P := by
  have hpo := hP.po
  have hR1 := hR.1
  have hR2 := hR.2
  -- behind the growth
  have go : ∀ m1, Hp H 0 0 0 m m1 → m1 H 3 = m H 3 → m1 H 3 < m1 (m1 H 0) (-2) → WV G mX3_make 29 [(1, H), (1, s), (0, n), (9, 0)] [] m1 d P := by
    intro m1 g1 e3 hlt
    refine v_bs (fun B1 => ?_)
    have K1 := g1.ki K
    have P1 := g1.2.1
    have hN := P1.ne
    have u0 : 0 ≤ m1 H 3 := P1.2.2.1.2.1
    have tx : m1 (m1 (m1 H 0) (m1 H 3)) (-1) = 11 := P1.2.2.1.el (i := m1 H 3) u0 hlt
    have tl : m1 (m1 H 0) (-1) = 4 := P1.2.2.1.1
    have tH := P1.1
    refine wX3_make_29 K1 (by omega) ⟨tH, fun m2 e2 o2 => ?_⟩
    have l2 : m2 (m1 H 0) = m1 (m1 H 0) := by funext f; rw [e2, up_na _ (Ne.symm hN.1)]
    rw [l2]
    have x2 : m2 (m1 (m1 H 0) (m1 H 3)) (-1) = 11 := o2.tag tx (by decide)
    refine ⟨tl, u0, hlt, Or.inr x2, x2, fun m3 e3' o3 m4 e4 o4 m5 e5 o5 m6 e6 o6 => ?_⟩
    rw [wr_id (by omega) (by omega)] at e2
    have xH : m1 (m1 H 0) (m1 H 3) ≠ H := fun z => by rw [z, tH] at tx; cases tx
    have E : ∀ z, z ≠ m1 (m1 H 0) (m1 H 3) → m6 z = m2 z := fun z hz => by funext f; rw [e6, up_na _ hz, e5, up_na _ hz, e4, up_na _ hz, e3', up_na _ hz]
    have oo := o2.trans (o3.trans (o4.trans (o5.trans o6)))
    have T := Hp.take (m' := m6) (x := m1 (m1 H 0) (m1 H 3)) (j := 0) (tg := 11) (a := 1) (b := 0) (c := 0) B1 P1 (Or.inl ⟨rfl, rfl, rfl, rfl, rfl⟩) hlt rfl (fun z h1 h2 => by rw [E z h1]; funext f; rw [e2, up_na _ h2]) (fun f hf => by rw [E H (Ne.symm xH), e2, up_nf _ (show f ≠ 3 from hf)]) (by rw [E H (Ne.symm xH), e2]; exact up_self ..) (by rw [oo.1 _ (by rw [tx]; decide)]) oo
    obtain ⟨T1, T2, T3, T4, T5, T6⟩ := T
    have nl : ¬ Lv m H (m1 (m1 H 0) (m1 H 3)) := fun z => T6 (g1.2.2.1 _ z).1
    refine k m6 _ (by have := g1.trans T1; simpa using this) T5 nl T3 (by rw [oo.1 _ (by rw [tx]; decide)]; exact tx) ?_ ?_ ?_ ?_
    · rw [e6, up_nf _ (by decide), e5, up_nf _ (by decide), e4, up_nf _ (by decide), e3', up_self]
    · rw [e6, up_nf _ (by decide), e5, up_nf _ (by decide), e4, up_self]
    · rw [e6, up_nf _ (by decide), e5, up_self]
    · rw [e6, up_self]
  have u2 : m H 3 ≤ m (m H 0) (-2) := hP.2.2.1.2.2.1
  refine wX3_make K (by omega) ⟨hP.1, hP.2.2.1.1, fun q => go m (Hp.refl hP) rfl (by omega), fun q => ⟨by omega, by omega, fun B0 m5 e5 o5 => ⟨by have := B0.2.1; omega, ?_⟩⟩⟩
  refine wX9_init (o5.2.1 K) (by omega) ⟨by have := B0.2.1; omega, rfl, Ok.refl m5, ?_⟩
  have tl : m (m H 0) (-1) = 4 := hP.2.2.1.1
  have c1 : m5 0 0 = m 0 0 + 1 := by rw [e5]; unfold al; simp
  have c2 : m5 0 1 = m 0 1 + 5 := by rw [e5]; unfold al; simp
  have l5 : m5 (m H 0) = m (m H 0) := by funext f; rw [e5, al_old B0 (by rw [tl]; decide)]
  refine ⟨elOK.of (al_tag B0 e5) (c := 10) (by decide) (by decide), by rw [l5]; omega, by omega, by rw [l5]; omega, fun m19 A o19 => ?_⟩
  obtain ⟨g1, g2, g3⟩ := Hp.grow B0 hP (Or.inl ⟨rfl, rfl, rfl, rfl⟩) q hu e5 A
  exact go m19 g1 (g3 3) g2
theorem q_made (K : KI m) (hd : 15 ≤ d) (hP : PI m H) (hu : m H 3 < 16000) (hR : Rq H m) {l r : Int} (hl : 0 ≤ l ∧ l ≤ 65535) (k : ∀ m' v, Hp H 1 0 0 m m' → Lv m' H v → ¬ Lv m H v → v ≠ 0 → m' v (-1) = 11 → m' v 0 = -19 → m' v 2 = l → m' v 3 = r → m' v 4 = 0 → P 0 v m') : WV G mX3_made 0 [(1, H), (0, l), (1, r), (9, 0)] [] m d P := by
  refine wX3_made K (by omega) ⟨hP.1, q_make K (by omega) hP hu hR (fun m3 v g Lv3 nl v0 t f0 f1 f3 f4 => ⟨rfl, g.1, t, hl, fun m8 e8 o8 m14 e14 o14 => ?_⟩)⟩
  have oo := o8.trans o14
  have E : ∀ z, z ≠ v → m14 z = m3 z := fun z hz => by funext f; rw [e14, up_na _ hz, e8, up_na _ hz]
  have P3 := g.2.1
  have vl : ∀ z, m3 z (-1) = 4 ∨ m3 z (-1) = 3 → m14 z = m3 z := fun z hz => E z (fun q => by rw [q, t] at hz; omega)
  have eH : m14 H = m3 H := vl H (Or.inr P3.1)
  have e0 : m14 (m3 H 0) = m3 (m3 H 0) := vl _ (Or.inl P3.2.2.1.1)
  have e1 : m14 (m3 H 1) = m3 (m3 H 1) := vl _ (Or.inl P3.2.2.2.1.1)
  have e2 : m14 (m3 H 2) = m3 (m3 H 2) := vl _ (Or.inl P3.2.2.2.2.1)
  have z0 : m14 0 = m3 0 := E 0 (Ne.symm v0)
  obtain ⟨P14, LL, w0, w1⟩ := P3.keep oo eH e0 e1 e2
  have g14 : Hp H 1 0 0 m m14 := by
    obtain ⟨q1, q2, q3, q4, q5, q6, q7, q8, q9, qn⟩ := g
    refine ⟨q1.trans oo, P14, fun x hx => ⟨LL x (q3 x hx).1, fun f => ?_⟩, fun f hf => by rw [eH]; exact q4 f hf, ?_, ?_, by rw [eH]; exact q7, by rw [eH]; exact q8, by rw [eH]; exact q9, fun x h0 hx i i0 i1 => by rw [eH, e0] at i1 ⊢; exact qn x h0 hx i i0 i1⟩
    · rw [E x (fun q => nl (by rw [← q]; exact hx))]; exact (q3 x hx).2 f
    · rw [z0, w0]; exact q5
    · rw [z0, w1]; exact q6
  refine k m14 v g14 (LL v Lv3) nl v0 (oo.tag t (by decide)) ?_ ?_ ?_ ?_
  · rw [e14, up_nf _ (by decide), e8, up_nf _ (by decide)]; exact f0
  · rw [e14, up_nf _ (by decide), e8, up_self]
  · rw [e14, up_self]
  · rw [e14, up_nf _ (by decide), e8, up_nf _ (by decide)]; exact f4
end HPm
