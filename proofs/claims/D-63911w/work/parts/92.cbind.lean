/-! L3, component: Heap.bind, append; seen -/
section HPb
variable {m m' : SM} {H a b c : Int} {G : GM} {d : Nat} {P : Nat → Int → SM → Prop}
theorem q_bind (K : KI m) (hd : 14 ≤ d) (hP : PI m H) (hu : m H 5 < 96000) (hR : Rq H m) {s n t : Int} (hs : 0 ≤ s ∧ s ≤ 65535) (k : ∀ m' v, Hp H 0 0 1 m m' → Lv m' H v → ¬ Lv m H v → v ≠ 0 → m' v (-1) = 17 → m' v 0 = s → m' v 1 = n → m' v 2 = t → P 0 v m') : WV G mX3_bind 0 [(1, H), (0, s), (1, n), (1, t), (9, 0)] [] m d P := by
  have hpo := hP.po
  have hR1 := hR.1
  have hR2 := hR.2
  have go : ∀ m1, Hp H 0 0 0 m m1 → m1 H 5 = m H 5 → m1 H 5 < m1 (m1 H 2) (-2) → WV G mX3_bind 29 [(1, H), (0, s), (1, n), (1, t), (9, 0)] [] m1 d P := by
    intro m1 g1 e3 hlt
    refine v_bs (fun B1 => ?_)
    have K1 := g1.ki K
    have P1 := g1.2.1
    have hN := P1.ne
    have u0 : 0 ≤ m1 H 5 := P1.2.2.2.2.2.1
    have tx : m1 (m1 (m1 H 2) (m1 H 5)) (-1) = 17 := P1.2.2.2.2.el (i := m1 H 5) u0 hlt
    have tl : m1 (m1 H 2) (-1) = 4 := P1.2.2.2.2.1
    have tH := P1.1
    refine wX3_bind_29 K1 (by omega) ⟨tH, fun m2 e2 o2 => ?_⟩
    have l2 : m2 (m1 H 2) = m1 (m1 H 2) := by funext f; rw [e2, up_na _ (Ne.symm hN.2.2)]
    rw [l2]
    have x2 : m2 (m1 (m1 H 2) (m1 H 5)) (-1) = 17 := o2.tag tx (by decide)
    refine ⟨tl, u0, hlt, Or.inr x2, x2, hs, fun m3 e3' o3 m4 e4 o4 m5 e5 o5 => ?_⟩
    rw [wr_id (by omega) (by omega)] at e2
    have xH : m1 (m1 H 2) (m1 H 5) ≠ H := fun z => by rw [z, tH] at tx; cases tx
    have E : ∀ z, z ≠ m1 (m1 H 2) (m1 H 5) → m5 z = m2 z := fun z hz => by funext f; rw [e5, up_na _ hz, e4, up_na _ hz, e3', up_na _ hz]
    have oo := o2.trans (o3.trans (o4.trans o5))
    have T := Hp.take (m' := m5) (x := m1 (m1 H 2) (m1 H 5)) (j := 2) (tg := 17) (a := 0) (b := 0) (c := 1) B1 P1 (Or.inr (Or.inr ⟨rfl, rfl, rfl, rfl, rfl⟩)) hlt rfl (fun z h1 h2 => by rw [E z h1]; funext f; rw [e2, up_na _ h2]) (fun f hf => by rw [E H (Ne.symm xH), e2, up_nf _ (show f ≠ 5 from hf)]) (by rw [E H (Ne.symm xH), e2]; exact up_self ..) (by rw [oo.1 _ (by rw [tx]; decide)]) oo
    obtain ⟨T1, T2, T3, T4, T5, T6⟩ := T
    have nl : ¬ Lv m H (m1 (m1 H 2) (m1 H 5)) := fun z => T6 (g1.2.2.1 _ z).1
    refine k m5 _ (by have := g1.trans T1; simpa using this) T5 nl T3 (by rw [oo.1 _ (by rw [tx]; decide)]; exact tx) ?_ ?_ ?_
    · rw [e5, up_nf _ (by decide), e4, up_nf _ (by decide), e3', up_self]
    · rw [e5, up_nf _ (by decide), e4, up_self]
    · rw [e5, up_self]
  have u2 : m H 5 ≤ m (m H 2) (-2) := hP.2.2.2.2.2.2.1
  refine wX3_bind K (by omega) ⟨hP.1, hP.2.2.2.2.1, fun q => go m (Hp.refl hP) rfl (by omega), fun q => ⟨by omega, by omega, fun B0 m5 e5 o5 => ⟨by have := B0.2.1; omega, ?_⟩⟩⟩
  refine wX15_init (o5.2.1 K) (by omega) ⟨by have := B0.2.1; omega, rfl, Ok.refl m5, ?_⟩
  have tl : m (m H 2) (-1) = 4 := hP.2.2.2.2.1
  have c1 : m5 0 0 = m 0 0 + 1 := by rw [e5]; unfold al; simp
  have c2 : m5 0 1 = m 0 1 + 3 := by rw [e5]; unfold al; simp
  have l5 : m5 (m H 2) = m (m H 2) := by funext f; rw [e5, al_old B0 (by rw [tl]; decide)]
  refine ⟨elOK.of (al_tag B0 e5) (c := 16) (by decide) (by decide), by rw [l5]; omega, by omega, by rw [l5]; omega, fun m19 A o19 => ?_⟩
  obtain ⟨g1, g2, g3⟩ := Hp.grow B0 hP (Or.inr (Or.inr ⟨rfl, rfl, rfl, rfl⟩)) q hu e5 A
  exact go m19 g1 (g3 5) g2
/-- a chain of links: the links and the values' cells -/
def Chn (m : SM) : List (Int × Int) → Int → Prop
  | [], c => c = 0
  | (k, v) :: l, c => c = k ∧ k ≠ 0 ∧ m k (-1) = 16 ∧ m k 0 = v ∧ Chn m l (m k 1)
theorem Chn.ext : ∀ (l : List (Int × Int)) {c : Int}, (∀ e ∈ l, m' e.1 = m e.1) → Chn m l c → Chn m' l c
  | [], _, _, h => h
  | (k, v) :: l, c, g, ⟨h0, h1, h2, h3, h4⟩ => by
    have q := g (k, v) (List.mem_cons_self ..)
    dsimp only at q
    exact ⟨h0, h1, by rw [q]; exact h2, by rw [q]; exact h3, by rw [q]; exact Chn.ext l (fun e he => g e (List.mem_cons_of_mem _ he)) h4⟩
/-- one more link behind the last one -/
theorem Chn.snoc {x v : Int} (x0 : x ≠ 0) (hx : m x (-1) = 16) (hv : m x 0 = v) (hn : m x 1 = 0) : ∀ (l : List (Int × Int)) {c k w : Int}, Chn m (l ++ [(k, w)]) c → ((l ++ [(k, w)]).map (·.1)).Nodup → x ∉ (l ++ [(k, w)]).map (·.1) → m' = up m k 1 x → Chn m' (l ++ [(k, w)] ++ [(x, v)]) c
  | [], c, k, w, h, hN, hX, e => by
    obtain ⟨h0, h1, h2, h3, h4⟩ := h
    have kx : x ≠ k := by simpa using hX
    have ex : ∀ f, m' x f = m x f := fun f => by rw [e, up_na _ kx]
    refine ⟨h0, h1, by rw [e, up_nf _ (by decide)]; exact h2, by rw [e, up_nf _ (by decide)]; exact h3, by rw [e, up_self], x0, by rw [ex]; exact hx, by rw [ex]; exact hv, ?_⟩
    show m' x 1 = 0
    rw [ex]; exact hn
  | (y, u) :: l, c, k, w, h, hN, hX, e => by
    obtain ⟨h0, h1, h2, h3, h4⟩ := h
    rw [List.cons_append, List.map_cons, List.nodup_cons] at hN
    have hX' : x ≠ y ∧ x ∉ (l ++ [(k, w)]).map (·.1) := by
      rw [List.cons_append, List.map_cons, List.mem_cons, not_or] at hX; exact hX
    have yk : y ≠ k := fun q => hN.1 (by rw [q]; simp)
    have ey : ∀ f, m' y f = m y f := fun f => by rw [e, up_na _ yk]
    exact ⟨h0, h1, by rw [ey]; exact h2, by rw [ey]; exact h3, by rw [ey]; exact Chn.snoc x0 hx hv hn l h4 hN.2 hX'.2 e⟩
theorem q_app64 {first x : Int} : ∀ (l : List (Int × Int)) {c k w : Int} (_ : KI m) (_ : 12 ≤ d) (_ : Chn m (l ++ [(k, w)]) c) (_ : first ≠ 0) (_ : ∀ m', m' = up m k 1 x → Ok m m' → P 0 first m'), WV G mX3_append 64 [(9, 0), (1, first), (9, 0), (1, x), (1, c)] [] m d P
  | [], c, k, w, K, hd, h, h1, kk => by
    obtain ⟨q0, q1, q2, q3, q4⟩ := h
    subst q0
    have q4 : m c 1 = 0 := q4
    exact wX3_append_64 K hd ⟨fun z => absurd z q1, fun _ => ⟨q2, fun _ => ⟨fun z => absurd z q1, fun _ m8 e8 o8 => ⟨fun _ => kk m8 e8 o8, fun z => absurd z h1⟩⟩, fun z => absurd q4 z⟩⟩
  | (y, u) :: l, c, k, w, K, hd, h, h1, kk => by
    obtain ⟨q0, q1, q2, q3, q4⟩ := h
    subst q0
    have hne : m c 1 ≠ 0 := by
      cases l with
      | nil => obtain ⟨r0, r1, -⟩ := q4; rw [r0]; exact r1
      | cons e l => obtain ⟨e1, e2⟩ := e; obtain ⟨r0, r1, -⟩ := q4; rw [r0]; exact r1
    exact wX3_append_64 K hd ⟨fun z => absurd z q1, fun _ => ⟨q2, fun z => absurd z hne, fun _ => q_app64 l K hd q4 h1 kk⟩⟩
/-- as Hp, but the links of a row may be written -/
def HpE (E : List Int) (H a b c : Int) (m m' : SM) : Prop := Ok m m' ∧ PI m' H ∧ (∀ x, Lv m H x → Lv m' H x ∧ (x ∉ E → ∀ f, m' x f = m x f)) ∧ (∀ f, f < 3 → m' H f = m H f) ∧ (m 0 0 ≤ m' 0 0 ∧ m' 0 0 + po0 m H ≤ m 0 0 + po0 m' H) ∧ (m 0 1 ≤ m' 0 1 ∧ m' 0 1 + po1 m H ≤ m 0 1 + po1 m' H) ∧ (m H 3 ≤ m' H 3 ∧ m' H 3 ≤ m H 3 + a) ∧ (m H 4 ≤ m' H 4 ∧ m' H 4 ≤ m H 4 + b) ∧ (m H 5 ≤ m' H 5 ∧ m' H 5 ≤ m H 5 + c) ∧ NPk H m m'
theorem Hp.row {m0 : SM} {E : List Int} {a' b' c' : Int} (g : Hp H a b c m0 m) (h : HpE E H a' b' c' m m') (hE : ∀ e ∈ E, ¬ Lv m0 H e) : Hp H (a + a') (b + b') (c + c') m0 m' := by
  obtain ⟨o1, p1, f1, g1, r1, s1, u1, v1, w1, n1⟩ := g
  obtain ⟨o2, p2, f2, g2, r2, s2, u2, v2, w2, n2⟩ := h
  refine ⟨o1.trans o2, p2, fun x hx => ⟨(f2 x (f1 x hx).1).1, fun f => ?_⟩, fun f hf => by rw [g2 f hf, g1 f hf], by omega, by omega, by omega, by omega, by omega, fun x h0 hx => n2 x (by rw [o1.1 x h0]; exact h0) (n1 x h0 hx)⟩
  rw [(f2 x (f1 x hx).1).2 (fun z => hE x z hx), (f1 x hx).2]
theorem q_append (K : KI m) (hd : 14 ≤ d) (hP : PI m H) (hu : m H 4 < 16000) (hR : Rq H m) {ls : List (Int × Int)} {first v : Int} (hC : Chn m ls first) (hL : ∀ e ∈ ls, Lv m H e.1) (hN : (ls.map (·.1)).Nodup)
    (k : ∀ m' f' x, HpE (ls.map (·.1)) H 0 1 0 m m' → Chn m' (ls ++ [(x, v)]) f' → x ≠ 0 → ¬ Lv m H x → Lv m' H x → ((ls ++ [(x, v)]).map (·.1)).Nodup → P 0 f' m') : WV G mX3_append 0 [(1, H), (1, first), (1, v), (9, 0), (9, 0)] [] m d P := by
  have hpo := hP.po
  have hR1 := hR.1
  have hR2 := hR.2
  have go : ∀ m1, Hp H 0 0 0 m m1 → m1 H 4 = m H 4 → m1 H 4 < m1 (m1 H 1) (-2) → WV G mX3_append 29 [(1, H), (1, first), (1, v), (9, 0), (9, 0)] [] m1 d P := by
    intro m1 g1 e3 hlt
    refine v_bs (fun B1 => ?_)
    have K1 := g1.ki K
    have P1 := g1.2.1
    have hNe := P1.ne
    have u0 : 0 ≤ m1 H 4 := P1.2.2.2.1.2.1
    have tx : m1 (m1 (m1 H 1) (m1 H 4)) (-1) = 16 := P1.2.2.2.1.el (i := m1 H 4) u0 hlt
    have tl : m1 (m1 H 1) (-1) = 4 := P1.2.2.2.1.1
    have tH := P1.1
    refine wX3_append_29 K1 (by omega) ⟨tH, fun m2 e2 o2 => ?_⟩
    have l2 : m2 (m1 H 1) = m1 (m1 H 1) := by funext f; rw [e2, up_na _ (Ne.symm hNe.2.1)]
    rw [l2]
    have x2 : m2 (m1 (m1 H 1) (m1 H 4)) (-1) = 16 := o2.tag tx (by decide)
    refine ⟨tl, u0, hlt, Or.inr x2, x2, fun m3 e3' o3 m4 e4 o4 => ?_⟩
    rw [wr_id (by omega) (by omega)] at e2
    have xH : m1 (m1 H 1) (m1 H 4) ≠ H := fun z => by rw [z, tH] at tx; cases tx
    have E : ∀ z, z ≠ m1 (m1 H 1) (m1 H 4) → m4 z = m2 z := fun z hz => by funext f; rw [e4, up_na _ hz, e3', up_na _ hz]
    have oo := o2.trans (o3.trans o4)
    have T := Hp.take (m' := m4) (x := m1 (m1 H 1) (m1 H 4)) (j := 1) (tg := 16) (a := 0) (b := 1) (c := 0) B1 P1 (Or.inr (Or.inl ⟨rfl, rfl, rfl, rfl, rfl⟩)) hlt rfl (fun z h1 h2 => by rw [E z h1]; funext f; rw [e2, up_na _ h2]) (fun f hf => by rw [E H (Ne.symm xH), e2, up_nf _ (show f ≠ 4 from hf)]) (by rw [E H (Ne.symm xH), e2]; exact up_self ..) (by rw [oo.1 _ (by rw [tx]; decide)]) oo
    generalize hxx : m1 (m1 H 1) (m1 H 4) = x at *
    obtain ⟨T1, T2, T3, T4, T5, T6⟩ := T
    have nl : ¬ Lv m H x := fun z => T6 (g1.2.2.1 _ z).1
    have g4 : Hp H 0 1 0 m m4 := by have := g1.trans T1; simpa using this
    have K4 := g4.ki K
    have F4 := g4.2.2.1
    have hC4 : Chn m4 ls first := Chn.ext ls (fun e he => by funext f; exact (F4 _ (hL e he)).2 f) hC
    have hX : x ∉ ls.map (·.1) := fun z => by
      obtain ⟨e, he, q⟩ := List.mem_map.mp z
      exact nl (by rw [← q]; exact hL e he)
    have f0 : m4 x 0 = v := by rw [e4, up_nf _ (by decide), e3', up_self]
    have f1 : m4 x 1 = 0 := by rw [e4, up_self]
    have t4 : m4 x (-1) = 16 := by rw [oo.1 _ (by rw [tx]; decide)]; exact tx
    have hN' : ((ls ++ [(x, v)]).map (·.1)).Nodup := by
      rw [List.map_append]
      refine List.nodup_append.mpr ⟨hN, by simp, fun a ha b hb q => ?_⟩
      have : b = x := by simpa using hb
      exact hX (by rw [← this, ← q]; exact ha)
    by_cases z : ls = []
    · subst z
      have q : first = 0 := hC
      subst q
      refine wX3_append_64 K4 (by omega) ⟨fun _ => ⟨fun _ => ⟨fun y => absurd rfl y, fun _ => ?_⟩, fun y => absurd rfl y⟩, fun y => absurd rfl y⟩
      refine k m4 x x ?_ ⟨rfl, T3, t4, f0, f1⟩ T3 nl T5 hN'
      obtain ⟨q1, q2, q3, q4, q5, q6, q7, q8, q9⟩ := g4
      exact ⟨q1, q2, fun y hy => ⟨(q3 y hy).1, fun _ => (q3 y hy).2⟩, q4, q5, q6, q7, q8, q9⟩
    · obtain ⟨l, e, rfl⟩ : ∃ l e, ls = l ++ [e] := ⟨ls.dropLast, ls.getLast z, (List.dropLast_concat_getLast z).symm⟩
      obtain ⟨kk, w⟩ := e
      have hf : first ≠ 0 := by
        cases l with
        | nil => obtain ⟨r0, r1, -⟩ := hC; rw [r0]; exact r1
        | cons e l => obtain ⟨e1, e2⟩ := e; obtain ⟨r0, r1, -⟩ := hC; rw [r0]; exact r1
      refine q_app64 l K4 (by omega) hC4 hf (fun m5 e5 o5 => ?_)
      have hk : Lv m H kk := hL (kk, w) (by simp)
      obtain ⟨k0, tk⟩ : kk ≠ 0 ∧ m4 kk (-1) = 16 := by
        have : ∀ (l : List (Int × Int)) {c : Int}, Chn m4 (l ++ [(kk, w)]) c → kk ≠ 0 ∧ m4 kk (-1) = 16 := by
          intro l
          induction l with
          | nil => intro c h; exact ⟨h.2.1, h.2.2.1⟩
          | cons e l ih => intro c h; obtain ⟨e1, e2⟩ := e; exact ih h.2.2.2.2
        exact this l hC4
      have P4 := g4.2.1
      have E5 : ∀ z, z ≠ kk → m5 z = m4 z := fun z hz => by funext f; rw [e5, up_na _ hz]
      have vl : ∀ z, m4 z (-1) = 4 ∨ m4 z (-1) = 3 → m5 z = m4 z := fun z hz => E5 z (fun q => by rw [q, tk] at hz; omega)
      obtain ⟨P5, LL, w0, w1⟩ := P4.keep o5 (vl H (Or.inr P4.1)) (vl _ (Or.inl P4.2.2.1.1)) (vl _ (Or.inl P4.2.2.2.1.1)) (vl _ (Or.inl P4.2.2.2.2.1))
      have eH : m5 H = m4 H := vl H (Or.inr P4.1)
      have z0 : m5 0 = m4 0 := E5 0 (Ne.symm k0)
      refine k m5 first x ?_ (Chn.snoc T3 t4 f0 f1 l hC4 hN hX e5) T3 nl (LL x T5) hN'
      obtain ⟨q1, q2, q3, q4, q5, q6, q7, q8, q9, qn⟩ := g4
      refine ⟨q1.trans o5, P5, fun y hy => ⟨LL y (q3 y hy).1, fun hn f => ?_⟩, fun f hf => by rw [eH]; exact q4 f hf, by rw [z0, w0]; exact q5, by rw [z0, w1]; exact q6, by rw [eH]; exact q7, by rw [eH]; exact q8, by rw [eH]; exact q9, fun x h0 hx i i0 i1 => by rw [eH, vl _ (Or.inl P4.2.2.1.1)] at i1 ⊢; exact qn x h0 hx i i0 i1⟩
      rw [E5 y (fun q => hn (by rw [q]; simp))]
      exact (q3 y hy).2 f
  have u2 : m H 4 ≤ m (m H 1) (-2) := hP.2.2.2.1.2.2.1
  refine wX3_append K (by omega) ⟨hP.1, hP.2.2.2.1.1, fun q => go m (Hp.refl hP) rfl (by omega), fun q => ⟨by omega, by omega, fun B0 m5 e5 o5 => ⟨by have := B0.2.1; omega, ?_⟩⟩⟩
  refine wX14_init (o5.2.1 K) (by omega) ⟨by have := B0.2.1; omega, rfl, Ok.refl m5, ?_⟩
  have tl : m (m H 1) (-1) = 4 := hP.2.2.2.1.1
  have c1 : m5 0 0 = m 0 0 + 1 := by rw [e5]; unfold al; simp
  have c2 : m5 0 1 = m 0 1 + 2 := by rw [e5]; unfold al; simp
  have l5 : m5 (m H 1) = m (m H 1) := by funext f; rw [e5, al_old B0 (by rw [tl]; decide)]
  refine ⟨elOK.of (al_tag B0 e5) (c := 15) (by decide) (by decide), by rw [l5]; omega, by omega, by rw [l5]; omega, fun m19 A o19 => ?_⟩
  obtain ⟨g1, g2, g3⟩ := Hp.grow B0 hP (Or.inr (Or.inl ⟨rfl, rfl, rfl, rfl⟩)) q hu e5 A
  exact go m19 g1 (g3 4) g2
end HPb
