/-! L2: ArrayList -/
theorem asL_lt : ∀ q ∈ asL, q.2 < 25 := by decide
/-- a list's array and size change: the old array, or a new one -/
theorem GI_alist {h h' : SM} {x y n : Int} (hG : GI h) (tx : h x (-1) = 4) (hx : h' x (-1) = 4) (h1 : h' x 1 = y) (h2 : h' x 2 = n) (hy : h' y (-1) = 104) (hn0 : 0 ≤ n) (hn : n ≤ h' y (-2)) (hcap : h' y (-2) < 1000000)
    (hel : ∀ i, 0 ≤ i → i < h' y (-2) → elOK h (h' y i)) (hyc : (y = h x 1 ∧ 0 < y ∧ h' 0 0 = h 0 0) ∨ (y = h 0 0 ∧ h' 0 0 = h 0 0 + 1)) (ho : ∀ z, z ≠ x → z ≠ y → z ≠ 0 → h' z = h z) (h00 : ∀ f, f ≠ 0 → f ≠ 1 → h' 0 f = h 0 f) :
    GI h' ∧ (∀ z, z ≠ x → z ≠ 0 → vw h' z = vw h z) ∧ (∀ f, vw h' 0 f = h' 0 f) := by
  obtain ⟨B, A, S, T, Q, D⟩ := hG
  obtain ⟨b1, b2, b3, b4⟩ := id B
  obtain ⟨a1, a2, a3, a4, a5, a6, a7⟩ := A x tx
  have x0 : x ≠ 0 := fun e => by rw [e, b1] at tx; cases tx
  have y0 : y ≠ 0 := by rcases hyc with q | q <;> omega
  have xy : x ≠ y := fun e => by rw [e, hy] at hx; cases hx
  have e0t : h' 0 (-1) = 0 := by rw [h00 (-1) (by decide) (by decide)]; exact b1
  -- the old tag of y: 104 or none
  have ty : h y (-1) = 104 ∨ h y (-1) = 0 := by
    rcases hyc with q | q
    · left; rw [q.1]; exact a2
    · right; rw [q.1]; exact b3 _ (Int.le_refl _)
  have tg : ∀ z, z ≠ y → h' z (-1) = h z (-1) := fun z hz => by
    by_cases e : z = x
    · rw [e, hx, tx]
    · by_cases e0 : z = 0
      · rw [e0, e0t, b1]
      · rw [ho z e hz e0]
  have bk : ∀ z k, h' z (-1) = k → k ≠ 104 → h z (-1) = k ∧ z ≠ y := fun z k hz hk => by
    have e : z ≠ y := fun e => hk (by rw [← hz, e]; exact hy)
    exact ⟨by rw [← tg z e]; exact hz, e⟩
  have lim : h 0 0 ≤ h' 0 0 := by rcases hyc with q | q <;> omega
  have nb : ∀ z, h z (-1) = 4 → z ≠ x → h z 1 ≠ y := fun z hz hzx e => by
    rcases hyc with q | q
    · have := Q.1 z x hz tx hzx (by rw [e, q.1]); omega
    · have := (A z hz).2.1; rw [e, q.1, b3 _ (Int.le_refl _)] at this; cases this
  have rw4 : ∀ z, h z (-1) = 4 → z ≠ x → h' z = h z ∧ h' (h z 1) = h (h z 1) := fun z hz hzx => by
    have z0 : z ≠ 0 := fun e => by rw [e, b1] at hz; cases hz
    have zy : z ≠ y := fun e => by rw [e] at hz; omega
    have q := (A z hz).2.1
    have w0 : h z 1 ≠ 0 := fun e => by rw [e, b1] at q; cases q
    have wx : h z 1 ≠ x := fun e => by rw [e, tx] at q; cases q
    exact ⟨ho z hzx zy z0, ho _ wx (nb z hz hzx) w0⟩
  have rwb : ∀ z, h z (-1) = 6 ∨ h z (-1) = 13 → h (h z 0) (-1) = 102 → h' z = h z ∧ h' (h z 0) = h (h z 0) := fun z hz q => by
    have zx : z ≠ x := fun e => by rw [e] at hz; omega
    have z0 : z ≠ 0 := fun e => by rw [e, b1] at hz; omega
    have zy : z ≠ y := fun e => by rw [e] at hz; omega
    have w0 : h z 0 ≠ 0 := fun e => by rw [e, b1] at q; cases q
    have wx : h z 0 ≠ x := fun e => by rw [e, tx] at q; cases q
    have wy : h z 0 ≠ y := fun e => by rw [e] at q; omega
    exact ⟨ho z zx zy z0, ho _ wx wy w0⟩
  have elk : ∀ v, elOK h v → elOK h' v := fun v hv => by
    rcases hv with q | ⟨c, q1, q2⟩
    · exact Or.inl q
    · refine Or.inr ⟨c, ?_, q2⟩
      have c25 := asL_lt _ q2
      dsimp only at c25
      have : v ≠ y := fun e => by rw [e] at q1; omega
      rw [tg v this]; exact q1
  refine ⟨⟨⟨e0t, by omega, fun z hz => ?_, fun z hz q1 q2 => ?_⟩, fun z hz => ?_, fun z hz => ?_, fun z hz => ?_, ⟨fun z w hz hw hne he => ?_, fun z w hz hw hne => ?_⟩, gDg_of D (fun z hz => ho z (fun e => by rcases gDg_t D hz with q | q | q <;> (rw [e, tx] at q; cases q)) (fun e => by have := oldC_neg hz; rcases hyc with q | q <;> omega) (by have := oldC_neg hz; omega))⟩, fun z hzx hz0 => ?_, fun f => ?_⟩
  · have : z ≠ y := by rcases hyc with q | q
                       · rcases a1 with r | r <;> omega
                       · omega
    rw [tg z this]; exact b3 z (by omega)
  · have : z ≠ y := by rcases hyc with q | q <;> omega
    rw [tg z this] at q1 q2 ⊢
    exact b4 z hz q1 q2
  · obtain ⟨hz', zy⟩ := bk z 4 hz (by decide)
    by_cases e : z = x
    · subst e
      rw [h1, h2]
      refine ⟨?_, hy, hn0, hn, fun i i0 i1 => elk _ (hel i i0 i1), fun q => ?_, hcap⟩
      · rcases hyc with q | q
        · right; rcases a1 with r | r <;> omega
        · right; omega
      · rcases hyc with r | r <;> omega
    · obtain ⟨r1, r2⟩ := rw4 z hz' e
      obtain ⟨c1, c2, c3, c4, c5, c6, c7⟩ := A z hz'
      rw [r1, r2]
      refine ⟨by omega, c2, c3, c4, fun i i0 i1 => elk _ (c5 i i0 i1), fun q => ?_, c7⟩
      rw [← q, r2, q]; exact c6 q
  · obtain ⟨hz', zy⟩ := bk z 6 hz (by decide)
    obtain ⟨c1, c2, c3⟩ := S z hz'
    obtain ⟨r1, r2⟩ := rwb z (Or.inl hz') c2
    rw [r1, r2]
    exact ⟨by omega, c2, c3⟩
  · obtain ⟨hz', zy⟩ := bk z 13 hz (by decide)
    obtain ⟨c1, c2, c3⟩ := T z hz'
    obtain ⟨r1, r2⟩ := rwb z (Or.inr hz') c2
    rw [r1, r2]
    exact ⟨by omega, c2, c3⟩
  · obtain ⟨hz', zy⟩ := bk z 4 hz (by decide)
    obtain ⟨hw', wy⟩ := bk w 4 hw (by decide)
    by_cases e : z = x
    · have ew : w ≠ x := fun q => hne (by rw [e, q])
      rw [e, h1, (rw4 w hw' ew).1] at he
      exact absurd he.symm (nb w hw' ew)
    · by_cases ew : w = x
      · rw [ew, h1, (rw4 z hz' e).1] at he
        exact absurd he (nb z hz' e)
      · rw [(rw4 z hz' e).1, (rw4 w hw' ew).1] at he
        rw [(rw4 z hz' e).1]
        exact Q.1 z w hz' hw' hne he
  · obtain ⟨hz', zy⟩ := bk z 6 hz (by decide)
    have hw' : h w (-1) = 6 ∨ h w (-1) = 13 := hw.imp (fun q => (bk w 6 q (by decide)).1) (fun q => (bk w 13 q (by decide)).1)
    have hwb : h (h w 0) (-1) = 102 := by
      rcases hw' with q | q
      · exact (S w q).2.1
      · exact (T w q).2.1
    rw [(rwb z (Or.inl hz') (S z hz').2.1).1, (rwb w hw' hwb).1]
    exact Q.2 z w hz' hw' hne
  · by_cases e : z = y
    · subst e
      funext f
      rw [vw_hid (Or.inl hy)]
      rcases ty with q | q
      · rw [vw_hid (Or.inl q)]
      · rw [vw_none q hz0]
    · exact vw_congr (ho z hzx e hz0) (fun q => (rw4 z q hzx).2) (fun q => (rwb z q (by
        rcases q with q | q
        · exact (S z q).2.1
        · exact (T z q).2.1)).2)
  · unfold vw
    rw [if_neg (by omega), if_neg (by omega), if_neg (by omega), if_neg (by omega)]
/-- what a list's or a builder's change leaves -/
def Lw (m : SM) (x : Int) (m' : SM) : Prop := m 0 (-1) = 0 ∧ (∀ z, z ≠ x → z ≠ 0 → m' z = m z) ∧ m' x (-1) = m x (-1) ∧ (∀ f, f ≠ 0 → f ≠ 1 → m' 0 f = m 0 f) ∧ m 0 0 ≤ m' 0 0 ∧ m' 0 0 + m x (-3) ≤ m 0 0 + m' x (-3) ∧ m x (-3) ≤ m' x (-3) ∧ m 0 1 ≤ m' 0 1 ∧ m' 0 1 + 4 * m x (-3) ≤ m 0 1 + 4 * m' x (-3) ∧ (m' x (-3) ≤ m x (-3) ∨ m' x (-3) ≤ 2 * m' x (-2) + 40)
theorem Lw.ok {m m' : SM} {x t : Int} (L : Lw m x m') (ht : m x (-1) = t) (h46 : t = 4 ∨ t = 6) : Ok m m' := by
  obtain ⟨l0, l1, l2, l3, -⟩ := L
  have tg : ∀ z, m' z (-1) = m z (-1) := fun z => by
    by_cases e : z = x
    · rw [e]; exact l2
    · by_cases e0 : z = 0
      · rw [e0]; exact l3 _ (by decide) (by decide)
      · rw [l1 z e e0]
  refine Ok.of (fun z _ => tg z) (fun z hz => ?_) (fun z F t' h1 h2 => ?_)
  · by_cases e : z = x
    · rw [e, ht] at hz; omega
    · by_cases e0 : z = 0
      · rw [e0]; exact l3 _ (by decide) (by decide)
      · rw [l1 z e e0]
  · have k := kft_t _ h2
    dsimp only at k
    by_cases e : z = x
    · rw [e, ht] at h1; omega
    · by_cases e0 : z = 0
      · rw [e0] at h1; omega
      · rw [l1 z e e0]
/-- the list x gets v behind it -/
def Radd (m : SM) (x v : Int) (m' : SM) : Prop := Lw m x m' ∧ m' x (-2) = m x (-2) + 1 ∧ ∀ i, 0 ≤ i → m' x i = if i = m x (-2) then v else m x i
def Rset (m : SM) (x i v : Int) (m' : SM) : Prop := Lw m x m' ∧ m' = up m x i v
def Rrem (m : SM) (x : Int) (m' : SM) : Prop := Lw m x m' ∧ m' x (-2) = m x (-2) - 1 ∧ ∀ i, 0 ≤ i → m' x i = if i = m x (-2) - 1 then 0 else m x i
/-- the first n stay -/
def Rclr (m : SM) (x n : Int) (m' : SM) : Prop := Lw m x m' ∧ m' x (-2) = n ∧ ∀ i, 0 ≤ i → m' x i = if i < n then m x i else 0
def NAL (m m' : SM) : Prop := Bs m ∧ m' = al m 4 0 3
theorem NAL.ok {m m' : SM} (h : NAL m m') : Ok m m' := Ok.nw h.1 h.2
theorem NAL.tag {m m' : SM} (h : NAL m m') : m' (m 0 0) (-1) = 4 := al_tag h.1 h.2
section JL
variable {G : GM} {d : Nat} {P : Nat → Int → SM → Prop} {h : SM} {x i v : Int}
theorem c_J12 {a n r : Int} {g : Nat} (h0 : 0 ≤ a) (h1 : a < n) (k : P 0 a h) : WP G mJ12_checkIndex 0 [(0, a), (0, n), (g, r)] [] h d P := by
  refine r_drp [true, true, false] ?_
  show WP G mJ12_checkIndex 0 [(0, a), (0, n), (9, 0)] [] h d P
  refine r_run 0 1 (pc' := 1) (ls' := [(0, a), (0, n), (9, 0)]) (st' := [(0, a)]) rfl ?_
  refine r_iflt (j := 1) (tgt := 9) rfl rfl rfl (fun q => absurd q (by omega)) (fun q => ?_)
  refine r_run 2 2 (pc' := 6) (ls' := [(0, a), (0, n), (9, 0)]) (st' := [(0, n), (0, a)]) rfl ?_
  refine r_icmplt (j := 4) (tgt := 16) rfl rfl rfl (fun q => ?_) (fun q => absurd q (by omega))
  refine r_run 10 1 (pc' := 17) (ls' := [(0, a), (0, n), (9, 0)]) (st' := [(0, a)]) rfl ?_
  exact r_iret (j := 11) rfl rfl rfl trivial k
theorem c_J20 {a n : Int} (h0 : 0 ≤ a) (h1 : a < n) (hd : 1 ≤ d) (k : P 0 a h) : WP G mJ20_checkIndex 0 [(0, a), (0, n)] [] h d P :=
  wJ20_checkIndex hd (c_J12 h0 h1 ⟨rfl, k⟩)
theorem c_J5ck {a n : Int} (h0 : 0 ≤ a) (h1 : a < n) (hd : 1 ≤ d) (k : P 0 0 h) : WP G mJ5_checkIndex 0 [(0, a), (0, n)] [] h d P :=
  wJ5_checkIndex hd (c_J12 h0 h1 ⟨rfl, k⟩)
theorem c_size (ht : h x (-1) = 4) (k : P 0 (h x 2) h) (hd : 1 ≤ d) : WP G mJ2_size 0 [(1, x)] [] h d P := wJ2_size hd ⟨ht, k⟩
theorem c_isEmpty (ht : h x (-1) = 4) (k : P 0 (if h x 2 = 0 then 1 else 0) h) (hd : 1 ≤ d) : WP G mJ2_isEmpty 0 [(1, x)] [] h d P :=
  wJ2_isEmpty hd ⟨ht, fun q => by rw [if_neg q] at k; exact k, fun q => by rw [if_pos q] at k; exact k⟩
theorem c_get (hG : GI h) (ht : h x (-1) = 4) (h0 : 0 ≤ i) (h1 : i < h x 2) (hd : 3 ≤ d) (k : P 0 (h (h x 1) i) h) : WP G mJ2_get 0 [(1, x), (0, i)] [] h d P := by
  obtain ⟨a1, a2, a3, a4, -⟩ := hG.2.1 x ht
  refine wJ2_get (by omega) ⟨ht, c_J20 h0 h1 (by omega) ⟨rfl, ht, ?_⟩⟩
  exact wJ2_elementData (by omega) ⟨ht, a2, h0, by omega, rfl, k⟩
/-- the old array is written -/
theorem al_same {h h' : SM} {x n j v : Int} (hG : GI h) (ht : h x (-1) = 4) (hn0 : 0 ≤ n) (hn : n ≤ h (h x 1) (-2)) (hj0 : 0 ≤ j) (hj : j < h (h x 1) (-2)) (hv : elOK h v)
    (E : ∀ z f, f ≠ 0 ∨ z ≠ x → h' z f = if z = x ∧ f = 2 then n else if z = h x 1 ∧ f = j then v else h z f) :
    GI h' ∧ Lw (vw h) x (vw h') ∧ vw h' x (-2) = n ∧ ∀ i, 0 ≤ i → vw h' x i = if i < n then (if i = j then v else h (h x 1) i) else 0 := by
  obtain ⟨a1, a2, a3, a4, a5, a6, a7⟩ := hG.2.1 x ht
  obtain ⟨b1, b2, b3, b4⟩ := hG.1
  have y0 : 0 < h x 1 := by rcases a1 with q | q
                            · rw [q, a6 q] at hj; omega
                            · omega
  have xy : x ≠ h x 1 := fun e => by rw [← e, ht] at a2; cases a2
  have x0 : x ≠ 0 := fun e => by rw [e, b1] at ht; cases ht
  have ex1 : h' x (-1) = 4 := by rw [E x (-1) (Or.inl (by decide)), if_neg (by omega), if_neg (by omega)]; exact ht
  have ex2 : h' x 1 = h x 1 := by rw [E x 1 (Or.inl (by decide)), if_neg (by omega), if_neg (fun q => xy q.1)]
  have ex3 : h' x 2 = n := by rw [E x 2 (Or.inl (by decide)), if_pos ⟨rfl, rfl⟩]
  have ey : ∀ f, h' (h x 1) f = if f = j then v else h (h x 1) f := fun f => by
    rw [E _ f (Or.inr (Ne.symm xy)), if_neg (fun q => xy q.1.symm)]
    by_cases e : f = j
    · rw [if_pos ⟨rfl, e⟩, if_pos e]
    · rw [if_neg (fun q => e q.2), if_neg e]
  have e0 : ∀ f, h' 0 f = h 0 f := fun f => by rw [E 0 f (Or.inr (Ne.symm x0)), if_neg (fun q => x0 q.1.symm), if_neg (by omega)]
  have eyt : h' (h x 1) (-1) = 104 := by rw [ey, if_neg (by omega)]; exact a2
  have eyl : h' (h x 1) (-2) = h (h x 1) (-2) := by rw [ey, if_neg (by omega)]
  obtain ⟨g1, g2, g3⟩ := GI_alist (h' := h') (y := h x 1) (n := n) hG ht ex1 ex2 ex3 eyt hn0 (by rw [eyl]; exact hn) (by rw [eyl]; exact a7)
    (fun i i0 i1 => by rw [eyl] at i1; rw [ey]; split; exact hv; exact a5 i i0 i1) (Or.inl ⟨rfl, y0, e0 0⟩)
    (fun z h1 h2 h3 => funext fun f => by rw [E z f (Or.inr h1), if_neg (fun q => h1 q.1), if_neg (fun q => h2 q.1)]) (fun f _ _ => e0 f)
  obtain ⟨u1, u2, u3, u4, u5⟩ := vw_al ex1
  obtain ⟨w1, w2, w3, w4, w5⟩ := vw_al ht
  have v0 := vw_0 hG.1
  have c3 : vw h' x (-3) = vw h x (-3) := by rw [u3, w3, ex2, eyl]
  refine ⟨g1, ⟨by rw [v0]; exact b1, g2, by rw [u1, w1], fun f _ _ => by rw [g3, v0, e0], ?_, ?_, ?_, ?_, ?_, ?_⟩, by rw [u2, ex3], fun i i0 => ?_⟩
  · rw [g3, v0, e0]; exact Int.le_refl _
  · rw [g3, v0, e0, c3]; exact Int.le_refl _
  · rw [c3]; exact Int.le_refl _
  · rw [g3, v0, e0]; exact Int.le_refl _
  · rw [g3, v0, e0, c3]; exact Int.le_refl _
  · left; rw [c3]; exact Int.le_refl _
  · by_cases q : i < n
    · rw [if_pos q, u4 i i0 (by rw [ex3]; exact q), ex2, ey]
    · rw [if_neg q, u5 i (by rw [ex3]; omega) i0]
theorem c_set (hG : GI h) (ht : h x (-1) = 4) (h0 : 0 ≤ i) (h1 : i < h x 2) (hv : elOK h v) (hd : 3 ≤ d) (k : ∀ h', GI h' → Rset (vw h) x i v (vw h') → P 0 (h (h x 1) i) h') : WP G mJ2_set 0 [(1, x), (0, i), (1, v), (9, 0)] [] h d P := by
  obtain ⟨a1, a2, a3, a4, a5, a6, a7⟩ := hG.2.1 x ht
  have y0 : 0 < h x 1 := by rcases a1 with q | q
                            · rw [q, a6 q] at a4; omega
                            · omega
  refine wJ2_set (by omega) ⟨ht, c_J20 h0 h1 (by omega) ⟨rfl, ht, ?_⟩⟩
  refine wJ2_elementData (by omega) ⟨ht, a2, h0, by omega, rfl, ht, a2, h0, by omega, y0, hv, fun h' e => ?_⟩
  have xy : x ≠ h x 1 := fun e => by rw [← e, ht] at a2; cases a2
  obtain ⟨g1, g2, g3, g4⟩ := al_same (h' := h') (n := h x 2) (j := i) (v := v) hG ht a3 a4 h0 (by omega) hv (fun z f q => by
    rw [e]; unfold up
    by_cases e2 : z = x ∧ f = 2
    · rw [if_neg (fun q => xy (e2.1.symm.trans q.1)), if_pos e2, e2.1, e2.2]
    · rw [if_neg e2])
  refine k h' g1 ⟨g2, ?_⟩
  obtain ⟨w1, w2, w3, w4, w5⟩ := vw_al ht
  have e1 : h' x = h x := by rw [e]; exact funext fun f => up_na h xy
  obtain ⟨u1, u2, u3, u4, u5⟩ := vw_al (h := h') (x := x) (by rw [e1]; exact ht)
  funext z f
  by_cases hz : z = x
  · subst hz
    by_cases f0 : 0 ≤ f
    · rw [g4 f f0]
      by_cases f2 : f < h z 2
      · rw [if_pos f2]
        by_cases fi : f = i
        · rw [if_pos fi, fi, up_self]
        · rw [if_neg fi, up_nf _ fi, w4 f f0 f2]
      · rw [if_neg f2, up_nf _ (by omega), w5 f (by omega) f0]
    · rw [up_nf _ (by omega)]
      unfold vw
      rw [e1, if_pos ht, if_pos ht]
      by_cases q1 : f = -1
      · rw [if_pos q1, if_pos q1]
      · rw [if_neg q1, if_neg q1]
        by_cases q2 : f = -2
        · rw [if_pos q2, if_pos q2]
        · rw [if_neg q2, if_neg q2]
          by_cases q3 : f = -3
          · rw [if_pos q3, if_pos q3, e, up_nf _ (show (-2 : Int) ≠ i by omega)]
          · rw [if_neg q3, if_neg q3, if_neg (fun q => f0 q.1), if_neg (fun q => f0 q.1)]
  · rw [up_na _ hz]
    by_cases z0 : z = 0
    · have hb := hG.1.1
      rw [z0, vw_0 g1.1, vw_0 hG.1, e, up_na _ (by omega)]
    · rw [g2.2.1 z hz z0]
theorem c_remove (hG : GI h) (ht : h x (-1) = 4) (h0 : 0 ≤ i) (h1 : i = h x 2 - 1) (hin : h x 2 < 2147483648) (hd : 3 ≤ d) (k : ∀ h', GI h' → Rrem (vw h) x (vw h') → P 0 (h (h x 1) i) h') : WP G mJ2_remove 0 [(1, x), (0, i), (9, 0), (9, 0)] [] h d P := by
  obtain ⟨a1, a2, a3, a4, a5, a6, a7⟩ := hG.2.1 x ht
  have y0 : 0 < h x 1 := by rcases a1 with q | q
                            · rw [q, a6 q] at a4; omega
                            · omega
  have x0 : 0 < x := by
    rcases Int.lt_trichotomy x 0 with q | q | q
    · have := hG.1.2.2.2 x q (by omega) (by omega); omega
    · rw [q, hG.1.1] at ht; cases ht
    · exact q
  have xy : x ≠ h x 1 := fun e => by rw [← e, ht] at a2; cases a2
  have ew : wr (h x 2 - 1) = h x 2 - 1 := wr_id (by omega) (by omega)
  refine wJ2_remove (by omega) ⟨ht, c_J20 h0 (by omega) (by omega) ⟨rfl, ht, a2, h0, by omega, ?_⟩⟩
  refine wJ2_fastRemove (by omega) ⟨ht, x0, fun h3 e3 => ?_⟩
  have t3 : h3 x (-1) = 4 := by rw [e3, up_nf _ (by decide)]; exact ht
  have s3 : h3 x 2 = h x 2 := by rw [e3, up_nf _ (by decide)]
  refine ⟨t3, fun q => ⟨x0, fun h7 e7 => ?_⟩, fun q => absurd q (by rw [s3, ew]; omega)⟩
  rw [s3, ew] at e7 ⊢
  have r7 : ∀ f, h7 (h x 1) f = h (h x 1) f := fun f => by rw [e7, up_na _ (Ne.symm xy), e3, up_na _ (Ne.symm xy)]
  refine ⟨by rw [r7]; exact a2, by omega, by rw [r7]; omega, y0, Or.inl rfl, fun h' e' => ⟨rfl, ?_⟩⟩
  obtain ⟨g1, g2, g3, g4⟩ := al_same (h' := h') (n := h x 2 - 1) (j := h x 2 - 1) (v := 0) hG ht (by omega) (by omega) (by omega) (by omega) (Or.inl rfl) (fun z f q => by
    rw [e', e7, e3]; unfold up
    by_cases e2 : z = x ∧ f = 2
    · rw [if_neg (fun q => xy (e2.1.symm.trans q.1)), if_pos e2, if_pos e2]
    · simp only [if_neg e2]
      by_cases e1 : z = h x 1 ∧ f = h x 2 - 1
      · simp only [if_pos e1]
      · simp only [if_neg e1]
        rw [if_neg (by rcases q with q | q; exact fun z => q z.2; exact fun z => q z.1)])
  obtain ⟨w1, w2, w3, w4, w5⟩ := vw_al ht
  refine k h' g1 ⟨g2, by rw [g3, w2], fun f f0 => ?_⟩
  rw [g4 f f0, w2]
  by_cases q : f < h x 2 - 1
  · rw [if_pos q, if_neg (by omega), if_neg (by omega), w4 f f0 (by omega)]
  · rw [if_neg q]
    by_cases q2 : f = h x 2 - 1
    · rw [if_pos q2]
    · rw [if_neg q2, w5 f (by omega) f0]
end JL
