/-! L2: StringBuilder, String -/
/-- a builder's array and length change: the old array, or a new one -/
theorem GI_sb {h h' : SM} {x y n : Int} (hG : GI h) (tx : h x (-1) = 6) (hx : h' x (-1) = 6) (h1 : h' x 0 = y) (h1c : h' x 1 = 0) (h2 : h' x 3 = n) (hy : h' y (-1) = 102) (hn0 : 0 ≤ n) (hn : n ≤ h' y (-2)) (hcap : h' y (-2) < 1000000)
    (hel : ∀ i, 0 ≤ i → i < n → 0 ≤ h' y i ∧ h' y i ≤ 127) (hyc : (y = h x 0 ∧ h' 0 0 = h 0 0) ∨ (y = h 0 0 ∧ h' 0 0 = h 0 0 + 1)) (ho : ∀ z, z ≠ x → z ≠ y → z ≠ 0 → h' z = h z) (h00 : ∀ f, f ≠ 0 → f ≠ 1 → h' 0 f = h 0 f) :
    GI h' ∧ (∀ z, z ≠ x → z ≠ 0 → vw h' z = vw h z) ∧ (∀ f, vw h' 0 f = h' 0 f) := by
  obtain ⟨B, A, S, T, Q, D⟩ := hG
  obtain ⟨b1, b2, b3, b4⟩ := id B
  obtain ⟨a1, a2, a3, a4, a5, a6⟩ := S x tx
  have x0 : x ≠ 0 := fun e => by rw [e, b1] at tx; cases tx
  have y0 : y ≠ 0 := by rcases hyc with q | q <;> omega
  have xy : x ≠ y := fun e => by rw [e, hy] at hx; cases hx
  have e0t : h' 0 (-1) = 0 := by rw [h00 (-1) (by decide) (by decide)]; exact b1
  have ty : h y (-1) = 102 ∨ h y (-1) = 0 := by
    rcases hyc with q | q
    · left; rw [q.1]; exact a2
    · right; rw [q.1]; exact b3 _ (Int.le_refl _)
  have tg : ∀ z, z ≠ y → h' z (-1) = h z (-1) := fun z hz => by
    by_cases e : z = x
    · rw [e, hx, tx]
    · by_cases e0 : z = 0
      · rw [e0, e0t, b1]
      · rw [ho z e hz e0]
  have bk : ∀ z k, h' z (-1) = k → k ≠ 102 → h z (-1) = k ∧ z ≠ y := fun z k hz hk => by
    have e : z ≠ y := fun e => hk (by rw [← hz, e]; exact hy)
    exact ⟨by rw [← tg z e]; exact hz, e⟩
  have lim : h 0 0 ≤ h' 0 0 := by rcases hyc with q | q <;> omega
  have nb : ∀ z, h z (-1) = 6 ∨ h z (-1) = 13 → z ≠ x → h z 0 ≠ y := fun z hz hzx e => by
    rcases hyc with q | q
    · exact Q.2 x z tx hz (Ne.symm hzx) (by rw [e, q.1])
    · have : h (h z 0) (-1) = 102 := by
        rcases hz with r | r
        · exact (S z r).2.1
        · exact (T z r).2.1
      rw [e, q.1, b3 _ (Int.le_refl _)] at this; cases this
  have rw4 : ∀ z, h z (-1) = 4 → h' z = h z ∧ h' (h z 1) = h (h z 1) := fun z hz => by
    have zx : z ≠ x := fun e => by rw [e] at hz; omega
    have z0 : z ≠ 0 := fun e => by rw [e, b1] at hz; cases hz
    have zy : z ≠ y := fun e => by rw [e] at hz; omega
    have q := (A z hz).2.1
    have w0 : h z 1 ≠ 0 := fun e => by rw [e, b1] at q; cases q
    have wx : h z 1 ≠ x := fun e => by rw [e, tx] at q; cases q
    have wy : h z 1 ≠ y := fun e => by rw [e] at q; omega
    exact ⟨ho z zx zy z0, ho _ wx wy w0⟩
  have rwb : ∀ z, h z (-1) = 6 ∨ h z (-1) = 13 → z ≠ x → h' z = h z ∧ h' (h z 0) = h (h z 0) := fun z hz zx => by
    have q : h (h z 0) (-1) = 102 := by
      rcases hz with r | r
      · exact (S z r).2.1
      · exact (T z r).2.1
    have z0 : z ≠ 0 := fun e => by rw [e, b1] at hz; omega
    have zy : z ≠ y := fun e => by rw [e] at hz; omega
    have w0 : h z 0 ≠ 0 := fun e => by rw [e, b1] at q; cases q
    have wx : h z 0 ≠ x := fun e => by rw [e, tx] at q; cases q
    exact ⟨ho z zx zy z0, ho _ wx (nb z hz zx) w0⟩
  have elk : ∀ v, elOK h v → elOK h' v := fun v hv => by
    rcases hv with q | ⟨c, q1, q2⟩
    · exact Or.inl q
    · refine Or.inr ⟨c, ?_, q2⟩
      have c25 := asL_lt _ q2
      dsimp only at c25
      have : v ≠ y := fun e => by rw [e] at q1; omega
      rw [tg v this]; exact q1
  refine ⟨⟨⟨e0t, by omega, fun z hz => ?_, fun z hz q1 q2 => ?_⟩, fun z hz => ?_, fun z hz => ?_, fun z hz => ?_, ⟨fun z w hz hw hne he => ?_, fun z w hz hw hne => ?_⟩, gDg_of D (fun z hz => ho z (fun e => by rcases gDg_t D hz with q | q | q <;> (rw [e, tx] at q; cases q)) (fun e => by have := oldC_neg hz; rcases hyc with q | q <;> omega) (by have := oldC_neg hz; omega))⟩, fun z hzx hz0 => ?_, fun f => ?_⟩
  · have : z ≠ y := by rcases hyc with q | q <;> omega
    rw [tg z this]; exact b3 z (by omega)
  · have : z ≠ y := by rcases hyc with q | q <;> omega
    rw [tg z this] at q1 q2 ⊢
    exact b4 z hz q1 q2
  · obtain ⟨hz', zy⟩ := bk z 4 hz (by decide)
    obtain ⟨r1, r2⟩ := rw4 z hz'
    obtain ⟨c1, c2, c3, c4, c5, c6, c7⟩ := A z hz'
    rw [r1, r2]
    refine ⟨by omega, c2, c3, c4, fun i i0 i1 => elk _ (c5 i i0 i1), fun q => ?_, c7⟩
    rw [← q, r2, q]; exact c6 q
  · obtain ⟨hz', zy⟩ := bk z 6 hz (by decide)
    by_cases e : z = x
    · subst e
      rw [h1, h1c, h2]
      exact ⟨by rcases hyc with q | q <;> omega, hy, rfl, hn0, hn, hel, hcap⟩
    · obtain ⟨r1, r2⟩ := rwb z (Or.inl hz') e
      obtain ⟨c1, c2, c3⟩ := S z hz'
      rw [r1, r2]
      exact ⟨by omega, c2, c3⟩
  · obtain ⟨hz', zy⟩ := bk z 13 hz (by decide)
    have e : z ≠ x := fun e => by rw [e] at hz'; omega
    obtain ⟨c1, c2, c3⟩ := T z hz'
    obtain ⟨r1, r2⟩ := rwb z (Or.inr hz') e
    rw [r1, r2]
    exact ⟨by omega, c2, c3⟩
  · obtain ⟨hz', zy⟩ := bk z 4 hz (by decide)
    obtain ⟨hw', wy⟩ := bk w 4 hw (by decide)
    rw [(rw4 z hz').1, (rw4 w hw').1] at he
    rw [(rw4 z hz').1]
    exact Q.1 z w hz' hw' hne he
  · obtain ⟨hz', zy⟩ := bk z 6 hz (by decide)
    have hw' : h w (-1) = 6 ∨ h w (-1) = 13 := hw.imp (fun q => (bk w 6 q (by decide)).1) (fun q => (bk w 13 q (by decide)).1)
    by_cases e : z = x
    · have ew : w ≠ x := fun q => hne (by rw [e, q])
      rw [e, h1, (rwb w hw' ew).1]
      exact (nb w hw' ew).symm
    · by_cases ew : w = x
      · rw [ew, h1, (rwb z (Or.inl hz') e).1]
        exact nb z (Or.inl hz') e
      · rw [(rwb z (Or.inl hz') e).1, (rwb w hw' ew).1]
        exact Q.2 z w hz' hw' hne
  · by_cases e : z = y
    · subst e
      funext f
      rw [vw_hid (Or.inr hy)]
      rcases ty with q | q
      · rw [vw_hid (Or.inr q)]
      · rw [vw_none q hz0]
    · exact vw_congr (ho z hzx e hz0) (fun q => (rw4 z q).2) (fun q => (rwb z q hzx).2)
  · unfold vw
    rw [if_neg (by omega), if_neg (by omega), if_neg (by omega), if_neg (by omega)]
/-- digits of an int, as signs -/
def digs : Nat → Nat → List Int
  | 0, _ => []
  | k + 1, n => if n < 10 then [48 + (n : Int)] else digs k (n / 10) ++ [48 + ((n % 10 : Nat) : Int)]
def dgs (n : Nat) : List Int := digs (n + 1) n
def decI (n : Int) : List Int := if n < 0 then 45 :: dgs (-n).toNat else dgs n.toNat
def txtM (m : SM) (x : Int) : List Int := (List.range (m x (-2)).toNat).map fun i : Nat => m x (i : Int)
def Rapp (m : SM) (x : Int) (l : List Int) (m' : SM) : Prop := Lw m x m' ∧ m' x (-2) = m x (-2) + (l.length : Int) ∧ ∀ i, 0 ≤ i → m' x i = if m x (-2) ≤ i ∧ i < m x (-2) + (l.length : Int) then l.getD (i - m x (-2)).toNat 0 else m x i
/-- the writing of a builder's array and length, summed up -/
theorem sb_upd {h h' : SM} {x y n : Int} (hG : GI h) (tx : h x (-1) = 6) (hx : h' x (-1) = 6) (h1 : h' x 0 = y) (h1c : h' x 1 = 0) (h2 : h' x 3 = n) (hy : h' y (-1) = 102) (hn0 : 0 ≤ n) (hn : n ≤ h' y (-2)) (hcap : h' y (-2) < 1000000)
    (hel : ∀ i, 0 ≤ i → i < n → 0 ≤ h' y i ∧ h' y i ≤ 127) (hyc : (y = h x 0 ∧ h' y (-2) = h y (-2) ∧ ∀ f, h' 0 f = h 0 f) ∨ (y = h 0 0 ∧ (∀ f, h' 0 f = if f = 0 then h 0 0 + 1 else if f = 1 then h 0 1 + h' y (-2) else h 0 f) ∧ h' y (-2) ≤ 2 * n + 40 ∧ 2 * h (h x 0) (-2) ≤ h' y (-2) ∧ 0 < h' y (-2))) (ho : ∀ z, z ≠ x → z ≠ y → z ≠ 0 → h' z = h z) :
    GI h' ∧ Lw (vw h) x (vw h') ∧ vw h' x (-2) = n ∧ (∀ i, 0 ≤ i → vw h' x i = if i < n then h' y i else 0) := by
  have e00 : ∀ f, f ≠ 0 → f ≠ 1 → h' 0 f = h 0 f := fun f f0 f1 => by
    rcases hyc with q | q
    · exact q.2.2 f
    · rw [q.2.1 f, if_neg f0, if_neg f1]
  obtain ⟨g1, g2, g3⟩ := GI_sb hG tx hx h1 h1c h2 hy hn0 hn hcap hel (by
    rcases hyc with q | q
    · exact Or.inl ⟨q.1, q.2.2 0⟩
    · exact Or.inr ⟨q.1, by rw [q.2.1 0, if_pos rfl]⟩) ho e00
  obtain ⟨a1, a2, a3, a4, a5, a6, a7⟩ := hG.2.2.1 x tx
  obtain ⟨u1, u2, u3, u4, u5⟩ := vw_sb hx
  obtain ⟨w1, w2, w3, w4, w5⟩ := vw_sb tx
  have v0 := vw_0 hG.1
  refine ⟨g1, ⟨by rw [v0]; exact hG.1.1, g2, by rw [u1, w1], fun f f0 f1 => by rw [g3, v0]; exact e00 f f0 f1, ?_⟩, by rw [u2, h2], fun i i0 => ?_⟩
  · rw [g3, g3, v0, v0, u3, w3, u2, h1, h2]
    rcases hyc with ⟨q1, q2, q3⟩ | ⟨q1, q2, q3, q4, q5⟩
    · rw [q3, q3, q2, q1]; refine ⟨?_, ?_, ?_, ?_, ?_, ?_⟩ <;> omega
    · rw [q2, q2]
      simp only [if_true]
      rw [if_neg (by decide)]
      refine ⟨?_, ?_, ?_, ?_, ?_, ?_⟩ <;> omega
  · by_cases q : i < n
    · rw [if_pos q, u4 i i0 (by rw [h2]; exact q), h1]
    · rw [if_neg q, u5 i (by rw [h2]; omega) i0]
/-- the builder's array was made anew, c long -/
def Gr (h h' : SM) (x c : Int) : Prop := (∀ f, h' x f = if f = 0 then h 0 0 else h x f) ∧ (∀ f, h' (h 0 0) f = if f = -1 then 102 else if f = -2 then c else if 0 ≤ f ∧ f < h (h x 0) (-2) then h (h x 0) f else 0) ∧ (∀ f, h' 0 f = if f = 0 then h 0 0 + 1 else if f = 1 then h 0 1 + c else h 0 f) ∧ (∀ z, z ≠ x → z ≠ h 0 0 → z ≠ 0 → h' z = h z)
section JS
variable {G : GM} {d : Nat} {P : Nat → Int → SM → Prop} {h : SM} {x i v a : Int}
theorem sb_pos (hG : GI h) (ht : h x (-1) = 6) : 0 < x := by
  rcases Int.lt_trichotomy x 0 with q | q | q
  · have := hG.1.2.2.2 x q (by omega) (by omega); omega
  · rw [q, hG.1.1] at ht; cases ht
  · exact q
theorem c_sbl (ht : h x (-1) = 6) (hd : 2 ≤ d) (k : P 0 (h x 3) h) : WP G mJ4_length 0 [(1, x)] [] h d P :=
  wJ4_length (by omega) ⟨ht, wJ3_length (by omega) ⟨ht, rfl, k⟩⟩
theorem c_lat (ht : h x (-1) = 6) (hc : h x 1 = 0) (hd : 1 ≤ d) (k : P 0 1 h) : WP G mJ3_isLatin1 0 [(1, x)] [] h d P :=
  wJ3_isLatin1 hd ⟨ht, fun q => absurd hc q, fun _ => k⟩
theorem c_cpB {y n : Int} (hB : Bs h) (ht : h y (-1) = 102) (hl : h y (-2) < n) (hl0 : 0 ≤ h y (-2)) (hlc : h 0 0 ≤ 1203200) (hls : h 0 1 + n ≤ 5491882) (hd : 1 ≤ d)
    (k : ∀ h', h' = cpM (al h 102 n n) y 0 (h 0 0) 0 (h y (-2)) → P 0 (h 0 0) h') : WP G mJ10_copyOf 0 [(1, y), (0, n), (9, 0)] [] h d P := by
  refine wJ10_copyOf (by omega) ⟨ht, fun _ => ⟨by omega, hlc, hls, fun h4 e4 => ?_⟩, fun q => absurd q (by omega)⟩
  have ey : h4 y = h y := by rw [e4]; exact al_old hB (by omega)
  have en : h4 (h 0 0) (-1) = 102 ∧ h4 (h 0 0) (-2) = n := by rw [e4, al_new hB, al_new hB]; simp
  have b2 := hB.2.1
  have em : (if n < h4 y (-2) then n else h4 y (-2)) = h y (-2) := by
    rw [ey]; split <;> omega
  rw [em]
  exact ⟨by rw [ey]; exact ht, en.1, b2, by omega, by omega, hl0, by rw [ey]; omega, by rw [en.2]; omega, fun h15 e15 => k _ (by rw [e15, e4])⟩
theorem c_ensure (hG : GI h) (ht : h x (-1) = 6) (ha0 : 0 ≤ a) (ha : a < 1000000) (hr : h (h x 0) (-2) < a → h 0 0 ≤ 1203200 ∧ h 0 1 + 2 * h (h x 0) (-2) + 40 ≤ 5491882 ∧ h 0 1 + a + 40 ≤ 5491882) (hd : 4 ≤ d)
    (k1 : a ≤ h (h x 0) (-2) → P 0 0 h) (k2 : ∀ h' c, h (h x 0) (-2) < a → a ≤ c → 2 * h (h x 0) (-2) + 2 ≤ c → (c = a ∨ c = 2 * h (h x 0) (-2) + 2) → Gr h h' x c → P 0 0 h') : WP G mJ3_ensureCapacityInternal 0 [(1, x), (0, a), (9, 0)] [] h d P := by
  obtain ⟨a1, a2, a3, a4, a5, a6, a7⟩ := hG.2.2.1 x ht
  obtain ⟨b1, b2, b3, b4⟩ := id hG.1
  have x0 := sb_pos hG ht
  have xn : x ≠ h 0 0 := fun e => by rw [e, b3 _ (Int.le_refl _)] at ht; cases ht
  have es : bShr (h (h x 0) (-2)) (h x 1) = h (h x 0) (-2) := by rw [a3]; exact bShr0 ⟨by omega, by omega⟩
  refine wJ3_ensureCapacityInternal (by omega) ⟨ht, a2, ?_⟩
  rw [es, wr_id (by omega) (by omega)]
  refine ⟨fun q => k1 (by omega), fun q => ?_⟩
  refine wJ3_newCapacity (by omega) ⟨ht, a2, ?_⟩
  rw [a3, bShl0 ⟨by omega, by omega⟩, bShl0 (by decide : in32 2), wr_id (x := a - h (h x 0) (-2)) (by omega) (by omega), wr_id (x := h (h x 0) (-2) + 2) (by omega) (by omega)]
  refine c_newLen (by omega) (by omega) (by omega) (by omega) (by omega) (by omega) (by omega) ⟨rfl, fun _ => ⟨ht, rfl, ht, ?_⟩, fun q => ?_⟩
  · obtain ⟨c, hc, h1, h2, h3, h4⟩ : ∃ c, (h (h x 0) (-2) + if a - h (h x 0) (-2) < h (h x 0) (-2) + 2 then h (h x 0) (-2) + 2 else a - h (h x 0) (-2)) = c ∧ a ≤ c ∧ 2 * h (h x 0) (-2) + 2 ≤ c ∧ (c = a ∨ c = 2 * h (h x 0) (-2) + 2) ∧ c < 2000010 := by
      refine ⟨_, rfl, ?_⟩
      split <;> omega
    rw [hc, a3, bShr0 ⟨by omega, by omega⟩, bShl0 ⟨by omega, by omega⟩]
    obtain ⟨hl1, hl2, hl3⟩ := hr (by omega)
    refine c_cpB hG.1 a2 (by omega) (by omega) hl1 (by omega) (by omega) (fun h7 e7 => ⟨rfl, ?_⟩)
    have x7 : ∀ f, h7 x f = h x f := fun f => by
      rw [e7]; unfold cpM
      rw [if_neg (fun q => xn q.1), al_old hG.1 (by omega)]
    refine ⟨by rw [x7]; exact ht, x0, fun h' e' => k2 h' c (by omega) h1 h2 h3 ⟨fun f => ?_, fun f => ?_, fun f => ?_, fun z z1 z2 z3 => ?_⟩⟩
    · rw [e']; unfold up
      by_cases f1 : f = 0
      · rw [if_pos ⟨rfl, f1⟩, if_pos f1]
      · rw [if_neg (fun q => f1 q.2), if_neg f1, x7]
    · rw [e', up_na _ (Ne.symm xn), e7]
      unfold cpM
      by_cases fb : 0 ≤ f ∧ f < h (h x 0) (-2)
      · rw [if_pos ⟨rfl, fb.1, by omega⟩, if_neg (by omega), if_neg (by omega), if_pos fb, al_old hG.1 (by omega)]
        congr 1; omega
      · rw [if_neg (fun q => fb ⟨q.2.1, by omega⟩), al_new hG.1]
        by_cases f1 : f = -1
        · rw [if_pos f1, if_pos f1]
        · rw [if_neg f1, if_neg f1]
          by_cases f2 : f = -2
          · rw [if_pos f2, if_pos f2]
          · rw [if_neg f2, if_neg f2, if_neg fb]
    · rw [e', up_na _ (by omega), e7]
      unfold cpM
      rw [if_neg (by omega)]
      unfold al
      rw [if_pos rfl]
    · funext f
      rw [e', up_na _ z1, e7]
      unfold cpM
      rw [if_neg (fun q => z2 q.1)]
      unfold al
      rw [if_neg z3, if_neg z2]
  · exfalso
    split at q <;> omega
/-- behind an ensured room: the array, where it lies, what it holds -/
theorem gr_sum {h h' : SM} {x c : Int} (hG : GI h) (ht : h x (-1) = 6) (g : Gr h h' x c) : h' x (-1) = 6 ∧ h' x 0 = h 0 0 ∧ h' x 1 = 0 ∧ h' x 3 = h x 3 ∧ h' (h 0 0) (-1) = 102 ∧ h' (h 0 0) (-2) = c ∧ (∀ i, 0 ≤ i → i < h (h x 0) (-2) → h' (h 0 0) i = h (h x 0) i) ∧ x ≠ h 0 0 := by
  obtain ⟨g1, g2, g3, g4⟩ := g
  have a3 := (hG.2.2.1 x ht).2.2.1
  refine ⟨by rw [g1, if_neg (by decide)]; exact ht, by rw [g1, if_pos rfl], by rw [g1, if_neg (by decide)]; exact a3, by rw [g1, if_neg (by decide)], by rw [g2, if_pos rfl], by rw [g2, if_neg (by decide), if_pos rfl], fun i i0 i1 => by rw [g2, if_neg (by omega), if_neg (by omega), if_pos ⟨i0, i1⟩], fun e => ?_⟩
  rw [e, hG.1.2.2.1 _ (Int.le_refl _)] at ht; cases ht
theorem c_sbat (hG : GI h) (ht : h x (-1) = 6) (h0 : 0 ≤ i) (h1 : i < h x 3) (hd : 4 ≤ d) (k : P 0 (h (h x 0) i) h) : WP G mJ4_charAt 0 [(1, x), (0, i)] [] h d P := by
  obtain ⟨a1, a2, a3, a4, a5, a6, a7⟩ := hG.2.2.1 x ht
  have es : bShr (h (h x 0) (-2)) (h x 1) = h (h x 0) (-2) := by rw [a3]; exact bShr0 ⟨by omega, by omega⟩
  obtain ⟨c0, c1⟩ := a6 i h0 h1
  have ec : c16 (bAnd (h (h x 0) i) 255) = h (h x 0) i := by rw [bAnd255 c0 c1, c16_id c0 (by omega)]
  refine wJ4_charAt (by omega) ⟨ht, wJ3_charAt (by omega) ⟨ht, a2, ?_⟩⟩
  rw [es]
  refine c_J5ck h0 (by split <;> omega) (by omega) ⟨rfl, fun q => absurd a3 q, fun _ => ?_⟩
  rw [ec]
  exact ⟨a2, h0, by omega, ⟨by omega, by omega⟩, rfl, ⟨by omega, by omega⟩, k⟩
theorem c_sbaddC (hG : GI h) (ht : h x (-1) = 6) (hv0 : 0 ≤ v) (hv : v ≤ 127) (hsz : h x 3 < 100000) (hlc : h 0 0 ≤ 1203200) (hls : h 0 1 + 2 * h x 3 + 42 ≤ 5491882) (hd : 6 ≤ d) (k : ∀ h', GI h' → Radd (vw h) x v (vw h') → P 0 x h') : WP G mJ4_append 0 [(1, x), (0, v)] [] h d P := by
  obtain ⟨a1, a2, a3, a4, a5, a6, a7⟩ := hG.2.2.1 x ht
  have x0 := sb_pos hG ht
  have ew : wr (h x 3 + 1) = h x 3 + 1 := wr_id (by omega) (by omega)
  obtain ⟨w1, w2, w3, w4, w5⟩ := vw_sb ht
  refine wJ4_append (by omega) ⟨ht, wJ3_append (by omega) ⟨ht, ?_⟩⟩
  rw [ew]
  -- behind the room
  have fin : ∀ (h3 : SM) (y : Int), h3 x (-1) = 6 → h3 x 0 = y → h3 x 1 = 0 → h3 x 3 = h x 3 → h3 y (-1) = 102 → 0 < y → x ≠ y → h x 3 + 1 ≤ h3 y (-2) → h3 y (-2) < 1000000 → (∀ i, 0 ≤ i → i < h x 3 → h3 y i = h (h x 0) i) →
      ((y = h x 0 ∧ h3 y (-2) = h y (-2) ∧ ∀ f, h3 0 f = h 0 f) ∨ (y = h 0 0 ∧ (∀ f, h3 0 f = if f = 0 then h 0 0 + 1 else if f = 1 then h 0 1 + h3 y (-2) else h 0 f) ∧ h3 y (-2) ≤ 2 * (h x 3 + 1) + 40 ∧ 2 * h (h x 0) (-2) ≤ h3 y (-2) ∧ 0 < h3 y (-2))) → (∀ z, z ≠ x → z ≠ y → z ≠ 0 → h3 z = h z) →
      WP G mJ3_isLatin1 0 [(1, x)] [] h3 (d - 1 - 1) (fun k v5 h6 => k = 0 ∧ ((v5 = 0 → (WP G mJ3_append 45 [(1, x), (0, v)] [] h6 (d - 1) (fun k v2 h3 => k = 0 ∧ (P 0 x h3)))) ∧ (v5 ≠ 0 → (WP G mJ11_canEncode 0 [(0, v)] [] h6 (d - 1 - 1) (fun k v7 h8 => k = 0 ∧ ((v7 = 0 → (WP G mJ3_append 45 [(1, x), (0, v)] [] h8 (d - 1) (fun k v2 h3 => k = 0 ∧ (P 0 x h3)))) ∧ (v7 ≠ 0 → ((h8 x (-1) = 6) ∧ ((0 < x) ∧ (∀ h11, h11 = up h8 x 3 (wr ((h8 x 3) + 1)) → ((h11 (h8 x 0) (-1) = 102) ∧ (0 ≤ (h8 x 3)) ∧ ((h8 x 3) < h11 (h8 x 0) (-2)) ∧ (0 < (h8 x 0)) ∧ (-128 ≤ (i8 v) ∧ (i8 v) ≤ 127) ∧ (∀ h18, h18 = up h11 (h8 x 0) (h8 x 3) (i8 v) → (0 = 0 ∧ P 0 x h18))))))))))))) := by
    intro h3 y t1 t2 t3 t4 t5 t6 t7 t8 t9 t10 t11 t12
    refine c_lat t1 t3 (by omega) ⟨rfl, fun q => absurd q (by decide), fun _ => ?_⟩
    refine wJ11_canEncode (by omega) ⟨fun q => absurd q (by omega), fun _ => ⟨rfl, fun q => absurd q (by decide), fun _ => ⟨t1, x0, fun h11 e11 => ?_⟩⟩⟩
    rw [t2, t4, i8_id (by omega) hv]
    rw [t4, ew] at e11
    have y11 : h11 y = h3 y := by rw [e11]; exact funext fun f => up_na h3 (Ne.symm t7)
    refine ⟨by rw [y11]; exact t5, a4, by rw [y11]; omega, t6, ⟨by omega, by omega⟩, fun h' e' => ⟨rfl, ?_⟩⟩
    have A : ∀ z f, h' z f = if z = y ∧ f = h x 3 then v else if z = x ∧ f = 3 then h x 3 + 1 else h3 z f := fun z f => by rw [e', e11]; rfl
    have ax : ∀ f, f ≠ 3 → h' x f = h3 x f := fun f hf => by rw [A, if_neg (fun q => t7 q.1), if_neg (fun q => hf q.2)]
    have ay : ∀ f, f ≠ h x 3 → h' y f = h3 y f := fun f hf => by rw [A, if_neg (fun q => hf q.2), if_neg (fun q => t7 q.1.symm)]
    have ayv : h' y (h x 3) = v := by rw [A, if_pos ⟨rfl, rfl⟩]
    have a0 : ∀ f, h' 0 f = h3 0 f := fun f => by rw [A, if_neg (by omega), if_neg (by omega)]
    obtain ⟨g1, g2, g3, g4⟩ := sb_upd (h' := h') (y := y) (n := h x 3 + 1) hG ht (by rw [ax _ (by decide)]; exact t1) (by rw [ax _ (by decide)]; exact t2) (by rw [ax _ (by decide)]; exact t3) (by rw [A, if_neg (fun q => t7 q.1), if_pos ⟨rfl, rfl⟩]) (by rw [ay _ (by omega)]; exact t5) (by omega) (by rw [ay _ (by omega)]; exact t8) (by rw [ay _ (by omega)]; exact t9)
      (fun i i0 i1 => by
        by_cases q : i = h x 3
        · rw [q, ayv]; exact ⟨hv0, hv⟩
        · rw [ay i q, t10 i i0 (by omega)]; exact a6 i i0 (by omega))
      (by
        rw [ay _ (by omega)]
        rcases t11 with ⟨q1, q2, q3⟩ | ⟨q1, q2, q3⟩
        · exact Or.inl ⟨q1, q2, fun f => by rw [a0, q3]⟩
        · exact Or.inr ⟨q1, fun f => by rw [a0, q2], q3⟩)
      (fun z z1 z2 z3 => funext fun f => by rw [A, if_neg (fun q => z2 q.1), if_neg (fun q => z1 q.1), t12 z z1 z2 z3])
    refine k h' g1 ⟨g2, by rw [g3, w2], fun f f0 => ?_⟩
    rw [g4 f f0, w2]
    by_cases q : f < h x 3 + 1
    · rw [if_pos q]
      by_cases q2 : f = h x 3
      · rw [if_pos q2, q2, ayv]
      · rw [if_neg q2, ay f q2, t10 f f0 (by omega), w4 f f0 (by omega)]
    · rw [if_neg q, if_neg (by omega), w5 f (by omega) f0]
  refine c_ensure hG ht (by omega) (by omega) (fun _ => ⟨hlc, by omega, by omega⟩) (by omega) (fun q => ⟨rfl, ht, ?_⟩) (fun h3 c q1 q2 q3 q4 gr => ⟨rfl, ?_⟩)
  · have xy : x ≠ h x 0 := fun e => by rw [← e, ht] at a2; cases a2
    exact fin h (h x 0) ht rfl a3 rfl a2 a1.1 xy q a7 (fun i _ _ => rfl) (Or.inl ⟨rfl, rfl, fun _ => rfl⟩) (fun z _ _ _ => rfl)
  · obtain ⟨r1, r2, r3, r4, r5, r6, r7, r8⟩ := gr_sum hG ht gr
    have b2 := hG.1.2.1
    have hfull : h (h x 0) (-2) = h x 3 := by omega
    refine ⟨r1, fin h3 (h 0 0) r1 r2 r3 r4 r5 b2 r8 (by rw [r6]; omega) (by rw [r6]; omega) (fun i i0 i1 => r7 i i0 (by omega)) (Or.inr ⟨rfl, fun f => by rw [r6]; exact gr.2.2.1 f, by rw [r6]; omega, by rw [r6]; omega, by rw [r6]; omega⟩) gr.2.2.2⟩
theorem c_sbset (hG : GI h) (ht : h x (-1) = 6) (hi0 : 0 ≤ i) (hi : i ≤ h x 3) (hd : 6 ≤ d) (k : ∀ h', GI h' → Rclr (vw h) x i (vw h') → P 0 0 h') : WP G mJ4_setLength 0 [(1, x), (0, i)] [] h d P := by
  obtain ⟨a1, a2, a3, a4, a5, a6, a7⟩ := hG.2.2.1 x ht
  have x0 := sb_pos hG ht
  have xy : x ≠ h x 0 := fun e => by rw [← e, ht] at a2; cases a2
  obtain ⟨w1, w2, w3, w4, w5⟩ := vw_sb ht
  have fin : ∀ h' : SM, (∀ z f, h' z f = if z = x ∧ f = 3 then i else if z = x ∧ f = 2 then h' x 2 else h z f) → P 0 0 h' := fun h' A => by
    have ax : ∀ f, f ≠ 3 → f ≠ 2 → h' x f = h x f := fun f h1 h2 => by rw [A, if_neg (fun q => h1 q.2), if_neg (fun q => h2 q.2)]
    have ao : ∀ z, z ≠ x → h' z = h z := fun z hz => funext fun f => by rw [A, if_neg (fun q => hz q.1), if_neg (fun q => hz q.1)]
    have ay := ao _ (Ne.symm xy)
    obtain ⟨g1, g2, g3, g4⟩ := sb_upd (h' := h') (y := h x 0) (n := i) hG ht (by rw [ax _ (by decide) (by decide)]; exact ht) (ax 0 (by decide) (by decide)) (by rw [ax _ (by decide) (by decide)]; exact a3) (by rw [A, if_pos ⟨rfl, rfl⟩]) (by rw [ay]; exact a2) hi0 (by rw [ay]; omega) (by rw [ay]; exact a7)
      (fun j j0 j1 => by rw [ay]; exact a6 j j0 (by omega)) (Or.inl ⟨rfl, by rw [ay], fun f => by rw [ao 0 (by omega)]⟩) (fun z z1 _ _ => ao z z1)
    refine k h' g1 ⟨g2, g3, fun f f0 => ?_⟩
    rw [g4 f f0, ay]
    by_cases q : f < i
    · rw [if_pos q, if_pos q, w4 f f0 (by omega)]
    · rw [if_neg q, if_neg q]
  refine wJ4_setLength (by omega) ⟨ht, wJ3_setLength (by omega) ⟨fun _ => ⟨ht, ?_⟩, fun q => absurd q (by omega)⟩⟩
  refine c_ensure hG ht hi0 (by omega) (fun q => absurd q (by omega)) (by omega) (fun q => ⟨rfl, ht, fun _ => ⟨fun q2 => ⟨x0, fun h6 e6 => ⟨rfl, fin h6 (fun z f => ?_)⟩⟩, fun q2 => ⟨x0, fun h10 e10 => ⟨by rw [e10, up_nf _ (by decide)]; exact ht, x0, fun h14 e14 => ⟨rfl, fin h14 (fun z f => ?_)⟩⟩⟩⟩, fun q => absurd q (by omega)⟩) (fun h' c q1 _ _ _ _ => absurd q1 (by omega))
  · rw [e6]; unfold up
    by_cases e : z = x ∧ f = 3
    · rw [if_pos e, if_pos e]
    · rw [if_neg e, if_neg e]
      by_cases e2 : z = x ∧ f = 2
      · rw [if_pos e2, if_neg (by omega), e2.1, e2.2]
      · rw [if_neg e2]
  · rw [e14, e10]; unfold up
    by_cases e : z = x ∧ f = 3
    · rw [if_pos e, if_pos e]
    · rw [if_neg e, if_neg e]
      by_cases e2 : z = x ∧ f = 2
      · rw [if_pos e2, if_pos e2]; simp
      · rw [if_neg e2, if_neg e2]
theorem c_stl (hG : GI h) (ht : h x (-1) = 13) (hd : 2 ≤ d) (k : P 0 (h (h x 0) (-2)) h) : WP G mJ5_length 0 [(1, x)] [] h d P := by
  obtain ⟨a1, a2, a3, a4, a5, a6⟩ := hG.2.2.2.1 x ht
  refine wJ5_length (by omega) ⟨ht, a2, wJ5_coder (by omega) ⟨ht, ⟨by omega, by omega⟩, rfl, ?_⟩⟩
  rw [a3, bShr0 ⟨by omega, by omega⟩]; exact k
theorem c_stat (hG : GI h) (ht : h x (-1) = 13) (h0 : 0 ≤ i) (h1 : i < h (h x 0) (-2)) (hd : 4 ≤ d) (k : P 0 (h (h x 0) i) h) : WP G mJ5_charAt 0 [(1, x), (0, i)] [] h d P := by
  obtain ⟨a1, a2, a3, a4, a5, a6⟩ := hG.2.2.2.1 x ht
  obtain ⟨c0, c1⟩ := a5 i h0 h1
  have ec : c16 (bAnd (h (h x 0) i) 255) = h (h x 0) i := by rw [bAnd255 c0 c1, c16_id c0 (by omega)]
  refine wJ5_charAt (by omega) ⟨ht, wJ5_isLatin1 (by omega) ⟨ht, fun q => absurd a3 q, fun _ => ⟨rfl, fun q => absurd q (by decide), fun _ => ⟨ht, ?_⟩⟩⟩⟩
  refine wJ11_charAt (by omega) ⟨a2, c_J5ck h0 h1 (by omega) ⟨rfl, ?_⟩⟩
  rw [ec]
  exact ⟨a2, h0, h1, ⟨by omega, by omega⟩, rfl, ⟨by omega, by omega⟩, k⟩
end JS
