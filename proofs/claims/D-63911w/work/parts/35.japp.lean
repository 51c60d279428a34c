/-! L2: new StringBuilder(), append(String) -/
theorem txtM_len (m : SM) (x : Int) : (txtM m x).length = (m x (-2)).toNat := by simp [txtM]
theorem txtM_get (m : SM) (x : Int) {i : Nat} (hi : (i : Int) < m x (-2)) : (txtM m x).getD i 0 = m x (i : Int) := by
  have h1 : i < (m x (-2)).toNat := by omega
  simp [txtM, List.getD_eq_getElem?_getD, List.getElem?_map, List.getElem?_range h1]
section JP
variable {G : GM} {d : Nat} {P : Nat → Int → SM → Prop} {h : SM} {x i v a s : Int}
theorem c_newSB (hG : GI h) (hlc : h 0 0 + 2 ≤ 1203200) (hls : h 0 1 + 20 ≤ 5491882) (hd : 4 ≤ d) (k : ∀ h', GI h' → NSB (vw h) (vw h') → P 0 0 h') {h1 : SM} (e1 : h1 = al h 6 0 4) : WP G mJ4_init 0 [(1, h 0 0)] [] h1 d P := by
  have B := hG.1
  obtain ⟨b1, b2, b3, b4⟩ := id B
  have n1 : ∀ f, h1 (h 0 0) f = if f = -1 then 6 else if f = -2 then 0 else 0 := fun f => by rw [e1]; exact al_new B f
  have z1 : ∀ f, h1 0 f = if f = 0 then h 0 0 + 1 else if f = 1 then h 0 1 + 4 else h 0 f := fun f => by rw [e1]; unfold al; rw [if_pos rfl]
  have s1 : h1 0 0 = h 0 0 + 1 := by rw [z1, if_pos rfl]
  have B1 : Bs h1 := by
    refine ⟨by rw [z1, if_neg (by decide), if_neg (by decide)]; exact b1, by omega, fun z hz => ?_, fun z hz q1 q2 => ?_⟩
    · rw [e1]; unfold al
      rw [if_neg (by omega), if_neg (by omega)]; exact b3 z (by omega)
    · have e : h1 z = h z := by rw [e1]; funext f; unfold al; rw [if_neg (by omega), if_neg (by omega)]
      rw [e] at q1 q2 ⊢; exact b4 z hz q1 q2
  refine wJ4_init (by omega) ⟨by omega, wJ3_init (by omega) ⟨by omega, by omega, by omega, by rw [z1, if_neg (by decide), if_pos rfl]; omega, fun h5 e5 => ?_⟩⟩
  rw [s1]
  have ns5 : ∀ f, h5 (h 0 0) f = h1 (h 0 0) f := fun f => by rw [e5]; unfold al; rw [if_neg (by omega), s1, if_neg (by omega)]
  have ny5 : ∀ f, h5 (h 0 0 + 1) f = if f = -1 then 102 else if f = -2 then 16 else 0 := fun f => by rw [e5, ← s1]; exact al_new B1 f
  refine ⟨by rw [ns5, n1, if_pos rfl], b2, fun h9 e9 => ⟨by rw [e9, up_nf _ (by decide), ns5, n1, if_pos rfl], b2, by decide, fun h' e' => ⟨rfl, ?_⟩⟩⟩
  have A : ∀ z f, h' z f = if z = h 0 0 ∧ f = 1 then 0 else if z = h 0 0 ∧ f = 0 then h 0 0 + 1 else h5 z f := fun z f => by rw [e', e9]; rfl
  have As : ∀ f, h' (h 0 0) f = if f = 0 then h 0 0 + 1 else if f = -1 then 6 else 0 := fun f => by
    rw [A, ns5, n1]
    by_cases f1 : f = 1
    · rw [if_pos ⟨rfl, f1⟩, if_neg (by omega), if_neg (by omega)]
    · rw [if_neg (fun q => f1 q.2)]
      by_cases f0 : f = 0
      · rw [if_pos ⟨rfl, f0⟩, if_pos f0]
      · rw [if_neg (fun q => f0 q.2), if_neg f0]
        by_cases fm : f = -1
        · rw [if_pos fm, if_pos fm]
        · rw [if_neg fm, if_neg fm]; split <;> rfl
  have Ay : ∀ f, h' (h 0 0 + 1) f = if f = -1 then 102 else if f = -2 then 16 else 0 := fun f => by rw [A, if_neg (by omega), if_neg (by omega), ny5]
  have A0 : ∀ f, h' 0 f = if f = 0 then h 0 0 + 2 else if f = 1 then h 0 1 + 20 else h 0 f := fun f => by
    rw [A, if_neg (by omega), if_neg (by omega), e5]; unfold al
    rw [if_pos rfl, s1, z1, z1]
    by_cases f0 : f = 0
    · simp only [if_pos f0]; omega
    · simp only [if_neg f0]
      by_cases f1 : f = 1
      · simp only [if_pos f1]; simp; omega
      · simp only [if_neg f1]
  have Ao : ∀ z, z ≠ h 0 0 → z ≠ h 0 0 + 1 → z ≠ 0 → h' z = h z := fun z z1 z2 z3 => by
    funext f
    rw [A, if_neg (fun q => z1 q.1), if_neg (fun q => z1 q.1), e5]
    unfold al
    rw [if_neg z3, s1, if_neg z2, e1]
    unfold al
    rw [if_neg z3, if_neg z1]
  have t6 : h' (h 0 0) (-1) = 6 := by rw [As, if_neg (by decide), if_pos rfl]
  have l1 : h' (h 0 0 + 1) (-2) = 16 := by rw [Ay, if_neg (by decide), if_pos rfl]
  have c3 : h' (h 0 0) 3 = 0 := by rw [As, if_neg (by decide), if_neg (by decide)]
  have v1 : h' (h 0 0) 0 = h 0 0 + 1 := by rw [As, if_pos rfl]
  obtain ⟨g1, g2, g3⟩ := GI_new2 (h' := h') (t := 6) (c := 16) (n := 0) hG (Or.inl rfl) t6 v1 (by rw [As, if_neg (by decide), if_neg (by decide)]) (fun _ => c3) (by omega) (by omega) (by rw [Ay, if_pos rfl]) l1 (by omega)
    (fun i i0 i1 => by rw [if_pos rfl] at i1; omega) (by rw [A0, if_pos rfl]) (fun f f0 f1 => by rw [A0, if_neg f0, if_neg f1]) Ao
  have w0 := vw_0 B
  obtain ⟨u1, u2, u3, u4, u5⟩ := vw_sb t6
  refine k h' g1 ⟨vw_Bs B, ?_⟩
  rw [w0]
  exact ⟨g2, u1, by rw [u2, c3], by rw [u3, v1, l1], fun i i0 => u5 i (by rw [c3]; exact i0) i0, by rw [g3, A0, if_pos rfl], by rw [g3, w0, A0, if_neg (by decide), if_pos rfl], fun f f0 f1 => by rw [g3, w0, A0, if_neg f0, if_neg f1]⟩
set_option maxHeartbeats 1000000 in
theorem c_sbaddS (hG : GI h) (ht : h x (-1) = 6) (hs : h s (-1) = 13) (hsz : h x 3 < 50000) (hsl : h (h s 0) (-2) < 50000) (hlc : h 0 0 ≤ 1203200) (hls : h 0 1 + 2 * h x 3 + 2 * h (h s 0) (-2) + 42 ≤ 5491882) (hd : 8 ≤ d) (k : ∀ h', GI h' → Rapp (vw h) x (txtM (vw h) s) (vw h') → P 0 x h') : WP G mJ4_append_2 0 [(1, x), (1, s)] [] h d P := by
  obtain ⟨a1, a2, a3, a4, a5, a6, a7⟩ := hG.2.2.1 x ht
  obtain ⟨c1, c2, c3, c4, c5, c6⟩ := hG.2.2.2.1 s hs
  obtain ⟨b1, b2, b3, b4⟩ := id hG.1
  have x0 := sb_pos hG ht
  have sx : s ≠ x := fun e => by rw [e, ht] at hs; cases hs
  have s0 : s ≠ 0 := fun e => by rw [e, b1] at hs; cases hs
  have sep : h x 0 ≠ h s 0 := hG.2.2.2.2.1.2 x s ht (Or.inr hs) (Ne.symm sx)
  have vx : h s 0 ≠ x := fun e => by rw [e, ht] at c2; cases c2
  have v0' : h s 0 ≠ 0 := fun e => by rw [e, b1] at c2; cases c2
  have sn : s ≠ h 0 0 := fun e => by rw [e, b3 _ (Int.le_refl _)] at hs; cases hs
  have vn : h s 0 ≠ h 0 0 := by omega
  obtain ⟨w1, w2, w3, w4, w5⟩ := vw_sb ht
  obtain ⟨p1, p2, p3, p4⟩ := vw_st hs
  generalize hn : h (h s 0) (-2) = n at *
  refine wJ4_append_2 (by omega) ⟨ht, wJ3_append_2 (by omega) ⟨fun _ => ⟨hs, ?_⟩, fun q => absurd q s0⟩⟩
  refine c_stl hG hs (by omega) ⟨rfl, ht, ?_⟩
  rw [hn, wr_id (by omega) (by omega)]
  have fin : ∀ (h3 : SM) (y : Int), h3 x (-1) = 6 → h3 x 0 = y → h3 x 1 = 0 → h3 x 3 = h x 3 → h3 y (-1) = 102 → 0 < y → x ≠ y → h s 0 ≠ y → s ≠ y → h x 3 + n ≤ h3 y (-2) → h3 y (-2) < 1000000 → (∀ i, 0 ≤ i → i < h x 3 → h3 y i = h (h x 0) i) →
      ((y = h x 0 ∧ h3 y (-2) = h y (-2) ∧ ∀ f, h3 0 f = h 0 f) ∨ (y = h 0 0 ∧ (∀ f, h3 0 f = if f = 0 then h 0 0 + 1 else if f = 1 then h 0 1 + h3 y (-2) else h 0 f) ∧ h3 y (-2) ≤ 2 * (h x 3 + n) + 40 ∧ 2 * h (h x 0) (-2) ≤ h3 y (-2) ∧ 0 < h3 y (-2))) → (∀ z, z ≠ x → z ≠ y → z ≠ 0 → h3 z = h z) →
      WP G mJ3_putStringAt 0 [(1, x), (0, (h3 x 3)), (1, s)] [] h3 (d - 1 - 1) (fun k v8 h9 => k = 0 ∧ ((h9 x (-1) = 6) ∧ ((0 < x) ∧ (∀ h12, h12 = up h9 x 3 (wr ((h9 x 3) + n)) → (0 = 0 ∧ P 0 x h12))))) := by
    intro h3 y t1 t2 t3 t4 t5 t6 t7 tv ts t8 t9 t10 t11 t12
    have es := t12 s sx ts s0
    have ev := t12 (h s 0) vx tv v0'
    refine wJ3_putStringAt (by omega) ⟨t1, wJ3_inflateIfNeededFor (by omega) ⟨t1, by rw [es]; exact hs, wJ5_coder (by omega) ⟨by rw [es]; exact hs, by rw [es, c3]; decide, rfl, fun _ => ⟨rfl, t1, by rw [es]; exact hs, ?_⟩, fun q => absurd (by rw [t3, es, c3]) q⟩⟩⟩
    rw [t2, t3, t4]
    refine wJ5_getBytes (by omega) ⟨by rw [es]; exact hs, wJ5_coder (by omega) ⟨by rw [es]; exact hs, by rw [es, c3]; decide, rfl, fun q => absurd (by rw [es, c3]) q, fun _ => ⟨by rw [es]; exact hs, ?_⟩⟩⟩
    rw [es, ev, bShl0 ⟨by omega, by omega⟩, hn]
    refine ⟨c2, t5, t6, by omega, a4, by omega, by omega, by omega, fun h18 e18 => ⟨rfl, rfl, ?_⟩⟩
    have o18 : ∀ z, z ≠ y → h18 z = h3 z := fun z hz => by rw [e18]; funext f; unfold cpM; rw [if_neg (fun q => hz q.1)]
    refine ⟨by rw [o18 x t7]; exact t1, x0, fun h' e' => ⟨rfl, ?_⟩⟩
    rw [o18 x t7, t4, wr_id (by omega) (by omega)] at e'
    have A : ∀ z f, h' z f = if z = x ∧ f = 3 then h x 3 + n else if z = y ∧ h x 3 ≤ f ∧ f < h x 3 + n then h (h s 0) (f - h x 3) else h3 z f := fun z f => by
      rw [e', e18]; unfold up cpM
      by_cases q : z = x ∧ f = 3
      · rw [if_pos q, if_pos q]
      · rw [if_neg q, if_neg q, ev, Int.zero_add]
    have ax : ∀ f, f ≠ 3 → h' x f = h3 x f := fun f hf => by rw [A, if_neg (fun q => hf q.2), if_neg (fun q => t7 q.1)]
    have ay : ∀ f, h' y f = if h x 3 ≤ f ∧ f < h x 3 + n then h (h s 0) (f - h x 3) else h3 y f := fun f => by
      rw [A, if_neg (fun q => t7 q.1.symm)]
      by_cases q : h x 3 ≤ f ∧ f < h x 3 + n
      · rw [if_pos ⟨rfl, q⟩, if_pos q]
      · rw [if_neg (fun z => q z.2), if_neg q]
    have a0 : ∀ f, h' 0 f = h3 0 f := fun f => by rw [A, if_neg (by omega), if_neg (by omega)]
    have yt : h' y (-1) = 102 := by rw [ay, if_neg (by omega)]; exact t5
    have yl : h' y (-2) = h3 y (-2) := by rw [ay, if_neg (by omega)]
    obtain ⟨g1, g2, g3, g4⟩ := sb_upd (h' := h') (y := y) (n := h x 3 + n) hG ht (by rw [ax _ (by decide)]; exact t1) (by rw [ax _ (by decide)]; exact t2) (by rw [ax _ (by decide)]; exact t3) (by rw [A, if_pos ⟨rfl, rfl⟩]) yt (by omega) (by rw [yl]; exact t8) (by rw [yl]; exact t9)
      (fun i i0 i1 => by
        rw [ay]
        by_cases q : h x 3 ≤ i ∧ i < h x 3 + n
        · rw [if_pos q]; exact c5 _ (by omega) (by omega)
        · rw [if_neg q, t10 i i0 (by omega)]; exact a6 i i0 (by omega))
      (by
        rw [yl]
        rcases t11 with ⟨q1, q2, q3⟩ | ⟨q1, q2, q3⟩
        · exact Or.inl ⟨q1, q2, fun f => by rw [a0, q3]⟩
        · exact Or.inr ⟨q1, fun f => by rw [a0, q2], q3⟩)
      (fun z z1 z2 z3 => funext fun f => by rw [A, if_neg (fun q => z1 q.1), if_neg (fun q => z2 q.1), t12 z z1 z2 z3])
    have tl : ((txtM (vw h) s).length : Int) = n := by rw [txtM_len, p2]; omega
    refine k h' g1 ⟨g2, by rw [g3, w2, tl], fun f f0 => ?_⟩
    rw [g4 f f0, w2, tl, ay]
    by_cases q : f < h x 3 + n
    · rw [if_pos q]
      by_cases q2 : h x 3 ≤ f
      · rw [if_pos ⟨q2, q⟩, if_pos ⟨q2, q⟩, txtM_get _ _ (by rw [p2]; omega), show ((f - h x 3).toNat : Int) = f - h x 3 by omega, p3 _ (by omega) (by omega)]
      · rw [if_neg (fun z => q2 z.1), if_neg (fun z => q2 z.1), t10 f f0 (by omega), w4 f f0 (by omega)]
    · rw [if_neg q, if_neg (fun z => q z.2), w5 f (by omega) f0]
  refine c_ensure hG ht (by omega) (by omega) (fun _ => ⟨hlc, by omega, by omega⟩) (by omega) (fun q => ⟨rfl, ht, ?_⟩) (fun h3 c q1 q2 q3 q4 gr => ⟨rfl, ?_⟩)
  · have xy : x ≠ h x 0 := fun e => by rw [← e, ht] at a2; cases a2
    have sy : s ≠ h x 0 := fun e => by rw [← e, hs] at a2; cases a2
    exact fin h (h x 0) ht rfl a3 rfl a2 a1.1 xy (Ne.symm sep) sy q a7 (fun i _ _ => rfl) (Or.inl ⟨rfl, rfl, fun _ => rfl⟩) (fun z _ _ _ => rfl)
  · obtain ⟨r1, r2, r3, r4, r5, r6, r7, r8⟩ := gr_sum hG ht gr
    exact ⟨r1, fin h3 (h 0 0) r1 r2 r3 r4 r5 b2 r8 vn sn (by rw [r6]; omega) (by rw [r6]; omega) (fun i i0 i1 => r7 i i0 (by omega)) (Or.inr ⟨rfl, fun f => by rw [r6]; exact gr.2.2.1 f, by rw [r6]; omega, by rw [r6]; omega, by rw [r6]; omega⟩) gr.2.2.2⟩
end JP
