/-! L2: ArrayList.add, clear, new -/
theorem al_grow {h h' : SM} {x n c v : Int} (hG : GI h) (ht : h x (-1) = 4) (hn : h x 2 = n) (hlen : h (h x 1) (-2) = n) (hc : n < c) (hc4 : c ≤ 4 * (c - n)) (hcb : c ≤ 2 * (n + 1) + 40) (hc6 : c < 1000000) (hv : elOK h v)
    (Ex1 : h' x (-1) = 4) (Ex2 : h' x 1 = h 0 0) (Ex3 : h' x 2 = n + 1) (Ey : ∀ f, h' (h 0 0) f = if f = -1 then 104 else if f = -2 then c else if f = n then v else if 0 ≤ f ∧ f < n then h (h x 1) f else 0)
    (E0 : ∀ f, h' 0 f = if f = 0 then h 0 0 + 1 else if f = 1 then h 0 1 + c else h 0 f) (Eo : ∀ z, z ≠ x → z ≠ h 0 0 → z ≠ 0 → h' z = h z) : GI h' ∧ Radd (vw h) x v (vw h') := by
  obtain ⟨a1, a2, a3, a4, a5, a6, a7⟩ := hG.2.1 x ht
  obtain ⟨b1, b2, b3, b4⟩ := hG.1
  have yt : h' (h 0 0) (-1) = 104 := by rw [Ey, if_pos rfl]
  have yl : h' (h 0 0) (-2) = c := by rw [Ey, if_neg (by decide), if_pos rfl]
  have e00 : h' 0 0 = h 0 0 + 1 := by rw [E0, if_pos rfl]
  have e01 : h' 0 1 = h 0 1 + c := by rw [E0, if_neg (by decide), if_pos rfl]
  obtain ⟨g1, g2, g3⟩ := GI_alist (h' := h') (y := h 0 0) (n := n + 1) hG ht Ex1 Ex2 Ex3 yt (by omega) (by rw [yl]; omega) (by rw [yl]; omega)
    (fun i i0 i1 => by
      rw [Ey, if_neg (by omega), if_neg (by omega)]
      split
      · exact hv
      · split
        · rename_i q; exact a5 i q.1 (by rw [hlen]; exact q.2)
        · exact Or.inl rfl) (Or.inr ⟨rfl, e00⟩) Eo (fun f f0 f1 => by rw [E0, if_neg f0, if_neg f1])
  obtain ⟨u1, u2, u3, u4, u5⟩ := vw_al Ex1
  obtain ⟨w1, w2, w3, w4, w5⟩ := vw_al ht
  have v0 := vw_0 hG.1
  have c3 : vw h' x (-3) = c := by rw [u3, Ex2, yl]
  have c3' : vw h x (-3) = n := by rw [w3, hlen]
  refine ⟨g1, ⟨by rw [v0]; exact b1, g2, by rw [u1, w1], fun f f0 f1 => by rw [g3, v0, E0, if_neg f0, if_neg f1], ?_, ?_, ?_, ?_, ?_, ?_⟩, by rw [u2, Ex3, w2, hn], fun i i0 => ?_⟩
  · rw [g3, v0, e00]; omega
  · rw [g3, v0, e00, c3, c3']; omega
  · rw [c3, c3']; omega
  · rw [g3, v0, e01]; omega
  · rw [g3, v0, e01, c3, c3']; omega
  · right; rw [c3, u2, Ex3]; exact hcb
  · rw [w2, hn]
    by_cases q : i < n + 1
    · rw [u4 i i0 (by rw [Ex3]; exact q), Ex2, Ey, if_neg (by omega), if_neg (by omega)]
      by_cases q1 : i = n
      · rw [if_pos q1, if_pos q1]
      · rw [if_neg q1, if_neg q1, if_pos (by omega), w4 i i0 (by omega)]
    · rw [u5 i (by rw [Ex3]; omega) i0, if_neg (by omega), w5 i (by omega) i0]
section JA
variable {G : GM} {d : Nat} {P : Nat → Int → SM → Prop} {h : SM} {x i v : Int}
theorem c_newLen {a b c : Int} (ha : 0 ≤ a) (ha2 : a < 1000000) (hb : 0 < b) (hb2 : b < 1000000) (hc : 0 ≤ c) (hc2 : c < 2000000) (hd : 1 ≤ d) (k : P 0 (a + if b < c then c else b) h) : WP G mJ8_newLength 0 [(0, a), (0, b), (0, c), (9, 0)] [] h d P := by
  have e : wr (a + if b < c then c else b) = a + if b < c then c else b := by
    apply wr_id <;> split <;> omega
  refine wJ8_newLength hd ?_
  rw [e]
  have : 0 < a + (if b < c then c else b) ∧ (a + if b < c then c else b) ≤ 2147483639 := by split <;> omega
  exact ⟨fun q => absurd q (by omega), fun _ => ⟨fun q => absurd q (by omega), fun _ => k⟩⟩
/-- Arrays.copyOf of an Object[]: longer -/
theorem c_copyO {y n : Int} (hB : Bs h) (ht : h y (-1) = 104) (hy : 0 < y) (hl : h y (-2) ≤ n) (hl0 : 0 ≤ h y (-2)) (hel : ∀ i, 0 ≤ i → i < h y (-2) → elOK h (h y i)) (hlc : h 0 0 ≤ 1203200) (hls : h 0 1 + n ≤ 5491882) (hd : 2 ≤ d)
    (k : ∀ h', h' = cpM (al h 104 n n) y 0 (h 0 0) 0 (h y (-2)) → P 0 (h 0 0) h') : WP G mJ10_copyOf_2 0 [(1, y), (0, n)] [] h d P := by
  refine wJ10_copyOf_2 (by omega) ⟨ht, hy, wJ10_copyOf_3 (by omega) ⟨fun q => absurd rfl q, fun _ => ⟨by omega, hlc, hls, fun h4 e4 => ?_⟩⟩⟩
  have old : ∀ z, h z (-1) ≠ 0 → h4 z = h z := fun z hz => by rw [e4]; exact al_old hB hz
  have ey : h4 y = h y := old y (by omega)
  have en : h4 (h 0 0) (-1) = 104 ∧ h4 (h 0 0) (-2) = n := by rw [e4, al_new hB, al_new hB]; simp
  have b2 := hB.2.1
  have em : (if n < h4 y (-2) then n else h4 y (-2)) = h y (-2) := by
    rw [ey]; split <;> omega
  rw [em]
  refine ⟨by rw [ey]; exact ht, en.1, b2, by omega, by omega, hl0, by rw [ey]; omega, by rw [en.2]; omega, fun i i0 i1 => ?_, fun h15 e15 => ⟨rfl, k _ (by rw [e15, e4])⟩⟩
  rw [ey]
  rcases hel i i0 (by omega) with q | ⟨c, q1, q2⟩
  · exact Or.inl q
  · exact Or.inr ⟨c, by rw [old _ (by omega)]; exact q1, q2⟩
set_option maxHeartbeats 1000000 in
theorem c_add (hG : GI h) (ht : h x (-1) = 4) (hv : elOK h v) (hsz : h x 2 < 100000) (hlc : h 0 0 ≤ 1203200) (hls : h 0 1 + 2 * h x 2 + 20 ≤ 5491882) (hd : 8 ≤ d) (k : ∀ h', GI h' → Radd (vw h) x v (vw h') → P 0 1 h') : WP G mJ2_add 0 [(1, x), (1, v)] [] h d P := by
  obtain ⟨a1, a2, a3, a4, a5, a6, a7⟩ := hG.2.1 x ht
  obtain ⟨b1, b2, b3, b4⟩ := id hG.1
  have x0 : 0 < x := by
    rcases Int.lt_trichotomy x 0 with q | q | q
    · have := b4 x q (by omega) (by omega); omega
    · rw [q, b1] at ht; cases ht
    · exact q
  have xy : x ≠ h x 1 := fun e => by rw [← e, ht] at a2; cases a2
  have xn : x ≠ h 0 0 := fun e => by rw [e, b3 _ (Int.le_refl _)] at ht; cases ht
  have ew : wr (h x 2 + 1) = h x 2 + 1 := wr_id (by omega) (by omega)
  refine wJ2_add (by omega) ⟨ht, x0, fun h3 e3 => ?_⟩
  have t3 : h3 x (-1) = 4 := by rw [e3, up_nf _ (by decide)]; exact ht
  have s1 : h3 x 1 = h x 1 := by rw [e3, up_nf _ (by decide)]
  have s2 : h3 x 2 = h x 2 := by rw [e3, up_nf _ (by decide)]
  have o3 : ∀ z, z ≠ x → h3 z = h z := fun z hz => by rw [e3]; exact funext fun f => up_na h hz
  have tg3 : ∀ z, h3 z (-1) = h z (-1) := fun z => by rw [e3]; exact up_nf h (by decide)
  have l3 : ∀ z, h3 z (-2) = h z (-2) := fun z => by rw [e3]; exact up_nf h (by decide)
  have elk : ∀ {w}, elOK h w → elOK h3 w := fun {w} hw => hw.imp id (fun ⟨c, q1, q2⟩ => ⟨c, by rw [tg3]; exact q1, q2⟩)
  have ey : h3 (h x 1) = h (h x 1) := o3 _ (Ne.symm xy)
  have e0 : h3 0 = h 0 := o3 0 (by omega)
  refine ⟨t3, ?_⟩
  rw [s1, s2]
  refine wJ2_add_2 (by omega) ⟨by rw [ey]; exact a2, fun q => ?_, fun q => ?_⟩
  · rw [ey] at q
    have hlt : h x 2 < h (h x 1) (-2) := by omega
    have y0 : 0 < h x 1 := by rcases a1 with r | r
                              · rw [r, a6 r] at hlt; omega
                              · omega
    refine ⟨a3, by rw [ey]; exact hlt, y0, elk hv, fun h5 e5 => ⟨by rw [e5, up_nf _ (by omega)]; exact t3, x0, fun h' e' => ⟨rfl, ?_⟩⟩⟩
    rw [ew] at e'
    obtain ⟨g1, g2, g3, g4⟩ := al_same (h' := h') (n := h x 2 + 1) (j := h x 2) (v := v) hG ht (by omega) (by omega) a3 hlt hv (fun z f q => by
      rw [e', e5, e3]; unfold up
      by_cases e2 : z = x ∧ f = 2
      · simp only [if_pos e2]
      · simp only [if_neg e2]
        by_cases e1 : z = h x 1 ∧ f = h x 2
        · simp only [if_pos e1]
        · simp only [if_neg e1]
          rw [if_neg (by rcases q with q | q; exact fun z => q z.2; exact fun z => q z.1)])
    obtain ⟨w1, w2, w3, w4, w5⟩ := vw_al ht
    refine k h' g1 ⟨g2, by rw [g3, w2], fun f f0 => ?_⟩
    rw [g4 f f0, w2]
    by_cases q : f < h x 2 + 1
    · rw [if_pos q]
      by_cases q2 : f = h x 2
      · rw [if_pos q2, if_pos q2]
      · rw [if_neg q2, if_neg q2, w4 f f0 (by omega)]
    · rw [if_neg q, if_neg (by omega), w5 f (by omega) f0]
  · rw [ey] at q
    have B3 : Bs h3 := ⟨by rw [tg3]; exact b1, by rw [e0]; exact b2, fun z hz => by rw [e0] at hz; rw [tg3]; exact b3 z hz, fun z hz => by rw [tg3]; exact b4 z hz⟩
    have hnw : ∀ z, h z (-1) ≠ 0 → z ≠ h 0 0 := fun z hz e => hz (by rw [e]; exact b3 _ (Int.le_refl _))
    refine ⟨t3, wJ2_grow (by omega) ⟨t3, ?_⟩⟩
    rw [s2, ew]
    have fin : ∀ (c : Int) (h14 : SM), h x 2 < c → c ≤ 4 * (c - h x 2) → c ≤ 2 * (h x 2 + 1) + 40 → c < 1000000 →
        (∀ f, h14 x f = if f = 1 then h 0 0 else h3 x f) → (∀ f, h14 (h 0 0) f = if f = -1 then 104 else if f = -2 then c else if 0 ≤ f ∧ f < h x 2 then h (h x 1) f else 0) → (∀ f, h14 0 f = if f = 0 then h 0 0 + 1 else if f = 1 then h 0 1 + c else h 0 f) → (∀ z, z ≠ x → z ≠ h 0 0 → z ≠ 0 → h14 z = h z) →
        (h14 (h 0 0) (-1) = 104) ∧ (0 ≤ h x 2) ∧ (h x 2 < h14 (h 0 0) (-2)) ∧ (0 < h 0 0) ∧ (elOK h14 v) ∧ (∀ h19, h19 = up h14 (h 0 0) (h x 2) v → ((h19 x (-1) = 4) ∧ (0 < x) ∧ (∀ h24, h24 = up h19 x 2 (h x 2 + 1) → (0 = 0 ∧ P 0 1 h24)))) := by
      intro c h14 k1 k2 k3 k4 F1 F2 F3 F4
      have n0 : h 0 0 ≠ x := Ne.symm xn
      refine ⟨by rw [F2, if_pos rfl], a3, by rw [F2, if_neg (by decide), if_pos rfl]; exact k1, b2, ?_, fun h19 e19 => ⟨?_, x0, fun h24 e24 => ⟨rfl, ?_⟩⟩⟩
      · rcases hv with r | ⟨cc, r1, r2⟩
        · exact Or.inl r
        · refine Or.inr ⟨cc, ?_, r2⟩
          by_cases vx : v = x
          · rw [vx, F1, if_neg (by decide), tg3, ← vx]; exact r1
          · rw [F4 v vx (hnw v (by omega)) (fun e => by rw [e, b1] at r1; omega)]; exact r1
      · rw [e19, up_na _ xn, F1, if_neg (by decide)]; exact t3
      · have A : ∀ z f, h24 z f = if z = x ∧ f = 2 then h x 2 + 1 else if z = h 0 0 ∧ f = h x 2 then v else h14 z f := fun z f => by rw [e24, e19]; rfl
        obtain ⟨g1, g2⟩ := al_grow (h' := h24) (n := h x 2) (c := c) (v := v) hG ht rfl (by rw [← q]) k1 k2 k3 k4 hv
          (by rw [A, if_neg (by omega), if_neg (by omega), F1, if_neg (by decide)]; exact t3)
          (by rw [A, if_neg (by omega), if_neg (fun q => xn q.1), F1, if_pos rfl])
          (by rw [A, if_pos ⟨rfl, rfl⟩])
          (fun f => by
            rw [A, if_neg (fun q => n0 q.1)]
            by_cases f1 : f = h x 2
            · rw [if_pos ⟨rfl, f1⟩, if_neg (by omega), if_neg (by omega), if_pos f1]
            · rw [if_neg (fun q => f1 q.2), F2, if_neg f1])
          (fun f => by rw [A, if_neg (by omega), if_neg (by omega), F3])
          (fun z z1 z2 z3 => funext fun f => by rw [A, if_neg (fun q => z1 q.1), if_neg (fun q => z2 q.1), F4 z z1 z2 z3])
        exact k h24 g1 g2
    have big : 0 < h x 1 → WP G mJ8_newLength 0 [(0, (h3 (h3 x 1) (-2))), (0, (wr (h x 2 + 1 - (h3 (h3 x 1) (-2))))), (0, (bShr (h3 (h3 x 1) (-2)) 1)), (9, 0)] [] h3 (d - 1 - 1 - 1 - 1) (fun k v3 h4 => k = 0 ∧ ((h4 x (-1) = 4) ∧ (WP G mJ10_copyOf_2 0 [(1, (h4 x 1)), (0, v3)] [] h4 (d - 1 - 1 - 1 - 1) (fun k v6 h7 => k = 0 ∧ ((h7 x (-1) = 4) ∧ (0 < x) ∧ (∀ h10, h10 = up h7 x 1 v6 → (0 = 0 ∧ 0 = 0 ∧ ((h10 v6 (-1) = 104) ∧ (0 ≤ h x 2) ∧ (h x 2 < h10 v6 (-2)) ∧ (0 < v6) ∧ (elOK h10 v) ∧ (∀ h19, h19 = up h10 v6 (h x 2) v → ((h19 x (-1) = 4) ∧ (0 < x) ∧ (∀ h24, h24 = up h19 x 2 (h x 2 + 1) → (0 = 0 ∧ P 0 1 h24)))))))))))) := by
      intro y0
      rw [s1, ey, ← q, show h x 2 + 1 - h x 2 = 1 by omega, wr_id (by omega) (by omega), bShr1 a3 (by omega)]
      refine c_newLen a3 (by omega) (by omega) (by omega) (by omega) (by omega) (by omega) ⟨rfl, t3, ?_⟩
      rw [s1]
      have hc : ∃ c, (h x 2 + if 1 < h x 2 / 2 then h x 2 / 2 else 1) = c ∧ h x 2 < c ∧ c ≤ 4 * (c - h x 2) ∧ c ≤ 2 * (h x 2 + 1) + 40 ∧ c < 1000000 ∧ c ≤ 2 * h x 2 + 20 := by
        refine ⟨_, rfl, ?_⟩
        split <;> omega
      obtain ⟨c, ec, k1, k2, k3, k4, k5⟩ := hc
      rw [ec]
      refine c_copyO B3 (by rw [ey]; exact a2) y0 (by rw [ey]; omega) (by rw [ey]; omega) (fun i i0 i1 => by rw [ey] at i1 ⊢; exact elk (a5 i i0 i1)) (by rw [e0]; exact hlc) (by rw [e0]; omega) (by omega) (fun h7 e7 => ?_)
      rw [e0] at e7 ⊢
      rw [ey, ← q] at e7
      have x7 : ∀ f, h7 x f = h3 x f := fun f => by
        rw [e7]; unfold cpM
        rw [if_neg (fun q => xn q.1)]
        rw [al_old B3 (by omega)]
      refine ⟨rfl, by rw [x7]; exact t3, x0, fun h10 e10 => ⟨rfl, rfl, ?_⟩⟩
      refine fin c h10 k1 k2 k3 k4 (fun f => ?_) (fun f => ?_) (fun f => ?_) (fun z z1 z2 z3 => ?_)
      · rw [e10]; unfold up
        by_cases f1 : f = 1
        · rw [if_pos ⟨rfl, f1⟩, if_pos f1]
        · rw [if_neg (fun q => f1 q.2), if_neg f1, x7]
      · rw [e10, up_na _ (Ne.symm xn), e7]
        unfold cpM
        by_cases fb : 0 ≤ f ∧ f < h x 2
        · rw [if_pos ⟨rfl, fb.1, by omega⟩, if_neg (by omega), if_neg (by omega), if_pos fb, al_old B3 (by rw [tg3]; omega), ey]
          congr 1; omega
        · rw [if_neg (fun q => fb ⟨q.2.1, by omega⟩)]
          rw [show h 0 0 = h3 0 0 by rw [e0], al_new B3]
          by_cases f1 : f = -1
          · rw [if_pos f1, if_pos f1]
          · rw [if_neg f1, if_neg f1]
            by_cases f2 : f = -2
            · rw [if_pos f2, if_pos f2]
            · rw [if_neg f2, if_neg f2, if_neg fb]
      · rw [e10, up_na _ (by omega), e7]
        unfold cpM
        rw [if_neg (by omega)]
        unfold al
        rw [if_pos rfl, e0]
      · funext f
        rw [e10, up_na _ z1, e7]
        unfold cpM
        rw [if_neg (fun q => z2 q.1)]
        unfold al
        rw [if_neg z3, e0, if_neg z2, o3 z z1]
    refine wJ2_grow_2 (by omega) ⟨t3, by rw [s1, ey]; exact a2, fun r => big (by
      rw [s1, ey, ← q] at r
      rcases a1 with r1 | r1
      · rw [r1, a6 r1] at q; omega
      · omega), fun r => ?_⟩
    rw [s1, ey, ← q] at r
    refine ⟨fun r2 => ?_, fun r2 => ?_⟩
    · have z0 : h x 2 = 0 := by omega
      have e10 : (if (10 : Int) < h x 2 + 1 then (h x 2 + 1 : Int) else 10) = 10 := by rw [if_neg (by omega)]
      rw [e10]
      refine ⟨by decide, by rw [e0]; exact hlc, by rw [e0]; omega, fun h15 e15 => ?_⟩
      have x15 : ∀ f, h15 x f = h3 x f := fun f => by rw [e15, al_old B3 (by omega)]
      refine ⟨by rw [x15]; exact t3, x0, fun h19 e19 => ⟨rfl, rfl, ?_⟩⟩
      rw [e0] at e19 ⊢
      refine fin 10 h19 (by omega) (by omega) (by omega) (by omega) (fun f => ?_) (fun f => ?_) (fun f => ?_) (fun z z1 z2 z3 => ?_)
      · rw [e19]; unfold up
        by_cases f1 : f = 1
        · rw [if_pos ⟨rfl, f1⟩, if_pos f1]
        · rw [if_neg (fun q => f1 q.2), if_neg f1, x15]
      · rw [e19, up_na _ (Ne.symm xn), e15, show h 0 0 = h3 0 0 by rw [e0], al_new B3]
        by_cases f1 : f = -1
        · rw [if_pos f1, if_pos f1]
        · rw [if_neg f1, if_neg f1]
          by_cases f2 : f = -2
          · rw [if_pos f2, if_pos f2]
          · rw [if_neg f2, if_neg f2, if_neg (by omega)]
      · rw [e19, up_na _ (by omega), e15]
        unfold al
        rw [if_pos rfl, e0]
      · funext f
        rw [e19, up_na _ z1, e15]
        unfold al
        rw [if_neg z3, e0, if_neg z2, o3 z z1]
    · rcases a1 with r3 | r3
      · exact absurd (by rw [s1]; exact r3) r2
      · exact big r3.1
end JA
