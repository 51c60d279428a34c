/-! L2: clear; new ArrayList(), new StringBuilder(); append(String) -/
def zer (h : SM) (y i n : Int) : SM := fun z f => if z = y ∧ i ≤ f ∧ f < n then 0 else h z f
section JM
variable {G : GM} {d : Nat} {P : Nat → Int → SM → Prop} {h : SM} {x i v a : Int}
theorem clr_loop {y n : Int} (hy : 0 < y) (hn : n < 1000000) (hd : 1 ≤ d) : ∀ (k : Nat) (h : SM) (i : Int), 0 ≤ i → n - i ≤ k → h y (-1) = 104 → n ≤ h y (-2) → P 0 0 (zer h y i n) → WP G mJ2_clear 27 [(9, 0), (1, y), (0, n), (0, i)] [] h d P := by
  intro k
  induction k with
  | zero =>
    intro h i i0 hk ht hl hp
    refine wJ2_clear_27 hd ⟨fun _ => ?_, fun q => absurd q (by omega)⟩
    have : zer h y i n = h := by funext z f; unfold zer; rw [if_neg (by omega)]
    rw [this] at hp; exact hp
  | succ k ih =>
    intro h i i0 hk ht hl hp
    refine wJ2_clear_27 hd ⟨fun q => ?_, fun q => ⟨ht, i0, by omega, hy, Or.inl rfl, fun h5 e5 => ?_⟩⟩
    · have : zer h y i n = h := by funext z f; unfold zer; rw [if_neg (by omega)]
      rw [this] at hp; exact hp
    · rw [wr_id (by omega) (by omega)]
      refine ih h5 (i + 1) (by omega) (by omega) (by rw [e5, up_nf _ (by omega)]; exact ht) (by rw [e5, up_nf _ (by omega)]; exact hl) ?_
      have : zer h5 y (i + 1) n = zer h y i n := by
        funext z f; unfold zer; rw [e5]; unfold up
        by_cases q1 : z = y ∧ i + 1 ≤ f ∧ f < n
        · rw [if_pos q1, if_pos ⟨q1.1, by omega, q1.2.2⟩]
        · rw [if_neg q1]
          by_cases q2 : z = y ∧ f = i
          · rw [if_pos q2, if_pos ⟨q2.1, by omega, by omega⟩]
          · rw [if_neg q2, if_neg (fun q => by
              rcases Int.lt_or_le f (i + 1) with r | r
              · exact q2 ⟨q.1, by omega⟩
              · exact q1 ⟨q.1, r, q.2.2⟩)]
      rw [this]; exact hp
/-- only the count of changes is written -/
theorem al_mod {h h' : SM} {x : Int} (hG : GI h) (ht : h x (-1) = 4) (E : ∀ z f, f ≠ 0 ∨ z ≠ x → h' z f = h z f) : GI h' ∧ vw h' = vw h := by
  obtain ⟨B, A, S, T, Q, D⟩ := hG
  have x0 : x ≠ 0 := fun e => by rw [e, B.1] at ht; cases ht
  have eo : ∀ z, z ≠ x → h' z = h z := fun z hz => funext fun f => E z f (Or.inr hz)
  have ef : ∀ z f, f ≠ 0 → h' z f = h z f := fun z f hf => E z f (Or.inl hf)
  have e0 := eo 0 (Ne.symm x0)
  have et : ∀ z, h' z (-1) = h z (-1) := fun z => ef z _ (by decide)
  have o4 : ∀ z, h z (-1) = 104 ∨ h z (-1) = 102 ∨ h z (-1) = 6 ∨ h z (-1) = 13 → h' z = h z := fun z hz => eo z (fun e => by rw [e, ht] at hz; omega)
  have elk : ∀ v, elOK h v → elOK h' v := fun v hv => hv.imp id (fun ⟨c, q1, q2⟩ => ⟨c, by rw [et]; exact q1, q2⟩)
  constructor
  · refine ⟨⟨by rw [et]; exact B.1, by rw [e0]; exact B.2.1, fun z hz => by rw [e0] at hz; rw [et]; exact B.2.2.1 z hz, fun z hz => by rw [et]; exact B.2.2.2 z hz⟩, fun z hz => ?_, fun z hz => ?_, fun z hz => ?_, ⟨fun z w hz hw hne he => ?_, fun z w hz hw hne => ?_⟩, gDg_of D (fun z hz => o4 z (by have := gDg_t D hz; omega))⟩
    · rw [et] at hz
      obtain ⟨c1, c2, c3, c4, c5, c6, c7⟩ := A z hz
      rw [ef z 1 (by decide), ef z 2 (by decide), e0, o4 _ (Or.inl c2)]
      refine ⟨c1, c2, c3, c4, fun i i0 i1 => elk _ (c5 i i0 i1), fun q => ?_, c7⟩
      rw [o4 _ (Or.inl D.1.1)]; exact D.1.2
    · rw [et] at hz
      obtain ⟨c1, c2, c3⟩ := S z hz
      rw [o4 z (by omega), e0, o4 (h z 0) (by omega)]; exact ⟨c1, c2, c3⟩
    · rw [et] at hz
      obtain ⟨c1, c2, c3⟩ := T z hz
      rw [o4 z (by omega), e0, o4 (h z 0) (by omega)]; exact ⟨c1, c2, c3⟩
    · rw [et] at hz hw
      rw [ef z 1 (by decide), ef w 1 (by decide)] at he
      rw [ef z 1 (by decide)]; exact Q.1 z w hz hw hne he
    · rw [et] at hz hw
      rw [o4 z (by omega), o4 w (by omega)]; exact Q.2 z w hz hw hne
  · funext z f
    by_cases hz : z = x
    · subst hz
      unfold vw
      rw [et, if_pos ht, if_pos ht, ef z 1 (by decide), ef z 2 (by decide), o4 _ (Or.inl (A z ht).2.1)]
    · rw [vw_congr (eo z hz) (fun q => o4 _ (Or.inl (A z q).2.1)) (fun q => o4 _ (by
        rcases q with q | q
        · exact Or.inr (Or.inl (S z q).2.1)
        · exact Or.inr (Or.inl (T z q).2.1)))]
theorem Lw.refl {m : SM} (h0 : m 0 (-1) = 0) (x : Int) : Lw m x m := ⟨h0, fun _ _ _ => rfl, rfl, fun _ _ _ => rfl, Int.le_refl _, Int.le_refl _, Int.le_refl _, Int.le_refl _, Int.le_refl _, Or.inl (Int.le_refl _)⟩
theorem c_clear (hG : GI h) (ht : h x (-1) = 4) (hd : 1 ≤ d) (k : ∀ h', GI h' → Rclr (vw h) x 0 (vw h') → P 0 0 h') : WP G mJ2_clear 0 [(1, x), (9, 0), (9, 0), (9, 0)] [] h d P := by
  obtain ⟨a1, a2, a3, a4, a5, a6, a7⟩ := hG.2.1 x ht
  obtain ⟨b1, b2, b3, b4⟩ := id hG.1
  have x0 : 0 < x := by
    rcases Int.lt_trichotomy x 0 with q | q | q
    · have := b4 x q (by omega) (by omega); omega
    · rw [q, b1] at ht; cases ht
    · exact q
  have xy : x ≠ h x 1 := fun e => by rw [← e, ht] at a2; cases a2
  obtain ⟨w1, w2, w3, w4, w5⟩ := vw_al ht
  have v0 := vw_0 hG.1
  refine wJ2_clear (by omega) ⟨ht, x0, fun h3 e3 => ⟨by rw [e3, up_nf _ (by decide)]; exact ht, x0, fun h7 e7 => ?_⟩⟩
  have s1 : h3 x 1 = h x 1 := by rw [e3, up_nf _ (by decide)]
  have s2 : h3 x 2 = h x 2 := by rw [e3, up_nf _ (by decide)]
  rw [s1, s2]
  have A7 : ∀ z f, f ≠ 0 ∨ z ≠ x → h7 z f = if z = x ∧ f = 2 then 0 else h z f := fun z f q => by
    rw [e7, e3]; unfold up
    by_cases e : z = x ∧ f = 2
    · simp only [if_pos e]
    · simp only [if_neg e]
      rw [if_neg (by rcases q with q | q; exact fun z => q z.2; exact fun z => q z.1)]
  have y7 : h7 (h x 1) = h (h x 1) := funext fun f => by rw [A7 _ f (Or.inr (Ne.symm xy)), if_neg (fun q => xy q.1.symm)]
  rcases a1 with r | r
  · have z2 : h x 2 = 0 := by have := a6 r; rw [r] at a4; omega
    rw [z2]
    refine wJ2_clear_27 (by omega) ⟨fun _ => ?_, fun q => absurd q (by omega)⟩
    obtain ⟨g1, g2⟩ := al_mod (h' := h7) hG ht (fun z f q => by
      rw [A7 z f q]
      by_cases e : z = x ∧ f = 2
      · rw [if_pos e, e.1, e.2, z2]
      · rw [if_neg e])
    refine k h7 g1 (by rw [g2]; exact ⟨Lw.refl (by rw [v0]; exact b1) x, by rw [w2, z2], fun i i0 => by rw [if_neg (by omega), w5 i (by omega) i0]⟩)
  · refine clr_loop r.1 (by omega) (by omega) (h x 2).toNat h7 0 (by omega) (by omega) (by rw [y7]; exact a2) (by rw [y7]; exact a4) ?_
    have A : ∀ z f, f ≠ 0 ∨ z ≠ x → zer h7 (h x 1) 0 (h x 2) z f = if z = x ∧ f = 2 then 0 else if z = h x 1 ∧ 0 ≤ f ∧ f < h x 2 then 0 else h z f := fun z f q => by
      unfold zer
      by_cases e1 : z = h x 1 ∧ 0 ≤ f ∧ f < h x 2
      · rw [if_pos e1, if_pos e1]; split <;> rfl
      · rw [if_neg e1, if_neg e1, A7 z f q]
    have ax : ∀ f, f ≠ 0 → f ≠ 2 → zer h7 (h x 1) 0 (h x 2) x f = h x f := fun f f0 f2 => by rw [A x f (Or.inl f0), if_neg (fun q => f2 q.2), if_neg (fun q => xy q.1)]
    have ay : ∀ f, zer h7 (h x 1) 0 (h x 2) (h x 1) f = if 0 ≤ f ∧ f < h x 2 then 0 else h (h x 1) f := fun f => by
      rw [A _ f (Or.inr (Ne.symm xy)), if_neg (fun q => xy q.1.symm)]
      by_cases q : 0 ≤ f ∧ f < h x 2
      · rw [if_pos ⟨rfl, q⟩, if_pos q]
      · rw [if_neg (fun z => q z.2), if_neg q]
    have a0 : ∀ f, zer h7 (h x 1) 0 (h x 2) 0 f = h 0 f := fun f => by rw [A 0 f (Or.inr (by omega)), if_neg (by omega), if_neg (by omega)]
    obtain ⟨g1, g2, g3⟩ := GI_alist (h' := zer h7 (h x 1) 0 (h x 2)) (y := h x 1) (n := 0) hG ht (by rw [ax _ (by decide) (by decide)]; exact ht) (ax 1 (by decide) (by decide)) (by rw [A x 2 (Or.inl (by decide)), if_pos ⟨rfl, rfl⟩]) (by rw [ay, if_neg (by omega)]; exact a2) (by omega) (by rw [ay, if_neg (by omega)]; omega) (by rw [ay, if_neg (by omega)]; exact a7)
      (fun i i0 i1 => by rw [ay]; split; exact Or.inl rfl; rw [ay, if_neg (by omega)] at i1; exact a5 i i0 i1) (Or.inl ⟨rfl, r.1, a0 0⟩) (fun z z1 z2 z3 => funext fun f => by rw [A z f (Or.inr z1), if_neg (fun q => z1 q.1), if_neg (fun q => z2 q.1)]) (fun f _ _ => a0 f)
    have tx' : zer h7 (h x 1) 0 (h x 2) x (-1) = 4 := by rw [ax _ (by decide) (by decide)]; exact ht
    obtain ⟨u1, u2, u3, u4, u5⟩ := vw_al tx'
    have ux2 : zer h7 (h x 1) 0 (h x 2) x 2 = 0 := by rw [A x 2 (Or.inl (by decide)), if_pos ⟨rfl, rfl⟩]
    have c3 : vw (zer h7 (h x 1) 0 (h x 2)) x (-3) = vw h x (-3) := by rw [u3, w3, ax 1 (by decide) (by decide), ay, if_neg (by omega)]
    refine k _ g1 ⟨⟨by rw [v0]; exact b1, g2, by rw [u1, w1], fun f _ _ => by rw [g3, v0, a0], ?_, ?_, ?_, ?_, ?_, ?_⟩, by rw [u2, ux2], fun i i0 => ?_⟩
    · rw [g3, v0, a0]; exact Int.le_refl _
    · rw [g3, v0, a0, c3]; exact Int.le_refl _
    · rw [c3]; exact Int.le_refl _
    · rw [g3, v0, a0]; exact Int.le_refl _
    · rw [g3, v0, a0, c3]; exact Int.le_refl _
    · left; rw [c3]; exact Int.le_refl _
    · rw [if_neg (by omega), u5 i (by rw [ux2]; exact i0) i0]
/-- new ArrayList() behind its 'new' -/
theorem c_newAL (hG : GI h) (hd : 4 ≤ d) (k : ∀ h', GI h' → vw h' = al (vw h) 4 0 3 → P 0 0 h') {h1 : SM} (e1 : h1 = al h 4 0 3) : WP G mJ2_init 0 [(1, h 0 0)] [] h1 d P := by
  obtain ⟨B, A, S, T, Q, D⟩ := id hG
  obtain ⟨b1, b2, b3, b4⟩ := id B
  have n1 : ∀ f, h1 (h 0 0) f = if f = -1 then 4 else if f = -2 then 0 else 0 := fun f => by rw [e1]; exact al_new B f
  refine wJ2_init (by omega) ⟨by omega, wJ1_init (by omega) ⟨by omega, wJ0_init (by omega) ⟨by omega, rfl, by rw [n1, if_pos rfl], b2, fun h6 e6 => ⟨rfl, by rw [e6, up_nf _ (by decide), n1, if_pos rfl], b2, fun h' e' => ?_⟩⟩⟩⟩
  have AA : ∀ z f, h' z f = if z = h 0 0 ∧ f = 1 then -20 else if z = h 0 0 ∧ f = 0 then 0 else h1 z f := fun z f => by rw [e', e6]; rfl
  have ns : ∀ f, h' (h 0 0) f = if f = 1 then -20 else if f = -1 then 4 else 0 := fun f => by
    rw [AA, n1]
    by_cases f1 : f = 1
    · rw [if_pos ⟨rfl, f1⟩, if_pos f1]
    · rw [if_neg (fun q => f1 q.2), if_neg f1]
      by_cases f0 : f = 0
      · rw [if_pos ⟨rfl, f0⟩, if_neg (by omega)]
      · rw [if_neg (fun q => f0 q.2)]
        by_cases fm : f = -1
        · rw [if_pos fm, if_pos fm]
        · rw [if_neg fm, if_neg fm]; split <;> rfl
  have f1 := b3 (h 0 0) (Int.le_refl _)
  have oo : ∀ z, z ≠ h 0 0 → h' z = h1 z := fun z hz => funext fun f => by rw [AA, if_neg (fun q => hz q.1), if_neg (fun q => hz q.1)]
  have ho : ∀ z, z ≠ h 0 0 → z ≠ 0 → h' z = h z := fun z hz z0 => by rw [oo z hz, e1]; funext f; unfold al; rw [if_neg z0, if_neg hz]
  have old : ∀ z, h z (-1) ≠ 0 → h' z = h z := fun z hz => ho z (fun e => hz (by rw [e]; exact f1)) (fun e => hz (by rw [e]; exact b1))
  have z0 : ∀ f, h' 0 f = if f = 0 then h 0 0 + 1 else if f = 1 then h 0 1 + 3 else h 0 f := fun f => by rw [oo 0 (by omega), e1]; unfold al; rw [if_pos rfl]
  have e0t : h' 0 (-1) = 0 := by rw [z0, if_neg (by decide), if_neg (by decide)]; exact b1
  have tg : ∀ z, z ≠ h 0 0 → h' z (-1) = h z (-1) := fun z z1 => by
    by_cases e0 : z = 0
    · rw [e0, e0t, b1]
    · rw [ho z z1 e0]
  have bk : ∀ z k, h' z (-1) = k → k ≠ 4 → h z (-1) = k := fun z k hz k2 => by
    rw [← tg z (fun e => k2 (by rw [← hz, e, ns, if_neg (by decide), if_pos rfl]))]; exact hz
  have elk : ∀ v, elOK h v → elOK h' v := fun v hv => hv.imp id (fun ⟨c, q1, q2⟩ => ⟨c, by rw [old v (by omega)]; exact q1, q2⟩)
  have d20 : h' (-20) = h (-20) := old _ (by rw [D.1.1]; decide)
  have e00 : h' 0 0 = h 0 0 + 1 := by rw [z0, if_pos rfl]
  have B' : Bs h' := ⟨e0t, by omega, fun z hz => by rw [tg z (by omega)]; exact b3 z (by omega), fun z hz q1 q2 => by rw [tg z (by omega)] at q1 q2 ⊢; exact b4 z hz q1 q2⟩
  refine k h' ⟨B', fun z hz => ?_, fun z hz => ?_, fun z hz => ?_, ⟨fun z w hz hw hne he => ?_, fun z w hz hw hne => ?_⟩, gDg_of D (fun z hz => old z (by rcases gDg_t D hz with q | q | q <;> omega))⟩ ?_
  · by_cases e : z = h 0 0
    · have n2 : h' z 1 = -20 := by rw [e, ns, if_pos rfl]
      have n3 : h' z 2 = 0 := by rw [e, ns, if_neg (by decide), if_neg (by decide)]
      rw [n2, n3, d20]
      exact ⟨Or.inl rfl, D.1.1, by omega, by rw [D.1.2]; omega, fun i i0 i1 => by rw [D.1.2] at i1; omega, fun _ => D.1.2, by rw [D.1.2]; omega⟩
    · have hz' : h z (-1) = 4 := by rw [← tg z e]; exact hz
      obtain ⟨c1, c2, c3, c4, c5, c6, c7⟩ := A z hz'
      rw [old z (by omega), old (h z 1) (by omega), d20]
      exact ⟨by omega, c2, c3, c4, fun i i0 i1 => elk _ (c5 i i0 i1), c6, c7⟩
  · have hz' := bk z 6 hz (by decide)
    obtain ⟨c1, c2, c3⟩ := S z hz'
    rw [old z (by omega), old (h z 0) (by omega)]
    exact ⟨by omega, c2, c3⟩
  · have hz' := bk z 13 hz (by decide)
    obtain ⟨c1, c2, c3⟩ := T z hz'
    rw [old z (by omega), old (h z 0) (by omega)]
    exact ⟨by omega, c2, c3⟩
  · by_cases e : z = h 0 0
    · rw [e, ns, if_pos rfl]; decide
    · by_cases ew : w = h 0 0
      · rw [he, ew, ns, if_pos rfl]; decide
      · have hz' : h z (-1) = 4 := by rw [← tg z e]; exact hz
        have hw' : h w (-1) = 4 := by rw [← tg w ew]; exact hw
        rw [old z (by omega), old w (by omega)] at he
        rw [old z (by omega)]; exact Q.1 z w hz' hw' hne he
  · have hz' := bk z 6 hz (by decide)
    have hw' : h w (-1) = 6 ∨ h w (-1) = 13 := hw.imp (fun q => bk w 6 q (by decide)) (fun q => bk w 13 q (by decide))
    rw [old z (by omega), old w (by omega)]; exact Q.2 z w hz' hw' hne
  · have v0 := vw_0 B
    funext z f
    by_cases e0 : z = 0
    · rw [e0, vw_0 B', z0]; unfold al; rw [if_pos rfl, v0, v0, v0]
    · by_cases e : z = h 0 0
      · have ht' : h' z (-1) = 4 := by rw [e, ns, if_neg (by decide), if_pos rfl]
        have n2 : h' z 1 = -20 := by rw [e, ns, if_pos rfl]
        have n3 : h' z 2 = 0 := by rw [e, ns, if_neg (by decide), if_neg (by decide)]
        have : al (vw h) 4 0 3 z f = if f = -1 then 4 else if f = -2 then 0 else 0 := by unfold al; rw [if_neg e0, v0, if_pos e]
        rw [this]
        unfold vw
        rw [if_pos ht', n2, n3, d20, D.1.2]
        by_cases fa : f = -1
        · rw [if_pos fa, if_pos fa]
        · rw [if_neg fa, if_neg fa]
          by_cases fb : f = -2
          · rw [if_pos fb, if_pos fb]
          · rw [if_neg fb, if_neg fb]
            by_cases fc : f = -3
            · rw [if_pos fc]
            · rw [if_neg fc, if_neg (by omega)]
      · have : al (vw h) 4 0 3 z f = vw h z f := by unfold al; rw [if_neg e0, v0, if_neg e]
        rw [this, vw_congr (ho z e e0) (fun q => old _ (by rw [(A z q).2.1]; decide)) (fun q => old _ (by
          rcases q with q | q
          · rw [(S z q).2.1]; decide
          · rw [(T z q).2.1]; decide))]
end JM
