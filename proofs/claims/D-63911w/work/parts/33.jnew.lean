/-! L2: new lists, builders, texts; clear -/
theorem GI_new2 {h h' : SM} {t c n : Int} (hG : GI h) (ht : t = 6 ∨ t = 13) (e1 : h' (h 0 0) (-1) = t) (e2 : h' (h 0 0) 0 = h 0 0 + 1) (e3 : h' (h 0 0) 1 = 0) (e4 : t = 6 → h' (h 0 0) 3 = n) (hn0 : 0 ≤ n) (hn : n ≤ c) (e5 : h' (h 0 0 + 1) (-1) = 102) (e6 : h' (h 0 0 + 1) (-2) = c) (hc : c < 1000000)
    (hb : ∀ i, 0 ≤ i → i < (if t = 6 then n else c) → 0 ≤ h' (h 0 0 + 1) i ∧ h' (h 0 0 + 1) i ≤ 127) (e00 : h' 0 0 = h 0 0 + 2) (h00 : ∀ f, f ≠ 0 → f ≠ 1 → h' 0 f = h 0 f) (ho : ∀ z, z ≠ h 0 0 → z ≠ h 0 0 + 1 → z ≠ 0 → h' z = h z) :
    GI h' ∧ (∀ z, z ≠ h 0 0 → z ≠ 0 → vw h' z = vw h z) ∧ (∀ f, vw h' 0 f = h' 0 f) := by
  obtain ⟨B, A, S, T, Q, D⟩ := hG
  obtain ⟨b1, b2, b3, b4⟩ := id B
  have e0t : h' 0 (-1) = 0 := by rw [h00 (-1) (by decide) (by decide)]; exact b1
  have f1 := b3 (h 0 0) (Int.le_refl _)
  have f2 := b3 (h 0 0 + 1) (by omega)
  have old : ∀ z, h z (-1) ≠ 0 → h' z = h z := fun z hz => ho z (fun e => hz (by rw [e]; exact f1)) (fun e => hz (by rw [e]; exact f2)) (fun e => hz (by rw [e]; exact b1))
  have tg : ∀ z, z ≠ h 0 0 → z ≠ h 0 0 + 1 → h' z (-1) = h z (-1) := fun z z1 z2 => by
    by_cases e0 : z = 0
    · rw [e0, e0t, b1]
    · rw [ho z z1 z2 e0]
  have bk : ∀ z k, h' z (-1) = k → k ≠ 0 → k ≠ 102 → k ≠ t → h z (-1) = k := fun z k hz k0 k1 k2 => by
    rw [← tg z (fun e => k2 (by rw [← hz, e]; exact e1)) (fun e => k1 (by rw [← hz, e]; exact e5))]; exact hz
  have bk6 : ∀ z k, h' z (-1) = k → k = 6 ∨ k = 13 → z = h 0 0 ∨ (h z (-1) = k ∧ h' z = h z ∧ h' (h z 0) = h (h z 0)) := fun z k hz hk => by
    by_cases e : z = h 0 0
    · exact Or.inl e
    · right
      have hz' : h z (-1) = k := by rw [← tg z e (fun e => by rw [e, e5] at hz; omega)]; exact hz
      have : h (h z 0) (-1) = 102 := by
        rcases hk with q | q
        · exact (S z (by rw [hz', q])).2.1
        · exact (T z (by rw [hz', q])).2.1
      exact ⟨hz', old z (by omega), old _ (by omega)⟩
  have elk : ∀ v, elOK h v → elOK h' v := fun v hv => hv.imp id (fun ⟨c, q1, q2⟩ => ⟨c, by rw [old v (by omega)]; exact q1, q2⟩)
  refine ⟨⟨⟨e0t, by omega, fun z hz => ?_, fun z hz q1 q2 => ?_⟩, fun z hz => ?_, fun z hz => ?_, fun z hz => ?_, ⟨fun z w hz hw hne he => ?_, fun z w hz hw hne he => ?_⟩, gDg_of D (fun z hz => old z (by rcases gDg_t D hz with q | q | q <;> omega))⟩, fun z zs z0 => ?_, fun f => ?_⟩
  · rw [tg z (by omega) (by omega)]; exact b3 z (by omega)
  · rw [tg z (by omega) (by omega)] at q1 q2 ⊢; exact b4 z hz q1 q2
  · have hz' := bk z 4 hz (by decide) (by decide) (by omega)
    obtain ⟨c1, c2, c3, c4, c5, c6, c7⟩ := A z hz'
    rw [old z (by omega), old (h z 1) (by omega)]
    refine ⟨by omega, c2, c3, c4, fun i i0 i1 => elk _ (c5 i i0 i1), fun q => ?_, c7⟩
    rw [old _ (by rw [D.1.1]; decide)]; exact D.1.2
  · rcases bk6 z 6 hz (Or.inl rfl) with e | ⟨hz', r1, r2⟩
    · have t6 : t = 6 := by rw [← e1, ← e]; exact hz
      rw [e, e2, e3, e4 t6, e6]
      rw [if_pos t6] at hb
      exact ⟨by omega, e5, rfl, hn0, hn, hb, hc⟩
    · obtain ⟨c1, c2, c3⟩ := S z hz'
      rw [r1, r2]
      exact ⟨by omega, c2, c3⟩
  · rcases bk6 z 13 hz (Or.inr rfl) with e | ⟨hz', r1, r2⟩
    · have t6 : ¬ t = 6 := by rw [← e1, ← e, hz]; decide
      rw [e, e2, e3, e6]
      rw [if_neg t6] at hb
      exact ⟨by omega, e5, rfl, by omega, hb, hc⟩
    · obtain ⟨c1, c2, c3⟩ := T z hz'
      rw [r1, r2]
      exact ⟨by omega, c2, c3⟩
  · have hz' := bk z 4 hz (by decide) (by decide) (by omega)
    have hw' := bk w 4 hw (by decide) (by decide) (by omega)
    rw [old z (by omega), old w (by omega)] at he
    rw [old z (by omega)]
    exact Q.1 z w hz' hw' hne he
  · have hw6 : ∃ k, h' w (-1) = k ∧ (k = 6 ∨ k = 13) := ⟨_, rfl, hw⟩
    obtain ⟨k, hk1, hk2⟩ := hw6
    rcases bk6 z 6 hz (Or.inl rfl) with e | ⟨hz', r1, r2⟩
    · rcases bk6 w k hk1 hk2 with e' | ⟨hw', s1, s2⟩
      · exact hne (e.trans e'.symm)
      · rw [e, e2, s1] at he
        have : h w 0 < h 0 0 := by
          rcases hk2 with q | q
          · exact (S w (by rw [hw', q])).1.2
          · exact (T w (by rw [hw', q])).1
        omega
    · rcases bk6 w k hk1 hk2 with e' | ⟨hw', s1, s2⟩
      · rw [e', e2, r1] at he
        have := (S z hz').1.2
        omega
      · rw [r1, s1] at he
        exact Q.2 z w hz' (by rw [hw']; exact hk2) hne he
  · by_cases e : z = h 0 0 + 1
    · subst e
      funext f
      rw [vw_hid (Or.inr e5), vw_none f2 z0]
    · exact vw_congr (ho z zs e z0) (fun q => old _ (by rw [(A z q).2.1]; decide)) (fun q => old _ (by
        rcases q with q | q
        · rw [(S z q).2.1]; decide
        · rw [(T z q).2.1]; decide))
  · unfold vw
    rw [if_neg (by omega), if_neg (by omega), if_neg (by omega), if_neg (by omega)]
/-- a new empty builder at the next address -/
def NSB (m m' : SM) : Prop := Bs m ∧ (∀ z, z ≠ m 0 0 → z ≠ 0 → m' z = m z) ∧ m' (m 0 0) (-1) = 6 ∧ m' (m 0 0) (-2) = 0 ∧ m' (m 0 0) (-3) = 16 ∧ (∀ i, 0 ≤ i → m' (m 0 0) i = 0) ∧ m' 0 0 = m 0 0 + 2 ∧ m' 0 1 = m 0 1 + 20 ∧ ∀ f, f ≠ 0 → f ≠ 1 → m' 0 f = m 0 f
theorem new_ok {m m' : SM} (B : Bs m) (ho : ∀ z, z ≠ m 0 0 → z ≠ 0 → m' z = m z) : Ok m m' := by
  have old : ∀ z, m z (-1) ≠ 0 → m' z = m z := fun z hz => ho z (fun e => hz (by rw [e]; exact B.2.2.1 _ (Int.le_refl _))) (fun e => hz (by rw [e]; exact B.1))
  exact Ok.of (fun z hz => by rw [old z hz]) (fun z hz => by rw [old z (by omega)]) (fun z F t h1 h2 => by rw [old z (by rw [h1]; exact (kft_t _ h2).1)])
theorem NSB.ok {m m' : SM} (h : NSB m m') : Ok m m' := new_ok h.1 h.2.1
theorem NSB.tag {m m' : SM} (h : NSB m m') : m' (m 0 0) (-1) = 6 := h.2.2.1
/-- the text of a builder, as a new String -/
def Rstr (m : SM) (x v : Int) (m' : SM) : Prop := Bs m ∧ v = m 0 0 ∧ (∀ z, z ≠ v → z ≠ 0 → m' z = m z) ∧ m' v (-1) = 13 ∧ m' v (-2) = m x (-2) ∧ (∀ i, 0 ≤ i → m' v i = m x i) ∧ m' 0 0 = m 0 0 + 2 ∧ m' 0 1 = m 0 1 + 4 + m x (-2) ∧ ∀ f, f ≠ 0 → f ≠ 1 → m' 0 f = m 0 f
theorem Rstr.ok {m m' : SM} {x v : Int} (h : Rstr m x v m') : Ok m m' := by
  obtain ⟨h1, h2, h3, -⟩ := h
  subst h2; exact new_ok h1 h3
theorem Rstr.tag {m m' : SM} {x v : Int} (h : Rstr m x v m') : m' v (-1) = 13 := h.2.2.2.1
section JN
variable {G : GM} {d : Nat} {P : Nat → Int → SM → Prop} {h : SM} {x i v a : Int}
set_option maxHeartbeats 1000000 in
theorem c_sbstr (hG : GI h) (ht : h x (-1) = 6) (hlt : h x 3 < h (h x 0) (-2)) (hlc : h 0 0 + 1 ≤ 1203200) (hls : h 0 1 + h x 3 + 10 ≤ 5491882) (hd : 8 ≤ d) (k : ∀ h', GI h' → Rstr (vw h) x (h 0 0) (vw h') → P 0 (h 0 0) h') : WP G mJ4_toString 0 [(1, x)] [] h d P := by
  obtain ⟨a1, a2, a3, a4, a5, a6, a7⟩ := hG.2.2.1 x ht
  obtain ⟨b1, b2, b3, b4⟩ := id hG.1
  have B := hG.1
  refine wJ4_toString (by omega) ⟨by omega, by omega, fun h3 e3 => ⟨by omega, ?_⟩⟩
  have o3 : ∀ z, h z (-1) ≠ 0 → h3 z = h z := fun z hz => by rw [e3]; exact al_old B hz
  have n3 : ∀ f, h3 (h 0 0) f = if f = -1 then 13 else if f = -2 then 0 else 0 := fun f => by rw [e3]; exact al_new B f
  have ex := o3 x (by omega)
  have ey := o3 (h x 0) (by omega)
  have z3 : ∀ f, h3 0 f = if f = 0 then h 0 0 + 1 else if f = 1 then h 0 1 + 4 else h 0 f := fun f => by rw [e3]; unfold al; rw [if_pos rfl]
  refine wJ5_init (by omega) ⟨by omega, wJ5_init_2 (by omega) ⟨by omega, by rw [ex]; exact ht, ?_⟩⟩
  refine wJ3_getValue (by omega) ⟨by rw [ex]; exact ht, rfl, by rw [ex]; exact ht, ?_⟩
  refine c_sbl (by rw [ex]; exact ht) (by omega) ⟨rfl, by rw [ex]; exact ht, ?_⟩
  refine c_lat (by rw [ex]; exact ht) (by rw [ex]; exact a3) (by omega) ⟨rfl, fun q => absurd q (by decide), fun _ => ⟨by rw [n3, if_pos rfl], b2, by decide, fun h37 e37 => ?_⟩⟩
  rw [ex]
  have o37 : ∀ z, z ≠ h 0 0 → h37 z = h3 z := fun z hz => by rw [e37]; exact funext fun f => up_na h3 hz
  have xn : x ≠ h 0 0 := fun e => by rw [e, b3 _ (Int.le_refl _)] at ht; cases ht
  have yn : h x 0 ≠ h 0 0 := by omega
  have ey7 : h37 (h x 0) = h (h x 0) := by rw [o37 _ yn, ey]
  have n37 : ∀ f, h37 (h 0 0) f = if f = 1 then 0 else h3 (h 0 0) f := fun f => by
    rw [e37]; unfold up
    by_cases q : f = 1
    · rw [if_pos ⟨rfl, q⟩, if_pos q]
    · rw [if_neg (fun z => q z.2), if_neg q]
  have z37 : ∀ f, h37 0 f = h3 0 f := fun f => by rw [o37 0 (by omega)]
  have B37 : Bs h37 := by
    refine ⟨by rw [z37, z3, if_neg (by decide), if_neg (by decide)]; exact b1, by rw [z37, z3, if_pos rfl]; omega, fun z hz => ?_, fun z hz q1 q2 => ?_⟩
    · rw [z37, z3, if_pos rfl] at hz
      rw [o37 z (by omega), e3]; unfold al
      rw [if_neg (by omega), if_neg (by omega)]; exact b3 z (by omega)
    · have e : h37 z = h z := by
        rw [o37 z (by omega), e3]; funext f; unfold al; rw [if_neg (by omega), if_neg (by omega)]
      rw [e] at q1 q2 ⊢; exact b4 z hz q1 q2
  have s37 : h37 0 0 = h 0 0 + 1 := by rw [z37, z3, if_pos rfl]
  refine wJ10_copyOfRange (by omega) ⟨fun q => absurd rfl q, fun _ => ⟨by rw [ey7]; exact a2, fun q => absurd q (by rw [ey7]; omega), fun _ => ?_⟩⟩
  refine wJ10_copyOfRangeByte (by omega) (wJ10_checkLength (by omega) ⟨fun _ => ⟨rfl, ?_⟩, fun q => absurd q (by omega)⟩)
  have ew : wr (h x 3 - 0) = h x 3 := by rw [Int.sub_zero]; exact wr_id (by omega) (by omega)
  rw [ew, s37]
  refine ⟨a4, by omega, by rw [z37, z3, if_neg (by decide), if_pos rfl]; omega, fun h6 e6 => ?_⟩
  have y6 : h6 (h x 0) = h (h x 0) := by rw [e6, al_old B37 (by rw [ey7]; omega), ey7]
  have n6 : ∀ f, h6 (h 0 0 + 1) f = if f = -1 then 102 else if f = -2 then h x 3 else 0 := fun f => by rw [e6, ← s37]; exact al_new B37 f
  have em : (if h x 3 < wr (h6 (h x 0) (-2) - 0) then h x 3 else wr (h6 (h x 0) (-2) - 0)) = h x 3 := by
    rw [y6, Int.sub_zero, wr_id (by omega) (by omega), if_pos hlt]
  rw [em]
  refine ⟨by rw [y6]; exact a2, by rw [n6, if_pos rfl], by omega, by omega, by omega, a4, by rw [y6]; omega, by rw [n6, if_neg (by decide), if_pos rfl]; omega, fun h17 e17 => ⟨rfl, rfl, ?_⟩⟩
  have old17 : ∀ z, z ≠ h 0 0 + 1 → h17 z = h6 z := fun z hz => by rw [e17]; funext f; unfold cpM; rw [if_neg (fun q => hz q.1)]
  have s17 : ∀ f, h17 (h 0 0) f = h37 (h 0 0) f := fun f => by
    rw [old17 _ (by omega), e6]; unfold al
    rw [if_neg (by omega), s37, if_neg (by omega)]
  refine ⟨by rw [s17, n37, if_neg (by decide), n3, if_pos rfl], b2, fun h' e' => ⟨rfl, rfl, ?_⟩⟩
  have A : ∀ z f, h' z f = if z = h 0 0 ∧ f = 0 then h 0 0 + 1 else h17 z f := fun z f => by rw [e']; rfl
  have As : ∀ f, f ≠ 0 → h' (h 0 0) f = h37 (h 0 0) f := fun f hf => by rw [A, if_neg (fun q => hf q.2), s17]
  have Ay : ∀ f, h' (h 0 0 + 1) f = if f = -1 then 102 else if f = -2 then h x 3 else if 0 ≤ f ∧ f < h x 3 then h (h x 0) f else 0 := fun f => by
    rw [A, if_neg (by omega), e17]; unfold cpM
    by_cases fb : 0 ≤ f ∧ f < h x 3
    · rw [if_pos ⟨rfl, fb.1, by omega⟩, if_neg (by omega), if_neg (by omega), if_pos fb, y6]
      congr 1; omega
    · rw [if_neg (fun q => fb ⟨q.2.1, by omega⟩), n6, if_neg fb]
  have A0 : ∀ f, h' 0 f = if f = 0 then h 0 0 + 2 else if f = 1 then h 0 1 + 4 + h x 3 else h 0 f := fun f => by
    rw [A, if_neg (by omega), old17 0 (by omega), e6]; unfold al
    rw [if_pos rfl, s37, z37, z37, z3, z3]
    by_cases f0 : f = 0
    · simp only [if_pos f0]; omega
    · simp only [if_neg f0]
      by_cases f1 : f = 1
      · simp only [if_pos f1]; simp
      · simp only [if_neg f1]
  have Ao : ∀ z, z ≠ h 0 0 → z ≠ h 0 0 + 1 → z ≠ 0 → h' z = h z := fun z z1 z2 z3 => by
    funext f
    rw [A, if_neg (fun q => z1 q.1), old17 z z2, e6]
    unfold al
    rw [if_neg z3, s37, if_neg z2, o37 z z1, e3]
    unfold al
    rw [if_neg z3, if_neg z1]
  have t13 : h' (h 0 0) (-1) = 13 := by rw [As _ (by decide), n37, if_neg (by decide), n3, if_pos rfl]
  have v1 : h' (h 0 0) 0 = h 0 0 + 1 := by rw [A, if_pos ⟨rfl, rfl⟩]
  have l1 : h' (h 0 0 + 1) (-2) = h x 3 := by rw [Ay, if_neg (by decide), if_pos rfl]
  obtain ⟨g1, g2, g3⟩ := GI_new2 (h' := h') (t := 13) (c := h x 3) (n := 0) hG (Or.inr rfl) t13 v1 (by rw [As _ (by decide), n37, if_pos rfl]) (fun q => absurd q (by decide)) (by omega) a4 (by rw [Ay, if_pos rfl]) l1 (by omega)
    (fun i i0 i1 => by rw [if_neg (by decide)] at i1; rw [Ay, if_neg (by omega), if_neg (by omega), if_pos ⟨i0, i1⟩]; exact a6 i i0 i1) (by rw [A0, if_pos rfl]) (fun f f0 f1 => by rw [A0, if_neg f0, if_neg f1]) Ao
  have w0 := vw_0 B
  obtain ⟨w1, w2, w3, w4, w5⟩ := vw_sb ht
  obtain ⟨u1, u2, u3, u4⟩ := vw_st t13
  refine k h' g1 ⟨vw_Bs B, by rw [w0], g2, u1, by rw [u2, v1, l1, w2], fun i i0 => ?_, by rw [g3, w0, A0, if_pos rfl], by rw [g3, w0, A0, if_neg (by decide), if_pos rfl, w2], fun f f0 f1 => by rw [g3, w0, A0, if_neg f0, if_neg f1]⟩
  rw [v1, l1] at u3 u4
  by_cases q : i < h x 3
  · rw [u3 i i0 q, Ay, if_neg (by omega), if_neg (by omega), if_pos ⟨i0, q⟩, w4 i i0 q]
  · rw [u4 i (by omega) i0, w5 i (by omega) i0]
end JN
