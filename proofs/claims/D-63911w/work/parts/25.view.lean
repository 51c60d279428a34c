/-! L2: the view: lists and texts are seen by what they hold; their arrays are hidden -/
/-- an ArrayList has tag 4 (1 its array, 2 its size), a StringBuilder 6 (0 its array, 1 coder, 3 its length), a String 13 (0 its array, 1 coder); Object[] 104, byte[] 102 -/
def vw (h : SM) : SM := fun x f =>
  if h x (-1) = 4 then (if f = -1 then 4 else if f = -2 then h x 2 else if f = -3 then h (h x 1) (-2) else if 0 ≤ f ∧ f < h x 2 then h (h x 1) f else 0)
  else if h x (-1) = 6 then (if f = -1 then 6 else if f = -2 then h x 3 else if f = -3 then h (h x 0) (-2) else if 0 ≤ f ∧ f < h x 3 then h (h x 0) f else 0)
  else if h x (-1) = 13 then (if f = -1 then 13 else if f = -2 then h (h x 0) (-2) else if 0 ≤ f ∧ f < h (h x 0) (-2) then h (h x 0) f else 0)
  else if h x (-1) = 104 ∨ h x (-1) = 102 ∨ (h x (-1) = 0 ∧ x ≠ 0) then 0 else h x f
/-- a tag of what is seen as it is -/
def plT (t : Int) : Prop := t ≠ 0 ∧ t ≠ 4 ∧ t ≠ 6 ∧ t ≠ 13 ∧ t ≠ 104 ∧ t ≠ 102
/-- what may lie in a list -/
def elOK (h : SM) (v : Int) : Prop := v = 0 ∨ ∃ c : Nat, h v (-1) = (c : Int) + 1 ∧ (4, c) ∈ asL
def Bs (h : SM) : Prop := h 0 (-1) = 0 ∧ 0 < h 0 0 ∧ (∀ x, h 0 0 ≤ x → h x (-1) = 0) ∧ ∀ x, x < 0 → 0 < h x (-1) → h x (-1) < 50 → h x (-1) = 13
def gAL (h : SM) : Prop := ∀ x, h x (-1) = 4 → (h x 1 = -20 ∨ (0 < h x 1 ∧ h x 1 < h 0 0)) ∧ h (h x 1) (-1) = 104 ∧ 0 ≤ h x 2 ∧ h x 2 ≤ h (h x 1) (-2) ∧ (∀ i, 0 ≤ i → i < h (h x 1) (-2) → elOK h (h (h x 1) i)) ∧ (h x 1 = -20 → h (-20) (-2) = 0) ∧ h (h x 1) (-2) < 1000000
def gSB (h : SM) : Prop := ∀ x, h x (-1) = 6 → (0 < h x 0 ∧ h x 0 < h 0 0) ∧ h (h x 0) (-1) = 102 ∧ h x 1 = 0 ∧ 0 ≤ h x 3 ∧ h x 3 ≤ h (h x 0) (-2) ∧ (∀ i, 0 ≤ i → i < h x 3 → 0 ≤ h (h x 0) i ∧ h (h x 0) i ≤ 127) ∧ h (h x 0) (-2) < 1000000
def gST (h : SM) : Prop := ∀ x, h x (-1) = 13 → h x 0 < h 0 0 ∧ h (h x 0) (-1) = 102 ∧ h x 1 = 0 ∧ 0 ≤ h (h x 0) (-2) ∧ (∀ i, 0 ≤ i → i < h (h x 0) (-2) → 0 ≤ h (h x 0) i ∧ h (h x 0) i ≤ 127) ∧ h (h x 0) (-2) < 1000000
/-- each list, each builder has its array for itself -/
def gSep (h : SM) : Prop := (∀ x y, h x (-1) = 4 → h y (-1) = 4 → x ≠ y → h x 1 = h y 1 → h x 1 < 0) ∧ (∀ x y, h x (-1) = 6 → (h y (-1) = 6 ∨ h y (-1) = 13) → x ≠ y → h x 0 ≠ h y 0)
/-- old constants: the empty Object[], the digits' tables, the empty text -/
def gDg (h : SM) : Prop := (h (-20) (-1) = 104 ∧ h (-20) (-2) = 0) ∧ (h (-21) (-1) = 102 ∧ h (-21) (-2) = 100) ∧ (h (-22) (-1) = 102 ∧ h (-22) (-2) = 100) ∧ (h (-23) (-1) = 13 ∧ h (-23) 0 = -24) ∧ (h (-24) (-1) = 102 ∧ h (-24) (-2) = 0) ∧ ∀ i, 0 ≤ i → i < 100 → h (-21) i = 48 + i / 10 ∧ h (-22) i = 48 + i % 10
def oldC (z : Int) : Prop := z = -20 ∨ z = -21 ∨ z = -22 ∨ z = -23 ∨ z = -24
theorem gDg_of {h h' : SM} (D : gDg h) (e : ∀ z, oldC z → h' z = h z) : gDg h' := by
  unfold gDg
  rw [e (-20) (by unfold oldC; decide), e (-21) (by unfold oldC; decide), e (-22) (by unfold oldC; decide), e (-23) (by unfold oldC; decide), e (-24) (by unfold oldC; decide)]
  exact D
theorem gDg_t {h : SM} (D : gDg h) {z : Int} (hz : oldC z) : h z (-1) = 104 ∨ h z (-1) = 102 ∨ h z (-1) = 13 := by
  obtain ⟨d1, d2, d3, d4, d5, -⟩ := D
  rcases hz with rfl | rfl | rfl | rfl | rfl
  · exact Or.inl d1.1
  · exact Or.inr (Or.inl d2.1)
  · exact Or.inr (Or.inl d3.1)
  · exact Or.inr (Or.inr d4.1)
  · exact Or.inr (Or.inl d5.1)
theorem oldC_neg {z : Int} (hz : oldC z) : z < 0 := by unfold oldC at hz; omega
def GI (h : SM) : Prop := Bs h ∧ gAL h ∧ gSB h ∧ gST h ∧ gSep h ∧ gDg h
theorem vw_plain {h : SM} {x : Int} (hp : plT (h x (-1))) (f : Int) : vw h x f = h x f := by
  obtain ⟨h0, h1, h2, h3, h4, h5⟩ := hp
  unfold vw
  rw [if_neg h1, if_neg h2, if_neg h3, if_neg (fun q => q.elim h4 (fun q => q.elim h5 (fun q => h0 q.1)))]
theorem vw_tag {h : SM} {x t : Int} (ht : vw h x (-1) = t) (h0 : t ≠ 0) : h x (-1) = t := by
  unfold vw at ht
  split at ht
  · rename_i q; rw [q, ← ht]; rfl
  · split at ht
    · rename_i q; rw [q, ← ht]; rfl
    · split at ht
      · rename_i q; rw [q, ← ht]; rfl
      · split at ht
        · exact absurd ht.symm h0
        · exact ht
theorem vw_tag' {h : SM} {x : Int} (h4 : h x (-1) ≠ 104) (h2 : h x (-1) ≠ 102) : vw h x (-1) = h x (-1) := by
  unfold vw
  split
  · rename_i q; rw [q]; rfl
  · split
    · rename_i q; rw [q]; rfl
    · split
      · rename_i q; rw [q]; rfl
      · split
        · rename_i q
          rcases q with q | q | q
          · exact absurd q h4
          · exact absurd q h2
          · exact q.1.symm
        · rfl
theorem vw_0 {h : SM} (B : Bs h) (f : Int) : vw h 0 f = h 0 f := by
  unfold vw
  have b := B.1
  rw [if_neg (by omega), if_neg (by omega), if_neg (by omega), if_neg (by omega)]
theorem vw_none {h : SM} {x : Int} (ht : h x (-1) = 0) (hx : x ≠ 0) (f : Int) : vw h x f = 0 := by
  unfold vw
  rw [if_neg (by omega), if_neg (by omega), if_neg (by omega), if_pos (Or.inr (Or.inr ⟨ht, hx⟩))]
theorem vw_hid {h : SM} {x : Int} (ht : h x (-1) = 104 ∨ h x (-1) = 102) (f : Int) : vw h x f = 0 := by
  unfold vw
  rw [if_neg (by omega), if_neg (by omega), if_neg (by omega), if_pos (by omega)]
theorem vw_Bs {h : SM} (B : Bs h) : Bs (vw h) := by
  have e0 := vw_0 B
  refine ⟨by rw [e0]; exact B.1, by rw [e0]; exact B.2.1, fun x hx => ?_, fun x hx h1 h2 => ?_⟩
  · rw [e0] at hx
    have := B.2.1
    exact vw_none (B.2.2.1 x hx) (by omega) _
  · have e := vw_tag (h := h) (x := x) rfl (Int.ne_of_gt h1)
    rw [← e] at h1 h2 ⊢
    exact B.2.2.2 x hx h1 h2
/-- a list's view -/
theorem vw_al {h : SM} {x : Int} (ht : h x (-1) = 4) : vw h x (-1) = 4 ∧ vw h x (-2) = h x 2 ∧ vw h x (-3) = h (h x 1) (-2) ∧ (∀ i, 0 ≤ i → i < h x 2 → vw h x i = h (h x 1) i) ∧ ∀ i, h x 2 ≤ i → 0 ≤ i → vw h x i = 0 := by
  refine ⟨by unfold vw; rw [if_pos ht, if_pos rfl], by unfold vw; rw [if_pos ht]; simp, by unfold vw; rw [if_pos ht]; simp, fun i h1 h2 => ?_, fun i h1 h2 => ?_⟩
  · unfold vw; rw [if_pos ht, if_neg (by omega), if_neg (by omega), if_neg (by omega), if_pos ⟨h1, h2⟩]
  · unfold vw; rw [if_pos ht, if_neg (by omega), if_neg (by omega), if_neg (by omega), if_neg (by omega)]
theorem vw_sb {h : SM} {x : Int} (ht : h x (-1) = 6) : vw h x (-1) = 6 ∧ vw h x (-2) = h x 3 ∧ vw h x (-3) = h (h x 0) (-2) ∧ (∀ i, 0 ≤ i → i < h x 3 → vw h x i = h (h x 0) i) ∧ ∀ i, h x 3 ≤ i → 0 ≤ i → vw h x i = 0 := by
  have h4 : h x (-1) ≠ 4 := by omega
  refine ⟨by unfold vw; rw [if_neg h4, if_pos ht, if_pos rfl], by unfold vw; rw [if_neg h4, if_pos ht]; simp, by unfold vw; rw [if_neg h4, if_pos ht]; simp, fun i h1 h2 => ?_, fun i h1 h2 => ?_⟩
  · unfold vw; rw [if_neg h4, if_pos ht, if_neg (by omega), if_neg (by omega), if_neg (by omega), if_pos ⟨h1, h2⟩]
  · unfold vw; rw [if_neg h4, if_pos ht, if_neg (by omega), if_neg (by omega), if_neg (by omega), if_neg (by omega)]
theorem vw_st {h : SM} {x : Int} (ht : h x (-1) = 13) : vw h x (-1) = 13 ∧ vw h x (-2) = h (h x 0) (-2) ∧ (∀ i, 0 ≤ i → i < h (h x 0) (-2) → vw h x i = h (h x 0) i) ∧ ∀ i, h (h x 0) (-2) ≤ i → 0 ≤ i → vw h x i = 0 := by
  have h4 : h x (-1) ≠ 4 := by omega
  have h6 : h x (-1) ≠ 6 := by omega
  refine ⟨by unfold vw; rw [if_neg h4, if_neg h6, if_pos ht, if_pos rfl], by unfold vw; rw [if_neg h4, if_neg h6, if_pos ht]; simp, fun i h1 h2 => ?_, fun i h1 h2 => ?_⟩
  · unfold vw; rw [if_neg h4, if_neg h6, if_pos ht, if_neg (by omega), if_neg (by omega), if_pos ⟨h1, h2⟩]
  · unfold vw; rw [if_neg h4, if_neg h6, if_pos ht, if_neg (by omega), if_neg (by omega), if_neg (by omega)]
/-- the view of x depends on x's row and its array's -/
theorem vw_congr {h h' : SM} {x : Int} (h0 : h' x = h x) (h1 : h x (-1) = 4 → h' (h x 1) = h (h x 1)) (h2 : h x (-1) = 6 ∨ h x (-1) = 13 → h' (h x 0) = h (h x 0)) : vw h' x = vw h x := by
  funext f
  unfold vw
  rw [h0]
  by_cases e4 : h x (-1) = 4
  · rw [if_pos e4, if_pos e4, h1 e4]
  · rw [if_neg e4, if_neg e4]
    by_cases e6 : h x (-1) = 6
    · rw [if_pos e6, if_pos e6, h2 (Or.inl e6)]
    · rw [if_neg e6, if_neg e6]
      by_cases e13 : h x (-1) = 13
      · rw [if_pos e13, if_pos e13, h2 (Or.inr e13)]
      · rw [if_neg e13, if_neg e13]
theorem GI_up {h : SM} {x F y : Int} (hG : GI h) (hp : plT (h x (-1))) (hF : 0 ≤ F) : GI (up h x F y) ∧ vw (up h x F y) = up (vw h) x F y := by
  obtain ⟨B, A, S, T, Q, D⟩ := hG
  obtain ⟨p0, p1, p2, p3, p4, p5⟩ := id hp
  have x0 : x ≠ 0 := fun e => hp.1 (by rw [e]; exact B.1)
  have et : ∀ z, up h x F y z (-1) = h z (-1) := fun z => up_nf h (by omega)
  have el : ∀ z, up h x F y z (-2) = h z (-2) := fun z => up_nf h (by omega)
  have er : ∀ z, z ≠ x → up h x F y z = h z := fun z hz => funext fun f => up_na h hz
  have e00 : up h x F y 0 = h 0 := er 0 (Ne.symm x0)
  have ne4 : ∀ z, h z (-1) = 4 → z ≠ x := fun z hz e => p1 (by rw [← e]; exact hz)
  have ne6 : ∀ z, h z (-1) = 6 → z ≠ x := fun z hz e => p2 (by rw [← e]; exact hz)
  have ne13 : ∀ z, h z (-1) = 13 → z ≠ x := fun z hz e => p3 (by rw [← e]; exact hz)
  have ne104 : ∀ z, h z (-1) = 104 → z ≠ x := fun z hz e => p4 (by rw [← e]; exact hz)
  have ne102 : ∀ z, h z (-1) = 102 → z ≠ x := fun z hz e => p5 (by rw [← e]; exact hz)
  constructor
  · refine ⟨⟨by rw [et]; exact B.1, by rw [e00]; exact B.2.1, fun z hz => by rw [e00] at hz; rw [et]; exact B.2.2.1 z hz, fun z hz => by rw [et]; exact B.2.2.2 z hz⟩, fun z hz => ?_, fun z hz => ?_, fun z hz => ?_, ⟨fun z w hz hw => ?_, fun z w hz hw => ?_⟩, gDg_of D (fun z hz => er z (by
      rcases gDg_t D hz with q | q | q
      · exact ne104 z q
      · exact ne102 z q
      · exact ne13 z q))⟩
    · rw [et] at hz
      obtain ⟨a1, a2, a3, a4, a5, a6, a7⟩ := A z hz
      rw [er z (ne4 z hz), e00, er _ (ne104 _ a2)]
      refine ⟨a1, a2, a3, a4, fun i h1 h2 => ?_, fun q => by rw [el]; exact a6 q, a7⟩
      rcases a5 i h1 h2 with q | ⟨c, q1, q2⟩
      · exact Or.inl q
      · exact Or.inr ⟨c, by rw [et]; exact q1, q2⟩
    · rw [et] at hz
      obtain ⟨a1, a2, a3⟩ := S z hz
      rw [er z (ne6 z hz), e00, er _ (ne102 _ a2)]
      exact ⟨a1, a2, a3⟩
    · rw [et] at hz
      obtain ⟨a1, a2, a3⟩ := T z hz
      rw [er z (ne13 z hz), e00, er _ (ne102 _ a2)]
      exact ⟨a1, a2, a3⟩
    · rw [et] at hz hw
      rw [er z (ne4 z hz), er w (ne4 w hw)]
      exact Q.1 z w hz hw
    · rw [et] at hz hw
      have hw' : w ≠ x := by rcases hw with q | q; exact ne6 w q; exact ne13 w q
      rw [er z (ne6 z hz), er w hw']
      exact Q.2 z w hz hw
  · funext z f
    by_cases hz : z = x
    · subst hz
      rw [vw_plain (by rw [et]; exact hp)]
      unfold up
      split
      · rfl
      · rw [vw_plain hp]
    · rw [up_na _ hz, vw_congr (er z hz) (fun q => er _ (ne104 _ (A z q).2.1)) (fun q => ?_)]
      rcases q with q | q
      · exact er _ (ne102 _ (S z q).2.1)
      · exact er _ (ne102 _ (T z q).2.1)
theorem GI_al {h : SM} {t l n : Int} (hG : GI h) (hp : plT t) : GI (al h t l n) ∧ vw (al h t l n) = al (vw h) t l n := by
  obtain ⟨B, A, S, T, Q, D⟩ := hG
  have x0 : h 0 0 ≠ 0 := by have := B.2.1; omega
  have fr := B.2.2.1 (h 0 0) (Int.le_refl _)
  have er : ∀ z, z ≠ 0 → z ≠ h 0 0 → al h t l n z = h z := fun z h1 h2 => funext fun f => by unfold al; rw [if_neg h1, if_neg h2]
  have ex : ∀ f, al h t l n (h 0 0) f = if f = -1 then t else if f = -2 then l else 0 := fun f => by unfold al; rw [if_neg x0, if_pos rfl]
  have e00 : al h t l n 0 0 = h 0 0 + 1 := rfl
  have e0t : al h t l n 0 (-1) = h 0 (-1) := by unfold al; simp
  have et : ∀ z, z ≠ h 0 0 → al h t l n z (-1) = h z (-1) := fun z hz => by
    by_cases z0 : z = 0
    · rw [z0]; exact e0t
    · rw [er z z0 hz]
  have nz : ∀ z, h z (-1) ≠ 0 → z ≠ 0 ∧ z ≠ h 0 0 := fun z hz => ⟨fun e => hz (by rw [e]; exact B.1), fun e => hz (by rw [e]; exact fr)⟩
  have bk : ∀ z k, al h t l n z (-1) = k → k ≠ t → h z (-1) = k := fun z k hz hk => by
    by_cases e : z = h 0 0
    · rw [e, ex, if_pos rfl] at hz; exact absurd hz.symm hk
    · rw [et z e] at hz; exact hz
  obtain ⟨p0, p1, p2, p3, p4, p5⟩ := id hp
  constructor
  · refine ⟨⟨by rw [e0t]; exact B.1, by rw [e00]; have := B.2.1; omega, fun z hz => ?_, fun z hz h1 h2 => ?_⟩, fun z hz => ?_, fun z hz => ?_, fun z hz => ?_, ⟨fun z w hz hw => ?_, fun z w hz hw => ?_⟩, gDg_of D (fun z hz => er z (by have := oldC_neg hz; omega) (by have := B.2.1; have := oldC_neg hz; omega))⟩
    · rw [e00] at hz
      rw [et z (by omega)]; exact B.2.2.1 z (by omega)
    · have : z ≠ h 0 0 := by have := B.2.1; omega
      rw [et z this] at h1 h2 ⊢
      exact B.2.2.2 z hz h1 h2
    · have hz := bk z 4 hz p1.symm
      obtain ⟨a1, a2, a3, a4, a5, a6, a7⟩ := A z hz
      obtain ⟨n1, n2⟩ := nz z (by omega)
      obtain ⟨m1, m2⟩ := nz (h z 1) (by omega)
      rw [er z n1 n2, e00, er _ m1 m2]
      refine ⟨by omega, a2, a3, a4, fun i h1 h2 => ?_, fun q => ?_, a7⟩
      · rcases a5 i h1 h2 with q | ⟨c, q1, q2⟩
        · exact Or.inl q
        · refine Or.inr ⟨c, ?_, q2⟩
          obtain ⟨r1, r2⟩ := nz (h (h z 1) i) (by omega)
          rw [er _ r1 r2]; exact q1
      · rw [← q, er _ m1 m2, q]; exact a6 q
    · have hz := bk z 6 hz p2.symm
      obtain ⟨a1, a2, a3⟩ := S z hz
      obtain ⟨n1, n2⟩ := nz z (by omega)
      obtain ⟨m1, m2⟩ := nz (h z 0) (by omega)
      rw [er z n1 n2, e00, er _ m1 m2]
      exact ⟨by omega, a2, a3⟩
    · have hz := bk z 13 hz p3.symm
      obtain ⟨a1, a2, a3⟩ := T z hz
      obtain ⟨n1, n2⟩ := nz z (by omega)
      obtain ⟨m1, m2⟩ := nz (h z 0) (by omega)
      rw [er z n1 n2, e00, er _ m1 m2]
      exact ⟨by omega, a2, a3⟩
    · have hz := bk z 4 hz p1.symm
      have hw := bk w 4 hw p1.symm
      obtain ⟨n1, n2⟩ := nz z (by omega)
      obtain ⟨m1, m2⟩ := nz w (by omega)
      rw [er z n1 n2, er w m1 m2]
      exact Q.1 z w hz hw
    · have hz := bk z 6 hz p2.symm
      have hw : h w (-1) = 6 ∨ h w (-1) = 13 := hw.elim (fun q => Or.inl (bk w 6 q p2.symm)) (fun q => Or.inr (bk w 13 q p3.symm))
      obtain ⟨n1, n2⟩ := nz z (by omega)
      obtain ⟨m1, m2⟩ := nz w (by omega)
      rw [er z n1 n2, er w m1 m2]
      exact Q.2 z w hz hw
  · funext z f
    have v0 := vw_0 B
    by_cases z0 : z = 0
    · subst z0
      have B' : Bs (al h t l n) := ⟨by rw [e0t]; exact B.1, by rw [e00]; have := B.2.1; omega, fun z hz => by rw [e00] at hz; rw [et z (by omega)]; exact B.2.2.1 z (by omega), fun z hz h1 h2 => by
        have : z ≠ h 0 0 := by have := B.2.1; omega
        rw [et z this] at h1 h2 ⊢
        exact B.2.2.2 z hz h1 h2⟩
      rw [vw_0 B']
      unfold al
      rw [if_pos rfl, if_pos rfl, v0, v0, v0]
    · by_cases zx : z = h 0 0
      · rw [vw_plain (by rw [zx, ex, if_pos rfl]; exact hp), zx, ex]
        unfold al
        rw [v0, if_neg x0, if_pos rfl]
      · have : al (vw h) t l n z f = vw h z f := by unfold al; rw [if_neg z0, v0, if_neg zx]
        rw [this, vw_congr (er z z0 zx) (fun q => ?_) (fun q => ?_)]
        · obtain ⟨m1, m2⟩ := nz (h z 1) (by rw [(A z q).2.1]; omega); exact er _ m1 m2
        · have : h (h z 0) (-1) = 102 := by
            rcases q with q | q
            · exact (S z q).2.1
            · exact (T z q).2.1
          obtain ⟨m1, m2⟩ := nz (h z 0) (by omega); exact er _ m1 m2
/-- the walk over the view -/
def PV (P : Nat → Int → SM → Prop) : Nat → Int → SM → Prop := fun k v h' => GI h' ∧ P k v (vw h')
def WV (G : GM) (M : Mt) (pc : Nat) (ls st : List AV) (m : SM) (d : Nat) (P : Nat → Int → SM → Prop) : Prop := ∀ h, GI h → vw h = m → WP G M pc ls st h d (PV P)
theorem WV.mono {G : GM} {M : Mt} {pc : Nat} {ls st : List AV} {m : SM} {d : Nat} {P P' : Nat → Int → SM → Prop} (w : WV G M pc ls st m d P) (hP : ∀ k v m', P k v m' → P' k v m') : WV G M pc ls st m d P' :=
  fun h hG hv => (w h hG hv).mono fun k v h' q => ⟨q.1, hP _ _ _ q.2⟩
