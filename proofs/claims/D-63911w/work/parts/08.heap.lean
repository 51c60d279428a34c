/-! L1: the memory's picture under reads, writes, births -/
def up (h : SM) (a f v : Int) : SM := fun a' f' => if a' = a ∧ f' = f then v else h a' f'
theorem up_self (h : SM) (a f v : Int) : up h a f v a f = v := if_pos ⟨rfl, rfl⟩
theorem up_ne (h : SM) {a f v a' f' : Int} (hn : ¬ (a' = a ∧ f' = f)) : up h a f v a' f' = h a' f' := if_neg hn
theorem up_na (h : SM) {a f v a' f' : Int} (hn : a' ≠ a) : up h a f v a' f' = h a' f' := up_ne h fun q => hn q.1
theorem up_nf (h : SM) {a f v a' f' : Int} (hn : f' ≠ f) : up h a f v a' f' = h a' f' := up_ne h fun q => hn q.2
/-- a new cell with a tag, a length, n slots, all zero -/
def al (h : SM) (k l n : Int) : SM := fun a f =>
  if a = 0 then (if f = 0 then h 0 0 + 1 else if f = 1 then h 0 1 + n else h a f)
  else if a = h 0 0 then (if f = -1 then k else if f = -2 then l else 0) else h a f
theorem sumS_eq {H H' : Heap} {n : Nat} (h : ∀ q : Nat, (H'[q]?).map (·.slots.size) = (H[q]?).map (·.slots.size)) : sumS H' n = sumS H n := by
  unfold sumS
  have : H'.toList.map (·.slots.size) = H.toList.map (·.slots.size) := by
    apply List.ext_getElem?
    intro q
    rw [List.getElem?_map, List.getElem?_map, Array.getElem?_toList, Array.getElem?_toList]
    exact h q
  rw [List.map_drop, List.map_drop, this]
theorem sumS_push {H H' : Heap} {n : Nat} {cell : Cell} (hn : n ≤ H.size) (hs : H'.size = H.size + 1) (ho : ∀ q : Nat, q < H.size → H'[q]? = H[q]?) (hc : H'[H.size]? = some cell) : sumS H' n = sumS H n + cell.slots.size := by
  have e : H'.toList = H.toList ++ [cell] := by
    apply List.ext_getElem?
    intro q
    rw [Array.getElem?_toList]
    by_cases h1 : q < H.size
    · rw [ho q h1, List.getElem?_append_left (by simpa using h1), Array.getElem?_toList]
    · by_cases h2 : q = H.size
      · subst h2
        rw [hc, List.getElem?_append_right (by simp)]
        simp
      · rw [Array.getElem?_eq_none (by omega), List.getElem?_eq_none]
        simp only [List.length_append, Array.length_toList, List.length_cons, List.length_nil]; omega
  unfold sumS
  rw [e, List.drop_append_of_le_length (by simpa using hn)]
  simp
theorem ad_pos {G : GM} {x : Int} (h : 0 < x) : ad G x = gn G + x.toNat - 1 := by unfold ad; rw [if_neg (by omega)]
theorem rf_pos {G : GM} {x : Int} (h : x ≠ 0) : rf G x = .ref (ad G x) := by unfold rf; rw [if_neg h]
theorem ad_inj {G : GM} {x y : Int} (hx : 0 < x) (hy : 0 < y) (h : ad G x = ad G y) : x = y := by
  rw [ad_pos hx, ad_pos hy] at h; omega
/-- all cells, the old ones too, by their tags -/
theorem Rel.view {G : GM} {h : SM} {H : Heap} (R : Rel G h H) (X : GX G) {x : Int} (ht : h x (-1) ≠ 0) : x ≠ 0 ∧ ∃ cell, H[ad G x]? = some cell ∧ cellV G (h x) cell := by
  obtain ⟨r0, r1, r2, r3, r4, r5, r6, r7, r8⟩ := R
  obtain ⟨-, -, -, x4, -, x6, -⟩ := X
  rcases Int.lt_trichotomy x 0 with h1 | h1 | h1
  · have e : h x = gK G x := funext fun f => r5 x f h1
    have hk : gK G x (-1) ≠ 0 := by rw [← e]; exact ht
    obtain ⟨hN, cell, hc, hv⟩ := x6 x h1 hk
    have hlt : gO G (-x).toNat < gn G := x4 _ (by omega) (by omega)
    refine ⟨by omega, cell, ?_, by rw [e]; exact hv⟩
    rw [show ad G x = gO G (-x).toNat by unfold ad; rw [if_pos h1], r4 _ hlt]
    exact hc
  · subst h1; exact absurd r6 ht
  · have h2 : x < h 0 0 := by
      rcases Int.lt_or_le x (h 0 0) with h2 | h2
      · exact h2
      · exact absurd (r7 x h2) ht
    obtain ⟨cell, hc, hv⟩ := r8 x h1 h2
    exact ⟨by omega, cell, hc, hv.1⟩
theorem clsL_len {c : Nat} {r : KC} (h : clsL[c]? = some r) : c < 25 := by
  have := (List.getElem?_eq_some_iff.mp h).1
  exact this
theorem Rel.obj {G : GM} {h : SM} {H : Heap} (R : Rel G h H) (X : GX G) {x : Int} {c : Nat} {r : KC} (hr : clsL[c]? = some r) (ht : h x (-1) = (c : Int) + 1) :
    x ≠ 0 ∧ ∃ cell, H[ad G x]? = some cell ∧ cell.vm ≠ .unknown ∧ cell.vm.isStatics = false ∧ cell.cls = gC G c ∧ ∀ f : Nat, f < r.2.2.1 → cell.slots[gI G c f]? = some (cv G (tg (r.2.2.2.1 f), h x f)) ∧ okT (r.2.2.2.1 f) (h x f) := by
  have hc := clsL_len hr
  obtain ⟨h0, cell, h1, h2, h3, h4⟩ := R.view X (x := x) (by omega)
  refine ⟨h0, cell, h1, h2, h3, ?_⟩
  rcases h4 with ⟨c', r', e1, e2, e3, e4⟩ | ⟨t, ty, e1, -⟩ | ⟨j, _, _, _, _, e1, e2, -⟩
  · obtain rfl : c' = c := by omega
    cases hr.symm.trans e2
    exact ⟨e3, e4⟩
  · omega
  · omega
theorem Rel.arr {G : GM} {h : SM} {H : Heap} (R : Rel G h H) (X : GX G) {x : Int} {t : Nat} {ty : FieldType} (hr : arrT t = some ty) (ht : h x (-1) = 100 + (t : Int)) :
    x ≠ 0 ∧ ∃ cell, H[ad G x]? = some cell ∧ cell.vm ≠ .unknown ∧ cell.vm.isStatics = false ∧ (g0 G).isArrayOf cell ty ∧ (cell.slots.size : Int) = h x (-2) ∧ h x (-2) < 2147483648 ∧ ∀ i : Nat, i < cell.slots.size → cell.slots[i]? = some (cv G (tg ty, h x i)) ∧ okT ty (h x i) := by
  obtain ⟨h0, cell, h1, h2, h3, h4⟩ := R.view X (x := x) (by omega)
  refine ⟨h0, cell, h1, h2, h3, ?_⟩
  rcases h4 with ⟨c', r', e1, e2, -⟩ | ⟨t', ty', e1, e2, e3⟩ | ⟨j, _, _, _, _, e1, e2, -⟩
  · have := clsL_len e2; omega
  · obtain rfl : t' = t := by omega
    cases hr.symm.trans e2
    exact e3
  · omega
/-- a new cell by its address -/
theorem Rel.new {G : GM} {h : SM} {H : Heap} (R : Rel G h H) {x : Int} (hx : 0 < x) (ht : h x (-1) ≠ 0) : x < h 0 0 ∧ ∃ cell, H[ad G x]? = some cell ∧ cellN G (h x) cell := by
  obtain ⟨r0, r1, r2, r3, r4, r5, r6, r7, r8⟩ := R
  have h2 : x < h 0 0 := by
    rcases Int.lt_or_le x (h 0 0) with h2 | h2
    · exact h2
    · exact absurd (r7 x h2) ht
  exact ⟨h2, r8 x hx h2⟩
/-- one cell is written -/
theorem Rel.set {G : GM} {h : SM} {H H' : Heap} (R : Rel G h H) {x f y : Int} (hx : 0 < x) (hx2 : x < h 0 0) (hf : 0 ≤ f) {cell cell' : Cell} (hc : H[ad G x]? = some cell) (hc' : H'[ad G x]? = some cell') (hz : H'.size = H.size) (ho : ∀ q, q ≠ ad G x → H'[q]? = H[q]?)
    (hs : cell'.slots.size = cell.slots.size) (hn : cellN G (up h x f y x) cell') : Rel G (up h x f y) H' := by
  obtain ⟨r0, r1, r2, r3, r4, r5, r6, r7, r8⟩ := R
  have e00 : up h x f y 0 0 = h 0 0 := up_na h (by omega)
  have hS : sumS H' (gn G) = sumS H (gn G) := sumS_eq fun q => by
    by_cases hq : q = ad G x
    · rw [hq, hc, hc']; simp [hs]
    · rw [ho q hq]
  refine ⟨by rw [e00, up_na h (by omega)]; exact r0, by rw [hz]; exact r1, by rw [e00, r2, hz], by rw [up_na h (by omega), r3, hS], fun a ha => ?_, fun x' f' hx' => ?_, by rw [up_na h (by omega)]; exact r6, fun x' hx' => ?_, fun x' h1 h2 => ?_⟩
  · rw [ho a (by rw [ad_pos hx]; omega)]; exact r4 a ha
  · rw [up_na h (by omega)]; exact r5 x' f' hx'
  · rw [e00] at hx'
    rw [up_na h (by omega)]; exact r7 x' hx'
  · rw [e00] at h2
    by_cases hq : x' = x
    · subst hq; exact ⟨cell', hc', hn⟩
    · obtain ⟨cl, hcl, hv⟩ := r8 x' h1 h2
      refine ⟨cl, ?_, ?_⟩
      · rw [ho _ (fun he => hq (ad_inj h1 hx he))]; exact hcl
      · rw [show up h x f y x' = h x' from funext fun f' => up_na h hq]; exact hv
/-- one cell is born -/
theorem Rel.born {G : GM} {h : SM} {H H' : Heap} (R : Rel G h H) {k l n : Int} {cell : Cell} (hc : H'[H.size]? = some cell) (hz : H'.size = H.size + 1) (ho : ∀ q, q < H.size → H'[q]? = H[q]?) (hs : (cell.slots.size : Int) = n) (hn : cellN G (al h k l n (h 0 0)) cell) (hl1 : h 0 0 ≤ LIMC) (hl2 : h 0 1 + n ≤ LIMS) : Rel G (al h k l n) H' ∧ 0 < h 0 0 ∧ ad G (h 0 0) = H.size := by
  obtain ⟨r0, r1, r2, r3, r4, r5, r6, r7, r8⟩ := R
  have e00 : al h k l n 0 0 = h 0 0 + 1 := rfl
  have e01 : al h k l n 0 1 = h 0 1 + n := rfl
  have hpos : 0 < h 0 0 := by omega
  have hne : ∀ x f, x ≠ 0 → x ≠ h 0 0 → al h k l n x f = h x f := fun x f h1 h2 => by unfold al; rw [if_neg h1, if_neg h2]
  have had : ad G (h 0 0) = H.size := by rw [ad_pos hpos]; omega
  refine ⟨⟨⟨by rw [e00]; omega, by rw [e01]; exact hl2⟩, by omega, by rw [e00, r2, hz]; omega, ?_, fun a ha => ?_, fun x f hx => ?_, ?_, fun x hx => ?_, fun x h1 h2 => ?_⟩, hpos, had⟩
  · rw [e01, r3, sumS_push r1 hz ho hc, ← hs]; omega
  · rw [ho a (by omega)]; exact r4 a ha
  · rw [hne x f (by omega) (by omega)]; exact r5 x f hx
  · show al h k l n 0 (-1) = 0
    unfold al; rw [if_pos rfl, if_neg (by decide), if_neg (by decide)]; exact r6
  · rw [e00] at hx
    rw [hne x _ (by omega) (by omega)]; exact r7 x (by omega)
  · rw [e00] at h2
    by_cases hq : x = h 0 0
    · rw [hq]; exact ⟨cell, by rw [had]; exact hc, hn⟩
    · obtain ⟨cl, hcl, hv⟩ := r8 x h1 (by omega)
      refine ⟨cl, ?_, ?_⟩
      · rw [ho _ (by rw [ad_pos h1]; omega)]; exact hcl
      · rw [show al h k l n x = h x from funext fun f' => hne x f' (by omega) hq]; exact hv
theorem cellN.field {G : GM} {h : SM} {x y : Int} {c f : Nat} {r : KC} {cell : Cell} (hn : cellN G (h x) cell) (hr : clsL[c]? = some r) (ht : h x (-1) = (c : Int) + 1) (hf : f < r.2.2.1) (hap : ∀ a b, a < r.2.2.1 → b < r.2.2.1 → a ≠ b → gI G c a ≠ gI G c b) (hy : okT (r.2.2.2.1 f) y) :
    cellN G (up h x f y x) (cell.setSlot (gI G c f) (cv G (tg (r.2.2.2.1 f), y))) := by
  have hc := clsL_len hr
  have e1 : up h x f y x (-1) = h x (-1) := up_nf h (by omega)
  obtain ⟨⟨v1, v2, v3⟩, n1, n2, n3⟩ := hn
  refine ⟨⟨v1, v2, Or.inl ?_⟩, n1, n2, fun t he => ?_⟩
  · rcases v3 with ⟨c', r', q1, q2, q3, q4⟩ | ⟨t, ty, q1, -⟩ | ⟨j, _, _, _, _, q1, q2, -⟩
    · obtain rfl : c' = c := by omega
      cases hr.symm.trans q2
      refine ⟨c', r, by rw [e1]; exact ht, hr, q3, fun g hg => ?_⟩
      have hlt : gI G c' f < cell.slots.size := (Array.getElem?_eq_some_iff.mp (q4 f hf).1).1
      by_cases hgf : g = f
      · subst hgf
        rw [up_self]
        refine ⟨?_, hy⟩
        show (cell.slots.setIfInBounds _ _)[_]? = _
        rw [Array.getElem?_setIfInBounds_self, if_pos hlt]
      · rw [up_nf h (by omega)]
        refine ⟨?_, (q4 g hg).2⟩
        show (cell.slots.setIfInBounds _ _)[_]? = _
        rw [Array.getElem?_setIfInBounds_ne (fun e => hap f g hf hg (Ne.symm hgf) e)]
        exact (q4 g hg).1
    · omega
    · omega
  · rw [e1] at he; omega
theorem cellN.elem {G : GM} {h : SM} {x y : Int} {t i : Nat} {ty : FieldType} {cell : Cell} (hn : cellN G (h x) cell) (hr : arrT t = some ty) (ht : h x (-1) = 100 + (t : Int)) (hi : i < cell.slots.size) (hy : okT ty y) :
    cellN G (up h x i y x) (cell.setSlot i (cv G (tg ty, y))) := by
  have e1 : up h x i y x (-1) = h x (-1) := up_nf h (by omega)
  have e2 : up h x i y x (-2) = h x (-2) := up_nf h (by omega)
  obtain ⟨⟨v1, v2, v3⟩, n1, n2, n3⟩ := hn
  refine ⟨⟨v1, v2, Or.inr (Or.inl ?_)⟩, n1, n2, fun t' he => ?_⟩
  · rcases v3 with ⟨c', r', q1, q2, -⟩ | ⟨t', ty', q1, q2, q3, q4, q5, q6⟩ | ⟨j, _, _, _, _, q1, q2, -⟩
    · have := clsL_len q2; omega
    · obtain rfl : t' = t := by omega
      cases hr.symm.trans q2
      have hz : (cell.setSlot i (cv G (tg ty, y))).slots.size = cell.slots.size := Array.size_setIfInBounds
      refine ⟨t', ty, by rw [e1]; exact ht, hr, q3, by rw [hz, e2]; exact q4, by rw [e2]; exact q5, fun j hj => ?_⟩
      rw [hz] at hj
      by_cases hji : j = i
      · subst hji
        rw [up_self]
        refine ⟨?_, hy⟩
        show (cell.slots.setIfInBounds _ _)[_]? = _
        rw [Array.getElem?_setIfInBounds_self, if_pos hi]
      · rw [up_nf h (by omega)]
        refine ⟨?_, (q6 j hj).2⟩
        show (cell.slots.setIfInBounds _ _)[_]? = _
        rw [Array.getElem?_setIfInBounds_ne (Ne.symm hji)]
        exact (q6 j hj).1
    · omega
  · rw [e1] at he; exact n3 t' he
