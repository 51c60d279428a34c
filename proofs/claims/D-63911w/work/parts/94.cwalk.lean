/-! L3, component: walks' lists -/
def WL : List Int := [24, 25, 28, 29, 31, 32]
def wc (m : SM) : Int := m 24 (-3) + m 25 (-3) + m 28 (-3) + m 29 (-3) + m 31 (-3) + m 32 (-3)
def wb (m : SM) : Prop := ∀ l ∈ WL, 0 ≤ m l (-3) ∧ m l (-3) ≤ 16000
/-- only walks' lists are written -/
def Wk (m m' : SM) : Prop := Ok m m' ∧ (∀ z, z ≠ 0 → z ∉ WL → m' z = m z) ∧ (m 0 0 ≤ m' 0 0 ∧ m' 0 0 + wc m ≤ m 0 0 + wc m') ∧ (m 0 1 ≤ m' 0 1 ∧ m' 0 1 + 4 * wc m ≤ m 0 1 + 4 * wc m') ∧ (wb m → wb m') ∧ m' 0 (-1) = m 0 (-1)
def Rw (m : SM) : Prop := m 0 0 ≤ 900000 + wc m ∧ m 0 1 ≤ 4500000 + 4 * wc m
section WKs
variable {m m' m'' : SM} {A : Int → Prop} {hs : List Int} {G : GM} {d : Nat} {P : Nat → Int → SM → Prop}
theorem Wk.refl : Wk m m := ⟨Ok.refl m, fun _ _ _ => rfl, by omega, by omega, id, rfl⟩
theorem Wk.trans (h1 : Wk m m') (h2 : Wk m' m'') : Wk m m'' := by
  obtain ⟨o1, f1, r1, s1, b1, z1⟩ := h1
  obtain ⟨o2, f2, r2, s2, b2, z2⟩ := h2
  exact ⟨o1.trans o2, fun z h0 h => by rw [f2 z h0 h, f1 z h0 h], by omega, by omega, fun h => b2 (b1 h), by rw [z2, z1]⟩
theorem Wk.cb (h : Wk m m') (b : wb m) : wb m' := h.2.2.2.2.1 b
theorem Wk.z0 (h : Wk m m') (b : m 0 (-1) = 0) : m' 0 (-1) = 0 := by rw [h.2.2.2.2.2]; exact b
theorem Wk.ki (h : Wk m m') (K : KI m) : KI m' := h.1.2.1 K
theorem Rw.mono (h : Rw m) (g : Wk m m') : Rw m' := by
  obtain ⟨-, -, r, s, -⟩ := g
  exact ⟨by have := h.1; omega, by have := h.2; omega⟩
theorem wb.le (h : wb m) : 0 ≤ wc m ∧ wc m ≤ 96000 := by
  show 0 ≤ m 24 (-3) + m 25 (-3) + m 28 (-3) + m 29 (-3) + m 31 (-3) + m 32 (-3) ∧ m 24 (-3) + m 25 (-3) + m 28 (-3) + m 29 (-3) + m 31 (-3) + m 32 (-3) ≤ 96000
  have a1 := h 24 (by decide)
  have a2 := h 25 (by decide)
  have a3 := h 28 (by decide)
  have a4 := h 29 (by decide)
  have a5 := h 31 (by decide)
  have a6 := h 32 (by decide)
  omega
theorem WL.tag (K : KI m) {l : Int} (h : l ∈ WL) : m l (-1) = 4 ∧ l ≠ 0 := by
  simp only [WL, List.mem_cons, List.not_mem_nil, or_false] at h
  rcases h with rfl | rfl | rfl | rfl | rfl | rfl
  · exact ⟨K24_t K, by decide⟩
  · exact ⟨K25_t K, by decide⟩
  · exact ⟨K28_t K, by decide⟩
  · exact ⟨K29_t K, by decide⟩
  · exact ⟨K31_t K, by decide⟩
  · exact ⟨K32_t K, by decide⟩
/-- one walk's list is written -/
theorem Wk.lw {l : Int} (K : KI m) (hl : l ∈ WL) (L : Lw m l m') (hs : m' l (-2) ≤ 7000) : Wk m m' := by
  obtain ⟨tl, l0⟩ := WL.tag K hl
  have o := L.ok tl (Or.inl rfl)
  obtain ⟨L0, L1, L2, L3, L4, L5, L6, L7, L8, L9⟩ := L
  have e : ∀ z, z ≠ 0 → z ≠ l → m' z = m z := fun z h0 h => L1 z h h0
  have ew : ∀ z ∈ WL, z ≠ l → m' z (-3) = m z (-3) := fun z hz h => by rw [e z (WL.tag K hz).2 h]
  have cw : wc m' = wc m + (m' l (-3) - m l (-3)) := by
    have hh := hl
    simp only [WL, List.mem_cons, List.not_mem_nil, or_false] at hh
    unfold wc
    rcases hh with rfl | rfl | rfl | rfl | rfl | rfl
    · rw [ew 25 (by decide) (by decide), ew 28 (by decide) (by decide), ew 29 (by decide) (by decide), ew 31 (by decide) (by decide), ew 32 (by decide) (by decide)]; omega
    · rw [ew 24 (by decide) (by decide), ew 28 (by decide) (by decide), ew 29 (by decide) (by decide), ew 31 (by decide) (by decide), ew 32 (by decide) (by decide)]; omega
    · rw [ew 25 (by decide) (by decide), ew 24 (by decide) (by decide), ew 29 (by decide) (by decide), ew 31 (by decide) (by decide), ew 32 (by decide) (by decide)]; omega
    · rw [ew 25 (by decide) (by decide), ew 28 (by decide) (by decide), ew 24 (by decide) (by decide), ew 31 (by decide) (by decide), ew 32 (by decide) (by decide)]; omega
    · rw [ew 25 (by decide) (by decide), ew 28 (by decide) (by decide), ew 29 (by decide) (by decide), ew 24 (by decide) (by decide), ew 32 (by decide) (by decide)]; omega
    · rw [ew 25 (by decide) (by decide), ew 28 (by decide) (by decide), ew 29 (by decide) (by decide), ew 31 (by decide) (by decide), ew 24 (by decide) (by decide)]; omega
  refine ⟨o, fun z h0 h => e z h0 (fun q => h (by rw [q]; exact hl)), by omega, by omega, fun h z hz => ?_, L3 (-1) (by decide) (by decide)⟩
  by_cases y : z = l
  · rw [y]; have := h l hl; omega
  · rw [ew z hz y]; exact h z hz
/-- cells that are live stay so -/
def LvA (m : SM) (H : Int) (X : List Int) (x : Int) : Prop := Lv m H x ∧ x ∉ X
/-- a predicate on cells that walks' lists and values do not matter to -/
def WA (A : SM → Int → Prop) : Prop := ∀ m m' x, KI m → Ok m m' → (∀ y, y ≠ 0 → y ∉ WL → m y (-1) ≠ 11 → m' y = m y) → A m x → A m' x
theorem WA.wk {B : SM → Int → Prop} (h : WA B) (K : KI m) (g : Wk m m') {x : Int} (hx : B m x) : B m' x := h m m' x K g.1 (fun y h0 h1 _ => g.2.1 y h0 h1) hx
theorem VS.wk {x : Int} {t : Tr} (B : SM → Int → Prop) (hB : WA B) (K : KI m) (g : Wk m m') (h : VS (B m) m hs x t) (h0 : m 0 (-1) = 0) : VS (B m') m' hs x t := by
  refine h.fr (fun z hz ht => ⟨hB.wk K g hz, fun f => ?_⟩)
  rw [g.2.1 z (fun e => by rw [e, h0] at ht; omega) (fun e => by have := (WL.tag K e).1; omega)]
/-- the list l holds the trees, the first one on top -/
def Td (A : Int → Prop) (m : SM) (hs : List Int) (l : Int) (ts : List Tr) : Prop := m l (-2) = ts.length ∧ ∀ (j : Nat) t, ts[j]? = some t → VS A m hs (m l (ts.length - 1 - j)) t
end WKs
