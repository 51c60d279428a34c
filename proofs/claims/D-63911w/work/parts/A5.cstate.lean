/-! L3, component: the state while types are found and programs run -/
def net (m : SM) : Int := m 0 0 - po0 m 3 - wc m
def net1 (m : SM) : Int := m 0 1 - po1 m 3 - 4 * wc m
/-- a, b, c: values, links, scopes used at most; k, k1: cells and slots that are not the pools' nor the walks' -/
def CS (k k1 a b c : Int) (m : SM) : Prop := KI m ∧ PI m 3 ∧ wb m ∧ (m 3 3 ≤ a ∧ m 3 4 ≤ b ∧ m 3 5 ≤ c) ∧ (net m ≤ k ∧ k ≤ 400000) ∧ (net1 m ≤ k1 ∧ k1 ≤ 2500000)
/-- cells that count for values: live ones that are in no row that is being made -/
def BX (X : List Int) (m : SM) (x : Int) : Prop := PI m 3 ∧ Lv m 3 x ∧ x ∉ X
/-- in no pool -/
def NP (m : SM) (x : Int) : Prop := m x (-1) ≠ 0 ∧ ∀ i, 0 ≤ i → i < m 4 (-2) → m 4 i ≠ x
/-- frame: what is live stays, but walks' lists, the runner's and the checker's own fields, holes' values (hs), terms' holes -/
def Fg (hs : List Int) (tp : Prop) (m m' : SM) : Prop := Ok m m' ∧ PI m' 3 ∧ (∀ x, Lv m 3 x → Lv m' 3 x) ∧ (∀ x f, Lv m 3 x → x ∉ WL → x ≠ 22 → x ≠ 26 → ¬ (f = 4 ∧ x ∈ hs) → ¬ (f = 5 ∧ m x (-1) = 14 ∧ tp) → m' x f = m x f) ∧ (∀ x, NP m x → NP m' x)
section CSs
variable {m m' m'' : SM} {hs : List Int} {X : List Int} {tp : Prop} {k k1 a b c a' b' c' : Int}
theorem Fg.trans (h1 : Fg hs tp m m') (h2 : Fg hs tp m' m'') : Fg hs tp m m'' := by
  obtain ⟨o1, p1, l1, f1, n1⟩ := h1
  obtain ⟨o2, p2, l2, f2, n2⟩ := h2
  refine ⟨o1.trans o2, p2, fun x hx => l2 x (l1 x hx), fun x f hx q1 q2 q3 q4 q5 => ?_, fun x hx => n2 x (n1 x hx)⟩
  rw [f2 x f (l1 x hx) q1 q2 q3 q4 (fun z => q5 ⟨z.1, by rw [← o1.1 x hx.1]; exact z.2.1, z.2.2⟩), f1 x f hx q1 q2 q3 q4 q5]
theorem Fg.mono {hs' : List Int} (hh : ∀ z ∈ hs, z ∈ hs') (h : Fg hs tp m m') : Fg hs' tp m m' := ⟨h.1, h.2.1, h.2.2.1, fun x f hx q1 q2 q3 q4 q5 => h.2.2.2.1 x f hx q1 q2 q3 (fun z => q4 ⟨z.1, hh x z.2⟩) q5, h.2.2.2.2⟩
theorem Fg.any (h : Fg hs False m m') : Fg hs tp m m' := ⟨h.1, h.2.1, h.2.2.1, fun x f hx q1 q2 q3 q4 _ => h.2.2.2.1 x f hx q1 q2 q3 q4 (fun z => z.2.2), h.2.2.2.2⟩
theorem Fg.refl (h : PI m 3) : Fg hs tp m m := ⟨Ok.refl m, h, fun _ hx => hx, fun _ _ _ _ _ _ _ _ => rfl, fun _ h => h⟩
theorem CS.ki (h : CS k k1 a b c m) : KI m := h.1
theorem CS.pi (h : CS k k1 a b c m) : PI m 3 := h.2.1
theorem CS.rq (h : CS k k1 a b c m) : Rq 3 m := by
  obtain ⟨-, -, wB, -, n0, n1⟩ := h
  have := wB.le
  unfold net at n0
  unfold net1 at n1
  exact ⟨by omega, by omega⟩
theorem CS.rw (h : CS k k1 a b c m) : Rw m := by
  obtain ⟨-, P, wB, -, n0, n1⟩ := h
  have := P.po
  unfold net at n0
  unfold net1 at n1
  exact ⟨by omega, by omega⟩
theorem CS.le (h : CS k k1 a b c m) (h1 : a ≤ a') (h2 : b ≤ b') (h3 : c ≤ c') : CS k k1 a' b' c' m := by
  obtain ⟨q1, q2, q3, q5, q6, q7⟩ := h
  exact ⟨q1, q2, q3, by omega, q6, q7⟩
/-- walks' lists are live -/
theorem WL.lv (K : KI m) (P : PI m 3) {l : Int} (h : l ∈ WL) : Lv m 3 l := by
  have t := (WL.tag K h).1
  obtain ⟨-, -, p0, p1, p2⟩ := P
  have hl : l ≠ 3 ∧ l ≠ 4 ∧ l ≠ 5 ∧ l ≠ 6 := by
    simp only [WL, List.mem_cons, List.not_mem_nil, or_false] at h
    omega
  refine ⟨by rw [t]; decide, hl.1, by rw [K3_0 K, K3_1 K, K3_2 K]; exact hl.2, fun z => ?_, fun z => ?_, fun z => ?_⟩
  · have := Frj.tag p0 z; omega
  · have := Frj.tag p1 z; omega
  · have := Frj.tag p2 z; omega
/-- a cell of another kind than the pools' is live -/
theorem Lv.of (K : KI m) (P : PI m 3) {x : Int} (h0 : m x (-1) ≠ 0) (h11 : m x (-1) ≠ 11) (h16 : m x (-1) ≠ 16) (h17 : m x (-1) ≠ 17) (h3 : x ≠ 3 ∧ x ≠ 4 ∧ x ≠ 5 ∧ x ≠ 6) : Lv m 3 x := by
  obtain ⟨-, -, p0, p1, p2⟩ := P
  refine ⟨h0, h3.1, by rw [K3_0 K, K3_1 K, K3_2 K]; exact h3.2, fun z => ?_, fun z => ?_, fun z => ?_⟩
  · exact h11 (Frj.tag p0 z)
  · exact h16 (Frj.tag p1 z)
  · exact h17 (Frj.tag p2 z)
theorem CS.hp (h : CS k k1 a b c m) (g : Hp 3 a' b' c' m m') : CS k k1 (a + a') (b + b') (c + c') m' := by
  obtain ⟨K, P, wB, u, n0, n1⟩ := h
  obtain ⟨o, P', F, G, r, s, v1, v2, v3, -⟩ := g
  have ew : ∀ l ∈ WL, ∀ f, m' l f = m l f := fun l hl f => (F l (WL.lv K P hl)).2 f
  have cw : wc m' = wc m := by
    unfold wc
    rw [ew 24 (by decide), ew 25 (by decide), ew 28 (by decide), ew 29 (by decide), ew 31 (by decide), ew 32 (by decide)]
  refine ⟨o.2.1 K, P', fun l hl => by rw [ew l hl]; exact wB l hl, by omega, ?_, ?_⟩
  · unfold net at n0 ⊢; rw [cw]; omega
  · unfold net1 at n1 ⊢; rw [cw]; omega
theorem Fg.hp (K : KI m) (g : Hp 3 a' b' c' m m') : Fg hs tp m m' := by
  obtain ⟨o, P', F, G, r, s, v1, v2, v3, n⟩ := g
  have K' := o.2.1 K
  refine ⟨o, P', fun x hx => (F x hx).1, fun x f hx _ _ _ _ _ => (F x hx).2 f, fun x hx => ⟨by rw [o.1 x hx.1]; exact hx.1, fun i i0 i1 => ?_⟩⟩
  have := n x hx.1 (by rw [K3_0 K]; exact hx.2) i i0
  rw [K3_0 K'] at this
  exact this i1
/-- the heap's own cells stay when only walks' lists and values are written -/
theorem keep3 (K : KI m) (P : PI m 3) (oo : Ok m m') (e : ∀ y, y ≠ 0 → y ∉ WL → m y (-1) ≠ 11 → m' y = m y) : PI m' 3 ∧ (∀ x, Lv m 3 x → Lv m' 3 x) ∧ po0 m' 3 = po0 m 3 ∧ po1 m' 3 = po1 m 3 ∧ m' 3 = m 3 := by
  have e3 : m' 3 = m 3 := e 3 (by decide) (by decide) (by rw [K3_t K]; decide)
  have e4 : m' 4 = m 4 := e 4 (by decide) (by decide) (by rw [K4_t K]; decide)
  have e5 : m' 5 = m 5 := e 5 (by decide) (by decide) (by rw [K5_t K]; decide)
  have e6 : m' 6 = m 6 := e 6 (by decide) (by decide) (by rw [K6_t K]; decide)
  obtain ⟨q1, q2, q3, q4⟩ := P.keep oo e3 (by rw [K3_0 K]; exact e4) (by rw [K3_1 K]; exact e5) (by rw [K3_2 K]; exact e6)
  exact ⟨q1, q2, q3, q4, e3⟩
theorem BX.wa : WA (BX X) := fun m m' x K oo e h => by
  obtain ⟨P, L, hx⟩ := h
  obtain ⟨q1, q2, -⟩ := keep3 K P oo e
  exact ⟨q1, q2 x L, hx⟩
theorem CS.un (h : CS k k1 a b c m) (z0 : m 0 (-1) = 0) (hh : ∀ z ∈ hs, m z (-1) = 11) (g : Un hs m m') : CS k k1 a b c m' ∧ Fg hs tp m m' := by
  obtain ⟨K, P, wB, u, n0, n1⟩ := h
  obtain ⟨o, F, r, s, b', z⟩ := g
  have e : ∀ y, y ≠ 0 → y ∉ WL → m y (-1) ≠ 11 → m' y = m y := fun y h0 hW ht => by
    funext f
    exact F y h0 hW f (fun q => ht (hh y q.2))
  obtain ⟨q1, q2, q3, q4, q5⟩ := keep3 K P o e
  refine ⟨⟨o.2.1 K, q1, b' wB, by rw [q5]; exact u, ?_, ?_⟩, o, q1, q2, fun x f hx hW _ _ hf _ => ?_, fun x hx => ⟨by rw [o.1 x hx.1]; exact hx.1, by rw [e 4 (by decide) (by decide) (by rw [K4_t K]; decide)]; exact hx.2⟩⟩
  · unfold net at n0 ⊢; rw [q3]; omega
  · unfold net1 at n1 ⊢; rw [q4]; omega
  · exact F x (fun y => hx.1 (by rw [y]; exact z0)) hW f hf
theorem CS.wk (h : CS k k1 a b c m) (z0 : m 0 (-1) = 0) (g : Wk m m') : CS k k1 a b c m' ∧ Fg hs tp m m' := by
  obtain ⟨q1, q2⟩ := h.un (hs := []) z0 (fun z hz => by cases hz) g.un
  exact ⟨q1, q2.mono (fun z hz => by cases hz)⟩
theorem VS.fg {x : Int} {t : Tr} (K : KI m) (g : Fg [] tp m m') (h : VS (BX X m) m hs x t) : VS (BX X m') m' hs x t := by
  refine h.fr (fun z hz ht => ⟨⟨g.2.1, g.2.2.1 z hz.2.1, hz.2.2⟩, fun f => ?_⟩)
  refine g.2.2.2.1 z f hz.2.1 (fun e => by have := (WL.tag K e).1; omega) (fun e => by rw [e, K22_t K] at ht; omega) (fun e => by rw [e, K26_t K] at ht; omega) (fun e => by cases e.2) (fun e => by have := e.2.1; omega)
theorem VS.x {x : Int} {t : Tr} {Y : List Int} (h : VS (BX X m) m hs x t) (hY : ∀ z, Lv m 3 z → z ∉ X → z ∉ Y) : VS (BX Y m) m hs x t := h.fr (fun z hz _ => ⟨⟨hz.1, hz.2.1, hY z hz.2.1 hz.2.2⟩, fun _ => rfl⟩)
theorem NP.lv (K : KI m) (P : PI m 3) {x : Int} (h : NP m x) (ht : m x (-1) = 11) : Lv m 3 x := by
  obtain ⟨-, -, p0, p1, p2⟩ := P
  have n : x ≠ 3 ∧ x ≠ 4 ∧ x ≠ 5 ∧ x ≠ 6 := by
    refine ⟨fun e => ?_, fun e => ?_, fun e => ?_, fun e => ?_⟩
    · rw [e, K3_t K] at ht; cases ht
    · rw [e, K4_t K] at ht; cases ht
    · rw [e, K5_t K] at ht; cases ht
    · rw [e, K6_t K] at ht; cases ht
  refine ⟨h.1, n.1, by rw [K3_0 K, K3_1 K, K3_2 K]; exact n.2, fun ⟨i, h1, h2, h3⟩ => ?_, fun z => ?_, fun z => ?_⟩
  · rw [K3_0 K] at h2 h3
    have := p0.2.1
    exact h.2 i (by omega) h2 h3
  · have := Frj.tag p1 z; omega
  · have := Frj.tag p2 z; omega
end CSs
