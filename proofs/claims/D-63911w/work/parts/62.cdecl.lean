/-! L3, component: Reader.declaration -/
section CD
variable {m m' m'' : SM} {a b c n : Int} {G : GM} {d : Nat} {P : Nat → Int → SM → Prop} {s : List Int} {p : Int}
theorem Go.cel (g : Go a c n m m') (K : KI m) {z f t : Int} (hz : m z (-1) = t) (h0 : t ≠ 0) (h5 : t ≠ 5) (h6 : t ≠ 6) (ha : z ≠ a) : m' z f = m z f := by
  have h8 := K8_t K
  have h11 := K11_t K
  refine g.1 z f (by omega) ha (fun e => ?_) (fun e => ?_)
  · rw [e] at hz; omega
  · rw [e.1] at hz; omega
theorem TmT.fr (g : Go a c n m m') (K : KI m) (ha : a < b) (h13 : a ≠ 13) {v : Int} {nd : Lb × TF} (h : TmT b m v nd) : TmT b m' v nd := by
  obtain ⟨h1, h2⟩ := h
  have e4 : m' v 4 = m v 4 := g.cell K (by have := h1.2.1; omega) (by have := h1.1; omega)
  refine ⟨h1.fr g K ha h13, ?_⟩
  rw [e4]
  exact TmF.fr g K ha h13 nd.2 h1.2.2.2.1 (by have := h1.2.2.2.2.1; omega) h2
theorem TmT.mono {b' v : Int} {nd : Lb × TF} (hb : b' ≤ b) (h : TmT b m v nd) : TmT b' m v nd := ⟨h.1.mono hb, TmF.mono hb _ h.2⟩
theorem PaH.fr (g : Go a c n m m') (K : KI m) (ha : a < b) (h13 : a ≠ 13) {x : Int} {q : Pa} (h : PaH m b x q) : PaH m' b x q := by
  obtain ⟨h1, h2, h3⟩ := h
  have ex : ∀ f, m' x f = m x f := fun f => g.cel K h2 (by decide) (by decide) (by decide) (by omega)
  unfold PaH
  rw [ex, ex, ex, ex, ex, ex]
  refine ⟨h1, h2, ?_⟩
  rcases h3 with ⟨q1, q2, q3, nd, q4, q5⟩ | ⟨q1, q2, q3, nd, q4, q5⟩ | ⟨q1, q2, q3, q4, q5, q6, q7⟩
  · exact Or.inl ⟨q1, q2, q3, nd, q4, q5.fr g K ha h13⟩
  · exact Or.inr (Or.inl ⟨q1, q2, q3, nd, q4, q5.fr g K ha h13⟩)
  · refine Or.inr (Or.inr ⟨q1, q2, q3, q4, ?_, q6, TmF.fr g K ha h13 _ q5 (by omega) q7⟩)
    rw [g.cell K (by omega) (by omega)]; exact q5
theorem PaH.mono {b' x : Int} {q : Pa} (hb : b' ≤ b) (h : PaH m b x q) : PaH m b' x q := by
  obtain ⟨h1, h2, h3⟩ := h
  refine ⟨by omega, h2, ?_⟩
  rcases h3 with ⟨q1, q2, q3, nd, q4, q5⟩ | ⟨q1, q2, q3, nd, q4, q5⟩ | ⟨q1, q2, q3, q4, q5, q6, q7⟩
  · exact Or.inl ⟨q1, q2, q3, nd, q4, q5.mono hb⟩
  · exact Or.inr (Or.inl ⟨q1, q2, q3, nd, q4, q5.mono hb⟩)
  · exact Or.inr (Or.inr ⟨q1, q2, q3, q4, q5, by omega, q7.mono hb⟩)
/-- cells of these kinds stay -/
def Fq (m m' : SM) : Prop := ∀ z f, (m z (-1) = 4 ∨ m z (-1) = 14 ∨ m z (-1) = 11 ∨ m z (-1) = 20) → m' z f = m z f
theorem Lit.fq (g : Fq m m') {v x y : Int} (h : Lit m v x y) : Lit m' v x y := by
  have e : ∀ f, m' v f = m v f := fun f => g v f (by have := h.1; omega)
  unfold Lit; rw [e, e, e, e, e]; exact h
theorem TmH.fq (g : Fq m m') {x : Int} {t : Lb} (h : TmH m b x t) : TmH m' b x t := by
  obtain ⟨h1, h2, h3, h4, h5, h6⟩ := h
  have ex : ∀ f, m' x f = m x f := fun f => g x f (by omega)
  have el : ∀ f, m' (m x 4) f = m (m x 4) f := fun f => g _ f (by omega)
  unfold TmH
  rw [ex, ex, ex, ex, ex, ex, el]
  refine ⟨h1, h2, h3, h4, h5, ?_⟩
  rcases h6 with h | ⟨q1, q2, q3, q4⟩ | ⟨q1, q2, q3, q4⟩ | h | h
  · exact Or.inl h
  · exact Or.inr (Or.inl ⟨q1, q2, q3, q4.fq g⟩)
  · exact Or.inr (Or.inr (Or.inl ⟨q1, q2, q3, q4.fq g⟩))
  · exact Or.inr (Or.inr (Or.inr (Or.inl h)))
  · exact Or.inr (Or.inr (Or.inr (Or.inr h)))
theorem TmF.fq (g : Fq m m') : ∀ (t : TF) {l i : Int}, m l (-1) = 4 → TmF m b t l i → TmF m' b t l i
  | .leaf, l, i, hl, h => by
    unfold TmF at h ⊢
    rw [g l _ (by omega)]; exact h
  | .inner _ t _ cs s, l, i, hl, h => by
    unfold TmF at h ⊢
    obtain ⟨h1, h2, h3⟩ := h
    have e1 : m' l i = m l i := g l i (by omega)
    have e2 : m' (m l i) 4 = m (m l i) 4 := g _ 4 (by have := h1.2.1; omega)
    rw [e1, e2]
    exact ⟨h1.fq g, TmF.fq g cs h1.2.2.2.1 h2, TmF.fq g s hl h3⟩
theorem TmT.fq (g : Fq m m') {v : Int} {nd : Lb × TF} (h : TmT b m v nd) : TmT b m' v nd := by
  obtain ⟨h1, h2⟩ := h
  have e4 : m' v 4 = m v 4 := g v 4 (by have := h1.2.1; omega)
  refine ⟨h1.fq g, ?_⟩
  rw [e4]
  exact TmF.fq g nd.2 h1.2.2.2.1 h2
theorem PaH.fq (g : Fq m m') {x : Int} {q : Pa} (h : PaH m b x q) : PaH m' b x q := by
  obtain ⟨h1, h2, h3⟩ := h
  have ex : ∀ f, m' x f = m x f := fun f => g x f (by omega)
  unfold PaH
  rw [ex, ex, ex, ex, ex, ex]
  refine ⟨h1, h2, ?_⟩
  rcases h3 with ⟨q1, q2, q3, nd, q4, q5⟩ | ⟨q1, q2, q3, nd, q4, q5⟩ | ⟨q1, q2, q3, q4, q5, q6, q7⟩
  · exact Or.inl ⟨q1, q2, q3, nd, q4, q5.fq g⟩
  · exact Or.inr (Or.inl ⟨q1, q2, q3, nd, q4, q5.fq g⟩)
  · refine Or.inr (Or.inr ⟨q1, q2, q3, q4, ?_, q6, TmF.fq g _ q5 q7⟩)
    rw [g _ _ (by omega)]; exact q5
/-- the list's elements from i on are the parts -/
def PaF (m : SM) (b : Int) : List Pa → Int → Int → Prop
  | [], l, i => m l (-2) = i
  | q :: L, l, i => PaH m b (m l i) q ∧ PaF m b L l (i + 1)
theorem PaF.fr (g : Go a c n m m') (K : KI m) (ha : a < b) (h13 : a ≠ 13) : ∀ (L : List Pa) {l i : Int}, m l (-1) = 4 → l ≠ a → PaF m b L l i → PaF m' b L l i
  | [], l, i, hl, hn, h => by
    unfold PaF at h ⊢
    rw [g.cell K (by omega) hn]; exact h
  | q :: L, l, i, hl, hn, h => by
    unfold PaF at h ⊢
    have e1 : m' l i = m l i := g.cell K (by omega) hn
    rw [e1]
    exact ⟨h.1.fr g K ha h13, PaF.fr g K ha h13 L hl hn h.2⟩
theorem PaF.fq (g : Fq m m') : ∀ (L : List Pa) {l i : Int}, m l (-1) = 4 → PaF m b L l i → PaF m' b L l i
  | [], l, i, hl, h => by
    unfold PaF at h ⊢
    rw [g l _ (by omega)]; exact h
  | q :: L, l, i, hl, h => by
    unfold PaF at h ⊢
    have e1 : m' l i = m l i := g l i (by omega)
    rw [e1]
    exact ⟨h.1.fq g, PaF.fq g L hl h.2⟩
theorem Go.fq (g : Go 11 c n m m') (K : KI m) : Fq m m' := fun z f h => by
  have h8 := K8_t K
  have h11 := K11_t K
  have h : z ≠ 11 ∧ z ≠ 8 ∧ m z (-1) ≠ 0 := by
    refine ⟨fun e => ?_, fun e => ?_, by omega⟩
    · rw [e] at h; omega
    · rw [e] at h; omega
  exact g.1 z f h.2.2 h.1 h.1 (fun e => h.2.1 e.1)
theorem PaF.size : ∀ (L : List Pa) {l i : Int}, PaF m b L l i → m l (-2) = i + L.length
  | [], l, i, h => by unfold PaF at h; rw [h]; simp
  | q :: L, l, i, h => by
    have := PaF.size L h.2
    rw [this, List.length_cons]; omega
/-- how many parts are conditions -/
def nCo : List Pa → Int
  | [] => 0
  | q :: L => (if q.1 = 2 then 1 else 0) + nCo L
theorem nCo_bd : ∀ (L : List Pa), 0 ≤ nCo L ∧ nCo L ≤ L.length
  | [] => ⟨by decide, by decide⟩
  | q :: L => by
    have := nCo_bd L
    show 0 ≤ (if q.1 = 2 then (1 : Int) else 0) + nCo L ∧ (if q.1 = 2 then (1 : Int) else 0) + nCo L ≤ ((q :: L).length : Nat)
    rw [List.length_cons]
    split <;> omega
theorem q_i21l (hd : 12 ≤ d) {x l : Int} (hlx : l ≠ x) (hx0 : x ≠ 0) : ∀ (L : List Pa) (m : SM) (i : Int), KI m → 0 ≤ i → i + L.length ≤ 100 → m x (-1) = 21 → m l (-1) = 4 → PaF m b L l i → (0 ≤ m x 3 ∧ m x 3 ≤ i) → (∀ m', (∀ z, z ≠ x → m' z = m z) → (∀ f, f ≠ 3 → m' x f = m x f) → m' x 3 = m x 3 + nCo L → Ok m m' → P 0 0 m') → WV G mX13_init 22 [(1, x), (1, l), (9, 0), (9, 0), (0, i)] [] m d P
  | [], m, i, K, h0, h1, hx, hl, hF, hc, k => by
    have hs : m l (-2) = i := hF
    refine wX13_init_22 K hd ⟨hl, fun _ => k m (fun _ _ => rfl) (fun _ _ => rfl) (by show m x 3 = m x 3 + 0; omega) (Ok.refl m), fun q => absurd q (by omega)⟩
  | q :: L, m, i, K, h0, h1, hx, hl, hF, hc, k => by
    have hs := PaF.size _ hF
    rw [List.length_cons] at hs h1
    obtain ⟨hq, hF'⟩ := hF
    refine wX13_init_22 K hd ⟨hl, fun z => absurd z (by omega), fun z => ⟨hx, h0, z, Or.inr hq.2.1, hq.2.1, fun m7 e7 o7 => ?_⟩⟩
    have eq : (if m (m l i) 0 = 0 then (0 : Int) else 1) = if q.1 = 2 then 1 else 0 := by
      rcases hq.2.2 with ⟨q1, q2, -⟩ | ⟨q1, q2, -⟩ | ⟨q1, q2, -⟩
      · rw [if_pos q2, if_neg (by rw [q1]; decide)]
      · rw [if_pos q2, if_neg (by rw [q1]; decide)]
      · rw [if_neg (by rw [q2]; decide), if_pos q1]
    have ebd : 0 ≤ (if q.1 = 2 then (1 : Int) else 0) ∧ (if q.1 = 2 then (1 : Int) else 0) ≤ 1 := by split <;> decide
    rw [eq, wr_id (by omega) (by omega)] at e7
    rw [wr_id (by omega) (by omega)]
    have K7 := o7.2.1 K
    have gx : Fq m m7 := fun z f h => by rw [e7, up_na _ (fun e => by rw [e] at h; omega)]
    have c7 : m7 x 3 = m x 3 + if q.1 = 2 then 1 else 0 := by rw [e7, up_self]
    refine q_i21l hd hlx hx0 L m7 (i + 1) K7 (by omega) (by omega) (o7.tag hx (by decide)) (o7.tag hl (by decide)) (PaF.fq gx L hl hF') (by rw [c7]; omega) (fun m' e' f' c' o' => ?_)
    refine k m' (fun z hz => ?_) (fun f hf => ?_) ?_ (o7.trans o')
    · rw [e' z hz, e7]; funext f; rw [up_na _ hz]
    · rw [f' f hf, e7, up_nf _ hf]
    · rw [c', c7]; show m x 3 + (if q.1 = 2 then 1 else 0) + nCo L = m x 3 + ((if q.1 = 2 then 1 else 0) + nCo L); omega
end CD
