/-! L3, component: names, and terms as the checker sees them -/
/-- names: (name, value, perhaps the type); 26 letters -/
abbrev Nm : Type := List (Int × Tr × Option Tr)
def NmR (A : Int → Prop) (m : SM) (hs : List Int) : Nm → Int → Prop
  | [], x => x = 0
  | (n, v, t) :: e, x => x ≠ 0 ∧ A x ∧ m x (-1) = 19 ∧ m x 0 = n + 97 ∧ VS A m hs (m x 1) v ∧ (∀ t', t = some t' → VS A m hs (m x 2) t') ∧ NmR A m hs e (m x 3)
def nmV (e : Nm) : Env := e.map (fun p => (p.1, p.2.1))
def getN : Nm → Int → Option (Tr × Option Tr)
  | [], _ => none
  | (n, v) :: e, k => if n = k then some v else getN e k
theorem getN_V : ∀ (e : Nm) (k : Int), getE (nmV e) k = (getN e k).map (·.1)
  | [], _ => rfl
  | (n, v, t) :: e, k => by
    show (if n = k then some v else getE (nmV e) k) = (if n = k then some (v, t) else getN e k).map (·.1)
    by_cases h : n = k
    · rw [if_pos h, if_pos h]; rfl
    · rw [if_neg h, if_neg h]; exact getN_V e k
def TvH (A : Int → Prop) (m : SM) (hs : List Int) (h : Env) (x : Int) (a : Lb) : Prop := (100 < x ∧ m x (-1) = 14 ∧ m x 1 = a.2.2 ∧ m (m x 4) (-1) = 4 ∧ (m x 4 = 13 ∨ 100 < m x 4)) ∧
  ((a.1 = 1 ∧ m x 0 = -10 ∧ m x 2 = a.2.1 + 97 ∧ 0 ≤ a.2.1 ∧ a.2.1 < 26) ∨ (a.1 = 2 ∧ m x 0 = -11 ∧ NP m (m x 3) ∧ A (m x 3) ∧ Lit m (m x 3) (-14) a.2.1) ∨ (a.1 = 3 ∧ a.2.1 = 0 ∧ m x 0 = -11 ∧ NP m (m x 3) ∧ A (m x 3) ∧ Lit m (m x 3) (-16) 0) ∨ (a.1 = 4 ∧ m x 0 = -12 ∧ ∀ o, getE h a.2.2 = some o → VS A m hs (m x 5) o) ∨ (a.1 = 5 ∧ m x 0 = -13 ∧ m x 2 = a.2.1 + 65 ∧ 0 ≤ a.2.1 ∧ a.2.1 < 26))
def Tv (A : Int → Prop) (m : SM) (hs : List Int) (h : Env) : TF → Int → Int → Prop
  | .leaf, l, i => m l (-2) = i
  | .inner _ a _ c s, l, i => TvH A m hs h (m l i) a ∧ (lenF c ≤ 6 ∧ (a.1 ≠ 5 → c = .leaf)) ∧ Tv A m hs h c (m (m l i) 4) 0 ∧ Tv A m hs h s l (i + 1)
/-- a term: its object and what is below it -/
def TvT (A : Int → Prop) (m : SM) (hs : List Int) (h : Env) (x : Int) (t : Tr) : Prop := TvH A m hs h x t.1 ∧ (lenF t.2 ≤ 6 ∧ (t.1.1 ≠ 5 → t.2 = .leaf)) ∧ Tv A m hs h t.2 (m x 4) 0
/-- how deep a forest is -/
def dpF : TF → Nat
  | .leaf => 0
  | .inner _ _ _ c s => max (1 + dpF c) (dpF s)
section CVs
variable {m m' : SM} {hs X : List Int} {h h' : Env} {A A' : Int → Prop} {G : GM} {d : Nat} {P : Nat → Int → SM → Prop}
theorem NmR.fr (g : ∀ x, A x → (m x (-1) = 11 ∨ m x (-1) = 16 ∨ m x (-1) = 19) → A' x ∧ ∀ f, m' x f = m x f) : ∀ (e : Nm) {x : Int}, NmR A m hs e x → NmR A' m' hs e x
  | [], _, h => h
  | (n, v, t) :: e, x, ⟨h1, h2, h3, h4, h5, h6, h7⟩ => by
    have q := g x h2 (Or.inr (Or.inr h3))
    have g' : ∀ x, A x → (m x (-1) = 11 ∨ m x (-1) = 16) → A' x ∧ ∀ f, m' x f = m x f := fun x hx ht => g x hx (by rcases ht with h | h; exact Or.inl h; exact Or.inr (Or.inl h))
    exact ⟨h1, q.1, by rw [q.2]; exact h3, by rw [q.2]; exact h4, by rw [q.2]; exact h5.fr g', fun t' ht => by rw [q.2]; exact (h6 t' ht).fr g', by rw [q.2]; exact NmR.fr g e h7⟩
theorem NmR.fg (K : KI m) {tp : Prop} (g : Fg [] tp m m') (e : Nm) {x : Int} (h : NmR (BX X m) m hs e x) : NmR (BX X m') m' hs e x := by
  refine NmR.fr (fun z hz ht => ⟨⟨g.2.1, g.2.2.1 z hz.2.1, hz.2.2⟩, fun f => ?_⟩) e h
  exact g.2.2.2.1 z f hz.2.1 (fun e => by have := (WL.tag K e).1; omega) (fun e => by rw [e, K22_t K] at ht; omega) (fun e => by rw [e, K26_t K] at ht; omega) (fun e => by cases e.2) (fun e => by have := e.2.1; omega)
theorem NmR.x {Y : List Int} (hY : ∀ z, Lv m 3 z → z ∉ X → z ∉ Y) (e : Nm) {x : Int} (h : NmR (BX X m) m hs e x) : NmR (BX Y m) m hs e x := NmR.fr (fun z hz _ => ⟨⟨hz.1, hz.2.1, hY z hz.2.1 hz.2.2⟩, fun _ => rfl⟩) e h
/-- Checker.find -/
theorem q_findN (K : KI m) (hd : 12 ≤ d) {k : Int} : ∀ (e : Nm) {x : Int} (_ : NmR A m hs e x) (_ : ∀ v, (match getN e k with
      | none => v = 0
      | some (t, o) => v ≠ 0 ∧ m v (-1) = 19 ∧ VS A m hs (m v 1) t ∧ ∀ t', o = some t' → VS A m hs (m v 2) t') → P 0 v m), WV G mX8_find 2 [(9, 0), (0, k + 97), (1, x)] [] m d P
  | [], x, hE, kk => by
    have hx : x = 0 := hE
    exact wX8_find_2 K hd ⟨fun _ => kk x hx, fun z => absurd hx z⟩
  | (n, v, t) :: e, x, hE, kk => by
    obtain ⟨h1, h2, h3, h4, h5, h6, h7⟩ := hE
    refine wX8_find_2 K hd ⟨fun z => absurd z h1, fun _ => ⟨h3, fun q => kk x ?_, fun q => ?_⟩⟩
    · show (match (if n = k then some (v, t) else getN e k) with
        | none => x = 0
        | some (t, o) => x ≠ 0 ∧ m x (-1) = 19 ∧ VS A m hs (m x 1) t ∧ ∀ t', o = some t' → VS A m hs (m x 2) t')
      rw [if_pos (by omega)]
      exact ⟨h1, h3, h5, h6⟩
    · have hne : ¬ n = k := by omega
      have e1 : getN ((n, v, t) :: e) k = getN e k := by
        show (if n = k then some (v, t) else getN e k) = getN e k
        rw [if_neg hne]
      rw [e1] at kk
      exact q_findN K hd e h7 kk
theorem q_find (K : KI m) (hd : 12 ≤ d) {k : Int} (e : Nm) {x : Int} (hE : NmR A m hs e x) (kk : ∀ v, (match getN e k with
      | none => v = 0
      | some (t, o) => v ≠ 0 ∧ m v (-1) = 19 ∧ VS A m hs (m v 1) t ∧ ∀ t', o = some t' → VS A m hs (m v 2) t') → P 0 v m) : WV G mX8_find 0 [(1, x), (0, k + 97), (9, 0)] [] m d P := wX8_find K hd (q_findN K hd e hE kk)
/-- terms stay: cells that count stay, but terms' holes -/
theorem Tv.fr (g : ∀ x f, (m x (-1) = 14 ∧ 100 < x ∧ f ≠ 5) ∨ (m x (-1) = 4 ∧ (x = 13 ∨ 100 < x)) ∨ (NP m x ∧ A x ∧ m x (-1) = 11 ∧ m x 0 ≠ -18) → m' x f = m x f) (gA : ∀ x, A x → NP m x → A' x ∧ NP m' x) (gh : ∀ x p o', 100 < x → m x (-1) = 14 → getE h' p = some o' → (∀ o, getE h p = some o → VS A m hs (m x 5) o) → VS A' m' hs (m' x 5) o') : ∀ (t : TF) {l i : Int}, m l (-1) = 4 → (l = 13 ∨ 100 < l) → Tv A m hs h t l i → Tv A' m' hs h' t l i
  | .leaf, l, i, hl, hl', ht => by
    unfold Tv at ht ⊢
    rw [g l _ (Or.inr (Or.inl ⟨hl, hl'⟩))]; exact ht
  | .inner _ a _ c s, l, i, hl, hl', ht => by
    unfold Tv at ht ⊢
    obtain ⟨⟨⟨q1, q2, q3, q4, q5⟩, q6⟩, q7, q8, q9⟩ := ht
    have el : m' l i = m l i := g l i (Or.inr (Or.inl ⟨hl, hl'⟩))
    have ex : ∀ f, f ≠ 5 → m' (m l i) f = m (m l i) f := fun f hf => g _ f (Or.inl ⟨q2, q1, hf⟩)
    rw [el]
    refine ⟨⟨⟨q1, by rw [ex _ (by decide)]; exact q2, by rw [ex _ (by decide)]; exact q3, ?_, by rw [ex _ (by decide)]; exact q5⟩, ?_⟩, q7, ?_, Tv.fr g gA gh s hl hl' q9⟩
    · rw [ex _ (by decide), g _ _ (Or.inr (Or.inl ⟨q4, q5⟩))]; exact q4
    · rw [ex 0 (by decide), ex 2 (by decide), ex 3 (by decide)]
      rcases q6 with w | ⟨w1, w2, w3, w4, w5⟩ | ⟨w1, w2, w3, w4, w5, w6⟩ | ⟨w1, w2, w3⟩ | w
      · exact Or.inl w
      · refine Or.inr (Or.inl ⟨w1, w2, (gA _ w4 w3).2, (gA _ w4 w3).1, ?_⟩)
        have : ∀ f, m' (m (m l i) 3) f = m (m (m l i) 3) f := fun f => g _ f (Or.inr (Or.inr ⟨w3, w4, w5.1, by rw [w5.2.1]; decide⟩))
        unfold Lit; rw [this, this, this, this, this]; exact w5
      · refine Or.inr (Or.inr (Or.inl ⟨w1, w2, w3, (gA _ w5 w4).2, (gA _ w5 w4).1, ?_⟩))
        have : ∀ f, m' (m (m l i) 3) f = m (m (m l i) 3) f := fun f => g _ f (Or.inr (Or.inr ⟨w4, w5, w6.1, by rw [w6.2.1]; decide⟩))
        unfold Lit; rw [this, this, this, this, this]; exact w6
      · exact Or.inr (Or.inr (Or.inr (Or.inl ⟨w1, w2, fun o' ho => gh _ _ o' q1 q2 ho w3⟩)))
      · exact Or.inr (Or.inr (Or.inr (Or.inr w)))
    · rw [ex 4 (by decide)]
      exact Tv.fr g gA gh c q4 q5 q8
end CVs
