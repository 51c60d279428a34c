/-! L3, component: Reader.declaration, whole -/
/-- a Constant object: its parts, its result -/
def CoH (m : SM) (b x : Int) (q : List Pa × Option (Lb × TF)) : Prop := b ≤ x ∧ m x (-1) = 21 ∧ m (m x 0) (-1) = 4 ∧ b ≤ m x 0 ∧ PaF m b q.1 (m x 0) 0 ∧ m x 3 = nCo q.1 ∧ b ≤ m x 2 ∧ Lit m (m x 2) (-15) 0 ∧
  match q.2 with
  | none => m x 1 = 0
  | some nd => TmT b m (m x 1) nd
theorem pRes_star {nn : Nat} {s : List Int} {p : Int} (h : hdC s = 42) : pRes nn s p = .inr (none, s.tail, p + 1) := by
  cases s with
  | nil => exact absurd h (by show ¬ (0 : Int) = 42; decide)
  | cons c r => unfold pRes; dsimp only; rw [if_pos (show c = 42 from h)]; rfl
theorem pRes_term {nn : Nat} {s : List Int} {p : Int} (h : hdC s ≠ 42) : pRes nn s p = match pT false nn 1 s p with
    | .inl e => .inl e
    | .inr (nd, s', p') => .inr (some nd, s', p') := by
  cases s with
  | nil =>
    have e : pT false nn 1 [] p = .inl p := by cases nn <;> rfl
    rw [e]; rfl
  | cons c r => unfold pRes; dsimp only; rw [if_neg (show ¬ c = 42 from h)]; rfl
section CE
variable {m m' m'' : SM} {a b c n : Int} {G : GM} {d : Nat} {P : Nat → Int → SM → Prop} {s : List Int} {p : Int}
theorem q_i21 (K : KI m) (hd : 12 ≤ d) {x l t v : Int} (hlx : l ≠ x) (hx0 : x ≠ 0) (hx : m x (-1) = 21) (h30 : m x 3 = 0) (hl : m l (-1) = 4) {L : List Pa} (hF : PaF m b L l 0) (hL : L.length ≤ 100) (k : ∀ m', (∀ z, z ≠ x → m' z = m z) → m' x (-1) = 21 → m' x 0 = l → m' x 1 = t → m' x 2 = v → m' x 3 = nCo L → Ok m m' → P 0 0 m') : WV G mX13_init 0 [(1, x), (1, l), (1, t), (1, v), (9, 0)] [] m d P := by
  refine wX13_init K hd ⟨hx0, hx, fun m1 e1 o1 m2 e2 o2 m3 e3 o3 => ?_⟩
  have E : ∀ z f, m3 z f = if z = x ∧ f = 2 then v else if z = x ∧ f = 1 then t else if z = x ∧ f = 0 then l else m z f := fun z f => by rw [e3, e2, e1]; rfl
  have o := o1.trans (o2.trans o3)
  have ez : ∀ z, z ≠ x → m3 z = m z := fun z hz => by funext f; rw [E]; simp [hz]
  have gx : Fq m m3 := fun z f h => by rw [ez z (fun e => by rw [e] at h; omega)]
  have c3 : m3 x 3 = 0 := by rw [E]; simp [h30]
  refine q_i21l hd hlx hx0 L m3 0 (o.2.1 K) (by omega) (by omega) (o.tag hx (by decide)) (o.tag hl (by decide)) (PaF.fq gx L hl hF) (by omega) (fun m' e' f' c' o' => ?_)
  refine k m' (fun z hz => by rw [e' z hz, ez z hz]) ?_ ?_ ?_ ?_ (by rw [c', c3]; omega) (o.trans o')
  · rw [f' _ (by decide), E]; simp [hx]
  · rw [f' _ (by decide), E]; simp
  · rw [f' _ (by decide), E]; simp
  · rw [f' _ (by decide), E]; simp
/-- the end of a declaration -/
def dTail (nn : Nat) (ps : List Pa) (s : List Int) (p : Int) : RR (List Pa × Option (Lb × TF)) := match pCh 62 s p with
    | .inl e => .inl e
    | .inr (_, s2, p2) => match pRes nn s2 p2 with
      | .inl e => .inl e
      | .inr (r, s3, p3) => .inr ((ps, r), s3, p3)
def OutD (m : SM) (b L : Int) (r : Int ⊕ (List Pa × Option (Lb × TF))) (P : Nat → Int → SM → Prop) : Prop := match r with
  | .inl e => ∀ m' v, Go 11 (60 * L + 180) (250 * L + 750) m m' → m' 8 5 = e → m' v (-1) = 12 → P 1 v m'
  | .inr q => ∀ m' v, Go 11 (60 * L + 120) (250 * L + 500) m m' → CoH m' b v q → P 0 v m'
theorem q_dfin (K : KI m) (hd : 20 ≤ d) {m1 : SM} {L : Int} (g : Go 11 (60 * L + 100) (250 * L + 400) m m1) (hb : m1 0 0 ≤ 1203200 ∧ m1 0 1 + 6 ≤ 5491882) (R : Rd m1 s p) {v : Int} {q : List Pa × Option (Lb × TF)} (hC : CoH m1 b v q) (k : OutD m b L (pEnd (.inr (q, s, p))) P) : WV G mX4_need 0 [(1, 8), (0, (if (m1 8 5) ≠ (m1 9 (-2)) then 0 else 1))] [] m1 d (fun k v1 m2 => Ok m1 m2 ∧ (k = 0 → (P 0 v m2)) ∧ (k ≠ 0 → P 1 v1 m2)) := by
  have K1 := g.ki K
  refine q_need K1 (by omega) hb (fun z => ⟨Ok.refl m1, fun _ => ?_, fun y => absurd rfl y⟩) (fun z m' x g' e t => ⟨g'.2.1, fun y => absurd y (by decide), fun _ => ?_⟩)
  · have e : m1 8 5 = m1 9 (-2) := by
      by_cases y : m1 8 5 = m1 9 (-2)
      · exact y
      · rw [if_pos y] at z; exact absurd rfl z
    rw [R.1, R.2.2.1] at e
    cases s with
    | nil => exact k m1 v (g.le (by omega) (by omega)) hC
    | cons x r => simp at e; omega
  · cases s with
    | nil =>
      have e : m1 8 5 = m1 9 (-2) := by rw [R.1, R.2.2.1]; simp
      rw [if_neg (fun y => y e)] at z
      exact absurd z (by decide)
    | cons y r => exact k m' x ((g.trans g').le (by omega) (by omega)) (by rw [e]; exact R.1) t
theorem q_d56 {nn d0 : Nat} (hT : QT G false nn 1 d0) (hd : d0 + 1 ≤ d) (hd0 : 20 ≤ d0) (K : KI m) (h13 : m 13 (-2) = 0) (R : Rd m s p) (hh : m 8 6 = 0) (hB : Bd m (s.length + 1)) (ha : m a (-1) = 4) (hba : b ≤ a) {ps : List Pa} (hF : PaF m b ps a 0) (hps : ps.length ≤ 100) (k : OutD m b s.length (pEnd (dTail nn ps s p)) P) : WV G mX4_declaration 56 [(1, 8), (1, a), (9, 0), (9, 0)] [] m d P := by
  have h0 := R.hd0
  have hB1 := hB.1
  have hB2 := hB.2
  refine v_bs (fun B => ?_)
  have xp := B.2.1
  have n0 : m (m 0 0) (-1) = 0 := B.2.2.1 _ (Int.le_refl _)
  have n1 : m (m 0 0 + 1) (-1) = 0 := B.2.2.1 _ (by omega)
  have x0 : m 0 0 ≠ 0 := by omega
  have alt : a < m 0 0 := by
    rcases Int.lt_or_le a (m 0 0) with z | z
    · exact z
    · have := B.2.2.1 a z; rw [ha] at this; cases this
  have n8 : ∀ z, m 0 0 ≤ z → (8 : Int) ≠ z := fun z hz e => by have := B.2.2.1 z hz; rw [← e, K8_t K] at this; cases this
  unfold dTail at k
  rw [pCh_eq (by decide)] at k
  refine wX4_declaration_56 K (by omega) (q_take K (by omega) R (by omega) (by omega) (fun q1 m2 e2 o2 => ⟨o2, fun _ => ?_, fun z => absurd rfl z⟩) (fun q1 m' x g e t => ⟨g.2.1, fun z => absurd z (by decide), fun _ => ?_⟩))
  rotate_left
  · rw [if_neg (by omega)] at k
    exact k m' x (g.le (by omega) (by omega)) e t
  rw [if_pos (by omega)] at k
  dsimp only at k
  have g2 := Go.pl K e2 o2
  have K2 := g2.ki K
  have x2 : m2 0 = m 0 := by funext f; rw [e2, up_na _ (by decide)]
  rw [x2]
  refine ⟨by omega, by omega, fun B2 m6 e6 o6 => ⟨x0, ?_⟩⟩
  have g6 := g2.trans (Go.nw B2 (by decide) e6)
  have K6 := g6.ki K
  refine wX9_init K6 (by omega) ⟨x0, rfl, Ok.refl m6, fun m16 e16 o16 => ?_⟩
  have g16 := g6.fr n0 x0 (m'' := m16) (fun z hz => by funext f; rw [e16, up_na _ hz]) o16
  have K16 := g16.ki K
  have b16 := g16.2.2
  have x16 : m16 0 0 = m 0 0 + 1 := by rw [e16, up_na _ (Ne.symm x0), e6]; unfold al; simp; rw [x2]
  have f16 : ∀ f, m16 (m 0 0) f = if f = 0 then -15 else if f = -1 then 11 else 0 := fun f => by
    rw [e16]
    by_cases z : f = 0
    · rw [z, up_self, if_pos rfl]
    · rw [up_nf _ z, if_neg z, e6, ← x2, al_new B2]
      by_cases w : f = -1
      · rw [if_pos w, if_pos w]
      · rw [if_neg w, if_neg w]; split <;> rfl
  have p16 : m16 8 5 = p + 1 := by rw [e16, up_na _ (n8 _ (Int.le_refl _)), e6, al_old B2 (by rw [K8_t K2]; decide), e2, up_self]
  refine ⟨by omega, by omega, fun B16 m23 e23 o23 => ?_⟩
  have g23 := g16.trans (Go.nw B16 (by decide) e23)
  have K23 := g23.ki K
  have b23 := g23.2.2
  have x23 : m23 0 0 = m 0 0 + 2 := by rw [e23]; unfold al; simp; omega
  have t23 : ∀ f, m23 (m 0 0 + 1) f = if f = -1 then 21 else if f = -2 then 0 else 0 := fun f => by rw [e23, ← x16, al_new B16]
  have f23 : ∀ f, m23 (m 0 0) f = if f = 0 then -15 else if f = -1 then 11 else 0 := fun f => by rw [e23, al_old B16 (by rw [f16]; decide), f16]
  have p23 : m23 8 5 = p + 1 := by rw [e23, al_old B16 (by rw [K8_t K16]; decide)]; exact p16
  obtain ⟨R23, l23, -⟩ := R.next K (by omega) g23 (by decide) p23
  have L23 : Lit m23 (m 0 0) (-15) 0 := ⟨by rw [f23]; rfl, by rw [f23]; rfl, by rw [f23]; rfl, by rw [f23]; rfl, by rw [f23]; rfl⟩
  -- what stands when the object is made
  have made : ∀ {m3 m' : SM} {c n t : Int} {r : Option (Lb × TF)}, Go 11 c n m23 m3 → KI m3 → (∀ z, z ≠ m 0 0 + 1 → m' z = m3 z) → m' (m 0 0 + 1) (-1) = 21 → m' (m 0 0 + 1) 0 = a → m' (m 0 0 + 1) 1 = t → m' (m 0 0 + 1) 2 = m 0 0 → m' (m 0 0 + 1) 3 = nCo ps → (match r with | none => t = 0 | some nd => TmT b m3 t nd) → CoH m' b (m 0 0 + 1) (ps, r) := by
    intro m3 m' c n t r g3 K3 e' f9 f0 f1 f2 f3 hr
    have tx : m3 (m 0 0 + 1) (-1) = 21 := g3.2.1.tag (by rw [t23]; rfl) (by decide)
    have q1 : Fq m m3 := (g23.trans g3).fq K
    have q2 : Fq m3 m' := fun z f h => by rw [e' z (fun e => by rw [e] at h; omega)]
    have ha3 : m3 a (-1) = 4 := by rw [q1 a _ (by omega)]; exact ha
    refine ⟨by omega, f9, by rw [f0, q2 a _ (by omega)]; exact ha3, by rw [f0]; exact hba, ?_, f3, by rw [f2]; omega, by rw [f2]; exact (L23.fq (g3.fq K23)).fq q2, ?_⟩
    · show PaF m' b ps (m' (m 0 0 + 1) 0) 0
      rw [f0]
      exact PaF.fq q2 ps ha3 (PaF.fq q1 ps ha hF)
    · cases r with
      | none => show m' (m 0 0 + 1) 1 = 0; rw [f1]; exact hr
      | some nd => show TmT b m' (m' (m 0 0 + 1) 1) nd; rw [f1]; exact TmT.fq q2 hr
  rw [x16]
  refine q_passes K23 (by omega) R23 (fun q2 m30 e30 o30 => ⟨rfl, o30, fun z => absurd z (by decide), fun _ => ⟨by omega, ?_⟩⟩) (fun q2 => ⟨rfl, Ok.refl m23, fun _ => ?_, fun z => absurd rfl z⟩)
  · have g30' := Go.pl K23 e30 o30
    have g30 := g23.trans g30'
    have K30 := g30.ki K
    have b30 := g30.2.2
    obtain ⟨R30, l30, -⟩ := R23.next K23 (by omega) g30' (by decide) (by rw [e30, up_self])
    have q30 : Fq m m30 := g30.fq K
    have ha30 : m30 a (-1) = 4 := by rw [q30 a _ (by omega)]; exact ha
    have e30z : ∀ f, m30 (m 0 0 + 1) f = m23 (m 0 0 + 1) f := fun f => by rw [e30, up_na _ (Ne.symm (n8 _ (by omega)))]
    refine q_i21 K30 (by omega) (by omega) (by omega) (by rw [e30z, t23]; rfl) (by rw [e30z, t23]; rfl) ha30 (PaF.fq q30 ps ha hF) hps (fun m' e' f9 f0 f1 f2 f3 o' => ⟨rfl, o', ?_⟩)
    have g' := g30.fr n1 (by omega) e' o'
    have gx : Go (m 0 0 + 1) 0 0 m30 m' := Go.one (by omega) (fun e => by rw [e, K11_t K] at n1; cases n1) e' o'
    have b' := g'.2.2
    refine q_dfin K (by omega) (L := s.length) (s := s.tail.tail) (p := p + 1 + 1) (g'.le (by omega) (by omega)) (by omega) (R30.mv K30 gx (by have := K9_t K; intro e; rw [← e, n1] at this; cases this) (by rw [e' 8 (n8 _ (by omega)), e30, up_self])) (made g30' K30 e' f9 f0 f1 f2 f3 (r := none) rfl) ?_
    rw [pRes_star q2] at k
    exact k
  · rw [pRes_term q2] at k
    have h13' : m23 13 (-2) = 0 := by rw [g23.cell K (by have := K13_t K; omega) (by decide)]; exact h13
    have hh' : m23 8 6 = hf false := by rw [g23.1 8 6 (by rw [K8_t K]; decide) (by decide) (by decide) (by omega), hh]; rfl
    refine hT (d - 1) m23 s.tail (p + 1) _ (by omega) K23 h13' R23 hh' ⟨by omega, by omega⟩ ?_
    cases eq : pT false nn 1 s.tail (p + 1) with
    | inl e =>
      rw [eq] at k
      exact fun m' v g e' t => ⟨g.2.1, fun z => absurd z (by decide), fun _ => k m' v ((g23.trans g).le (by omega) (by omega)) e' t⟩
    | inr w =>
      obtain ⟨nd, s3, p3⟩ := w
      rw [eq] at k
      intro m35 v g35' R35 T35
      have g35 := g23.trans g35'
      have K35 := g35.ki K
      have b35 := g35.2.2
      have q35 : Fq m m35 := g35.fq K
      have ha35 : m35 a (-1) = 4 := by rw [q35 a _ (by omega)]; exact ha
      have tx : m35 (m 0 0 + 1) (-1) = 21 := g35'.2.1.tag (by rw [t23]; rfl) (by decide)
      have e35z : ∀ f, m35 (m 0 0 + 1) f = m23 (m 0 0 + 1) f := fun f => g35'.cel K23 (t := 21) (by rw [t23]; rfl) (by decide) (by decide) (by decide) (fun e => by have := K11_t K; rw [← e, n1] at this; cases this)
      refine ⟨g35'.2.1, fun _ => ⟨by omega, q_i21 K35 (by omega) (by omega) (by omega) tx (by rw [e35z, t23]; rfl) ha35 (PaF.fq q35 ps ha hF) hps (fun m' e' f9 f0 f1 f2 f3 o' => ⟨rfl, o', ?_⟩)⟩, fun z => absurd rfl z⟩
      have g' := g35.fr n1 (by omega) e' o'
      have gx : Go (m 0 0 + 1) 0 0 m35 m' := Go.one (by omega) (fun e => by rw [e, K11_t K] at n1; cases n1) e' o'
      have b' := g'.2.2
      refine q_dfin K (by omega) (L := s.length) (s := s3) (p := p3) (g'.le (by omega) (by omega)) (by omega) (R35.mv K35 gx (by have := K9_t K; intro e; rw [← e, n1] at this; cases this) (by rw [e' 8 (n8 _ (by omega))]; exact R35.1)) (made g35' K35 e' f9 f0 f1 f2 f3 (r := some nd) (TmT.mono (by omega) T35)) k
end CE
