/-! L3, component: scopes, meanings, frames of runs -/
def ScR (A : Int → Prop) (m : SM) (hs : List Int) : Env → Int → Prop
  | [], x => x = 0
  | (n, v) :: e, x => x ≠ 0 ∧ A x ∧ m x (-1) = 17 ∧ m x 0 = n + 97 ∧ VS A m hs (m x 1) v ∧ ScR A m hs e (m x 2)
/-- meanings, as far as runs need them -/
def GRr (m : SM) (Γ : Int → Mg) : Prop := ∀ l, 0 ≤ l → l < 26 → match Γ l with
  | none => m 7 l = 0
  | some (.inl _) => m (m 7 l) (-1) = 21
  | some (.inr (ns, b)) => m (m 7 l) (-1) = 22 ∧ m (m (m 7 l) 0) (-1) = 13 ∧ VsF m ns (m (m 7 l) 0) 0 ∧ vsR ns = true ∧ DvT m (m (m 7 l) 1) b
section RNs
variable {m m' m'' m0 : SM} {hs X : List Int} {G : GM} {d : Nat} {P : Nat → Int → SM → Prop} {k k1 a b c a' b' c' : Int} {A A' : Int → Prop} {Γ : Int → Mg} {tp : Prop}
theorem ScR.fr (g : ∀ x, A x → (m x (-1) = 11 ∨ m x (-1) = 16 ∨ m x (-1) = 17) → A' x ∧ ∀ f, m' x f = m x f) : ∀ (e : Env) {x : Int}, ScR A m hs e x → ScR A' m' hs e x
  | [], _, h => h
  | (n, v) :: e, x, ⟨h1, h2, h3, h4, h5, h7⟩ => by
    have q := g x h2 (Or.inr (Or.inr h3))
    have g' : ∀ x, A x → (m x (-1) = 11 ∨ m x (-1) = 16) → A' x ∧ ∀ f, m' x f = m x f := fun x hx ht => g x hx (by rcases ht with h | h; exact Or.inl h; exact Or.inr (Or.inl h))
    exact ⟨h1, q.1, by rw [q.2]; exact h3, by rw [q.2]; exact h4, by rw [q.2]; exact h5.fr g', by rw [q.2]; exact ScR.fr g e h7⟩
theorem ScR.fg (K : KI m) (g : Fg [] tp m m') (e : Env) {x : Int} (h : ScR (BX X m) m hs e x) : ScR (BX X m') m' hs e x := by
  refine ScR.fr (fun z hz ht => ⟨⟨g.2.1, g.2.2.1 z hz.2.1, hz.2.2⟩, fun f => ?_⟩) e h
  exact g.2.2.2.1 z f hz.2.1 (fun e => by have := (WL.tag K e).1; omega) (fun e => by rw [e, K22_t K] at ht; omega) (fun e => by rw [e, K26_t K] at ht; omega) (fun e => by cases e.2) (fun e => by have := e.2.1; omega)
theorem ScR.fR {Y Y' : List Int} (g : FR Y Y' m m') (e : Env) {x : Int} (h : ScR (BX Y m) m hs e x) : ScR (BX Y' m') m' hs e x := ScR.fr (fun z hz _ => g.1 z hz) e h
/-- codes' cells stay -/
theorem Fg.fd (K : KI m) (P0 : PI m 3) (g : Fg [] tp m m') : Fdv m m' := by
  refine ⟨fun z f hz => ?_, g.2.2.2.2⟩
  have go : Lv m 3 z → z ∉ WL → z ≠ 22 → z ≠ 26 → m z (-1) ≠ 14 → m' z f = m z f := fun h1 h2 h3 h4 h5 => g.2.2.2.1 z f h1 h2 h3 h4 (fun e => by cases e.2) (fun e => h5 e.2.1)
  have big : ∀ t, m z (-1) = t → t ≠ 0 → t ≠ 11 → t ≠ 16 → t ≠ 17 → t ≠ 4 → t ≠ 3 → t ≠ 8 → t ≠ 10 → t ≠ 14 → m' z f = m z f := by
    intro t ht t0 t11 t16 t17 t4 t3 t8 t10 t14
    refine go (Lv.of K P0 (by omega) (by omega) (by omega) (by omega) ⟨?_, ?_, ?_, ?_⟩) (fun e => by have := (WL.tag K e).1; omega) (fun e => by rw [e, K22_t K] at ht; omega) (fun e => by rw [e, K26_t K] at ht; omega) (by omega)
    · intro e; rw [e, K3_t K] at ht; omega
    · intro e; rw [e, K4_t K] at ht; omega
    · intro e; rw [e, K5_t K] at ht; omega
    · intro e; rw [e, K6_t K] at ht; omega
  rcases hz with ⟨h1, h2⟩ | h | h | h | ⟨h1, h2, -⟩
  · have hW : z ∉ WL := fun e => by
      simp only [WL, List.mem_cons, List.not_mem_nil, or_false] at e
      omega
    exact go (Lv.of K P0 (by omega) (by omega) (by omega) (by omega) (by omega)) hW (by omega) (by omega) (by omega)
  · exact big 13 h (by decide) (by decide) (by decide) (by decide) (by decide) (by decide) (by decide) (by decide) (by decide)
  · exact big 23 h (by decide) (by decide) (by decide) (by decide) (by decide) (by decide) (by decide) (by decide) (by decide)
  · exact big 24 h (by decide) (by decide) (by decide) (by decide) (by decide) (by decide) (by decide) (by decide) (by decide)
  · exact go (h1.lv K P0 h2) (fun e => by have := (WL.tag K e).1; omega) (fun e => by rw [e, K22_t K] at h2; cases h2) (fun e => by rw [e, K26_t K] at h2; cases h2) (by omega)
theorem GRr.fg (K : KI m) (P0 : PI m 3) (g : Fg [] tp m m') (h : GRr m Γ) : GRr m' Γ := by
  have F := g.fd K P0
  have e7 : ∀ l, m' 7 l = m 7 l := fun l => g.2.2.2.1 7 l (Lv.of K P0 (by rw [K7_t K]; decide) (by rw [K7_t K]; decide) (by rw [K7_t K]; decide) (by rw [K7_t K]; decide) (by decide)) (by decide) (by decide) (by decide) (fun e => by cases e.2) (fun e => by have := e.2.1; rw [K7_t K] at this; cases this)
  intro l l0 l1
  have hl := h l l0 l1
  rw [e7]
  revert hl
  cases Γ l with
  | none => exact id
  | some q =>
    cases q with
    | inl q => exact fun hl => g.1.tag hl (by decide)
    | inr q =>
      obtain ⟨ns, b⟩ := q
      intro ⟨q1, q2, q3, q4, q5⟩
      have t22 : ∀ z f, m z (-1) = 22 → m' z f = m z f := by
        intro z f ht
        refine g.2.2.2.1 z f (Lv.of K P0 (by omega) (by omega) (by omega) (by omega) ⟨?_, ?_, ?_, ?_⟩) (fun e => by have := (WL.tag K e).1; omega) (fun e => by rw [e, K22_t K] at ht; omega) (fun e => by rw [e, K26_t K] at ht; omega) (fun e => by cases e.2) (fun e => by have := e.2.1; omega)
        · intro e; rw [e, K3_t K] at ht; omega
        · intro e; rw [e, K4_t K] at ht; omega
        · intro e; rw [e, K5_t K] at ht; omega
        · intro e; rw [e, K6_t K] at ht; omega
      refine ⟨g.1.tag q1 (by decide), ?_, ?_, q4, ?_⟩
      · rw [t22 _ _ q1]; exact g.1.tag q2 (by decide)
      · rw [t22 _ _ q1]; exact VsF.ext (fun f => F.1 _ f (Or.inr (Or.inl q2))) ns q3
      · rw [t22 _ _ q1]; exact q5.fd F
/-- a new cell -/
theorem Fg.nw {t l n : Int} (K : KI m) (B : Bs m) (P0 : PI m 3) (e : m' = al m t l n) : Fg hs tp m m' ∧ (CS k k1 a b c m → k + 1 ≤ 400000 → k1 + n ≤ 2500000 → 0 ≤ n → CS (k + 1) (k1 + n) a b c m') := by
  have old : ∀ z, m z (-1) ≠ 0 → m' z = m z := fun z hz => by funext f; rw [e, al_old B hz]
  have oo : Ok m m' := Ok.nw B e
  have e3 : m' 3 = m 3 := old 3 (by rw [K3_t K]; decide)
  have e4 : m' 4 = m 4 := old 4 (by rw [K4_t K]; decide)
  obtain ⟨q1, q2, q3, q4⟩ := P0.keep oo e3 (by rw [K3_0 K]; exact e4) (by rw [K3_1 K]; exact old 5 (by rw [K5_t K]; decide)) (by rw [K3_2 K]; exact old 6 (by rw [K6_t K]; decide))
  refine ⟨⟨oo, q1, q2, fun x f hx _ _ _ _ _ => by rw [old x hx.1], fun x hx => ⟨by rw [old x hx.1]; exact hx.1, by rw [e4]; exact hx.2⟩⟩, fun C hk hk1 hn => ?_⟩
  obtain ⟨-, -, wB, u, n0, n1⟩ := C
  have ew : ∀ l ∈ WL, m' l = m l := fun l hl => old l (by rw [(WL.tag K hl).1]; decide)
  have cw : wc m' = wc m := by
    unfold wc
    rw [ew 24 (by decide), ew 25 (by decide), ew 28 (by decide), ew 29 (by decide), ew 31 (by decide), ew 32 (by decide)]
  have x0 : m' 0 0 = m 0 0 + 1 := by rw [e]; unfold al; simp
  have x1 : m' 0 1 = m 0 1 + n := by rw [e]; unfold al; simp
  refine ⟨oo.2.1 K, q1, fun l hl => by rw [ew l hl]; exact wB l hl, by rw [e3]; exact u, ⟨?_, by omega⟩, ⟨?_, by omega⟩⟩
  · unfold net at n0 ⊢; rw [cw, q3, x0]; omega
  · unfold net1 at n1 ⊢; rw [cw, q4, x1]; omega
/-- the runner's own fields -/
theorem Fg.up22 {f v : Int} (K : KI m) (P0 : PI m 3) (hf : 0 ≤ f) (e : m' = up m 22 f v) (oo : Ok m m') : Fg hs tp m m' ∧ (CS k k1 a b c m → CS k k1 a b c m') := by
  have old : ∀ z, z ≠ 22 → m' z = m z := fun z hz => by funext f; rw [e, up_na _ hz]
  have e3 : m' 3 = m 3 := old 3 (by decide)
  have e4 : m' 4 = m 4 := old 4 (by decide)
  obtain ⟨q1, q2, q3, q4⟩ := P0.keep oo e3 (by rw [K3_0 K]; exact e4) (by rw [K3_1 K]; exact old 5 (by decide)) (by rw [K3_2 K]; exact old 6 (by decide))
  refine ⟨⟨oo, q1, q2, fun x f hx _ h22 _ _ _ => by rw [old x h22], fun x hx => ⟨by rw [oo.1 x hx.1]; exact hx.1, by rw [e4]; exact hx.2⟩⟩, fun C => ?_⟩
  obtain ⟨-, -, wB, u, n0, n1⟩ := C
  have ew : ∀ l ∈ WL, m' l = m l := fun l hl => old l (fun q => by rw [q] at hl; exact absurd hl (by decide))
  have cw : wc m' = wc m := by
    unfold wc
    rw [ew 24 (by decide), ew 25 (by decide), ew 28 (by decide), ew 29 (by decide), ew 31 (by decide), ew 32 (by decide)]
  refine ⟨oo.2.1 K, q1, fun l hl => by rw [ew l hl]; exact wB l hl, by rw [e3]; exact u, ?_, ?_⟩
  · unfold net at n0 ⊢; rw [cw, q3, old 0 (by decide)]; exact n0
  · unfold net1 at n1 ⊢; rw [cw, q4, old 0 (by decide)]; exact n1
/-- links of a row that is new since m0 may be written -/
theorem Fg.row {E : List Int} (K : KI m) (g : Fg [] tp m0 m) (h : HpE E 3 a' b' c' m m') (hE : ∀ e ∈ E, ¬ Lv m0 3 e) : Fg [] tp m0 m' := by
  obtain ⟨o1, p1, l1, f1, n1⟩ := g
  obtain ⟨o2, p2, f2, g2, r2, s2, u2, v2, w2, n2⟩ := h
  have K' := o2.2.1 K
  refine ⟨o1.trans o2, p2, fun x hx => (f2 x (l1 x hx)).1, fun x f hx q1 q2 q3 q4 q5 => ?_, fun x hx => ?_⟩
  · rw [(f2 x (l1 x hx)).2 (fun z => hE x z hx), f1 x f hx q1 q2 q3 q4 q5]
  · have hx' := n1 x hx
    refine ⟨by rw [o2.1 x hx'.1]; exact hx'.1, fun i i0 i1 => ?_⟩
    have := n2 x hx'.1 (by rw [K3_0 K]; exact hx'.2) i i0
    rw [K3_0 K'] at this
    exact this i1
theorem CS.hpe {E : List Int} (C : CS k k1 a b c m) (hE : ∀ z ∈ E, m z (-1) = 16) (g : HpE E 3 a' b' c' m m') : CS k k1 (a + a') (b + b') (c + c') m' := by
  obtain ⟨K, P0, wB, u, n0, n1⟩ := C
  obtain ⟨o2, P2, f2, g2', r2', s2', v1, v2, v3, -⟩ := g
  have ew : ∀ l ∈ WL, ∀ f, m' l f = m l f := fun l hl f => (f2 l (WL.lv K P0 hl)).2 (fun z => by
    have := hE l z
    rw [(WL.tag K hl).1] at this
    cases this) f
  have cw : wc m' = wc m := by
    unfold wc
    rw [ew 24 (by decide), ew 25 (by decide), ew 28 (by decide), ew 29 (by decide), ew 31 (by decide), ew 32 (by decide)]
  refine ⟨o2.2.1 K, P2, fun l hl => by rw [ew l hl]; exact wB l hl, by omega, ?_, ?_⟩
  · unfold net at n0 ⊢; rw [cw]; omega
  · unfold net1 at n1 ⊢; rw [cw]; omega
/-- Runner.find -/
theorem q_findS (K : KI m) (hd : 12 ≤ d) {i : Int} : ∀ (e : Env) {x : Int} (_ : ScR A m hs e x) (_ : ∀ v, (match getE e i with
      | none => v = 0
      | some t => v ≠ 0 ∧ m v (-1) = 17 ∧ VS A m hs (m v 1) t) → P 0 v m), WV G mX6_find 2 [(9, 0), (0, i + 97), (1, x)] [] m d P
  | [], x, hE, kk => by
    have hx : x = 0 := hE
    exact wX6_find_2 K hd ⟨fun _ => kk x hx, fun z => absurd hx z⟩
  | (n, v) :: e, x, hE, kk => by
    obtain ⟨h1, h2, h3, h4, h5, h7⟩ := hE
    refine wX6_find_2 K hd ⟨fun z => absurd z h1, fun _ => ⟨h3, fun q => kk x ?_, fun q => ?_⟩⟩
    · show (match (if n = i then some v else getE e i) with
        | none => x = 0
        | some t => x ≠ 0 ∧ m x (-1) = 17 ∧ VS A m hs (m x 1) t)
      rw [if_pos (by omega)]
      exact ⟨h1, h3, h5⟩
    · have hne : ¬ n = i := by omega
      have e1 : getE ((n, v) :: e) i = getE e i := by
        show (if n = i then some v else getE e i) = getE e i
        rw [if_neg hne]
      rw [e1] at kk
      exact q_findS K hd e h7 kk
/-- Store.programOf -/
theorem q_progOf (K : KI m) (hd : 16 ≤ d) (hG : GRr m Γ) {l : Int} (l0 : 0 ≤ l) (l1 : l < 26) (kk : ∀ v, (match Γ l with
      | some (.inr (ns, b)) => v ≠ 0 ∧ v = m 7 l ∧ m v (-1) = 22 ∧ m (m v 0) (-1) = 13 ∧ VsF m ns (m v 0) 0 ∧ vsR ns = true ∧ DvT m (m v 1) b
      | _ => v = 0) → P 0 v m) : WV G mX2_programOf 0 [(1, 2), (0, l + 65), (9, 0)] [] m d P := by
  refine v_bs (fun B => ?_)
  have hl := hG l l0 l1
  have ew : wr (l + 65 - 65) = l := by rw [wr_id (by omega) (by omega)]; omega
  refine wX2_programOf K (by omega) (wX2_meaning K (by omega) ⟨fun z => by omega, fun _ => ⟨fun _ => ?_, fun z => by omega⟩⟩)
  rw [ew]
  refine ⟨l0, l1, rfl, Ok.refl m, ?_⟩
  revert hl kk
  cases Γ l with
  | none =>
    intro kk hl
    have t0 : m (m 7 l) (-1) = 0 := by rw [hl]; exact B.1
    exact ⟨Or.inl hl, fun _ => kk 0 rfl, fun z => by omega⟩
  | some q =>
    cases q with
    | inl q => exact fun kk hl => ⟨Or.inr (Or.inr hl), fun _ => kk 0 rfl, fun z => by omega⟩
    | inr q =>
      obtain ⟨ns, b⟩ := q
      intro kk ⟨q1, q2, q3, q4, q5⟩
      exact ⟨Or.inr (Or.inl q1), fun z => absurd q1 z, fun _ => ⟨Or.inr q1, kk (m 7 l) ⟨(fun e => by rw [e, B.1] at q1; cases q1), rfl, q1, q2, q3, q4, q5⟩⟩⟩
end RNs
