/-! L3, component: reading, the small steps -/
/-- old cells stay, but a, the names' builder and the reader's place -/
def FrX (a : Int) (m m' : SM) : Prop := ∀ z f, m z (-1) ≠ 0 → z ≠ a → z ≠ 11 → ¬ (z = 8 ∧ f = 5) → m' z f = m z f
def Go (a c n : Int) (m m' : SM) : Prop := FrX a m m' ∧ Ok m m' ∧ (m 0 0 ≤ m' 0 0 ∧ m' 0 0 ≤ m 0 0 + c) ∧ (m 0 1 ≤ m' 0 1 ∧ m' 0 1 ≤ m 0 1 + n) ∧ (m 11 (-1) ≠ 0 → m 11 (-3) ≤ m' 11 (-3))
section CR
variable {m m' m'' : SM} {a c n c' n' : Int}
theorem Go.refl : Go a 0 0 m m := ⟨fun _ _ _ _ _ _ => rfl, Ok.refl m, by omega, by omega, fun _ => Int.le_refl _⟩
theorem Go.trans (h1 : Go a c n m m') (h2 : Go a c' n' m' m'') : Go a (c + c') (n + n') m m'' := by
  obtain ⟨f1, o1, b1, d1, w1⟩ := h1
  obtain ⟨f2, o2, b2, d2, w2⟩ := h2
  exact ⟨fun z f hz h0 h3 h4 => by rw [f2 z f (by rw [o1.1 z hz]; exact hz) h0 h3 h4]; exact f1 z f hz h0 h3 h4, o1.trans o2, by omega, by omega, fun q => Int.le_trans (w1 q) (w2 (by rw [o1.1 11 q]; exact q))⟩
theorem Go.le (h : Go a c n m m') (hc : c ≤ c') (hn : n ≤ n') : Go a c' n' m m' := ⟨h.1, h.2.1, by have := h.2.2.1; omega, by have := h.2.2.2.1; omega, h.2.2.2.2⟩
theorem Go.ki (h : Go a c n m m') (K : KI m) : KI m' := h.2.1.2.1 K
theorem Go.nw (B : Bs m) {t l : Int} (hn : 0 ≤ n) (e : m' = al m t l n) : Go 11 1 n m m' := by
  refine ⟨fun z f hz _ _ _ => by rw [e, al_old B hz], Ok.nw B e, ?_, ?_, fun q => by rw [e, al_old B q]; exact Int.le_refl _⟩ <;> rw [e] <;> unfold al <;> simp <;> omega
theorem Go.pl (K : KI m) {v : Int} (e : m' = up m 8 5 v) (o : Ok m m') : Go 11 0 0 m m' := by
  refine ⟨fun z f _ _ _ h => by rw [e, up_ne _ h], o, ?_, ?_, fun _ => ?_⟩ <;> rw [e, up_na _ (by decide)] <;> omega
/-- writes to a cell that is new since m -/
theorem Go.fr (h : Go a c n m m') {x : Int} (hx : m x (-1) = 0) (h0 : x ≠ 0) (e : ∀ z, z ≠ x → m'' z = m' z) (o : Ok m' m'') : Go a c n m m'' := by
  obtain ⟨f1, o1, b1, d1, w1⟩ := h
  refine ⟨fun z f hz q1 q2 q3 => ?_, o1.trans o, ?_, ?_, fun q => ?_⟩
  · rw [e z (fun q => hz (by rw [q]; exact hx))]
    exact f1 z f hz q1 q2 q3
  · rw [e 0 (fun q => h0 q.symm)]; exact b1
  · rw [e 0 (fun q => h0 q.symm)]; exact d1
  · rw [e 11 (fun z => q (by rw [z]; exact hx))]; exact w1 q
/-- one cell is written -/
theorem Go.one {x : Int} (x0 : x ≠ 0) (x11 : x ≠ 11) (e : ∀ z, z ≠ x → m' z = m z) (o : Ok m m') : Go x 0 0 m m' :=
  ⟨fun z f _ hz _ _ => by rw [e z hz], o, by rw [e 0 (Ne.symm x0)]; omega, by rw [e 0 (Ne.symm x0)]; omega, fun _ => by rw [e 11 (Ne.symm x11)]; exact Int.le_refl _⟩
end CR
def hdC (s : List Int) : Int := match s with
  | [] => 0
  | c :: _ => c
/-- the rest of the text -/
def Rd (m : SM) (s : List Int) (p : Int) : Prop := m 8 5 = p ∧ 0 ≤ p ∧ m 9 (-2) = p + s.length ∧ m 9 (-2) ≤ 80 ∧ (∀ (j : Nat) (c : Int), s[j]? = some c → m 9 (p + j) = c) ∧ (∀ c ∈ s, 1 ≤ c ∧ c ≤ 126)
section CS
variable {m m' : SM} {s : List Int} {p a c n : Int}
theorem Rd.mv (R : Rd m s p) (K : KI m) (g : Go a c n m m') (ha : a ≠ 9) (e : m' 8 5 = p) : Rd m' s p := by
  obtain ⟨r1, r2, r3, r4, r5, r6⟩ := R
  have e9 : ∀ f, m' 9 f = m 9 f := fun f => g.1 9 f (by rw [K9_t K]; decide) (Ne.symm ha) (by decide) (by omega)
  exact ⟨e, r2, by rw [e9]; exact r3, by rw [e9]; exact r4, fun j c h => by rw [e9]; exact r5 j c h, r6⟩
theorem Rd.at (R : Rd m s p) : m 8 5 = p := R.1
theorem Rd.hd0 (R : Rd m s p) : 0 ≤ hdC s ∧ hdC s ≤ 126 := by
  cases s with
  | nil => exact ⟨by decide, by decide⟩
  | cons c r => have := R.2.2.2.2.2 c (List.mem_cons_self ..); exact ⟨by show 0 ≤ c; omega, by show c ≤ 126; omega⟩
theorem Rd.next (R : Rd m s p) (K : KI m) (h0 : hdC s ≠ 0) (g : Go a c n m m') (ha : a ≠ 9) (e : m' 8 5 = p + 1) : Rd m' s.tail (p + 1) ∧ s.length = s.tail.length + 1 ∧ s = hdC s :: s.tail := by
  cases s with
  | nil => exact absurd rfl h0
  | cons x r =>
    obtain ⟨r1, r2, r3, r4, r5, r6⟩ := R
    have e9 : ∀ f, m' 9 f = m 9 f := fun f => g.1 9 f (by rw [K9_t K]; decide) (Ne.symm ha) (by decide) (by omega)
    refine ⟨⟨e, by omega, ?_, by rw [e9]; exact r4, fun j c h => ?_, fun c h => r6 c (List.mem_cons_of_mem _ h)⟩, rfl, rfl⟩
    · rw [e9, r3]; simp; omega
    · rw [e9, ← r5 (j + 1) c (by simpa using h)]
      congr 1
      omega
variable {G : GM} {d : Nat} {P : Nat → Int → SM → Prop}
theorem q_peek (K : KI m) (hd : 12 ≤ d) (R : Rd m s p) (k : P 0 (hdC s) m) : WV G mX4_peek 0 [(1, 8)] [] m d P := by
  have h0 := R.hd0
  obtain ⟨r1, r2, r3, r4, r5, r6⟩ := R
  refine wX4_peek K hd ⟨fun q => ⟨by omega, ?_⟩, fun q => ⟨by omega, q, ?_⟩⟩
  · cases s with
    | nil => exact k
    | cons c r => rw [r1, r3] at q; simp at q; omega
  · cases s with
    | nil => rw [r1, r3] at q; simp at q
    | cons c r =>
      have e := r5 0 c rfl
      rw [show p + ((0 : Nat) : Int) = p by omega] at e
      rw [r1, e]
      exact ⟨by have : hdC (c :: r) = c := rfl; omega, k⟩
theorem q_isNext (K : KI m) (hd : 13 ≤ d) (R : Rd m s p) {lo hi : Int} (k : P 0 (if lo ≤ hdC s ∧ hdC s ≤ hi then 1 else 0) m) : WV G mX4_isNext 0 [(1, 8), (0, lo), (0, hi)] [] m d P := by
  refine wX4_isNext K (by omega) (q_peek K (by omega) R ⟨rfl, Ok.refl m, fun q => ?_, fun q => q_peek K (by omega) R ⟨rfl, Ok.refl m, fun q2 => ?_, fun q2 => ?_⟩⟩)
  · rw [if_neg (by omega)] at k; exact k
  · rw [if_neg (by omega)] at k; exact k
  · rw [if_pos ⟨q, q2⟩] at k; exact k
theorem q_need (K : KI m) (hd : 13 ≤ d) {v : Int} (hb : m 0 0 ≤ 1203200 ∧ m 0 1 + 6 ≤ 5491882) (k1 : v ≠ 0 → P 0 0 m) (k0 : v = 0 → ∀ m' x, Go 11 1 6 m m' → m' 8 5 = m 8 5 → m' x (-1) = 12 → P 1 x m') : WV G mX4_need 0 [(1, 8), (0, v)] [] m d P := by
  refine v_bs (fun B => wX4_need K (by omega) ⟨k1, fun q => ⟨hb.1, hb.2, fun m3 e3 o3 => ?_⟩⟩)
  refine k0 q m3 (m 0 0) (Go.nw B (by decide) e3) (by rw [e3, al_old B (by rw [K8_t K]; decide)]) (al_tag B e3)
theorem q_take (K : KI m) (hd : 15 ≤ d) (R : Rd m s p) {lo hi : Int} (hlo : 1 ≤ lo) (hb : m 0 0 ≤ 1203200 ∧ m 0 1 + 6 ≤ 5491882) (k1 : lo ≤ hdC s ∧ hdC s ≤ hi → ∀ m', m' = up m 8 5 (p + 1) → Ok m m' → P 0 (hdC s) m') (k0 : ¬ (lo ≤ hdC s ∧ hdC s ≤ hi) → ∀ m' x, Go 11 1 6 m m' → m' 8 5 = p → m' x (-1) = 12 → P 1 x m') : WV G mX4_take 0 [(1, 8), (0, lo), (0, hi)] [] m d P := by
  have hR := id R
  obtain ⟨r1, r2, r3, r4, r5, r6⟩ := R
  refine wX4_take K (by omega) (q_isNext K (by omega) hR ⟨rfl, Ok.refl m, q_need K (by omega) hb (fun q => ⟨Ok.refl m, fun _ m7 e7 o7 => ?_, fun z => absurd rfl z⟩) (fun q m' x g e t => ⟨g.2.1, fun z => absurd z (by decide), fun _ => ?_⟩)⟩)
  · have hq : lo ≤ hdC s ∧ hdC s ≤ hi := by
      by_cases z : lo ≤ hdC s ∧ hdC s ≤ hi
      · exact z
      · rw [if_neg z] at q; exact absurd rfl q
    rw [r1, wr_id (by omega) (by omega)] at e7
    cases s with
    | nil => exact absurd hq.1 (by show ¬ lo ≤ 0; omega)
    | cons c r =>
      have e := r5 0 c rfl
      rw [show p + ((0 : Nat) : Int) = p by omega] at e
      have e9 : m7 9 = m 9 := by funext f; rw [e7, up_na _ (by decide)]
      have h0 := hR.hd0
      rw [e9, r1, e]
      refine ⟨r2, by rw [r3]; simp; omega, by have : hdC (c :: r) = c := rfl; omega, k1 hq m7 e7 o7⟩
  · refine k0 (fun z => ?_) m' x g (by rw [e, r1]) t
    rw [if_pos z] at q; exact absurd q (by decide)
theorem q_passes (K : KI m) (hd : 13 ≤ d) (R : Rd m s p) {c0 : Int} (k1 : hdC s = c0 → ∀ m', m' = up m 8 5 (p + 1) → Ok m m' → P 0 1 m') (k0 : hdC s ≠ c0 → P 0 0 m) : WV G mX4_passes 0 [(1, 8), (0, c0), (9, 0)] [] m d P := by
  have hR := id R
  obtain ⟨r1, r2, r3, r4, r5, r6⟩ := R
  refine wX4_passes K (by omega) (q_peek K (by omega) hR ⟨rfl, Ok.refl m, fun q => ?_, fun q m5 e5 o5 => ?_⟩)
  · by_cases z : hdC s = c0
    · rw [if_neg (fun y => y z)] at q; exact absurd q (by decide)
    · rw [if_pos z]; exact ⟨Or.inl rfl, k0 z⟩
  · by_cases z : hdC s = c0
    · rw [if_neg (fun y => y z)]
      rw [r1, wr_id (by omega) (by omega)] at e5
      exact ⟨Or.inr rfl, k1 z m5 e5 o5⟩
    · rw [if_pos z] at q; exact absurd rfl q
def Lit (m : SM) (v s n : Int) : Prop := m v (-1) = 11 ∧ m v 0 = s ∧ m v 1 = n ∧ m v 3 = 0 ∧ m v 4 = 0
theorem q_digit (K : KI m) (hd : 16 ≤ d) (R : Rd m s p) (hb : m 0 0 ≤ 1203100 ∧ m 0 1 + 20 ≤ 5491882) (h : 48 ≤ hdC s ∧ hdC s ≤ 57) (k : ∀ m' v, Go 11 1 5 m m' → m' 8 5 = p + 1 → m 0 0 ≤ v → Lit m' v (-14) (hdC s - 48) → P 0 v m') : WV G mX4_digit 0 [(1, 8), (9, 0)] [] m d P := by
  have h0 := R.hd0
  refine wX4_digit K (by omega) ⟨by omega, by omega, fun B m3 e3 o3 => ⟨by have := B.2.1; omega, ?_⟩⟩
  have g3 := Go.nw B (by decide) e3
  have x0 : m 0 0 ≠ 0 := by have := B.2.1; omega
  have K3 := o3.2.1 K
  have t3 : ∀ f, m3 (m 0 0) f = if f = -1 then 11 else if f = -2 then 0 else 0 := fun f => by rw [e3, al_new B]
  have n0 : m (m 0 0) (-1) = 0 := B.2.2.1 _ (Int.le_refl _)
  have n8 : (8 : Int) ≠ m 0 0 := fun e => by rw [← e, K8_t K] at n0; cases n0
  refine wX9_init K3 (by omega) ⟨x0, rfl, Ok.refl m3, fun m4 e4 o4 => ?_⟩
  have K4 := o4.2.1 K3
  have g4 := g3.fr n0 x0 (m'' := m4) (fun z hz => by funext f; rw [e4, up_na _ hz]) o4
  have a4 : m4 8 5 = p := by rw [e4, up_na _ n8, e3, al_old B (by rw [K8_t K]; decide)]; exact R.1
  have R4 := R.mv K g4 (by decide) a4
  have b4 := g4.2.2
  refine q_take K4 (by omega) R4 (by omega) (by omega) (fun q m5 e5 o5 => ⟨o5, fun _ m6 e6 o6 => ?_, fun z => absurd rfl z⟩) (fun q => absurd h q)
  have g5 := g4.trans (Go.pl K4 e5 o5)
  have g6 := g5.fr n0 x0 (m'' := m6) (fun z hz => by funext f; rw [e6, up_na _ hz]) o6
  rw [wr_id (by omega) (by omega)] at e6
  have E : ∀ f, m6 (m 0 0) f = if f = 1 then hdC s - 48 else if f = 0 then -14 else if f = -1 then 11 else 0 := fun f => by
    rw [e6]
    by_cases z : f = 1
    · rw [z, up_self, if_pos rfl]
    · rw [up_nf _ z, e5, up_na _ (Ne.symm n8), e4, if_neg z]
      by_cases y : f = 0
      · rw [y, up_self, if_pos rfl]
      · rw [up_nf _ y, t3, if_neg y]
        by_cases w : f = -1
        · rw [if_pos w, if_pos w]
        · rw [if_neg w, if_neg w]; split <;> rfl
  refine k m6 (m 0 0) (g6.le (by omega) (by omega)) (by rw [e6, up_na _ n8, e5, up_self]) (Int.le_refl _) ⟨by rw [E]; rfl, by rw [E]; rfl, by rw [E]; rfl, by rw [E]; rfl, by rw [E]; rfl⟩
theorem q_isTerm (K : KI m) (hd : 15 ≤ d) (R : Rd m s p) {hol : Bool} (hh : m 8 6 = if hol = true then 1 else 0) (k : P 0 (if isTm hol s = true then 1 else 0) m) : WV G mX4_isTerm 0 [(1, 8)] [] m d P := by
  have h0 := R.hd0
  have e : isTm hol s = true ↔ (97 ≤ hdC s ∧ hdC s ≤ 122) ∨ (65 ≤ hdC s ∧ hdC s ≤ 90) ∨ (48 ≤ hdC s ∧ hdC s ≤ 57) ∨ hdC s = 35 ∨ (hol = true ∧ hdC s = 95) := by
    cases s with
    | nil =>
      refine ⟨fun z => (nomatch z), fun z => ?_⟩
      have e0 : hdC [] = 0 := rfl
      rw [e0] at z
      rcases z with z | z | z | z | z
      · omega
      · omega
      · omega
      · omega
      · omega
    | cons c r => unfold isTm hdC isV isL isD; simp [or_assoc]
  have yes : isTm hol s = true → P 0 1 m := fun z => by rw [if_pos z] at k; exact k
  have no : ¬ isTm hol s = true → P 0 0 m := fun z => by rw [if_neg z] at k; exact k
  refine wX4_isTerm K (by omega) (q_isNext K (by omega) R ⟨rfl, Ok.refl m, fun q1 => yes (e.mpr ?_), fun q1 => q_isNext K (by omega) R ⟨rfl, Ok.refl m, fun q2 => yes (e.mpr ?_), fun q2 => q_isNext K (by omega) R ⟨rfl, Ok.refl m, fun q3 => yes (e.mpr ?_), fun q3 => q_peek K (by omega) R ⟨rfl, Ok.refl m, fun q4 => yes (e.mpr ?_), fun q4 => ?_⟩⟩⟩⟩)
  · left
    by_cases z : 97 ≤ hdC s ∧ hdC s ≤ 122
    · exact z
    · rw [if_neg z] at q1; exact absurd rfl q1
  · right; left
    by_cases z : 65 ≤ hdC s ∧ hdC s ≤ 90
    · exact z
    · rw [if_neg z] at q2; exact absurd rfl q2
  · right; right; left
    by_cases z : 48 ≤ hdC s ∧ hdC s ≤ 57
    · exact z
    · rw [if_neg z] at q3; exact absurd rfl q3
  · right; right; right; left; exact q4
  · have n1 : ¬ (97 ≤ hdC s ∧ hdC s ≤ 122) := fun z => by rw [if_pos z] at q1; exact absurd q1 (by decide)
    have n2 : ¬ (65 ≤ hdC s ∧ hdC s ≤ 90) := fun z => by rw [if_pos z] at q2; exact absurd q2 (by decide)
    have n3 : ¬ (48 ≤ hdC s ∧ hdC s ≤ 57) := fun z => by rw [if_pos z] at q3; exact absurd q3 (by decide)
    refine ⟨fun q5 => no (fun z => ?_), fun q5 => q_peek K (by omega) R ⟨rfl, Ok.refl m, fun q6 => no (fun z => ?_), fun q6 => yes (e.mpr ?_)⟩⟩
    · rcases e.mp z with y | y | y | y | y
      · exact n1 y
      · exact n2 y
      · exact n3 y
      · exact q4 y
      · rw [hh, if_pos y.1] at q5; exact absurd q5 (by decide)
    · rcases e.mp z with y | y | y | y | y
      · exact n1 y
      · exact n2 y
      · exact n3 y
      · exact q4 y
      · exact q6 y.2
    · right; right; right; right
      refine ⟨?_, q6⟩
      by_cases y : hol = true
      · exact y
      · rw [hh, if_neg y] at q5; exact absurd rfl q5
end CS
