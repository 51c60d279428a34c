/-! L3, component: Runner.match -/
section MRs
variable {m m' m0 : SM} {hs X : List Int} {G : GM} {d : Nat} {P : Nat → Int → SM → Prop} {k k1 a b c AL : Int} {Γ : Int → Mg} {o : Nat} {A : Int → Prop}
theorem q_fits (K : KI m) (B0 : m 0 (-1) = 0) (hd : 12 ≤ d) {yc y : Int} {p : Lb} {pc : TF} {t : Tr} (hP : DvP m yc p pc) (V : VE A m hs y t) (kk : P 0 (b01 (fitC p t)) m) : WV G mX19_fits 0 [(1, yc), (1, y)] [] m d P := by
  obtain ⟨-, t24, -, -, -, h⟩ := hP
  have s := V.2.1.sort
  have t11 := V.1.2.1
  have vh := V.2.1
  rcases h with ⟨p1, f1, f2, -⟩ | ⟨p1, f1, -, lt, f2, -⟩ | ⟨p1, f1, f2, f3, -⟩
  · have : fitC p t = true := by unfold fitC; rw [p1]; rfl
    rw [this] at kk
    exact wX19_fits K hd ⟨t24, fun _ => ⟨fun _ => kk, fun z => absurd f2 z⟩, fun z => absurd f1 z⟩
  · have hf : fitC p t = (decide (t.1.1 = 2) && decide (t.1.2.1 = p.2.1)) := by unfold fitC; rw [p1]; simp
    rw [hf] at kk
    refine wX19_fits K hd ⟨t24, fun z => absurd z f1, fun _ => ⟨t11, fun z => ?_, fun z => ⟨lt.1, fun w => ?_, fun w => ?_⟩⟩⟩
    · have : t.1.1 ≠ 2 := fun q => z (by rw [s.1, q]; rfl)
      rw [decide_eq_false this] at kk; exact kk
    · have t2 : t.1.1 = 2 := sortO_inj s.2 (by decide) (by rw [← s.1]; exact z)
      have n1 : m y 1 = t.1.2.1 := by
        obtain ⟨-, h | h | h | h | h | h⟩ := vh
        · exact h.2.2
        all_goals omega
      have : t.1.2.1 ≠ p.2.1 := fun q => w (by rw [n1, lt.2.2.1]; exact q)
      rw [decide_eq_false this, Bool.and_false] at kk; exact kk
    · have t2 : t.1.1 = 2 := sortO_inj s.2 (by decide) (by rw [← s.1]; exact z)
      have n1 : m y 1 = t.1.2.1 := by
        obtain ⟨-, h | h | h | h | h | h⟩ := vh
        · exact h.2.2
        all_goals omega
      have : t.1.2.1 = p.2.1 := by rw [n1, lt.2.2.1] at w; exact w
      rw [decide_eq_true t2, decide_eq_true this] at kk; exact kk
  · have hf : fitC p t = (decide (t.1.1 = 5) && decide (t.1.2.1 = p.2.1)) := by unfold fitC; rw [p1]; simp
    rw [hf] at kk
    refine wX19_fits K hd ⟨t24, fun _ => ⟨fun z => by omega, fun _ => ⟨t11, fun z => ?_, fun z => ⟨fun w => ?_, fun w => ?_⟩⟩⟩, fun z => absurd f1 z⟩
    · have : t.1.1 ≠ 5 := fun q => z (by rw [s.1, q]; rfl)
      rw [decide_eq_false this] at kk; exact kk
    · have t2 : t.1.1 = 5 := sortO_inj s.2 (by decide) (by rw [← s.1]; exact z)
      have n1 : m y 2 = t.1.2.1 + 65 := by
        obtain ⟨-, h | h | h | h | h | h⟩ := vh
        · omega
        · omega
        · omega
        · exact h.2.2
        all_goals omega
      have : t.1.2.1 ≠ p.2.1 := fun q => w (by rw [n1, f2, q])
      rw [decide_eq_false this, Bool.and_false] at kk; exact kk
    · have t2 : t.1.1 = 5 := sortO_inj s.2 (by decide) (by rw [← s.1]; exact z)
      have n1 : m y 2 = t.1.2.1 + 65 := by
        obtain ⟨-, h | h | h | h | h | h⟩ := vh
        · omega
        · omega
        · omega
        · exact h.2.2
        all_goals omega
      have : t.1.2.1 = p.2.1 := by rw [n1, f2] at w; omega
      rw [decide_eq_true t2, decide_eq_true this] at kk; exact kk
/-- a pattern's variables are bound to the arguments -/
theorem q_mb {dep yc nx : Int} (hd : 16 ≤ d) (hX : ∀ z ∈ X, Lv m0 3 z) (h24 : ∀ m, Fg [] False m0 m → KI m → m yc (-1) = 24 ∧ m yc 3 = nx ∧ m nx (-1) = 13) : ∀ (ns f : TF) (i : Nat) (m : SM) (e : Env) (sc r c : Int), CS k k1 a b c m → Fg [] False m0 m → m 22 = m0 22 → c + lenF f ≤ 96000 → i + lenF f ≤ 6 → VsF m ns nx i → vsR ns = true → lenF ns = lenF f → VSf (BX X m) m hs f r → ScR (BX X m) m hs e sc → (∀ m' sc', Fg [] False m0 m' → CS k k1 a b (c + lenF f) m' → m' 22 = m0 22 → ScR (BX X m') m' hs (cBind ns (kids f) e) sc' → WV G mX6_step 0 [(1, 22), (1, (m' yc 4)), (1, sc'), (0, dep), (9, 0)] [] m' (d - 1) (fun k v2 m3 => Ok m' m3 ∧ (k = 0 → (P 0 v2 m3)) ∧ (k ≠ 0 → P 1 v2 m3))) → WV G mX6_match 134 [(1, 22), (9, 0), (9, 0), (0, dep), (9, 0), (9, 0), (1, yc), (1, sc), (0, (i : Int)), (1, r)] [] m d P
  | ns, .leaf, i, m, e, sc, r, c, C, g, e22, hc, h6, hV, hR, hl, hF, hS, kk => by
    have hr : r = 0 := hF
    obtain ⟨t24, -, -⟩ := h24 m g C.ki
    have C' : CS k k1 a b (c + ((lenF (.leaf : TF) : Nat) : Int)) m := C.le (by omega) (by omega) (by show c ≤ c + ((0 : Nat) : Int); omega)
    refine wX6_match_134 C.ki (by omega) ⟨fun _ => ⟨t24, kk m sc g C' e22 ?_⟩, fun z => absurd hr z⟩
    have : cBind ns (kids .leaf) e = e := by cases ns <;> rfl
    rw [this]; exact hS
  | .leaf, .inner _ _ _ _ f, i, m, e, sc, r, c, C, g, e22, hc, h6, hV, hR, hl, hF, hS, kk => by
    have hl : 0 = 1 + lenF f := hl
    omega
  | .inner z0 a0 u0 k0 ns, .inner z1 a1 u1 k1' f, i, m, e, sc, r, c, C, g, e22, hc, h6, hV, hR, hl, hF, hS, kk => by
    have hl : 1 + lenF ns = 1 + lenF f := hl
    have h6 : i + (1 + lenF f) ≤ 6 := h6
    have hc : c + ((1 + lenF f : Nat) : Int) ≤ 96000 := hc
    obtain ⟨⟨r0, rA, rt⟩, ⟨jn, yy, q1, q2, q6, q3⟩, q4⟩ := hF
    have V0 : VS (BX X m) m hs (m r 0) (a1, k1') := VS.of q1 q2 q6 q3
    have K := C.ki
    have u := C.2.2.2.1
    obtain ⟨t24, tn, t13⟩ := h24 m g K
    have hR' : (decide (0 ≤ a0.2.1) && decide (a0.2.1 < 26) && vsR ns) = true := hR
    simp only [Bool.and_eq_true, decide_eq_true_eq] at hR'
    have sz : m nx (-2) = i + ((1 + lenF ns : Nat) : Int) := vsF_at _ hV
    refine wX6_match_134 K (by omega) ⟨fun z => absurd z r0, fun _ => ⟨t24, by rw [tn]; exact t13, by omega, by rw [tn]; omega, rt, ?_⟩⟩
    rw [tn, hV.1]
    refine q_bind K (by omega) C.pi (by omega) C.rq (by omega) (fun m1 w g1 L1 nl w0 t1 f0 f1 f2 => ⟨rfl, g1.1, ?_⟩)
    have F1 := Fg.hp (hs := []) (tp := False) K g1
    have G1 := g.trans F1
    have C1 := C.hp g1
    have en : ∀ f, m1 nx f = m nx f := fun f => (F1.fd K C.pi).1 nx f (Or.inr (Or.inl t13))
    have er : m1 r 1 = m r 1 := (g1.2.2.1 r rA.2.1).2 1
    rw [er, wr_id (by omega) (by omega), show (i : Int) + 1 = ((i + 1 : Nat) : Int) by omega]
    have FR1 := FR.hp (Y := X) K g1
    refine q_mb hd hX h24 ns f (i + 1) m1 ((a0.2.1, (a1, k1')) :: e) w (m r 1) (c + 1) (C1.le (by omega) (by omega) (by omega)) G1 ?_ (by omega) (by omega) ?_ hR'.2 (by omega) (VSf.fr (fun z hz _ => FR1.1 z hz) f q4) ?_ (fun m' sc' g' C' e' S' => kk m' sc' g' (C'.le (by omega) (by omega) (by show c + 1 + (lenF f : Int) ≤ c + ((1 + lenF f : Nat) : Int); omega)) e' S')
    · rw [← e22]; funext f
      exact (g1.2.2.1 22 (Lv.of K C.pi (by rw [K22_t K]; decide) (by rw [K22_t K]; decide) (by rw [K22_t K]; decide) (by rw [K22_t K]; decide) (by decide))).2 f
    · have := VsF.ext en ns hV.2
      rw [show ((i + 1 : Nat) : Int) = (i : Int) + 1 by omega]; exact this
    · refine ⟨w0, ⟨g1.2.1, L1, fun z => nl (g.2.2.1 w (hX w z))⟩, t1, f0, ?_, by rw [f2]; exact ScR.fR FR1 e hS⟩
      rw [f1]; exact V0.fR FR1
def matR (Γ : Int → Mg) (n : Nat) (s : TF) (v : Tr) (e : Env) (o : Nat) : Nat × Option Tr := if v.1.1 = 4 then (o, none) else match caseS s v with
  | none => (o, none)
  | some (ns, cd) => stepS Γ n cd (cBind ns (kids v.2) e) o
def matS (Γ : Int → Mg) (n : Nat) (c : TF) (e : Env) (o : Nat) : Nat × Option Tr := match c with
  | .leaf => (o, none)
  | .inner _ a1 _ c1 s => match stepS Γ n (a1, c1) e o with
    | (o1, none) => (o1, none)
    | (o1, some v) => matR Γ n s v e o1
/-- the cases: size of their list -/
theorem dvf_siz : ∀ (s : TF) {m : SM} {L : Int} (i : Nat), DvF m s 1 L i → ∃ j : Nat, m L (-2) = i + j ∧ (s ≠ .leaf → j ≠ 0 ∨ caseS s ((0, 0, 0), .leaf) = none)
  | .leaf, m, L, i, h => ⟨0, by have h : m L (-2) = i := h; rw [h]; omega, fun z => absurd rfl z⟩
  | .inner z p u pc .leaf, m, L, i, h => ⟨0, by have h : m L (-2) = i := h.2; rw [h]; omega, fun _ => Or.inr (by unfold caseS; rfl)⟩
  | .inner z p u pc (.inner z2 a u2 c s), m, L, i, h => by
    obtain ⟨j, hj, -⟩ := dvf_siz s (i + 1) (by
      have := h.2.2.2
      rw [show ((i + 1 : Nat) : Int) = (i : Int) + 1 by omega]; exact this)
    exact ⟨j + 1, by rw [hj]; omega, fun _ => Or.inl (by omega)⟩
end MRs
