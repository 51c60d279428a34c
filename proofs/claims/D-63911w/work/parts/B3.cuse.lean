/-! L3, component: Runner.use -/
section USs
variable {m m' m0 : SM} {hs X : List Int} {G : GM} {d : Nat} {P : Nat → Int → SM → Prop} {k k1 a b c AL : Int} {Γ : Int → Mg} {o : Nat}
/-- a failure -/
theorem q_needF (C : CS k k1 a b c m) (hk : k + 1 ≤ 400000 ∧ k1 + 6 ≤ 2500000) (hd : 12 ≤ d) {Q : Nat → Int → SM → Prop} (kk : ∀ m' v, Fg [] False m m' → CS (k + 1) (k1 + 6) a b c m' → m' 22 = m 22 → m' v (-1) = 18 → Q 1 v m') : WV G mX6_need 0 [(1, 22), (0, 0)] [] m d Q := by
  have K := C.ki
  refine v_bs (fun B => ?_)
  have R := C.rw
  have := R.ok C.2.2.1
  refine wX6_need K hd ⟨fun z => absurd rfl z, fun _ => ⟨by omega, by omega, fun m3 e3 o3 => ?_⟩⟩
  obtain ⟨g, h⟩ := Fg.nw (hs := []) (tp := False) (k := k) (k1 := k1) (a := a) (b := b) (c := c) K B C.pi e3
  exact kk m3 (m 0 0) g (h C hk.1 hk.2 (by decide)) (by funext f; rw [e3, al_old B (by rw [K22_t K]; decide)]) (al_tag B e3)
theorem q_need1 (K : KI m) (hd : 12 ≤ d) {v : Int} (hv : v ≠ 0) {Q : Nat → Int → SM → Prop} (kk : Q 0 0 m) : WV G mX6_need 0 [(1, 22), (0, v)] [] m d Q := wX6_need K hd ⟨fun _ => kk, fun z => absurd z hv⟩
/-- names and values are bound -/
theorem vsF_at : ∀ (ns : TF) {m : SM} {x i : Int}, VsF m ns x i → m x (-2) = i + lenF ns
  | .leaf, m, x, i, h => by
    have h : m x (-2) = i := h
    rw [h]; show i = i + ((0 : Nat) : Int); omega
  | .inner _ a _ _ s, m, x, i, h => by
    rw [vsF_at s h.2]; show i + 1 + (lenF s : Int) = i + ((1 + lenF s : Nat) : Int); omega
/-- the scopes of a call -/
theorem q_ub {dep x : Int} (hd : 16 ≤ d) {nx : Int} {X : List Int} (hX : ∀ z ∈ X, Lv m0 3 z) (h22 : ∀ m, Fg [] False m0 m → KI m → m x (-1) = 22 ∧ m x 0 = nx ∧ m nx (-1) = 13) : ∀ (ns : TF) (i : Nat) (ls : List (Int × Int)) (vs : List Tr) (m : SM) (e : Env) (sc r c : Int), CS k k1 a b c m → Fg [] False m0 m → m 22 = m0 22 → c + ls.length ≤ 96000 → i + lenF ns ≤ 6 → VsF m ns nx i → vsR ns = true → lenF ns = ls.length → ls.length = vs.length → Chn m ls r → (∀ q ∈ ls, Lv m 3 q.1) → (∀ (j : Nat) q t, ls[j]? = some q → vs[j]? = some t → VS (BX X m) m hs q.2 t) → ScR (BX X m) m hs e sc → (∀ m' sc', Fg [] False m0 m' → CS k k1 a b (c + ls.length) m' → m' 22 = m0 22 → ScR (BX X m') m' hs (cBind ns vs e) sc' → WV G mX6_step 0 [(1, 22), (1, (m' x 1)), (1, sc'), (0, dep), (9, 0)] [] m' (d - 1) (fun k v2 m3 => Ok m' m3 ∧ (k = 0 → (P 0 v2 m3)) ∧ (k ≠ 0 → P 1 v2 m3))) → WV G mX6_use 131 [(1, 22), (9, 0), (9, 0), (0, dep), (1, 3), (9, 0), (1, x), (1, sc), (0, (i : Int)), (1, r)] [] m d P
  | .leaf, i, ls, vs, m, e, sc, r, c, C, g, e22, hc, h6, hV, hR, hl, hl2, hC, hL, hVS, hS, kk => by
    have : ls = [] := List.length_eq_zero_iff.mp (by rw [← hl]; rfl)
    subst this
    have hr : r = 0 := hC
    obtain ⟨t22, -, -⟩ := h22 m g C.ki
    have C' : CS k k1 a b (c + (([] : List (Int × Int)).length : Int)) m := C.le (by omega) (by omega) (by simp)
    exact wX6_use_131 C.ki (by omega) ⟨fun _ => ⟨t22, kk m sc g C' e22 (by cases vs <;> exact hS)⟩, fun z => absurd hr z⟩
  | .inner z0 a0 u0 k0 ns, i, ls, vs, m, e, sc, r, c, C, g, e22, hc, h6, hV, hR, hl, hl2, hC, hL, hVS, hS, kk => by
    have hl' : 1 + lenF ns = ls.length := hl
    have h6' : i + (1 + lenF ns) ≤ 6 := h6
    cases ls with
    | nil => rw [List.length_nil] at hl'; omega
    | cons q ls =>
      cases vs with
      | nil => simp at hl2
      | cons v vs =>
        obtain ⟨q1, q2⟩ := q
        rw [List.length_cons] at hl' hc
        obtain ⟨c1, c2, c3, c4, c5⟩ := hC
        subst c1
        have K := C.ki
        have u := C.2.2.2.1
        obtain ⟨t22, tn, t13⟩ := h22 m g K
        have hR' : (decide (0 ≤ a0.2.1) && decide (a0.2.1 < 26) && vsR ns) = true := hR
        simp only [Bool.and_eq_true, decide_eq_true_eq] at hR'
        have sz := vsF_at _ hV
        have sz' : m nx (-2) = i + ((1 + lenF ns : Nat) : Int) := sz
        refine wX6_use_131 K (by omega) ⟨fun z => absurd z c2, fun _ => ⟨t22, by rw [tn]; exact t13, by omega, by rw [tn]; omega, c3, K3_t K, ?_⟩⟩
        rw [tn, hV.1]
        refine q_bind K (by omega) C.pi (by omega) C.rq (by omega) (fun m1 w g1 L1 nl w0 t1 f0 f1 f2 => ⟨rfl, g1.1, ?_⟩)
        have F1 := Fg.hp (hs := []) (tp := False) K g1
        have G1 := g.trans F1
        have C1 := C.hp g1
        have K1 := C1.ki
        obtain ⟨t22', tn', t13'⟩ := h22 m1 G1 K1
        have en : ∀ f, m1 nx f = m nx f := fun f => (F1.fd K C.pi).1 nx f (Or.inr (Or.inl t13))
        have er : m1 r 1 = m r 1 := (g1.2.2.1 r (hL (r, q2) (List.mem_cons_self ..))).2 1
        rw [er, wr_id (by omega) (by omega), show (i : Int) + 1 = ((i + 1 : Nat) : Int) by omega]
        have FR1 := FR.hp (Y := X) K g1
        have V0 := (hVS 0 (r, q2) v rfl rfl).fR FR1
        refine q_ub hd hX h22 ns (i + 1) ls vs m1 ((a0.2.1, v) :: e) w (m r 1) (c + 1) (C1.le (by omega) (by omega) (by omega)) G1 ?_ (by omega) (by omega) ?_ hR'.2 (by omega) (by simpa using hl2) (Chn.ext ls (fun q hq => by funext f; exact (g1.2.2.1 _ (hL q (List.mem_cons_of_mem _ hq))).2 f) c5) (fun q hq => (g1.2.2.1 _ (hL q (List.mem_cons_of_mem _ hq))).1) (fun j q t h1 h2 => (hVS (j + 1) q t (by simpa using h1) (by simpa using h2)).fR FR1) ?_ (fun m' sc' g' C' e' S' => kk m' sc' g' (C'.le (by omega) (by omega) (by rw [List.length_cons]; omega)) e' S')
        · rw [← e22]; funext f
          exact (g1.2.2.1 22 (Lv.of K C.pi (by rw [K22_t K]; decide) (by rw [K22_t K]; decide) (by rw [K22_t K]; decide) (by rw [K22_t K]; decide) (by decide))).2 f
        · have := VsF.ext en ns hV.2
          rw [show ((i + 1 : Nat) : Int) = (i : Int) + 1 by omega]; exact this
        · refine ⟨w0, ⟨g1.2.1, L1, fun z => ?_⟩, t1, f0, ?_, by rw [f2]; exact ScR.fR FR1 e hS⟩
          · exact nl (g.2.2.1 w (hX w z))
          · rw [f1]
            rw [c4]; exact V0
end USs
/-! the arguments -/
/-- behind the arguments, in the spec -/
def useR (Γ : Int → Mg) (n : Nat) (l : Int) (vs : List Tr) (o1 : Nat) : Nat × Option Tr := match Γ l with
  | some (.inr (ns, b)) => stepS Γ n b (cBind ns vs []) o1
  | _ => if nzT ((5, l, 0), ofV vs) ≤ 200 then (o1, some ((5, l, 0), ofV vs)) else (o1, none)
def argK (Γ : Int → Mg) (n : Nat) (e : Env) (l : Int) (s : TF) (ts : List Tr) (o : Nat) : Nat × Option Tr := match argS (fun t o => stepS Γ n t e o) s o with
  | (o1, none) => (o1, none)
  | (o1, some vs) => useR Γ n l (ts ++ vs) o1
theorem argK_in {Γ : Int → Mg} {n : Nat} {e : Env} {l : Int} {z : Nat} {a : Lb} {u : Unit} {c s : TF} {ts : List Tr} {o : Nat} : argK Γ n e l (.inner z a u c s) ts o = match stepS Γ n (a, c) e o with
    | (o1, none) => (o1, none)
    | (o1, some v) => argK Γ n e l s (ts ++ [v]) o1 := by
  unfold argK
  conv => lhs; unfold argS
  cases stepS Γ n (a, c) e o with
  | mk o1 w =>
    cases w with
    | none => rfl
    | some v =>
      dsimp only
      cases argS (fun t o => stepS Γ n t e o) s o1 with
      | mk o2 w =>
        cases w with
        | none => rfl
        | some l => simp
theorem pvF_ofV : ∀ (l : List Tr), pvF l nil = ofV l
  | [] => rfl
  | x :: l => by
    show cons x.1 x.2 (pvF l nil) = cons x.1 x.2 (ofV l)
    rw [pvF_ofV l]
