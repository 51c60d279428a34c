/-! L3, component: Checker.value, whole -/
def QV (G : GM) (n : Nat) : Prop := ∀ (t : Tr), dpF t.2 ≤ n → ∀ (d : Nat) (m : SM) (x nm : Int) (e : Nm) (h : Env) (hs X : List Int) (k k1 a b c : Int) (P : Nat → Int → SM → Prop), n + 16 ≤ d → CS k k1 a b c m → a + nzT t ≤ 16000 → b + nzF t.2 ≤ 16000 → (∀ z ∈ X, Lv m 3 z ∧ m z (-1) = 16) → TvT (BX X m) m hs h x t → NmR (BX X m) m hs e nm → scT (nmV e) h t = true → (∀ m' v, Hp 3 (nzT t) (nzF t.2) 0 m m' → VS (BX X m') m' hs v (valT (nmV e) h t) → P 0 v m') → WV G mX8_value 0 [(1, 26), (1, x), (1, nm), (9, 0), (9, 0), (9, 0)] [] m d P
section CV3
variable {hs X : List Int} {h : Env} {G : GM} {P : Nat → Int → SM → Prop} {k k1 a b c : Int}
theorem q_valL {n d : Nat} (ih : QV G n) (hd : n + 17 ≤ d) {m0 : SM} {x nm : Int} {e : Nm} {l : Int} (K0 : KI m0) (hX : ∀ z ∈ X, Lv m0 3 z ∧ m0 z (-1) = 16) (hx : 100 < x) : ∀ (s : TF) (i : Nat) (m : SM) (p q a b : Int) (ls : List (Int × Int)) (ts : List Tr) (r : Int), dpF s ≤ n + 1 → CS k k1 a b c m → Hp 3 p q 0 m0 m → a + 1 + nzF s ≤ 16000 → b + nzF s ≤ 16000 → m x (-1) = 14 → (m (m x 4) (-1) = 4 ∧ (m x 4 = 13 ∨ 100 < m x 4)) → m x 2 = l + 65 → 0 ≤ l → l < 26 → ls.length = i → ts.length = i → i + lenF s ≤ 6 → Chn m ls r → (ls.map (·.1)).Nodup → (∀ e ∈ ls, Lv m 3 e.1 ∧ m e.1 (-1) = 16 ∧ ¬ Lv m0 3 e.1) → (∀ (j : Nat) e t, ls[j]? = some e → ts[j]? = some t → VS (BX (ls.map (·.1) ++ X) m) m hs e.2 t) → Tv (BX (ls.map (·.1) ++ X) m) m hs h s (m x 4) i → NmR (BX (ls.map (·.1) ++ X) m) m hs e nm → scF (nmV e) h s = true → (∀ m' v, Hp 3 (p + 1 + nzF s) (q + nzF s) 0 m0 m' → VS (BX X m') m' hs v ((5, l, 0), pvF ts (valF (nmV e) h s)) → P 0 v m') → WV G mX8_value 73 [(1, 26), (1, x), (1, nm), (9, 0), (1, r), (0, (i : Int))] [] m d P
  | .leaf, i, m, p, q, a, b, ls, ts, r, hdp, C, g, ha, hb, tx, tL, hl, l0, l26, hi, hi2, h6, hC, hN, hL, hV, hT, hE, hsc, kk => by
    have hT : m (m x 4) (-2) = i := hT
    have ha : a + 1 + ((0 : Nat) : Int) ≤ 16000 := ha
    have K := C.ki
    have u := C.2.2.2.1
    refine wX8_value_73 K (by omega) ⟨tx, tL.1, fun _ => ?_, fun z => by omega⟩
    refine q_made K (by omega) C.pi (by omega) C.rq (by omega) (fun m' v g' L' nl v0 t' f0 f2 f3 f4 => ⟨rfl, g'.1, ?_⟩)
    have g2 := g.trans g'
    have F := FR.hp (Y := ls.map (·.1) ++ X) K g'
    refine kk m' v (g2.le (by show p + 1 ≤ p + 1 + ((0 : Nat) : Int); omega) (by show q + 0 ≤ q + ((0 : Nat) : Int); omega) (by omega)) ?_
    have nX : v ∉ X := fun z => nl (g.2.2.1 v (hX v z).1).1
    have bx : ∀ y, BX (ls.map (·.1) ++ X) m' y → BX X m' y := fun y hy => ⟨hy.1, hy.2.1, fun z => hy.2.2 (List.mem_append_right _ z)⟩
    refine VE.vs ⟨⟨⟨g'.2.1, L', nX⟩, t', f4⟩, ⟨rfl, Or.inr (Or.inr (Or.inr (Or.inl ⟨rfl, f0, by rw [f2, hl]⟩)))⟩, ?_, ?_⟩
    · show lenF (pvF ts nil) ≤ 6
      rw [pvF_len]
      have h6 : i + 0 ≤ 6 := h6
      show ts.length + 0 ≤ 6
      omega
    · show VSf (BX X m') m' hs (pvF ts nil) (m' v 3)
      rw [f3]
      refine Chn.vsf ls ts (by omega) (fun e he => ?_) (fun j e t h1 h2 => ?_) (Chn.ext ls (fun e he => by funext f; exact (g'.2.2.1 _ (hL e he).1).2 f) hC)
      · exact ⟨g'.2.1, (g'.2.2.1 _ (hL e he).1).1, fun z => (hL e he).2.2 (hX _ z).1⟩
      · exact ((hV j e t h1 h2).fR F).fr (fun z hz _ => ⟨bx z hz, fun _ => rfl⟩)
  | .inner z a0 u0 cc s, i, m, p, q, a, b, ls, ts, r, hdp, C, g, ha, hb, tx, tL, hl, l0, l26, hi, hi2, h6, hC, hN, hL, hV, hT, hE, hsc, kk => by
    have K := C.ki
    have P0 := C.pi
    obtain ⟨t1, t2, t3, t4⟩ := hT
    have nzs : (nzF (.inner z a0 u0 cc s : TF) : Int) = 1 + nzF cc + nzF s := by show ((1 + nzF cc + nzF s : Nat) : Int) = _; omega
    have lns : lenF (.inner z a0 u0 cc s : TF) = 1 + lenF s := rfl
    have dps : max (1 + dpF cc) (dpF s) ≤ n + 1 := hdp
    have scs : (scN (nmV e) h a0 && scF (nmV e) h cc && scF (nmV e) h s) = true := hsc
    rw [Bool.and_eq_true, Bool.and_eq_true] at scs
    rw [nzs] at ha hb
    rw [lns] at h6
    have hY : ∀ z ∈ ls.map (·.1) ++ X, m z (-1) = 16 ∧ Lv m 3 z := fun z hz => by
      rcases List.mem_append.mp hz with w | w
      · obtain ⟨e', he, q'⟩ := List.mem_map.mp w
        rw [← q']; exact ⟨(hL e' he).2.1, (hL e' he).1⟩
      · exact ⟨g.1.tag (hX z w).2 (by decide), (g.2.2.1 z (hX z w).1).1⟩
    have siz : ∀ (f : TF) {A : Int → Prop} {m : SM} {L j : Int}, Tv A m hs h f L j → m L (-2) = j + lenF f := by
      intro f
      induction f with
      | leaf => intro A m L j hh; have hh : m L (-2) = j := hh; rw [hh]; show j = j + ((0 : Nat) : Int); omega
      | inner _ _ _ _ s _ ih2 => intro A m L j hh; rw [ih2 hh.2.2.2]; show j + 1 + (lenF s : Int) = j + ((1 + lenF s : Nat) : Int); omega
    have sL : m (m x 4) (-2) = i + 1 + lenF s := siz s t4
    refine wX8_value_73 K (by omega) ⟨tx, tL.1, fun z => by omega, fun _ => ⟨by omega, by omega, Or.inr t1.1.2.1, ?_⟩⟩
    refine ih (a0, cc) (by show dpF cc ≤ n; omega) (d - 1) m (m (m x 4) i) nm e h hs (ls.map (·.1) ++ X) k k1 a b c _ (by omega) C (by show a + ((1 + nzF cc : Nat) : Int) ≤ 16000; omega) (by show b + (nzF cc : Int) ≤ 16000; omega) (fun z hz => ⟨(hY z hz).2, (hY z hz).1⟩) ⟨t1, t2, t3⟩ hE ?_ (fun m1 v g1 V1 => ⟨rfl, g1.1, ?_⟩)
    · show (scN (nmV e) h a0 && scF (nmV e) h cc) = true
      rw [Bool.and_eq_true]; exact scs.1
    have g1n : Hp 3 (1 + nzF cc) (nzF cc) 0 m m1 := g1.le (by show ((1 + nzF cc : Nat) : Int) ≤ _; omega) (by show (nzF cc : Int) ≤ _; omega) (by omega)
    have C1 := C.hp g1n
    have K1 := C1.ki
    have u1 := C1.2.2.2.1
    have F1 := FR.hp (Y := ls.map (·.1) ++ X) K g1n
    have hC1 : Chn m1 ls r := Chn.ext ls (fun e he => by funext f; exact (g1.2.2.1 _ (hL e he).1).2 f) hC
    have hL1 : ∀ e ∈ ls, Lv m1 3 e.1 := fun e he => (g1.2.2.1 _ (hL e he).1).1
    refine q_append K1 (by omega) C1.pi (by omega) C1.rq hC1 hL1 hN (fun m2 r2 xk g2 hC2 xk0 nxk Lxk hN2 => ⟨rfl, g2.1, ?_⟩)
    have F2 : FR (ls.map (·.1) ++ X) ((ls ++ [(xk, v)]).map (·.1) ++ X) m1 m2 := FR.hpe K1 g2 (fun z hz => List.mem_append_left _ hz) (fun z hz => by
      rw [List.map_append] at hz
      rcases List.mem_append.mp hz with w | w
      · rcases List.mem_append.mp w with w | w
        · exact Or.inl (List.mem_append_left _ w)
        · have : z = xk := by simpa using w
          rw [this]; exact Or.inr nxk
      · exact Or.inl (List.mem_append_right _ w))
    have F12 := F1.trans F2
    have gH : Hp 3 (p + (1 + nzF cc)) (q + (nzF cc + 1)) 0 m0 m2 := by
      have := Hp.row (g.trans g1n) g2 (fun z hz => by
        obtain ⟨e', he, q'⟩ := List.mem_map.mp hz
        rw [← q']; exact (hL e' he).2.2)
      exact this.le (by omega) (by omega) (by omega)
    have C2 : CS k k1 (a + (1 + nzF cc)) (b + nzF cc + 1) c m2 := by
      have hp2 : Hp 3 0 1 0 m1 m2 ∨ True := Or.inr trivial
      obtain ⟨K', P', wB, u', n0, n1⟩ := C1
      obtain ⟨o2, P2, f2, g2', r2', s2', v1, v2, v3, -⟩ := g2
      have ew : ∀ l ∈ WL, ∀ f, m2 l f = m1 l f := fun l hl f => (f2 l (WL.lv K1 P' hl)).2 (fun z => by
        obtain ⟨e', he, q'⟩ := List.mem_map.mp z
        have t16 : m1 e'.1 (-1) = 16 := g1.1.tag (hL e' he).2.1 (by decide)
        rw [q', (WL.tag K1 hl).1] at t16
        cases t16) f
      have cw : wc m2 = wc m1 := by
        unfold wc
        rw [ew 24 (by decide), ew 25 (by decide), ew 28 (by decide), ew 29 (by decide), ew 31 (by decide), ew 32 (by decide)]
      refine ⟨o2.2.1 K1, P2, fun l hl => by rw [ew l hl]; exact wB l hl, by omega, ?_, ?_⟩
      · unfold net at n0 ⊢; rw [cw]; omega
      · unfold net1 at n1 ⊢; rw [cw]; omega
    have ex : ∀ f, m2 x f = m x f := TvH.cells K P0 (fun z hz => (hY z hz).1) F12 (Or.inl ⟨tx, hx⟩)
    have eL : ∀ f, m2 (m x 4) f = m (m x 4) f := TvH.cells K P0 (fun z hz => (hY z hz).1) F12 (Or.inr tL)
    rw [wr_id (by omega) (by omega), show (i : Int) + 1 = ((i + 1 : Nat) : Int) by omega]
    refine q_valL ih hd K0 hX hx s (i + 1) m2 (p + (1 + nzF cc)) (q + (nzF cc + 1)) (a + (1 + nzF cc)) (b + nzF cc + 1) (ls ++ [(xk, v)]) (ts ++ [valT (nmV e) h (a0, cc)]) r2 (by omega) C2 gH (by omega) (by omega) (by rw [ex]; exact tx) (by rw [ex, eL]; exact tL) (by rw [ex]; exact hl) l0 l26 (by rw [List.length_append]; simp; omega) (by rw [List.length_append]; simp; omega) (by omega) hC2 hN2 (fun e' he => ?_) (fun j e' t' h1 h2 => ?_) ?_ (NmR.fR F12 e hE) scs.2 (fun m' w g' V' => ?_)
    · rcases List.mem_append.mp he with w | w
      · exact ⟨(g2.2.2.1 _ (hL1 e' w)).1, g2.1.tag (g1.1.tag (hL e' w).2.1 (by decide)) (by decide), (hL e' w).2.2⟩
      · have : e' = (xk, v) := by simpa using w
        rw [this]
        refine ⟨Lxk, ?_, fun z => nxk (g1.2.2.1 _ (g.2.2.1 _ z).1).1⟩
        have : ∀ (l : List (Int × Int)) {c : Int}, Chn m2 (l ++ [(xk, v)]) c → m2 xk (-1) = 16 := by
          intro l
          induction l with
          | nil => intro c h; exact h.2.2.1
          | cons e l ih => intro c h; obtain ⟨e1, e2⟩ := e; exact ih h.2.2.2.2
        exact this ls hC2
    · by_cases y : j < i
      · rw [List.getElem?_append_left (by omega)] at h1 h2
        exact (hV j e' t' h1 h2).fR F12
      · rw [List.getElem?_append_right (by omega)] at h1 h2
        have y0 : j = i := by
          by_cases w : j = i
          · exact w
          · rw [List.getElem?_eq_none (by simp; omega)] at h1; cases h1
        rw [show j - ls.length = 0 by omega] at h1
        rw [show j - ts.length = 0 by omega] at h2
        cases h1
        cases h2
        exact V1.fR F2
    · rw [ex]
      rw [show ((i + 1 : Nat) : Int) = (i : Int) + 1 by omega]
      exact Tv.fR K P0 (fun z hz => (hY z hz).1) F12 s tL.1 tL.2 t4
    · refine kk m' w (g'.le (by rw [nzs]; omega) (by rw [nzs]; omega) (by omega)) ?_
      rw [pvF_snoc] at V'
      exact V'
theorem q_valueS {n : Nat} (ih : n = 0 ∨ ∃ n', n = n' + 1 ∧ QV G n') : QV G n := by
  intro t hdp d m x nm e h hs X k k1 a b c P hd C ha hb hX hT hE hsc kk
  have K := C.ki
  have P0 := C.pi
  obtain ⟨⟨⟨q1, q2, q3, q4, q5⟩, q6⟩, ⟨h6, hlf⟩, hTv⟩ := hT
  have hsc' : (scN (nmV e) h t.1 && scF (nmV e) h t.2) = true := hsc
  rw [Bool.and_eq_true] at hsc'
  have nt : (nzT t : Int) = 1 + nzF t.2 := by show ((1 + nzF t.2 : Nat) : Int) = _; omega
  have done : ∀ v, VS (BX X m) m hs v (valT (nmV e) h t) → P 0 v m := fun v hv => kk m v ((Hp.refl P0).le (by omega) (by omega) (by omega)) hv
  have lit : ∀ (v : Int) (s n : Int) (o : Nat), (o = 2 ∧ s = -14) ∨ (o = 3 ∧ s = -16 ∧ n = 0) → BX X m v → Lit m v s n → VS (BX X m) m hs v ((o, n, 0), nil) := by
    intro v s n o ho hA hL
    obtain ⟨l1, l2, l3, l4, l5⟩ := hL
    refine VE.vs ⟨⟨hA, l1, l5⟩, ⟨rfl, ?_⟩, by show (0 : Nat) ≤ 6; omega, l4⟩
    rcases ho with ⟨rfl, rfl⟩ | ⟨rfl, rfl, rfl⟩
    · exact Or.inl ⟨rfl, l2, l3⟩
    · exact Or.inr (Or.inl ⟨rfl, rfl, l2⟩)
  have ords : (m (m x 0) (-1) = 51) ∧ ((m x 0 = -10 → m (m x 0) 0 = 0) ∧ (m x 0 = -11 → m (m x 0) 0 = 1) ∧ (m x 0 = -12 → m (m x 0) 0 = 2) ∧ (m x 0 = -13 → m (m x 0) 0 = 3)) := by
    refine ⟨?_, fun z => by rw [z]; exact Kn10_0 K, fun z => by rw [z]; exact Kn11_0 K, fun z => by rw [z]; exact Kn12_0 K, fun z => by rw [z]; exact Kn13_0 K⟩
    rcases q6 with w | w | w | w | w
    · rw [w.2.1]; exact Kn10_t K
    · rw [w.2.1]; exact Kn11_t K
    · rw [w.2.2.1]; exact Kn11_t K
    · rw [w.2.1]; exact Kn12_t K
    · rw [w.2.1]; exact Kn13_t K
  obtain ⟨o51, o10, o11, o12, o13⟩ := ords
  rcases q6 with ⟨w1, w2, w3, w4, w5⟩ | ⟨w1, w2, w3, w4, w5⟩ | ⟨w1, w2', w2, w3, w4, w5⟩ | ⟨w1, w2, w3⟩ | ⟨w1, w2, w3, w4, w5⟩
  · have oo := o10 w2
    refine wX8_value K (by omega) ⟨q2, o51, fun z => by omega, fun _ => ?_, fun z => by omega, fun z => by omega⟩
    rw [w3]
    refine q_find K (by omega) e hE (fun v hv => ⟨rfl, Ok.refl m, ?_⟩)
    have hs1 := hsc'.1
    unfold scN at hs1
    rw [if_pos w1, getN_V] at hs1
    have ev : valT (nmV e) h t = ((getE (nmV e) t.1.2.1).getD starT) := by
      unfold valT valN; rw [if_pos w1]
    rw [getN_V] at ev
    cases hg : getN e t.1.2.1 with
    | none => rw [hg] at hs1; cases hs1
    | some p =>
      rw [hg] at hv ev
      obtain ⟨v0, v1, v2, -⟩ := hv
      refine ⟨fun _ => ⟨v1, done _ (by rw [ev]; exact v2)⟩, fun z => absurd z v0⟩
  · have oo := o11 w2
    refine wX8_value K (by omega) ⟨q2, o51, fun z => by omega, fun z => by omega, fun _ => done _ ?_, fun z => by omega⟩
    have ev : valT (nmV e) h t = ((2, t.1.2.1, 0), nil) := by
      unfold valT valN
      rw [if_neg (by omega), if_neg (by omega), hlf (by omega), w1]; rfl
    rw [ev]
    exact lit _ _ _ 2 (Or.inl ⟨rfl, rfl⟩) w4 w5
  · have oo := o11 w2
    refine wX8_value K (by omega) ⟨q2, o51, fun z => by omega, fun z => by omega, fun _ => done _ ?_, fun z => by omega⟩
    have ev : valT (nmV e) h t = ((3, 0, 0), nil) := by
      unfold valT valN
      rw [if_neg (by omega), if_neg (by omega), hlf (by omega), w1, w2']; rfl
    rw [ev]
    exact lit _ _ _ 3 (Or.inr ⟨rfl, rfl, rfl⟩) w4 w5
  · have oo := o12 w2
    refine wX8_value K (by omega) ⟨q2, o51, fun z => by omega, fun z => by omega, fun z => by omega, fun _ => done _ ?_⟩
    have hs1 := hsc'.1
    unfold scN at hs1
    rw [if_neg (by omega), if_pos w1] at hs1
    have ev : valT (nmV e) h t = ((getE h t.1.2.2).getD starT) := by
      unfold valT valN; rw [if_neg (by omega), if_pos w1]
    cases hg : getE h t.1.2.2 with
    | none => rw [hg] at hs1; cases hs1
    | some o => rw [ev, hg]; exact w3 o hg
  · have oo := o13 w2
    refine wX8_value K (by omega) ⟨q2, o51, fun _ => ?_, fun z => by omega, fun z => by omega, fun z => by omega⟩
    have ev : valT (nmV e) h t = ((5, t.1.2.1, 0), valF (nmV e) h t.2) := by
      unfold valT valN
      rw [if_neg (by omega), if_neg (by omega), w1]
    rw [ev] at kk
    have fin : ∀ (n' : Nat), QV G n' → dpF t.2 ≤ n' + 1 → n' + 17 ≤ d → WV G mX8_value 73 [(1, 26), (1, x), (1, nm), (9, 0), (1, 0), (0, 0)] [] m d P := by
      intro n' hq hdp' hd'
      exact q_valL (c := c) (k := k) (k1 := k1) hq hd' K hX q1 t.2 0 m 0 0 a b [] [] 0 hdp' C (Hp.refl P0) (by omega) hb q2 ⟨q4, q5⟩ w3 w4 w5 rfl rfl (by omega) rfl (by simp) (fun e he => by cases he) (fun j e t h1 => by simp at h1) hTv hE hsc'.2 (fun m' v g' V' => kk m' v (g'.le (by rw [nt]; omega) (by omega) (by omega)) V')
    rcases ih with rfl | ⟨n', rfl, hq⟩
    · have hlf' : t.2 = .leaf := by
        cases h2 : t.2 with
        | leaf => rfl
        | inner z a0 u0 cc s =>
          rw [h2] at hdp
          have : max (1 + dpF cc) (dpF s) ≤ 0 := hdp
          omega
      have hT0 : m (m x 4) (-2) = 0 := by rw [hlf'] at hTv; exact hTv
      have u := C.2.2.2.1
      refine wX8_value_73 K (by omega) ⟨q2, q4, fun _ => ?_, fun z => by omega⟩
      refine q_made K (by omega) P0 (by omega) C.rq (by omega) (fun m' v g' L' nl v0 t' f0 f2 f3 f4 => ⟨rfl, g'.1, ?_⟩)
      refine kk m' v (g'.le (by rw [nt]; omega) (by omega) (by omega)) ?_
      rw [hlf']
      refine VE.vs ⟨⟨⟨g'.2.1, L', fun z => nl (hX v z).1⟩, t', f4⟩, ⟨rfl, Or.inr (Or.inr (Or.inr (Or.inl ⟨rfl, f0, by rw [f2, w3]⟩)))⟩, by show (0 : Nat) ≤ 6; omega, f3⟩
    · exact fin n' hq hdp (by omega)
theorem q_value : ∀ (n : Nat), QV G n
  | 0 => q_valueS (Or.inl rfl)
  | n + 1 => q_valueS (Or.inr ⟨n, rfl, q_value n⟩)
end CV3
