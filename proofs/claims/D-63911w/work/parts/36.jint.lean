/-! L2: append(int) -/
theorem digs_fuel : ∀ (k k' n : Nat), n < k → n < k' → digs k n = digs k' n
  | 0, _, _, h, _ => absurd h (by omega)
  | _ + 1, 0, _, _, h => absurd h (by omega)
  | k + 1, k' + 1, n, h1, h2 => by
    unfold digs
    by_cases q : n < 10
    · rw [if_pos q, if_pos q]
    · rw [if_neg q, if_neg q, digs_fuel k k' (n / 10) (by omega) (by omega)]
theorem dgs_lt {n : Nat} (h : n < 10) : dgs n = [48 + (n : Int)] := by unfold dgs digs; rw [if_pos h]
theorem dgs_ge {n : Nat} (h : 10 ≤ n) : dgs n = dgs (n / 10) ++ [48 + ((n % 10 : Nat) : Int)] := by
  unfold dgs
  rw [show digs (n + 1) n = digs n (n / 10) ++ [48 + ((n % 10 : Nat) : Int)] by
    conv => lhs; unfold digs
    rw [if_neg (by omega)]]
  rw [digs_fuel n (n / 10 + 1) (n / 10) (by omega) (by omega)]
theorem dgs_100 {n : Nat} (h : 100 ≤ n) : dgs n = dgs (n / 100) ++ [48 + ((n % 100 / 10 : Nat) : Int), 48 + ((n % 100 % 10 : Nat) : Int)] := by
  rw [dgs_ge (by omega), dgs_ge (n := n / 10) (by omega), show n / 10 / 10 = n / 100 by omega, show n / 10 % 10 = n % 100 / 10 by omega, show n % 10 = n % 100 % 10 by omega, List.append_assoc]; rfl
theorem dgs_pos (n : Nat) : 1 ≤ (dgs n).length := by
  by_cases q : n < 10
  · rw [dgs_lt q]; simp
  · rw [dgs_ge (by omega)]; simp
theorem dgs_len : ∀ (j n : Nat), n < 10 ^ (j + 1) → (j = 0 ∨ 10 ^ j ≤ n) → (dgs n).length = j + 1
  | 0, n, h, _ => by rw [dgs_lt (by simpa using h)]; rfl
  | j + 1, n, h1, h2 => by
    have h2 : 10 ^ (j + 1) ≤ n := h2.resolve_left (by omega)
    have p1 : 10 ^ (j + 1) = 10 * 10 ^ j := by rw [Nat.pow_succ]; omega
    have p2 : 10 ^ (j + 1 + 1) = 10 * 10 ^ (j + 1) := by rw [Nat.pow_succ 10 (j + 1)]; omega
    have p0 : 1 ≤ 10 ^ j := Nat.pos_of_ne_zero (by simp)
    rw [dgs_ge (by omega), List.length_append, dgs_len j (n / 10) (by omega) (by omega)]; rfl
theorem dgs_b (n : Nat) : ∀ c ∈ dgs n, 48 ≤ c ∧ c ≤ 57 := by
  induction n using Nat.strongRecOn with
  | _ n ih =>
    by_cases q : n < 10
    · rw [dgs_lt q]; intro c hc; rw [List.mem_singleton.mp hc]; omega
    · rw [dgs_ge (by omega)]
      intro c hc
      rcases List.mem_append.mp hc with h | h
      · exact ih (n / 10) (by omega) c h
      · rw [List.mem_singleton.mp h]; omega
/-- a row of signs is written from st on -/
def wrt (h : SM) (y st : Int) (l : List Int) : SM := fun z f => if z = y ∧ st ≤ f ∧ f < st + (l.length : Int) then l.getD (f - st).toNat 0 else h z f
theorem wrt_nil (h : SM) (y st : Int) : wrt h y st [] = h := by
  funext z f; unfold wrt; rw [if_neg]; simp
theorem wrt_snoc (h : SM) (y st e c : Int) (l : List Int) (he : st + (l.length : Int) = e) : wrt (up h y e c) y st l = wrt h y st (l ++ [c]) := by
  subst he
  funext z f
  unfold wrt up
  rw [List.length_append, List.length_singleton]
  by_cases q : z = y ∧ st ≤ f ∧ f < st + (l.length : Int)
  · rw [if_pos q, if_pos ⟨q.1, q.2.1, by omega⟩, List.getD_eq_getElem?_getD, List.getD_eq_getElem?_getD, List.getElem?_append_left (by omega)]
  · rw [if_neg q]
    by_cases q2 : z = y ∧ f = st + (l.length : Int)
    · rw [if_pos q2, if_pos ⟨q2.1, by omega, by omega⟩, List.getD_eq_getElem?_getD, q2.2, show (st + (l.length : Int) - st).toNat = l.length by omega, List.getElem?_append_right (by omega)]
      simp
    · rw [if_neg q2, if_neg]
      intro z'
      rcases Int.lt_or_le f (st + (l.length : Int)) with r | r
      · exact q ⟨z'.1, z'.2.1, r⟩
      · exact q2 ⟨z'.1, by omega⟩
section JI
variable {G : GM} {d : Nat} {P : Nat → Int → SM → Prop} {h : SM} {x i v a s : Int}
theorem ss_loop {q : Nat} {sg : Int} (hq : q < 10000000000) (h01 : sg = 0 ∨ sg = 1) (hd : 1 ≤ d) (hp : P 0 ((dgs q).length + sg) h) : ∀ (k i : Nat), i + k = 10 → 1 ≤ i → (i = 1 ∨ 10 ^ (i - 1) ≤ q) → WP G mJ17_stringSize 16 [(0, -(q : Int)), (0, sg), (0, wr (-(10 ^ i : Nat))), (0, (i : Int))] [] h d P := by
  intro k
  induction k with
  | zero =>
    intro i hi h1 h2
    obtain rfl : i = 10 := by omega
    have e : (dgs q).length = 10 := dgs_len 9 q (by simpa using hq) (by right; simpa using h2)
    refine wJ17_stringSize_16 hd ⟨fun _ => ?_, fun q => absurd q (by decide)⟩
    rw [wr_id (by omega) (by omega)]
    rw [e] at hp; exact hp
  | succ k ih =>
    intro i hi h1 h2
    have hpw : (10 ^ i : Nat) ≤ 1000000000 := by
      have : (10 ^ i : Nat) ≤ 10 ^ 9 := Nat.pow_le_pow_right (by decide) (by omega)
      simpa using this
    have hp1 : 1 ≤ (10 ^ i : Nat) := Nat.pos_of_ne_zero (by simp)
    have ew : wr (-((10 ^ i : Nat) : Int)) = -((10 ^ i : Nat) : Int) := wr_id (by omega) (by omega)
    rw [ew]
    refine wJ17_stringSize_16 hd ⟨fun q => absurd q (by omega), fun _ => ⟨fun r => ?_, fun r => ?_⟩⟩
    · have e1 : wr (10 * -((10 ^ i : Nat) : Int)) = wr (-((10 ^ (i + 1) : Nat) : Int)) := by
        rw [Nat.pow_succ]; congr 1; omega
      rw [e1, wr_id (x := (i : Int) + 1) (by omega) (by omega)]
      exact ih (i + 1) (by omega) (by omega) (Or.inr (by simp only [Nat.add_sub_cancel]; omega))
    · have e : (dgs q).length = i := by
        obtain ⟨j, rfl⟩ : ∃ j, i = j + 1 := ⟨i - 1, by omega⟩
        refine dgs_len j q (by omega) ?_
        rcases h2 with h2 | h2
        · left; omega
        · right; simpa using h2
      rw [wr_id (by omega) (by omega)]
      rw [e] at hp; exact hp
theorem c_ssize {n : Int} (hn : in32 n) (hd : 1 ≤ d) (hp : P 0 ((decI n).length : Int) h) : WP G mJ17_stringSize 0 [(0, n), (9, 0), (9, 0), (9, 0)] [] h d P := by
  obtain ⟨n1, n2⟩ := hn
  refine wJ17_stringSize hd ⟨fun q => ?_, fun q => ?_⟩
  · have e : decI n = 45 :: dgs (-n).toNat := by unfold decI; rw [if_pos q]
    rw [e] at hp
    have := ss_loop (G := G) (P := P) (h := h) (q := (-n).toNat) (sg := 1) (by omega) (Or.inr rfl) hd (by rw [List.length_cons] at hp; exact hp) 9 1 (by decide) (by decide) (Or.inl rfl)
    rw [show -(((-n).toNat : Nat) : Int) = n by omega] at this
    exact this
  · have e : decI n = dgs n.toNat := by unfold decI; rw [if_neg (by omega)]
    rw [e] at hp
    rw [wr_id (by omega) (by omega)]
    have := ss_loop (G := G) (P := P) (h := h) (q := n.toNat) (sg := 0) (by omega) (Or.inl rfl) hd (by rw [Int.add_zero]; exact hp) 9 1 (by decide) (by decide) (Or.inl rfl)
    rw [show -((n.toNat : Nat) : Int) = -n by omega] at this
    exact this
def sgL (sg : Int) : List Int := if sg = 0 then [] else [45]
theorem gc_loop {y sg : Int} (hy : 0 < y) (h01 : sg = 0 ∨ sg = 1) (hd : 1 ≤ d) : ∀ (q : Nat) (h : SM) (e : Int), q ≤ 2147483648 → gDg h → h y (-1) = 102 → ((sgL sg ++ dgs q).length : Int) ≤ e → e ≤ h y (-2) → e < 1000000 → P 0 (e - ((sgL sg ++ dgs q).length : Int)) (wrt h y (e - ((sgL sg ++ dgs q).length : Int)) (sgL sg ++ dgs q)) →
    WP G mJ17_getChars 22 [(0, -(q : Int)), (9, 0), (1, y), (9, 0), (9, 0), (0, e), (0, sg)] [] h d P := by
  intro q
  induction q using Nat.strongRecOn with
  | _ q ih =>
    intro h e hq D ty he1 he2 he3 hp
    have hsg : ((sgL sg).length : Int) = sg := by unfold sgL; rcases h01 with r | r <;> (rw [r]; simp)
    have hdl := dgs_pos q
    have y21 : y ≠ -21 := by omega
    have y22 : y ≠ -22 := by omega
    obtain ⟨-, ⟨d1, d2⟩, ⟨d3, d4⟩, -, -, dg⟩ := id D
    have up21 : ∀ {h2 : SM} {j c : Int}, h2 = up h y j c → (∀ f, h2 (-21) f = h (-21) f) := fun e f => by rw [e, up_na _ (Ne.symm y21)]
    rw [List.length_append] at he1
    refine wJ17_getChars_22 hd ⟨fun r => ?_, fun r => ?_⟩
    · have q100 : q < 100 := by omega
      rw [Int.neg_neg, wr_id (x := (q : Int)) (by omega) (by omega), wr_id (x := e + -1) (by omega) (by omega)]
      obtain ⟨g1, g2⟩ := dg q (by omega) (by omega)
      refine ⟨d3, by omega, by omega, ty, by omega, by omega, hy, by rw [g2]; omega, fun h9 e9 => ?_⟩
      rw [g2] at e9
      have t9 : h9 y (-1) = 102 := by rw [e9, up_nf _ (by omega)]; exact ty
      have l9 : h9 y (-2) = h y (-2) := by rw [e9, up_nf _ (by omega)]
      refine ⟨fun r2 => ?_, fun r2 => ?_⟩
      · have q10 : q < 10 := by omega
        have hl : dgs q = [48 + ((q % 10 : Nat) : Int)] := by rw [dgs_lt q10]; congr 2; omega
        rw [hl] at hp he1
        refine ⟨fun s0 => ?_, fun s0 => ?_⟩
        · have : sgL sg = [] := by unfold sgL; rw [if_pos s0]
          rw [this, List.nil_append, List.length_singleton] at hp
          have e2 := wrt_snoc h y (e - 1) (e - 1) (48 + ((q % 10 : Nat) : Int)) [] (by simp)
          rw [wrt_nil] at e2
          rw [show ((1 : Nat) : Int) = 1 from rfl, show [48 + ((q % 10 : Nat) : Int)] = [] ++ [48 + ((q % 10 : Nat) : Int)] from rfl, ← e2] at hp
          rw [e9, show e + -1 = e - 1 by omega, show (q : Int) % 10 = ((q % 10 : Nat) : Int) by omega]
          exact hp
        · have hs1 : sg = 1 := by omega
          have : sgL sg = [45] := by unfold sgL; rw [if_neg s0]
          rw [this] at hp
          rw [wr_id (by omega) (by omega)]
          refine ⟨t9, by simp at he1; omega, by rw [l9]; omega, hy, by decide, fun h16 e16 => ?_⟩
          have e2 := wrt_snoc h y (e - 2) (e - 1) (48 + ((q % 10 : Nat) : Int)) [45] (by simp; omega)
          have e3 := wrt_snoc (up h y (e - 1) (48 + ((q % 10 : Nat) : Int))) y (e - 2) (e - 2) 45 [] (by simp)
          rw [wrt_nil, List.nil_append] at e3
          rw [← e3] at e2
          rw [show (([45] ++ [48 + ((q % 10 : Nat) : Int)] : List Int).length : Int) = 2 from rfl, ← e2] at hp
          rw [e16, e9, show e + -1 + -1 = e - 2 by omega, show e + -1 = e - 1 by omega, show (q : Int) % 10 = ((q % 10 : Nat) : Int) by omega]
          exact hp
      · have q10 : 10 ≤ q := by omega
        have hl : dgs q = [48 + ((q / 10 : Nat) : Int), 48 + ((q % 10 : Nat) : Int)] := by rw [dgs_ge q10, dgs_lt (by omega)]; rfl
        rw [hl] at hp he1
        rw [wr_id (x := e + -1 + -1) (by simp at he1; omega) (by omega)]
        have g1' : h9 (-21) q = 48 + (q : Int) / 10 := by rw [up21 e9]; exact g1
        refine ⟨by rw [up21 e9]; exact d1, by omega, by rw [up21 e9]; omega, t9, by simp at he1; omega, by rw [l9]; omega, hy, by rw [g1']; omega, fun h26 e26 => ?_⟩
        rw [g1'] at e26
        have t26 : h26 y (-1) = 102 := by rw [e26, up_nf _ (by simp at he1; omega)]; exact t9
        have l26 : h26 y (-2) = h y (-2) := by rw [e26, up_nf _ (by simp at he1; omega), l9]
        refine ⟨fun s0 => ?_, fun s0 => ?_⟩
        · have : sgL sg = [] := by unfold sgL; rw [if_pos s0]
          rw [this, List.nil_append] at hp
          have e2 := wrt_snoc h y (e - 2) (e - 1) (48 + ((q % 10 : Nat) : Int)) [48 + ((q / 10 : Nat) : Int)] (by simp; omega)
          have e3 := wrt_snoc (up h y (e - 1) (48 + ((q % 10 : Nat) : Int))) y (e - 2) (e - 2) (48 + ((q / 10 : Nat) : Int)) [] (by simp)
          rw [wrt_nil, List.nil_append] at e3
          rw [← e3] at e2
          rw [show (([48 + ((q / 10 : Nat) : Int), 48 + ((q % 10 : Nat) : Int)]).length : Int) = 2 from rfl, show [48 + ((q / 10 : Nat) : Int), 48 + ((q % 10 : Nat) : Int)] = [48 + ((q / 10 : Nat) : Int)] ++ [48 + ((q % 10 : Nat) : Int)] from rfl, ← e2] at hp
          rw [e26, e9, show e + -1 + -1 = e - 2 by omega, show e + -1 = e - 1 by omega, show (q : Int) % 10 = ((q % 10 : Nat) : Int) by omega, show (q : Int) / 10 = ((q / 10 : Nat) : Int) by omega]
          exact hp
        · have hs1 : sg = 1 := by omega
          have : sgL sg = [45] := by unfold sgL; rw [if_neg s0]
          rw [this] at hp
          rw [wr_id (by simp at he1; omega) (by omega)]
          refine ⟨t26, by simp at he1; omega, by rw [l26]; omega, hy, by decide, fun h33 e33 => ?_⟩
          have e2 := wrt_snoc h y (e - 3) (e - 1) (48 + ((q % 10 : Nat) : Int)) [45, 48 + ((q / 10 : Nat) : Int)] (by simp; omega)
          have e3 := wrt_snoc (up h y (e - 1) (48 + ((q % 10 : Nat) : Int))) y (e - 3) (e - 2) (48 + ((q / 10 : Nat) : Int)) [45] (by simp; omega)
          have e4 := wrt_snoc (up (up h y (e - 1) (48 + ((q % 10 : Nat) : Int))) y (e - 2) (48 + ((q / 10 : Nat) : Int))) y (e - 3) (e - 3) 45 [] (by simp)
          rw [wrt_nil, List.nil_append] at e4
          rw [← e4] at e3
          rw [show ([45] ++ [48 + ((q / 10 : Nat) : Int)] : List Int) = [45, 48 + ((q / 10 : Nat) : Int)] from rfl] at e3
          rw [← e3] at e2
          rw [show (([45] ++ [48 + ((q / 10 : Nat) : Int), 48 + ((q % 10 : Nat) : Int)] : List Int).length : Int) = 3 from rfl, show ([45] ++ [48 + ((q / 10 : Nat) : Int), 48 + ((q % 10 : Nat) : Int)] : List Int) = [45, 48 + ((q / 10 : Nat) : Int)] ++ [48 + ((q % 10 : Nat) : Int)] from rfl, ← e2] at hp
          rw [e33, e26, e9, show e + -1 + -1 + -1 = e - 3 by omega, show e + -1 + -1 = e - 2 by omega, show e + -1 = e - 1 by omega, show (q : Int) % 10 = ((q % 10 : Nat) : Int) by omega, show (q : Int) / 10 = ((q / 10 : Nat) : Int) by omega]
          exact hp
    · have q100 : 100 ≤ q := by omega
      have hl := dgs_100 q100
      have hdl2 := dgs_pos (q / 100)
      rw [hl] at hp he1
      simp only [List.length_append, List.length_cons, List.length_nil] at he1
      have et : (-(q : Int)).tdiv 100 = -((q / 100 : Nat) : Int) := by
        rw [Int.neg_tdiv]
        have : (q : Int).tdiv 100 = ((q / 100 : Nat) : Int) := by
          rw [Int.tdiv_eq_ediv_of_nonneg (by omega)]; omega
        rw [this]
      rw [et, wr_id (x := -((q / 100 : Nat) : Int)) (by omega) (by omega), wr_id (x := -((q / 100 : Nat) : Int) * 100) (by omega) (by omega), show -((q / 100 : Nat) : Int) * 100 - -(q : Int) = ((q % 100 : Nat) : Int) by omega, wr_id (x := ((q % 100 : Nat) : Int)) (by omega) (by omega), wr_id (x := e + -1) (by omega) (by omega), wr_id (x := e + -1 + -1) (by omega) (by omega)]
      obtain ⟨g1, g2⟩ := dg ((q % 100 : Nat) : Int) (by omega) (by omega)
      refine ⟨d3, by omega, by omega, ty, by omega, by omega, hy, by rw [g2]; omega, fun h9 e9 => ?_⟩
      rw [g2] at e9
      have t9 : h9 y (-1) = 102 := by rw [e9, up_nf _ (by omega)]; exact ty
      have l9 : h9 y (-2) = h y (-2) := by rw [e9, up_nf _ (by omega)]
      have g1' : h9 (-21) ((q % 100 : Nat) : Int) = 48 + ((q % 100 : Nat) : Int) / 10 := by rw [up21 e9]; exact g1
      refine ⟨by rw [up21 e9]; exact d1, by omega, by rw [up21 e9]; omega, t9, by omega, by rw [l9]; omega, hy, by rw [g1']; omega, fun h53 e53 => ?_⟩
      rw [g1'] at e53
      have D53 : gDg h53 := gDg_of D (fun z hz => by
        have hz0 := oldC_neg hz
        rw [e53, e9]; funext f; rw [up_na _ (by omega), up_na _ (by omega)])
      refine ih (q / 100) (by omega) h53 (e + -1 + -1) (by omega) D53 (by rw [e53, up_nf _ (by omega)]; exact t9) (by rw [List.length_append]; omega) (by rw [e53, up_nf _ (by omega), l9]; omega) (by omega) ?_
      have hst : e + -1 + -1 - ((sgL sg ++ dgs (q / 100)).length : Int) = e - ((sgL sg ++ (dgs (q / 100) ++ [48 + ((q % 100 / 10 : Nat) : Int), 48 + ((q % 100 % 10 : Nat) : Int)])).length : Int) := by
        simp only [List.length_append, List.length_cons, List.length_nil]; omega
      rw [hst, e53, e9, show ((q % 100 : Nat) : Int) % 10 = ((q % 100 % 10 : Nat) : Int) by omega, show ((q % 100 : Nat) : Int) / 10 = ((q % 100 / 10 : Nat) : Int) by omega]
      have hle : e - ((sgL sg ++ (dgs (q / 100) ++ [48 + ((q % 100 / 10 : Nat) : Int), 48 + ((q % 100 % 10 : Nat) : Int)])).length : Int) + ((sgL sg ++ dgs (q / 100)).length : Int) = e + -1 + -1 := by omega
      rw [wrt_snoc _ y _ (e + -1 + -1) _ _ hle, wrt_snoc _ y _ (e + -1) _ _ (by simp only [List.length_append, List.length_cons, List.length_nil] at hle ⊢; omega), List.append_assoc, List.append_assoc]
      exact hp
theorem decI_b (n : Int) : ∀ c ∈ decI n, 0 ≤ c ∧ c ≤ 127 := by
  intro c hc
  unfold decI at hc
  split at hc
  · rcases List.mem_cons.mp hc with q | q
    · omega
    · have := dgs_b _ c q; omega
  · have := dgs_b _ c hc; omega
theorem decI_pos (n : Int) : 1 ≤ (decI n).length := by
  unfold decI
  split
  · simp
  · exact dgs_pos _
theorem decI_le {n : Int} (hn : in32 n) : (decI n).length ≤ 11 := by
  have key : ∀ q : Nat, q < 10000000000 → (dgs q).length ≤ 10 := fun q hq => by
    have : ∀ (j q : Nat), q < 10 ^ (j + 1) → (dgs q).length ≤ j + 1 := by
      intro j
      induction j with
      | zero => intro q hq; rw [dgs_lt (by simpa using hq)]; simp
      | succ j ih =>
        intro q hq
        by_cases r : q < 10
        · rw [dgs_lt r]; simp
        · have p2 : 10 ^ (j + 1 + 1) = 10 * 10 ^ (j + 1) := by rw [Nat.pow_succ 10 (j + 1)]; omega
          rw [dgs_ge (by omega), List.length_append]
          have := ih (q / 10) (by omega)
          simp; omega
    exact this 9 q (by simpa using hq)
  obtain ⟨h1, h2⟩ := hn
  unfold decI
  split
  · rw [List.length_cons]
    have := key (-n).toNat (by omega)
    omega
  · have := key n.toNat (by omega)
    omega
set_option maxHeartbeats 1000000 in
theorem c_sbaddI {n : Int} (hG : GI h) (ht : h x (-1) = 6) (hn : in32 n) (hsz : h x 3 < 100000) (hlc : h 0 0 ≤ 1203200) (hls : h 0 1 + 2 * h x 3 + 62 ≤ 5491882) (hd : 6 ≤ d) (k : ∀ h', GI h' → Rapp (vw h) x (decI n) (vw h') → P 0 x h') : WP G mJ4_append_3 0 [(1, x), (0, n)] [] h d P := by
  obtain ⟨a1, a2, a3, a4, a5, a6, a7⟩ := hG.2.2.1 x ht
  have x0 := sb_pos hG ht
  obtain ⟨w1, w2, w3, w4, w5⟩ := vw_sb ht
  have l1 := decI_pos n
  have l2 := decI_le hn
  refine wJ4_append_3 (by omega) ⟨ht, wJ3_append_3 (by omega) ⟨ht, c_ssize hn (by omega) ⟨rfl, ht, ?_⟩⟩⟩
  generalize hL : ((decI n).length : Int) = L at *
  rw [wr_id (by omega) (by omega)]
  have fin : ∀ (h3 : SM) (y : Int), h3 x (-1) = 6 → h3 x 0 = y → h3 x 1 = 0 → h3 x 3 = h x 3 → h3 y (-1) = 102 → 0 < y → x ≠ y → h x 3 + L ≤ h3 y (-2) → h3 y (-2) < 1000000 → (∀ i, 0 ≤ i → i < h x 3 → h3 y i = h (h x 0) i) → gDg h3 →
      ((y = h x 0 ∧ h3 y (-2) = h y (-2) ∧ ∀ f, h3 0 f = h 0 f) ∨ (y = h 0 0 ∧ (∀ f, h3 0 f = if f = 0 then h 0 0 + 1 else if f = 1 then h 0 1 + h3 y (-2) else h 0 f) ∧ h3 y (-2) ≤ 2 * (h x 3 + L) + 40 ∧ 2 * h (h x 0) (-2) ≤ h3 y (-2) ∧ 0 < h3 y (-2))) → (∀ z, z ≠ x → z ≠ y → z ≠ 0 → h3 z = h z) →
      WP G mJ3_isLatin1 0 [(1, x)] [] h3 (d - 1 - 1) (fun k v8 h9 => k = 0 ∧ ((v8 = 0 → ((h9 x (-1) = 6) ∧ (False))) ∧ (v8 ≠ 0 → ((h9 x (-1) = 6) ∧ (WP G mJ17_getChars 0 [(0, n), (0, (h x 3 + L)), (1, (h9 x 0)), (9, 0), (9, 0), (9, 0), (9, 0)] [] h9 (d - 1 - 1) (fun k v12 h13 => k = 0 ∧ ((h13 x (-1) = 6) ∧ (0 < x) ∧ (∀ h16, h16 = up h13 x 3 (h x 3 + L) → (0 = 0 ∧ P 0 x h16))))))))) := by
    intro h3 y t1 t2 t3 t4 t5 t6 t7 t8 t9 t10 tD t11 t12
    refine c_lat t1 t3 (by omega) ⟨rfl, fun q => absurd q (by decide), fun _ => ⟨t1, ?_⟩⟩
    rw [t2]
    have last : ∀ h13, h13 = wrt h3 y (h x 3) (decI n) → (h13 x (-1) = 6) ∧ (0 < x) ∧ (∀ h16, h16 = up h13 x 3 (h x 3 + L) → (0 = 0 ∧ P 0 x h16)) := by
      intro h13 e13
      have o13 : ∀ z, z ≠ y → h13 z = h3 z := fun z hz => by rw [e13]; funext f; unfold wrt; rw [if_neg (fun q => hz q.1)]
      refine ⟨by rw [o13 x t7]; exact t1, x0, fun h' e' => ⟨rfl, ?_⟩⟩
      have A : ∀ z f, h' z f = if z = x ∧ f = 3 then h x 3 + L else if z = y ∧ h x 3 ≤ f ∧ f < h x 3 + L then (decI n).getD (f - h x 3).toNat 0 else h3 z f := fun z f => by
        rw [e', e13, ← hL]; rfl
      have ax : ∀ f, f ≠ 3 → h' x f = h3 x f := fun f hf => by rw [A, if_neg (fun q => hf q.2), if_neg (fun q => t7 q.1)]
      have ay : ∀ f, h' y f = if h x 3 ≤ f ∧ f < h x 3 + L then (decI n).getD (f - h x 3).toNat 0 else h3 y f := fun f => by
        rw [A, if_neg (fun q => t7 q.1.symm)]
        by_cases q : h x 3 ≤ f ∧ f < h x 3 + L
        · rw [if_pos ⟨rfl, q⟩, if_pos q]
        · rw [if_neg (fun z => q z.2), if_neg q]
      have a0 : ∀ f, h' 0 f = h3 0 f := fun f => by rw [A, if_neg (by omega), if_neg (by omega)]
      have yt : h' y (-1) = 102 := by rw [ay, if_neg (by omega)]; exact t5
      have yl : h' y (-2) = h3 y (-2) := by rw [ay, if_neg (by omega)]
      obtain ⟨g1, g2, g3, g4⟩ := sb_upd (h' := h') (y := y) (n := h x 3 + L) hG ht (by rw [ax _ (by decide)]; exact t1) (by rw [ax _ (by decide)]; exact t2) (by rw [ax _ (by decide)]; exact t3) (by rw [A, if_pos ⟨rfl, rfl⟩]) yt (by omega) (by rw [yl]; exact t8) (by rw [yl]; exact t9)
        (fun i i0 i1 => by
          rw [ay]
          by_cases q : h x 3 ≤ i ∧ i < h x 3 + L
          · rw [if_pos q]
            have hlt : (i - h x 3).toNat < (decI n).length := by omega
            rw [List.getD_eq_getElem?_getD, List.getElem?_eq_getElem hlt]
            exact decI_b n _ (List.getElem_mem hlt)
          · rw [if_neg q, t10 i i0 (by omega)]; exact a6 i i0 (by omega))
        (by
          rw [yl]
          rcases t11 with ⟨q1, q2, q3⟩ | ⟨q1, q2, q3⟩
          · exact Or.inl ⟨q1, q2, fun f => by rw [a0, q3]⟩
          · exact Or.inr ⟨q1, fun f => by rw [a0, q2], q3⟩)
        (fun z z1 z2 z3 => funext fun f => by rw [A, if_neg (fun q => z1 q.1), if_neg (fun q => z2 q.1), t12 z z1 z2 z3])
      refine k h' g1 ⟨g2, by rw [g3, w2, hL], fun f f0 => ?_⟩
      rw [g4 f f0, w2, hL, ay]
      by_cases q : f < h x 3 + L
      · rw [if_pos q]
        by_cases q2 : h x 3 ≤ f
        · rw [if_pos ⟨q2, q⟩, if_pos ⟨q2, q⟩]
        · rw [if_neg (fun z => q2 z.1), if_neg (fun z => q2 z.1), t10 f f0 (by omega), w4 f f0 (by omega)]
      · rw [if_neg q, if_neg (fun z => q z.2), w5 f (by omega) f0]
    obtain ⟨n1, n2⟩ := hn
    by_cases hneg : n < 0
    · have e : decI n = [45] ++ dgs (-n).toNat := by unfold decI; rw [if_pos hneg]; rfl
      have e2 : sgL 1 ++ dgs (-n).toNat = decI n := by rw [e]; rfl
      refine wJ17_getChars (by omega) ⟨fun _ => ?_, fun q => absurd q (by rw [if_neg (by omega)]; decide)⟩
      rw [if_neg (show ¬ 0 ≤ n by omega)]
      have := gc_loop (G := G) (d := d - 1 - 1) (P := fun k v12 h13 => k = 0 ∧ ((h13 x (-1) = 6) ∧ (0 < x) ∧ (∀ h16, h16 = up h13 x 3 (h x 3 + L) → (0 = 0 ∧ P 0 x h16)))) (y := y) (sg := 1) t6 (Or.inr rfl) (by omega) (-n).toNat h3 (h x 3 + L) (by omega) tD t5 (by rw [e2, hL]; omega) t8 (by omega) (by rw [e2, hL, show h x 3 + L - L = h x 3 by omega]; exact ⟨rfl, last _ rfl⟩)
      rw [show -(((-n).toNat : Nat) : Int) = n by omega] at this
      exact this
    · have e : decI n = dgs n.toNat := by unfold decI; rw [if_neg hneg]
      have e2 : sgL 0 ++ dgs n.toNat = decI n := by rw [e]; rfl
      refine wJ17_getChars (by omega) ⟨fun q => absurd (by rw [if_pos (by omega)]) q, fun _ => ?_⟩
      rw [if_pos (show 0 ≤ n by omega), wr_id (by omega) (by omega)]
      have := gc_loop (G := G) (d := d - 1 - 1) (P := fun k v12 h13 => k = 0 ∧ ((h13 x (-1) = 6) ∧ (0 < x) ∧ (∀ h16, h16 = up h13 x 3 (h x 3 + L) → (0 = 0 ∧ P 0 x h16)))) (y := y) (sg := 0) t6 (Or.inl rfl) (by omega) n.toNat h3 (h x 3 + L) (by omega) tD t5 (by rw [e2, hL]; omega) t8 (by omega) (by rw [e2, hL, show h x 3 + L - L = h x 3 by omega]; exact ⟨rfl, last _ rfl⟩)
      rw [show -((n.toNat : Nat) : Int) = -n by omega] at this
      exact this
  refine c_ensure hG ht (by omega) (by omega) (fun _ => ⟨hlc, by omega, by omega⟩) (by omega) (fun q => ⟨rfl, ht, ?_⟩) (fun h3 c q1 q2 q3 q4 gr => ⟨rfl, ?_⟩)
  · have xy : x ≠ h x 0 := fun e => by rw [← e, ht] at a2; cases a2
    exact fin h (h x 0) ht rfl a3 rfl a2 a1.1 xy q a7 (fun i _ _ => rfl) hG.2.2.2.2.2 (Or.inl ⟨rfl, rfl, fun _ => rfl⟩) (fun z _ _ _ => rfl)
  · obtain ⟨r1, r2, r3, r4, r5, r6, r7, r8⟩ := gr_sum hG ht gr
    have b2 := hG.1.2.1
    have D := hG.2.2.2.2.2
    exact ⟨r1, fin h3 (h 0 0) r1 r2 r3 r4 r5 b2 r8 (by rw [r6]; omega) (by rw [r6]; omega) (fun i i0 i1 => r7 i i0 (by omega)) (gDg_of D (fun z hz => gr.2.2.2 z (fun e => by rcases gDg_t D hz with q | q | q <;> (rw [e, ht] at q; cases q)) (by have := oldC_neg hz; omega) (by have := oldC_neg hz; omega))) (Or.inr ⟨rfl, fun f => by rw [r6]; exact gr.2.2.1 f, by rw [r6]; omega, by rw [r6]; omega, by rw [r6]; omega⟩) gr.2.2.2⟩
end JI
