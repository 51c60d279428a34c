/-! L3, component: Runner.reckon -/
def recS (Γ : Int → Mg) (n : Nat) (a : Lb) (c : TF) (e : Env) (o : Nat) : Nat × Option Tr := match c with
  | .inner _ a1 _ c1 (.inner _ a2 _ c2 s) => match stepS Γ n (a1, c1) e o with
    | (o1, none) => (o1, none)
    | (o1, some x) => match stepS Γ n (a2, c2) e o1 with
      | (o2, none) => (o2, none)
      | (o2, some y) => match reckS a x y with
        | none => (o2, none)
        | some (.inl v) => (o2, some v)
        | some (.inr yes) => match s with
          | .inner _ a3 _ c3 (.inner _ a4 _ c4 _) => if yes = true then stepS Γ n (a3, c3) e o2 else stepS Γ n (a4, c4) e o2
          | _ => (o2, none)
  | _ => (o, none)
section RCs
variable {m m' : SM} {hs X : List Int} {G : GM} {d : Nat} {P : Nat → Int → SM → Prop} {k k1 a b c AL : Int} {Γ : Int → Mg} {o n d0 : Nat} {x sc y1 y2 : Int} {e : Env} {t1 t2 : Tr} {a0 : Lb} {tp : Prop}
theorem VE.fg {y : Int} {t : Tr} (K : KI m) (g : Fg [] tp m m') (h : VE (BX X m) m hs y t) : VE (BX X m') m' hs y t := by
  refine h.fr (fun z hz ht => ⟨⟨g.2.1, g.2.2.1 z hz.2.1, hz.2.2⟩, fun f => ?_⟩)
  refine g.2.2.2.1 z f hz.2.1 (fun e => by have := (WL.tag K e).1; omega) (fun e => by rw [e, K22_t K] at ht; omega) (fun e => by rw [e, K26_t K] at ht; omega) (fun e => by cases e.2) (fun e => by have := e.2.1; omega)
theorem VH.num {y : Int} {q : Lb} (h : VH m hs y q) (h2 : q.1 = 2) : m y 1 = q.2.1 := by
  obtain ⟨-, h | h | h | h | h | h⟩ := h
  · exact h.2.2
  all_goals omega
theorem Bs.wk (B : Bs m) (K : KI m) (g : Wk m m') : Bs m' := by
  obtain ⟨b1, b2, b3, b4⟩ := B
  have hr := g.2.2.1.1
  have nW : ∀ x, m 0 0 ≤ x ∨ x < 0 → x ∉ WL := fun x hx hW => by
    rcases hx with w | w
    · have := b3 x w
      rw [(WL.tag K hW).1] at this
      cases this
    · simp only [WL, List.mem_cons, List.not_mem_nil, or_false] at hW
      omega
  refine ⟨g.z0 b1, by omega, fun x hx => ?_, fun x hx => ?_⟩
  · rw [g.2.1 x (by omega) (nW x (Or.inl (by omega)))]; exact b3 x (by omega)
  · rw [g.2.1 x (by omega) (nW x (Or.inr hx))]; exact b4 x hx
/-- the tail of a choice -/
theorem q_rch (ih : QS G Γ n d0) (hd : d0 ≤ d) (S : Sr Γ hs X k k1 a b c o AL m) {a3 a4 : Lb} {c3 c4 s : TF} {z3 z4 : Nat} {u3 u4 : Unit} (hT : DvF m (.inner z3 a3 u3 c3 (.inner z4 a4 u4 c4 s)) 0 (m x 4) 2) (hc : ckF Γ (.inner z3 a3 u3 c3 (.inner z4 a4 u4 c4 s)) = true) (hE : arE Γ e = true) (hbd : bdF (.inner z3 a3 u3 c3 (.inner z4 a4 u4 c4 s)) 0 (e.map (·.1)) [] = true) (hS : ScR (BX X m) m hs e sc) (tL : m (m x 4) (-1) = 4) {yes : Bool} {i : Int} (hi : i = if yes = true then 2 else 3) {Q : Nat → Int → SM → Prop} (kk : OutN m hs X k k1 a b c o AL (if yes = true then stepS Γ n (a3, c3) e o else stepS Γ n (a4, c4) e o) Q) : (m (m x 4) (-1) = 4) ∧ ((0 : Int) ≤ i) ∧ (i < m (m x 4) (-2)) ∧ (((m (m x 4) i) = 0 ∨ m (m (m x 4) i) (-1) = 23) ∧ (WV G mX6_step 0 [(1, 22), (1, (m (m x 4) i)), (1, sc), (0, 31 - (n : Int)), (9, 0)] [] m d Q)) := by
  obtain ⟨q1, q2, ⟨q3, q4, q5⟩⟩ := hT
  have hb0 : (bd1 a3 (e.map (·.1)) && bdF c3 (if a3.1 = 8 then 2 else 0) (e.map (·.1)) [] && bdF (.inner z4 a4 u4 c4 s) 0 (e.map (·.1)) []) = true := hbd
  rw [Bool.and_eq_true] at hb0
  have hb1 : (bd1 a4 (e.map (·.1)) && bdF c4 (if a4.1 = 8 then 2 else 0) (e.map (·.1)) [] && bdF s 0 (e.map (·.1)) []) = true := hb0.2
  rw [Bool.and_eq_true] at hb1
  obtain ⟨k1', k2, -⟩ := ckF_in hc
  obtain ⟨k3, k4, -⟩ := ckF_in k2
  have siz : ∀ (f : TF) {L j : Int}, DvF m f 0 L j → m L (-2) = j + lenF f := by
    intro f
    induction f with
    | leaf => intro L j hh; have hh : m L (-2) = j := hh; rw [hh]; show j = j + ((0 : Nat) : Int); omega
    | inner _ _ _ _ s _ ih2 => intro L j hh; rw [ih2 hh.2.2]; show j + 1 + (lenF s : Int) = j + ((1 + lenF s : Nat) : Int); omega
  have sz := siz s q5
  cases yes with
  | true =>
    have hi : i = 2 := hi
    subst hi
    exact ⟨tL, by decide, by omega, Or.inr q1.2.1, ih (a3, c3) d m _ sc e hs X k k1 a b c o AL Q hd S hS ⟨q1, q2⟩ k1' hE hb0.1 kk⟩
  | false =>
    have hi : i = 3 := hi
    subst hi
    exact ⟨tL, by decide, by omega, Or.inr q3.2.1, ih (a4, c4) d m _ sc e hs X k k1 a b c o AL Q hd S hS ⟨q3, q4⟩ k3 hE hb1.1 kk⟩
/-- behind the two values -/
def recT (Γ : Int → Mg) (n : Nat) (a : Lb) (s : TF) (e : Env) (x y : Tr) (o2 : Nat) : Nat × Option Tr := match reckS a x y with
  | none => (o2, none)
  | some (.inl v) => (o2, some v)
  | some (.inr yes) => match s with
    | .inner _ a3 _ c3 (.inner _ a4 _ c4 _) => if yes = true then stepS Γ n (a3, c3) e o2 else stepS Γ n (a4, c4) e o2
    | _ => (o2, none)
theorem q_85 (ih : QS G Γ n d0) (hd : d0 + 1 ≤ d) (hd0 : 20 ≤ d0) (S : Sr Γ hs X k k1 a b c o AL m) (ha16 : a + 1 ≤ 16000) {s : TF} (hx : DvH m x a0) (hop : (a0.1 = 6 ∨ a0.1 = 7) ∨ (a0.1 = 9 ∧ 2 ≤ lenF s)) (hT : DvF m s 0 (m x 4) 2) (hc : ckF Γ s = true) (hE : arE Γ e = true) (hbd : bdF s 0 (e.map (·.1)) [] = true) (hS : ScR (BX X m) m hs e sc) (V1 : VE (BX X m) m hs y1 t1) (V2 : VE (BX X m) m hs y2 t2) (hnum : (a0.1 = 9 ∧ a0.2.1 = 61) ∨ (t1.1.1 = 2 ∧ t2.1.1 = 2)) (kk : OutN m hs X k k1 (a + 1) (b + 1) c o AL (recT Γ n a0 s e t1 t2 o) P) : WV G mX6_reckon 85 [(1, 22), (1, x), (1, sc), (0, 31 - (n : Int)), (1, y1), (1, y2), (9, 0)] [] m d P := by
  obtain ⟨C, ⟨e2, e3, hA0, hA1, ho⟩, hbud, hk, hN, hX, hG⟩ := id S
  have K := C.ki
  have tL := hx.2.2.2.1.1
  have ops := hx.2.2.2.2.2
  have t11a := V1.1.2.1
  have t11b := V2.1.2.1
  -- two codes to choose from
  have two : a0.1 = 9 → ∃ z3 a3 u3 c3 z4 a4 u4 c4 s', s = .inner z3 a3 u3 c3 (.inner z4 a4 u4 c4 s') := by
    intro h9
    have h2 : 2 ≤ lenF s := by rcases hop with h | h; omega; exact h.2
    cases s with
    | leaf => have : 2 ≤ 0 := h2; omega
    | inner z3 a3 u3 c3 s =>
      cases s with
      | leaf => have : 2 ≤ 1 + 0 := h2; omega
      | inner z4 a4 u4 c4 s => exact ⟨z3, a3, u3, c3, z4, a4, u4, c4, s, rfl⟩
  -- numbers
  have mkn : ∀ (v : Int), reckS a0 t1 t2 = some (.inl ((2, v, 0), nil)) → WV G mX3_make 0 [(1, 3), (1, (-14)), (0, v), (9, 0)] [] m (d - 1) (fun k v31 m32 => k = 0 ∧ Ok m m32 ∧ (P 0 v31 m32)) := by
    intro v hv
    have hr : recT Γ n a0 s e t1 t2 o = (o, some ((2, v, 0), nil)) := by unfold recT; rw [hv]
    rw [hr] at kk
    have u := C.2.2.2.1
    refine q_make K (by omega) C.pi (by omega) C.rq (fun m' w g' L' nl w0 t' f0 f1 f3 f4 => ⟨rfl, g'.1, ?_⟩)
    have e22 : m' 22 = m 22 := by
      funext f
      exact (g'.2.2.1 22 (Lv.of K C.pi (by rw [K22_t K]; decide) (by rw [K22_t K]; decide) (by rw [K22_t K]; decide) (by rw [K22_t K]; decide) (by decide))).2 f
    refine kk m' w (Fg.hp K g') ((C.hp g').le (by dsimp only; omega) (by dsimp only; omega) (by dsimp only; omega)) (by rw [e22]; exact e2) (by rw [e22]; exact e3) ?_
    exact VE.vs ⟨⟨⟨g'.2.1, L', fun z => nl (hX w z).1⟩, t', f4⟩, ⟨rfl, Or.inl ⟨rfl, f0, f1⟩⟩, by show 0 ≤ 6; omega, f3⟩
  refine wX6_reckon_85 K (by omega) ⟨hx.2.1, fun n4 => ⟨fun n5 => ⟨fun n8 => ?_, fun q8 => ?_⟩, fun q5 => ⟨t11a, t11b, ?_⟩⟩, fun q4 => ⟨t11a, t11b, ?_⟩⟩
  · -- equal
    have h9 : a0.1 = 9 ∧ a0.2.1 = 61 := by
      rcases ops with h | h | h | h | h | h | h | h | h
      · rcases hop with w | w <;> omega
      · rcases hop with w | w <;> omega
      · rcases hop with w | w <;> omega
      · exact absurd h.2 n4
      · exact absurd h.2 n5
      · rcases hop with w | w <;> omega
      · exact ⟨h.1, h.2.1⟩
      · exact absurd h.2.2 n8
      · rcases hop with w | w <;> omega
    obtain ⟨z3, a3, u3, c3, z4, a4, u4, c4, s', rfl⟩ := two h9.1
    have hrk : reckS a0 t1 t2 = if cmp 1000 [(t1, t2)] < 0 then none else some (.inr (decide (cmp 1000 [(t1, t2)] = 1))) := by
      unfold reckS; rw [if_pos h9]
    refine v_bs (fun B => ?_)
    refine q_same (l := 24) (o := 25) BX.wa hN K (by omega) (by decide) (by decide) (by decide) (by decide) (K23_t K) (K23_0 K) (K23_1 K) C.rw C.2.2.1 V1.vs V2.vs (fun hge m3 g3 => ?_) (fun hlt m1 m3 g1 e3' o3 => ?_)
    · obtain ⟨C3, F3⟩ := C.wk (hs := []) (tp := False) B.1 g3
      have ex : ∀ f, m3 x f = m x f := fun f => (F3.fd K C.pi).1 x f (Or.inr (Or.inr (Or.inl hx.2.1)))
      have e22 : m3 22 = m 22 := g3.2.1 22 (by decide) (by decide)
      have hL := hx.2.2.2.1
      have hr : recT Γ n a0 (.inner z3 a3 u3 c3 (.inner z4 a4 u4 c4 s')) e t1 t2 o = if decide (cmp 1000 [(t1, t2)] = 1) = true then stepS Γ n (a3, c3) e o else stepS Γ n (a4, c4) e o := by
        unfold recT; rw [hrk, if_neg (by omega)]
      rw [hr] at kk
      have hT3 : DvF m3 (.inner z3 a3 u3 c3 (.inner z4 a4 u4 c4 s')) 0 (m3 x 4) 2 := by
        rw [ex]; exact DvF.fd (F3.fd K C.pi) _ 0 (fun q => nomatch q) (fun _ => ⟨hL.1, by have := hL.2; omega⟩) (fun q => absurd q (by decide)) hT
      have hcm : cmp 1000 [(t1, t2)] = 0 ∨ cmp 1000 [(t1, t2)] = 1 := by
        have : ∀ (f : Nat) (ps : List (Tr × Tr)), cmp f ps = -1 ∨ cmp f ps = 0 ∨ cmp f ps = 1 := by
          intro f
          induction f with
          | zero => intro ps; cases ps with | nil => exact Or.inr (Or.inr rfl) | cons p r => exact Or.inl rfl
          | succ f ihf =>
            intro ps
            cases ps with
            | nil => exact Or.inr (Or.inr rfl)
            | cons p r =>
              obtain ⟨p, q⟩ := p
              show (if p.1.1 = 4 ∨ q.1.1 = 4 then -1 else if lvl p q = true then cmp f (zipF p.2 q.2 ++ r) else 0) = -1 ∨ (if p.1.1 = 4 ∨ q.1.1 = 4 then -1 else if lvl p q = true then cmp f (zipF p.2 q.2 ++ r) else 0) = 0 ∨ (if p.1.1 = 4 ∨ q.1.1 = 4 then -1 else if lvl p q = true then cmp f (zipF p.2 q.2 ++ r) else 0) = 1
              split
              · exact Or.inl rfl
              · split
                · exact ihf _
                · exact Or.inr (Or.inl rfl)
        have := this 1000 [(t1, t2)]
        omega
      refine ⟨g3.1, fun _ => ?_, fun z => absurd rfl z⟩
      refine q_rch (o := o) (a := a) (b := b) (c := c) (k := k) (k1 := k1) (AL := AL) ih (by omega) ⟨C3, ⟨by rw [e22]; exact e2, by rw [e22]; exact e3, hA0, hA1, ho⟩, hbud, hk, hN, fun z hz => ⟨F3.2.2.1 z (hX z hz).1, F3.1.tag (hX z hz).2 (by decide)⟩, hG.fg K C.pi F3⟩ hT3 hc hE hbd (ScR.fg K F3 e hS) (by rw [ex]; exact F3.1.tag tL (by decide)) (yes := decide (cmp 1000 [(t1, t2)] = 1)) ?_ ?_
      · rcases hcm with w | w
        · rw [w]; rfl
        · rw [w]; rfl
      · revert kk
        cases (if decide (cmp 1000 [(t1, t2)] = 1) = true then stepS Γ n (a3, c3) e o else stepS Γ n (a4, c4) e o) with
        | mk o2 w =>
          intro kk
          cases w with
          | none => exact fun m' v g' C' f2 f3 t' => ⟨g'.1, fun z => absurd z (by decide), fun _ => kk m' v (F3.trans g') (C'.le (by dsimp only; omega) (by dsimp only; omega) (by dsimp only; omega)) f2 f3 t'⟩
          | some t => exact fun m' v g' C' f2 f3 V' => ⟨g'.1, fun _ => kk m' v (F3.trans g') (C'.le (by dsimp only; omega) (by dsimp only; omega) (by dsimp only; omega)) f2 f3 V', fun z => absurd rfl z⟩
    · have hr : recT Γ n a0 (.inner z3 a3 u3 c3 (.inner z4 a4 u4 c4 s')) e t1 t2 o = (o, none) := by
        unfold recT; rw [hrk, if_pos hlt]
      rw [hr] at kk
      obtain ⟨C1, F1⟩ := C.wk (hs := []) (tp := False) B.1 g1
      have B1 : Bs m1 := Bs.wk B K g1
      obtain ⟨F3, hC3⟩ := Fg.nw (hs := []) (tp := False) (k := k) (k1 := k1) (a := a) (b := b) (c := c) C1.ki B1 C1.pi e3'
      have e22 : m3 22 = m 22 := by
        funext f
        rw [e3', al_old B1 (by rw [K22_t C1.ki]; decide), g1.2.1 22 (by decide) (by decide)]
      exact ⟨g1.1.trans o3, fun z => absurd z (by decide), fun _ => kk m3 (m1 0 0) (F1.trans F3) ((hC3 C1 hk.1 hk.2 (by decide)).le (by dsimp only; omega) (by dsimp only; omega) (by dsimp only; omega)) (by rw [e22]; exact e2) (by rw [e22]; exact e3) (al_tag B1 e3')⟩
  · -- less
    have h9 : a0.1 = 9 ∧ a0.2.1 = 60 := by
      rcases ops with h | h | h | h | h | h | h | h | h
      · omega
      · omega
      · omega
      · omega
      · omega
      · omega
      · omega
      · exact ⟨h.1, h.2.1⟩
      · omega
    obtain ⟨z3, a3, u3, c3, z4, a4, u4, c4, s', rfl⟩ := two h9.1
    have hn2 : t1.1.1 = 2 ∧ t2.1.1 = 2 := by
      rcases hnum with w | w
      · omega
      · exact w
    have hrk : reckS a0 t1 t2 = some (.inr (decide (t1.1.2.1 < t2.1.2.1))) := by
      unfold reckS; rw [if_neg (by omega), if_pos hn2, if_neg (by omega), if_neg (by omega)]
    have hr : recT Γ n a0 (.inner z3 a3 u3 c3 (.inner z4 a4 u4 c4 s')) e t1 t2 o = if decide (t1.1.2.1 < t2.1.2.1) = true then stepS Γ n (a3, c3) e o else stepS Γ n (a4, c4) e o := by
      unfold recT; rw [hrk]
    rw [hr] at kk
    refine ⟨t11a, t11b, ?_⟩
    refine q_rch (o := o) (a := a) (b := b) (c := c) (k := k) (k1 := k1) (AL := AL) ih (by omega) S hT hc hE hbd hS tL (yes := decide (t1.1.2.1 < t2.1.2.1)) ?_ ?_
    · rw [V1.2.1.num hn2.1, V2.2.1.num hn2.2]
      by_cases w : t1.1.2.1 < t2.1.2.1
      · rw [if_neg (by omega : ¬ t2.1.2.1 ≤ t1.1.2.1), decide_eq_true w]; rfl
      · rw [if_pos (by omega : t2.1.2.1 ≤ t1.1.2.1), decide_eq_false w]; rfl
    · revert kk
      cases (if decide (t1.1.2.1 < t2.1.2.1) = true then stepS Γ n (a3, c3) e o else stepS Γ n (a4, c4) e o) with
      | mk o2 w =>
        intro kk
        cases w with
        | none => exact fun m' v g' C' f2 f3 t' => ⟨g'.1, fun z => absurd z (by decide), fun _ => kk m' v g' (C'.le (by dsimp only; omega) (by dsimp only; omega) (by dsimp only; omega)) f2 f3 t'⟩
        | some t => exact fun m' v g' C' f2 f3 V' => ⟨g'.1, fun _ => kk m' v g' (C'.le (by dsimp only; omega) (by dsimp only; omega) (by dsimp only; omega)) f2 f3 V', fun z => absurd rfl z⟩
  · have h7 : a0.1 = 7 := by
      rcases ops with h | h | h | h | h | h | h | h | h <;> omega
    have hn2 : t1.1.1 = 2 ∧ t2.1.1 = 2 := by
      rcases hnum with w | w
      · omega
      · exact w
    rw [V1.2.1.num hn2.1, V2.2.1.num hn2.2]
    refine mkn _ ?_
    unfold reckS; rw [if_neg (by omega), if_pos hn2, if_neg (by omega), if_pos h7]
  · have h6 : a0.1 = 6 := by
      rcases ops with h | h | h | h | h | h | h | h | h <;> omega
    have hn2 : t1.1.1 = 2 ∧ t2.1.1 = 2 := by
      rcases hnum with w | w
      · omega
      · exact w
    rw [V1.2.1.num hn2.1, V2.2.1.num hn2.2]
    refine mkn _ ?_
    unfold reckS; rw [if_neg (by omega), if_pos hn2, if_pos h6]
end RCs
