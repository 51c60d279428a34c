/-! L3, component: the contract of Runner.step; arity -/
def arG (Γ : Int → Mg) (l : Int) : Nat := match Γ l with
  | none => 0
  | some (.inl q) => nPr q.1
  | some (.inr q) => lenF q.1
/-- values: constants have as many arguments as they should -/
def arF (Γ : Int → Mg) : TF → Bool
  | .leaf => true
  | .inner _ a _ c s => (!decide (a.1 = 5) || decide (lenF c = arG Γ a.2.1)) && arF Γ c && arF Γ s
def arT (Γ : Int → Mg) (t : Tr) : Bool := (!decide (t.1.1 = 5) || decide (lenF t.2 = arG Γ t.1.2.1)) && arF Γ t.2
def arE (Γ : Int → Mg) (e : Env) : Bool := e.all (fun p => arT Γ p.2)
/-- the shapes that the reader makes -/
def shO (a : Lb) (c : TF) : Bool := (!decide (a.1 = 8) || (decide (1 ≤ lenF c) && decide (lenF c ≤ 11))) && (!(decide (a.1 = 6) || decide (a.1 = 7)) || decide (lenF c = 2)) && (!decide (a.1 = 9) || decide (lenF c = 4))
def ck5 (Γ : Int → Mg) (a : Lb) (c : TF) : Bool := (!decide (a.1 = 5) || ((Γ a.2.1).isSome && decide (lenF c = arG Γ a.2.1) && decide (lenF c ≤ 6))) && shO a c
/-- codes: letters and patterns have as many parts as they should -/
def ckF (Γ : Int → Mg) : TF → Bool
  | .leaf => true
  | .inner _ a _ c s => ck5 Γ a c && (!decide (a.1 = 13) || (decide (lenF c = arG Γ a.2.1) && decide (lenF c ≤ 6))) && ckF Γ c && ckF Γ s
def ckT (Γ : Int → Mg) (t : Tr) : Bool := ck5 Γ t.1 t.2 && ckF Γ t.2
/-- names of a forest of variables -/
def nmsF : TF → List Int
  | .leaf => []
  | .inner _ a _ _ s => a.2.1 :: nmsF s
def bd1 (a : Lb) (ns : List Int) : Bool := !decide (a.1 = 1) || decide (a.2.1 ∈ ns)
/-- every variable of a code is a name (kinds as in CdF) -/
def bdF : TF → Nat → List Int → List Int → Bool
  | .leaf, _, _, _ => true
  | .inner _ a _ c s, 0, ns, _ => bd1 a ns && bdF c (if a.1 = 8 then 2 else 0) ns [] && bdF s 0 ns []
  | .inner _ _ _ pc s, 1, ns, _ => bdF s 3 ns (nmsF pc)
  | .inner _ a _ c s, 2, ns, _ => bd1 a ns && bdF c (if a.1 = 8 then 2 else 0) ns [] && bdF s 1 ns []
  | .inner _ a _ c s, _ + 3, ns, ex => bd1 a (ex ++ ns) && bdF c (if a.1 = 8 then 2 else 0) (ex ++ ns) [] && bdF s 1 ns []
def bdT (ns : List Int) (t : Tr) : Bool := bd1 t.1 ns && bdF t.2 (if t.1.1 = 8 then 2 else 0) ns []
theorem bd1_mono {a : Lb} {ns ns' : List Int} (h : ∀ x ∈ ns, x ∈ ns') (hb : bd1 a ns = true) : bd1 a ns' = true := by
  unfold bd1 at hb ⊢
  rw [Bool.or_eq_true] at hb ⊢
  rcases hb with w | w
  · exact Or.inl w
  · exact Or.inr (by simp only [decide_eq_true_eq] at w ⊢; exact h _ w)
theorem bdF_mono : ∀ (t : TF) (k : Nat) {ns ns' ex ex' : List Int}, (∀ x ∈ ns, x ∈ ns') → (∀ x ∈ ex, x ∈ ex') → bdF t k ns ex = true → bdF t k ns' ex' = true
  | .leaf, _, _, _, _, _, _, _, _ => rfl
  | .inner _ a _ c s, 0, ns, ns', ex, ex', h, h', hb => by
    have hb : (bd1 a ns && bdF c (if a.1 = 8 then 2 else 0) ns [] && bdF s 0 ns []) = true := hb
    show (bd1 a ns' && bdF c (if a.1 = 8 then 2 else 0) ns' [] && bdF s 0 ns' []) = true
    rw [Bool.and_eq_true, Bool.and_eq_true] at hb ⊢
    exact ⟨⟨bd1_mono h hb.1.1, bdF_mono c _ h (fun _ q => q) hb.1.2⟩, bdF_mono s 0 h (fun _ q => q) hb.2⟩
  | .inner _ a _ c s, 1, ns, ns', ex, ex', h, h', hb => by
    have hb : bdF s 3 ns (nmsF c) = true := hb
    show bdF s 3 ns' (nmsF c) = true
    exact bdF_mono s 3 h (fun _ q => q) hb
  | .inner _ a _ c s, 2, ns, ns', ex, ex', h, h', hb => by
    have hb : (bd1 a ns && bdF c (if a.1 = 8 then 2 else 0) ns [] && bdF s 1 ns []) = true := hb
    show (bd1 a ns' && bdF c (if a.1 = 8 then 2 else 0) ns' [] && bdF s 1 ns' []) = true
    rw [Bool.and_eq_true, Bool.and_eq_true] at hb ⊢
    exact ⟨⟨bd1_mono h hb.1.1, bdF_mono c _ h (fun _ q => q) hb.1.2⟩, bdF_mono s 1 h (fun _ q => q) hb.2⟩
  | .inner _ a _ c s, k + 3, ns, ns', ex, ex', h, h', hb => by
    have hb : (bd1 a (ex ++ ns) && bdF c (if a.1 = 8 then 2 else 0) (ex ++ ns) [] && bdF s 1 ns []) = true := hb
    show (bd1 a (ex' ++ ns') && bdF c (if a.1 = 8 then 2 else 0) (ex' ++ ns') [] && bdF s 1 ns' []) = true
    have hh : ∀ x ∈ ex ++ ns, x ∈ ex' ++ ns' := fun x hx => by
      rcases List.mem_append.mp hx with w | w
      · exact List.mem_append_left _ (h' x w)
      · exact List.mem_append_right _ (h x w)
    rw [Bool.and_eq_true, Bool.and_eq_true] at hb ⊢
    exact ⟨⟨bd1_mono hh hb.1.1, bdF_mono c _ hh (fun _ q => q) hb.1.2⟩, bdF_mono s 1 h (fun _ q => q) hb.2⟩
theorem bdT_mono {t : Tr} {ns ns' : List Int} (h : ∀ x ∈ ns, x ∈ ns') (hb : bdT ns t = true) : bdT ns' t = true := by
  unfold bdT at hb ⊢
  rw [Bool.and_eq_true] at hb ⊢
  exact ⟨bd1_mono h hb.1, bdF_mono _ _ h (fun _ q => q) hb.2⟩
theorem cBind_nm : ∀ (ns : TF) (vs : List Tr) (e : Env), lenF ns = vs.length → ∀ x, x ∈ nmsF ns ∨ x ∈ e.map (·.1) → x ∈ (cBind ns vs e).map (·.1)
  | .leaf, vs, e, _, x, h => by
    have : cBind .leaf vs e = e := by cases vs <;> rfl
    rw [this]
    rcases h with w | w
    · cases w
    · exact w
  | .inner _ a _ _ s, [], e, hl, x, h => by
    have hl : 1 + lenF s = 0 := hl
    omega
  | .inner _ a _ _ s, v :: vs, e, hl, x, h => by
    have hl : 1 + lenF s = vs.length + 1 := hl
    show x ∈ (cBind s vs ((a.2.1, v) :: e)).map (·.1)
    refine cBind_nm s vs _ (by omega) x ?_
    rcases h with w | w
    · have w : x ∈ a.2.1 :: nmsF s := w
      rcases List.mem_cons.mp w with w | w
      · exact Or.inr (by rw [w]; simp)
      · exact Or.inl w
    · exact Or.inr (List.mem_cons_of_mem _ w)
theorem getE_nm : ∀ (e : Env) (k : Int), k ∈ e.map (·.1) → ∃ t, getE e k = some t
  | [], k, h => by cases h
  | (n, t) :: e, k, h => by
    by_cases q : n = k
    · exact ⟨t, by show (if n = k then some t else getE e k) = some t; rw [if_pos q]⟩
    · have h : k ∈ n :: e.map (·.1) := h
      rcases List.mem_cons.mp h with w | w
      · exact absurd w.symm q
      · obtain ⟨t', ht⟩ := getE_nm e k w
        exact ⟨t', by show (if n = k then some t else getE e k) = some t'; rw [if_neg q]; exact ht⟩
/-- the programs that there are -/
def ckG (Γ : Int → Mg) : Prop := ∀ l ns b, Γ l = some (.inr (ns, b)) → ckT Γ b = true ∧ lenF ns ≤ 4 ∧ bdT (nmsF ns) b = true
def OutN (m : SM) (hs X : List Int) (k k1 a b c : Int) (o : Nat) (AL : Int) (r : Nat × Option Tr) (P : Nat → Int → SM → Prop) : Prop := match r.2 with
  | none => ∀ m' v, Fg [] False m m' → CS (k + 1) (k1 + 6) (a + (r.1 - o)) (b + (r.1 - o)) (c + 6 * (r.1 - o)) m' → m' 22 2 = r.1 → m' 22 3 = AL + r.1 → m' v (-1) = 18 → P 1 v m'
  | some t => ∀ m' v, Fg [] False m m' → CS k k1 (a + (r.1 - o)) (b + (r.1 - o) - 1) (c + 6 * (r.1 - o)) m' → m' 22 2 = r.1 → m' 22 3 = AL + r.1 → VS (BX X m') m' hs v t → P 0 v m'
/-- what stands all the time -/
def Sr (Γ : Int → Mg) (hs X : List Int) (k k1 a b c : Int) (o : Nat) (AL : Int) (m : SM) : Prop := CS k k1 a b c m ∧ (m 22 2 = o ∧ m 22 3 = AL + o ∧ 0 ≤ AL ∧ AL ≤ 1000000000 ∧ o ≤ 100) ∧ (a + (100 - o) ≤ 16000 ∧ b + (100 - o) ≤ 16000 ∧ c + 6 * (100 - o) ≤ 96000) ∧ (k + 1 ≤ 400000 ∧ k1 + 6 ≤ 2500000) ∧ hs.Nodup ∧ (∀ z ∈ X, Lv m 3 z ∧ m z (-1) = 16) ∧ GRr m Γ
def QS (G : GM) (Γ : Int → Mg) (n d0 : Nat) : Prop := ∀ (nd : Tr) (d : Nat) (m : SM) (x sc : Int) (e : Env) (hs X : List Int) (k k1 a b c : Int) (o : Nat) (AL : Int) (P : Nat → Int → SM → Prop), d0 ≤ d → Sr Γ hs X k k1 a b c o AL m → ScR (BX X m) m hs e sc → DvT m x nd → ckT Γ nd = true → arE Γ e = true → bdT (e.map (·.1)) nd = true → OutN m hs X k k1 a b c o AL (stepS Γ n nd e o) P → WV G mX6_step 0 [(1, 22), (1, x), (1, sc), (0, 31 - (n : Int)), (9, 0)] [] m d P
/-! how many steps -/
theorem argS_le {stp : Tr → Nat → Nat × Option Tr} (h : ∀ t o, o ≤ 100 → o ≤ (stp t o).1 ∧ (stp t o).1 ≤ 100 ∧ ((stp t o).2.isSome = true → o + 1 ≤ (stp t o).1)) : ∀ (f : TF) (o : Nat), o ≤ 100 → o ≤ (argS stp f o).1 ∧ (argS stp f o).1 ≤ 100 ∧ ∀ l, (argS stp f o).2 = some l → l.length = lenF f
  | .leaf, o, ho => ⟨Nat.le_refl _, ho, fun l hl => by cases hl; rfl⟩
  | .inner _ a _ c s, o, ho => by
    have h1 := h (a, c) o ho
    unfold argS
    cases e1 : stp (a, c) o with
    | mk o1 v =>
      rw [e1] at h1
      cases v with
      | none => exact ⟨h1.1, h1.2.1, fun l hl => by cases hl⟩
      | some v =>
        dsimp only
        have h2 := argS_le h s o1 h1.2.1
        cases e2 : argS stp s o1 with
        | mk o2 w =>
          rw [e2] at h2
          have q1 : o ≤ o1 := h1.1
          have q2 : o1 ≤ o2 := h2.1
          cases w with
          | none => exact ⟨by dsimp only; omega, h2.2.1, fun l hl => by cases hl⟩
          | some l0 =>
            refine ⟨by dsimp only; omega, h2.2.1, fun l hl => ?_⟩
            cases hl
            show l0.length + 1 = 1 + lenF s
            rw [h2.2.2 l0 rfl]; omega
theorem stepS_le (Γ : Int → Mg) : ∀ (n : Nat) (t : Tr) (e : Env) (o : Nat), o ≤ 100 → o ≤ (stepS Γ n t e o).1 ∧ (stepS Γ n t e o).1 ≤ 100 ∧ ((stepS Γ n t e o).2.isSome = true → o + 1 ≤ (stepS Γ n t e o).1)
  | 0, t, e, o, ho => by unfold stepS; exact ⟨Nat.le_refl _, ho, fun h => by cases h⟩
  | n + 1, (a, c), e, o, ho => by
    unfold stepS
    by_cases h0 : 100 ≤ o
    · rw [if_pos h0]; exact ⟨Nat.le_refl _, ho, fun h => by cases h⟩
    rw [if_neg h0]
    have one : ∀ (w : Option Tr), o ≤ (o + 1, w).1 ∧ (o + 1, w).1 ≤ 100 ∧ ((o + 1, w).2.isSome = true → o + 1 ≤ (o + 1, w).1) := fun w => ⟨by dsimp only; omega, by dsimp only; omega, fun _ => Nat.le_refl _⟩
    have ih := stepS_le Γ n
    have up : ∀ (o1 : Nat) (r : Nat × Option Tr), o + 1 ≤ o1 → o1 ≤ r.1 → r.1 ≤ 100 → o ≤ r.1 ∧ r.1 ≤ 100 ∧ (r.2.isSome = true → o + 1 ≤ r.1) := fun o1 r h1 h2 h3 => ⟨by omega, h3, fun _ => by omega⟩
    by_cases h1 : a.1 = 1
    · rw [if_pos h1]; exact one _
    rw [if_neg h1]
    by_cases h2 : a.1 = 2
    · rw [if_pos h2]; exact one _
    rw [if_neg h2]
    by_cases h5 : a.1 = 5
    · rw [if_pos h5]
      have hA := argS_le (stp := fun t o => stepS Γ n t e o) (fun t o ho => ih t e o ho) c (o + 1) (by omega)
      cases eA : argS (fun t o => stepS Γ n t e o) c (o + 1) with
      | mk o1 w =>
        rw [eA] at hA
        have q1 : o + 1 ≤ o1 := hA.1
        have q2 : o1 ≤ 100 := hA.2.1
        cases w with
        | none => exact up o1 _ q1 (Nat.le_refl _) q2
        | some l =>
          dsimp only
          cases Γ a.2.1 with
          | none => dsimp only; split <;> exact up o1 _ q1 (Nat.le_refl _) q2
          | some g =>
            cases g with
            | inl g => dsimp only; split <;> exact up o1 _ q1 (Nat.le_refl _) q2
            | inr g =>
              obtain ⟨ns, b⟩ := g
              have := ih b (cBind ns l []) o1 q2
              exact up o1 _ q1 this.1 this.2.1
    rw [if_neg h5]
    by_cases h8 : a.1 = 8
    · rw [if_pos h8]
      cases c with
      | leaf => exact one _
      | inner z a1 u c1 s =>
        dsimp only
        have hA := ih (a1, c1) e (o + 1) (by omega)
        cases eA : stepS Γ n (a1, c1) e (o + 1) with
        | mk o1 w =>
          rw [eA] at hA
          have q1 : o + 1 ≤ o1 := hA.1
          have q2 : o1 ≤ 100 := hA.2.1
          cases w with
          | none => exact up o1 _ q1 (Nat.le_refl _) q2
          | some v =>
            dsimp only
            split
            · exact up o1 _ q1 (Nat.le_refl _) q2
            · cases caseS s v with
              | none => exact up o1 _ q1 (Nat.le_refl _) q2
              | some g =>
                obtain ⟨ns, cd⟩ := g
                have := ih cd (cBind ns (kids v.2) e) o1 q2
                exact up o1 _ q1 this.1 this.2.1
    rw [if_neg h8]
    by_cases h6 : a.1 = 6 ∨ a.1 = 7 ∨ a.1 = 9
    · rw [if_pos h6]
      cases c with
      | leaf => exact one _
      | inner z a1 u c1 s =>
        cases s with
        | leaf => exact one _
        | inner z2 a2 u2 c2 s =>
          dsimp only
          have hA := ih (a1, c1) e (o + 1) (by omega)
          cases eA : stepS Γ n (a1, c1) e (o + 1) with
          | mk o1 w =>
            rw [eA] at hA
            have q1 : o + 1 ≤ o1 := hA.1
            have q2 : o1 ≤ 100 := hA.2.1
            cases w with
            | none => exact up o1 _ q1 (Nat.le_refl _) q2
            | some x =>
              dsimp only
              have hB := ih (a2, c2) e o1 q2
              cases eB : stepS Γ n (a2, c2) e o1 with
              | mk o2 w =>
                rw [eB] at hB
                have q3 : o1 ≤ o2 := hB.1
                have q4 : o2 ≤ 100 := hB.2.1
                cases w with
                | none => exact up o2 _ (by omega) (Nat.le_refl _) q4
                | some y =>
                  dsimp only
                  cases reckS a x y with
                  | none => exact up o2 _ (by omega) (Nat.le_refl _) q4
                  | some g =>
                    cases g with
                    | inl v => exact up o2 _ (by omega) (Nat.le_refl _) q4
                    | inr yes =>
                      dsimp only
                      cases s with
                      | leaf => exact up o2 _ (by omega) (Nat.le_refl _) q4
                      | inner z3 a3 u3 c3 s =>
                        cases s with
                        | leaf => exact up o2 _ (by omega) (Nat.le_refl _) q4
                        | inner z4 a4 u4 c4 s =>
                          dsimp only
                          split
                          · have := ih (a3, c3) e o2 q4
                            exact up o2 _ (by omega) this.1 this.2.1
                          · have := ih (a4, c4) e o2 q4
                            exact up o2 _ (by omega) this.1 this.2.1
    rw [if_neg h6]
    exact one _
