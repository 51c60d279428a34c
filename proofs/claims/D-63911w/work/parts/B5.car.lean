/-! L3: runs keep arity (pure) -/
section ARs
variable {Γ : Int → Mg}
theorem getE_ar : ∀ (e : Env) (k : Int) (v : Tr), arE Γ e = true → getE e k = some v → arT Γ v = true
  | [], k, v, _, h => by cases h
  | (n, t) :: e, k, v, he, h => by
    have h : (if n = k then some t else getE e k) = some v := h
    unfold arE at he
    rw [List.all_cons, Bool.and_eq_true] at he
    by_cases q : n = k
    · rw [if_pos q] at h; cases h; exact he.1
    · rw [if_neg q] at h; exact getE_ar e k v he.2 h
theorem arF_ofV : ∀ (l : List Tr), (∀ t ∈ l, arT Γ t = true) → arF Γ (ofV l) = true ∧ lenF (ofV l) = l.length
  | [], _ => ⟨rfl, rfl⟩
  | x :: l, h => by
    obtain ⟨h1, h2⟩ := arF_ofV l (fun t ht => h t (List.mem_cons_of_mem _ ht))
    have hx := h x (List.mem_cons_self ..)
    refine ⟨?_, ?_⟩
    · show (((!decide (x.1.1 = 5) || decide (lenF x.2 = arG Γ x.1.2.1)) && arF Γ x.2) && arF Γ (ofV l)) = true
      rw [h1, Bool.and_true]; exact hx
    · show 1 + lenF (ofV l) = l.length + 1
      rw [h2]; omega
theorem arF_kids : ∀ (f : TF), arF Γ f = true → ∀ t ∈ kids f, arT Γ t = true
  | .leaf, _, t, ht => by cases ht
  | .inner _ a _ c s, h, t, ht => by
    have h : (((!decide (a.1 = 5) || decide (lenF c = arG Γ a.2.1)) && arF Γ c) && arF Γ s) = true := h
    rw [Bool.and_eq_true] at h
    have ht : t ∈ (a, c) :: kids s := ht
    rcases List.mem_cons.mp ht with w | w
    · rw [w]; exact h.1
    · exact arF_kids s h.2 t w
theorem ckF_in {z : Nat} {a : Lb} {u : Unit} {c s : TF} (h : ckF Γ (.inner z a u c s) = true) : ckT Γ (a, c) = true ∧ ckF Γ s = true ∧ (a.1 = 13 → lenF c = arG Γ a.2.1 ∧ lenF c ≤ 6) := by
  have h : (ck5 Γ a c && (!decide (a.1 = 13) || (decide (lenF c = arG Γ a.2.1) && decide (lenF c ≤ 6))) && ckF Γ c && ckF Γ s) = true := h
  rw [Bool.and_eq_true, Bool.and_eq_true, Bool.and_eq_true] at h
  refine ⟨by unfold ckT; rw [Bool.and_eq_true]; exact ⟨h.1.1.1, h.1.2⟩, h.2, fun h13 => ?_⟩
  have q := h.1.1.2
  rw [decide_eq_true h13] at q
  simpa using q
theorem caseS_ck : ∀ (s : TF) (v : Tr) (pc : TF) (cd : Tr), ckF Γ s = true → caseS s v = some (pc, cd) → ckT Γ cd = true
  | .leaf, v, pc, cd, _, h => by unfold caseS at h; cases h
  | .inner _ p _ pk .leaf, v, pc, cd, _, h => by unfold caseS at h; cases h
  | .inner _ p _ pk (.inner _ a _ c s), v, pc, cd, hc, h => by
    obtain ⟨-, h2, -⟩ := ckF_in hc
    obtain ⟨h3, h4, -⟩ := ckF_in h2
    unfold caseS at h
    by_cases q : fitC p v = true
    · rw [if_pos q] at h; cases h; exact h3
    · rw [if_neg q] at h; exact caseS_ck s v pc cd h4 h
theorem argS_ar {stp : Tr → Nat → Nat × Option Tr} (hs : ∀ t o v, ckT Γ t = true → (stp t o).2 = some v → arT Γ v = true) : ∀ (f : TF) (o : Nat) (l : List Tr), ckF Γ f = true → (argS stp f o).2 = some l → (∀ t ∈ l, arT Γ t = true) ∧ l.length = lenF f
  | .leaf, o, l, _, h => by
    have h : some ([] : List Tr) = some l := h
    cases h
    exact ⟨fun t ht => (by cases ht), rfl⟩
  | .inner _ a _ c s, o, l, hc, h => by
    obtain ⟨h1, h2, -⟩ := ckF_in hc
    unfold argS at h
    have hv := hs (a, c) o
    cases e1 : stp (a, c) o with
    | mk o1 w =>
      rw [e1] at h hv
      cases w with
      | none => cases h
      | some v =>
        dsimp only at h
        have ih := argS_ar hs s o1
        cases e2 : argS stp s o1 with
        | mk o2 w =>
          rw [e2] at h ih
          cases w with
          | none => cases h
          | some l0 =>
            cases h
            obtain ⟨i1, i2⟩ := ih l0 h2 rfl
            refine ⟨fun t ht => ?_, by show l0.length + 1 = 1 + lenF s; rw [i2]; omega⟩
            rcases List.mem_cons.mp ht with w | w
            · rw [w]; exact hv v h1 rfl
            · exact i1 t w
theorem stepS_ar (hG : ckG Γ) : ∀ (n : Nat) (t : Tr) (e : Env) (o : Nat) (v : Tr), ckT Γ t = true → arE Γ e = true → (stepS Γ n t e o).2 = some v → arT Γ v = true
  | 0, t, e, o, v, _, _, h => by unfold stepS at h; cases h
  | n + 1, (a, c), e, o, v, hc, he, h => by
    have ih := stepS_ar hG n
    have hc' : (ck5 Γ a c && ckF Γ c) = true := hc
    rw [Bool.and_eq_true] at hc'
    unfold stepS at h
    by_cases h0 : 100 ≤ o
    · rw [if_pos h0] at h; cases h
    rw [if_neg h0] at h
    by_cases h1 : a.1 = 1
    · rw [if_pos h1] at h; exact getE_ar e _ v he h
    rw [if_neg h1] at h
    by_cases h2 : a.1 = 2
    · rw [if_pos h2] at h; cases h; rfl
    rw [if_neg h2] at h
    by_cases h5 : a.1 = 5
    · rw [if_pos h5] at h
      have hA := argS_ar (Γ := Γ) (stp := fun t o => stepS Γ n t e o) (fun t o v q1 q2 => ih t e o v q1 he q2) c (o + 1)
      cases eA : argS (fun t o => stepS Γ n t e o) c (o + 1) with
      | mk o1 w =>
        rw [eA] at h hA
        cases w with
        | none => cases h
        | some l =>
          dsimp only at h
          obtain ⟨q1, q2⟩ := hA l hc'.2 rfl
          have mk : ∀ v, (if nzT ((5, a.2.1, 0), ofV l) ≤ 200 then (o1, some (((5, a.2.1, 0), ofV l) : Tr)) else (o1, none)).2 = some v → arT Γ v = true := by
            intro v hv
            by_cases z : nzT ((5, a.2.1, 0), ofV l) ≤ 200
            · rw [if_pos z] at hv
              cases hv
              obtain ⟨r1, r2⟩ := arF_ofV l q1
              have q5 := hc'.1
              unfold ck5 at q5
              rw [Bool.and_eq_true] at q5
              have q5 := q5.1
              rw [decide_eq_true h5] at q5
              have q5' : ((Γ a.2.1).isSome = true ∧ lenF c = arG Γ a.2.1) ∧ lenF c ≤ 6 := by simpa using q5
              unfold arT
              rw [r1, r2, q2, Bool.and_true]
              simp [q5'.1.2]
            · rw [if_neg z] at hv; cases hv
          cases hg : Γ a.2.1 with
          | none => rw [hg] at h; exact mk v h
          | some g =>
            cases g with
            | inl g => rw [hg] at h; exact mk v h
            | inr g =>
              obtain ⟨ns, b⟩ := g
              rw [hg] at h
              exact ih b _ o1 v (hG _ ns b hg).1 (arE_bind ns l [] q1 rfl) h
    rw [if_neg h5] at h
    by_cases h8 : a.1 = 8
    · rw [if_pos h8] at h
      cases c with
      | leaf => cases h
      | inner z a1 u c1 s =>
        dsimp only at h
        obtain ⟨k1, k2, -⟩ := ckF_in hc'.2
        have hA := ih (a1, c1) e (o + 1)
        cases eA : stepS Γ n (a1, c1) e (o + 1) with
        | mk o1 w =>
          rw [eA] at h hA
          cases w with
          | none => cases h
          | some v0 =>
            dsimp only at h
            have r0 := hA v0 k1 he rfl
            by_cases z4 : v0.1.1 = 4
            · rw [if_pos z4] at h; cases h
            · rw [if_neg z4] at h
              cases hcs : caseS s v0 with
              | none => rw [hcs] at h; cases h
              | some g =>
                obtain ⟨ns, cd⟩ := g
                rw [hcs] at h
                unfold arT at r0
                rw [Bool.and_eq_true] at r0
                exact ih cd _ o1 v (caseS_ck s v0 ns cd k2 hcs) (arE_bind ns _ e (arF_kids _ r0.2) he) h
    rw [if_neg h8] at h
    by_cases h6 : a.1 = 6 ∨ a.1 = 7 ∨ a.1 = 9
    · rw [if_pos h6] at h
      cases c with
      | leaf => cases h
      | inner z a1 u c1 s =>
        cases s with
        | leaf => cases h
        | inner z2 a2 u2 c2 s =>
          obtain ⟨k1, k2, -⟩ := ckF_in hc'.2
          obtain ⟨k3, k4, -⟩ := ckF_in k2
          dsimp only at h
          cases eA : stepS Γ n (a1, c1) e (o + 1) with
          | mk o1 w =>
            rw [eA] at h
            cases w with
            | none => cases h
            | some x =>
              dsimp only at h
              cases eB : stepS Γ n (a2, c2) e o1 with
              | mk o2 w =>
                rw [eB] at h
                cases w with
                | none => cases h
                | some y =>
                  dsimp only at h
                  cases er : reckS a x y with
                  | none => rw [er] at h; cases h
                  | some g =>
                    rw [er] at h
                    cases g with
                    | inl v0 =>
                      cases h
                      unfold reckS at er
                      split at er
                      · split at er <;> cases er
                      · split at er
                        · split at er
                          · cases er; rfl
                          · split at er
                            · cases er; rfl
                            · cases er
                        · cases er
                    | inr yes =>
                      dsimp only at h
                      cases s with
                      | leaf => cases h
                      | inner z3 a3 u3 c3 s =>
                        cases s with
                        | leaf => cases h
                        | inner z4 a4 u4 c4 s =>
                          obtain ⟨k5, k6, -⟩ := ckF_in k4
                          obtain ⟨k7, k8, -⟩ := ckF_in k6
                          dsimp only at h
                          split at h
                          · exact ih (a3, c3) e o2 v k5 he h
                          · exact ih (a4, c4) e o2 v k7 he h
    rw [if_neg h6] at h
    cases h
end ARs
