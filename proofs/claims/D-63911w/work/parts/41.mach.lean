/-! L3: the machine reads what the recursive descent reads: terms -/
def trun (b pb : Int) (s : List Int) (p q : Int) (st : RSt) : Option (Int ⊕ (List Nd × Int × List Int × List Pt5)) := match s with
  | [] => some (.inl p)
  | c :: r => match bTerm b c p q st with
    | none => some (.inl p)
    | some st' => mrun b pb r (p + 1) st'
abbrev R3 : Type := Int × List Int × List Pt5
section MA
variable {b pb : Int}
theorem mrun_nil {p : Int} {S : List Itm} {r : List Nd × R3} (hS : S.length ≤ 380) : mrun b pb [] p (S, r) = some (if S.all may = true then .inr r else .inl p) := by
  show (if 380 < S.length then none else _) = _
  rw [if_neg (by omega)]
theorem mrun_cons {c : Int} {s : List Int} {p : Int} {S : List Itm} {r : List Nd × R3} (hS : S.length ≤ 380) : mrun b pb (c :: s) p (S, r) = match tk b pb c p S r with
    | none => some (.inl p)
    | some st' => mrun b pb s (p + 1) st' := by
  show (if 380 < S.length then none else (match tk b pb c p S r with
    | none => some (.inl p)
    | some st' => mrun b pb s (p + 1) st')) = _
  rw [if_neg (by omega)]
theorem trun_cons {c : Int} {s : List Int} {p q : Int} {st : RSt} : trun b pb (c :: s) p q st = match bTerm b c p q st with
    | none => some (.inl p)
    | some st' => mrun b pb s (p + 1) st' := rfl
theorem mrun_no {c : Int} {s : List Int} {p : Int} {S : List Itm} {r : List Nd × R3} (hS : S.length ≤ 380) (h : tk b pb c p S r = none) : mrun b pb (c :: s) p (S, r) = some (.inl p) := by rw [mrun_cons hS, h]
theorem mrun_go {c : Int} {s : List Int} {p : Int} {S : List Itm} {r : List Nd × R3} {st' : RSt} (hS : S.length ≤ 380) (h : tk b pb c p S r = some st') : mrun b pb (c :: s) p (S, r) = mrun b pb s (p + 1) st' := by rw [mrun_cons hS, h]
theorem mrun_end {p : Int} {e : Itm} {S : List Itm} {r : List Nd × R3} (hS : S.length < 380) (h : may e = false) : mrun b pb [] p (e :: S, r) = some (.inl p) := by
  rw [mrun_nil (by simp; omega)]
  simp [h]
theorem mrun_term {s : List Int} {p a q : Int} {S : List Itm} {N : List Nd} {R : R3} (hS : S.length < 380) : mrun b pb s p ((200, a, q) :: S, N, R) = trun b pb s p (a + q) (S, N, R) := by
  cases s with
  | nil => exact mrun_end hS rfl
  | cons c r =>
    have : tk b pb c p ((200, a, q) :: S) (N, R) = bTerm b c p (a + q) (S, N, R) := by
      obtain ⟨nm, gv, pt⟩ := R
      unfold tk
      simp [goesOn, tDecl]
    rw [mrun_cons (by simp; omega), this, trun_cons]
/-- an item that may be left out, where nothing asks for it -/
theorem mrun_may {s : List Int} {p : Int} {e : Itm} {S : List Itm} {r : List Nd × R3} (hS : S.length < 380) (hm : may e = true) (hg : ∀ c t, s = c :: t → goesOn e.1 e.2.2 c = true) : mrun b pb s p (e :: S, r) = mrun b pb s p (S, r) := by
  cases s with
  | nil =>
    rw [mrun_nil (by simp; omega), mrun_nil (by omega), List.all_cons, hm, Bool.true_and]
  | cons c t =>
    have : tk b pb c p (e :: S) r = tk b pb c p S r := by
      obtain ⟨w, a, q⟩ := e
      conv => lhs; unfold tk
      rw [if_pos (hg c t rfl)]
    rw [mrun_cons (by simp; omega), mrun_cons (by omega), this]
theorem setC_mid (N M : List Nd) (e : Nd) (f : Int → Int) : setC (N ++ e :: M) N.length f = N ++ (e.1, e.2.1, f e.2.2.1, e.2.2.2) :: M := by
  unfold setC
  rw [List.getElem?_append_right (Nat.le_refl _), Nat.sub_self]
  simp
theorem cntA_mid (N M : List Nd) (e : Nd) : cntA (N ++ e :: M) N.length = e.2.2.1 := by
  unfold cntA
  rw [List.getElem?_append_right (Nat.le_refl _), Nat.sub_self]
  simp
theorem lenF_cons (a : Lb) (c s : TF) : lenF (cons a c s) = 1 + lenF s := rfl
theorem pre_cons (a : Lb) (c s : TF) : pre (cons a c s) = ((a.1 : Int), a.2.1, cntOf a c, a.2.2) :: (pre c ++ pre s) := rfl
theorem pre_nil : pre nil = [] := rfl
theorem bTerm_none {c p q : Int} {st : RSt} {hol : Bool} {t : List Int} (hq : q % 2 = if hol = true then 1 else 0) (h : isTm hol (c :: t) = false) : bTerm b c p q st = none := by
  obtain ⟨S, N, R⟩ := st
  simp only [isTm, Bool.or_eq_false_iff, decide_eq_false_iff_not] at h
  obtain ⟨⟨⟨⟨h1, h2⟩, h3⟩, h4⟩, h5⟩ := h
  unfold bTerm
  dsimp only
  rw [if_neg (by simp [h1, h3]), if_neg, if_neg (by simp [h2])]
  rintro (q1 | ⟨q1, q2⟩)
  · exact h4 q1
  · cases hol with
    | true => simp [q1] at h5
    | false => rw [hq] at q2; simp at q2
theorem tk_Ts {c p q : Int} {S : List Itm} {N M : List Nd} {R : R3} {v p0 : Int} {cnt : Nat} (hc : c ≠ 41) : tk b pb c p ((202, b + N.length, q) :: S) (N ++ (5, v, (cnt : Int), p0) :: M, R) = if cnt = 6 then none else bTerm b c p (q + 2) ((202, b + N.length, q) :: S, N ++ (5, v, ((cnt + 1 : Nat) : Int), p0) :: M, R) := by
  obtain ⟨nm, gv, ptt⟩ := R
  unfold tk
  rw [if_neg (by simp [goesOn]), if_neg (by decide), if_pos (by decide)]
  unfold tDecl
  dsimp only
  rw [if_neg (by decide), if_neg (by decide), if_pos rfl, if_neg hc, show (b + (N.length : Int) - b).toNat = N.length by omega, cntA_mid, setC_mid]
  by_cases hc6 : cnt = 6
  · rw [if_pos hc6, if_pos (by show (cnt : Int) = 6; omega)]
  · rw [if_neg hc6, if_neg (by show ¬ (cnt : Int) = 6; omega)]; rfl
theorem tk_Te {p q : Int} {S : List Itm} {N : List Nd} {i : Int} {R : R3} : tk b pb 41 p ((202, i, q) :: S) (N, R) = some (S, N, R) := by
  obtain ⟨nm, gv, ptt⟩ := R
  unfold tk
  simp [goesOn, tDecl]
/-- a reader's answer, told of the machine -/
def Tells (b pb : Int) (S : List Itm) (N : List Nd) (R : R3) (x : Option (Int ⊕ (List Nd × R3))) (r : RR (Lb × TF)) : Prop :=
  (∀ e, r = .inl e → x = some (.inl e)) ∧ (∀ nd s' p', r = .inr (nd, s', p') → x = mrun b pb s' p' (S, N ++ pre (cons nd.1 nd.2 nil), R))
/-- the children of a letter, behind the first -/
theorem mach_Ts {hol : Bool} {dep : Nat} {q : Int} {pt : List Int → Int → RR (Lb × TF)} {S : List Itm} {R : R3} {N : List Nd} {v p0 : Int} (hq : q = 2 * (dep : Int) + if hol = true then 1 else 0) (hS : S.length < 370)
    (ih : ∀ (s : List Int) (p : Int) (N' : List Nd), Tells b pb ((202, b + N.length, q) :: S) N' R (trun b pb s p (q + 2) ((202, b + N.length, q) :: S, N', R)) (pt s p)) :
    ∀ (k cnt : Nat) (s : List Int) (p : Int) (M : List Nd), 1 ≤ cnt → cnt ≤ 6 → k + cnt = 7 →
      (∀ e, pTs pt hol k cnt s p = .inl e → mrun b pb s p ((202, b + N.length, q) :: S, N ++ (5, v, (cnt : Int), p0) :: M, R) = some (.inl e)) ∧
      (∀ f s' p', pTs pt hol k cnt s p = .inr (f, s', p') → mrun b pb s p ((202, b + N.length, q) :: S, N ++ (5, v, (cnt : Int), p0) :: M, R) = mrun b pb s' p' (S, N ++ (5, v, ((cnt + lenF f : Nat) : Int), p0) :: (M ++ pre f), R)) := by
  have hq2 : (q + 2) % 2 = if hol = true then 1 else 0 := by rw [hq]; split <;> omega
  have hS1 : ((202, b + (N.length : Int), q) :: S).length ≤ 380 := by simp; omega
  intro k
  induction k with
  | zero => intro cnt s p M h1 h2 h3; omega
  | succ k ihk =>
    intro cnt s p M h1 h6 h7
    unfold pTs
    by_cases hgo : cnt = 0 ∨ (cnt < 6 ∧ isTm hol s = true)
    · rw [if_pos hgo]
      have h5 : cnt < 6 ∧ isTm hol s = true := hgo.resolve_left (by omega)
      obtain ⟨c, t, rfl⟩ : ∃ c t, s = c :: t := by
        cases s with
        | nil => simp [isTm] at h5
        | cons c t => exact ⟨c, t, rfl⟩
      have hc : c ≠ 41 := by
        rintro rfl
        simp [isTm, isV, isL, isD] at h5
      have e1 : mrun b pb (c :: t) p ((202, b + N.length, q) :: S, N ++ (5, v, (cnt : Int), p0) :: M, R) = trun b pb (c :: t) p (q + 2) ((202, b + N.length, q) :: S, N ++ (5, v, ((cnt + 1 : Nat) : Int), p0) :: M, R) := by
        rw [mrun_cons hS1, tk_Ts hc, if_neg (by omega), trun_cons]
      obtain ⟨i1, i2⟩ := ih (c :: t) p (N ++ (5, v, ((cnt + 1 : Nat) : Int), p0) :: M)
      cases hpt : pt (c :: t) p with
      | inl e' =>
        dsimp only
        refine ⟨fun e he => ?_, fun f s' p' he => by cases he⟩
        cases he
        rw [e1]; exact i1 _ hpt
      | inr w =>
        obtain ⟨nd, s1, p1⟩ := w
        dsimp only
        have e2 := i2 _ _ _ hpt
        rw [List.append_assoc, List.cons_append] at e2
        obtain ⟨j1, j2⟩ := ihk (cnt + 1) s1 p1 (M ++ pre (cons nd.1 nd.2 nil)) (by omega) (by omega) (by omega)
        cases hr : pTs pt hol k (cnt + 1) s1 p1 with
        | inl e' =>
          dsimp only
          refine ⟨fun e he => ?_, fun f s' p' he => by cases he⟩
          cases he
          rw [e1, e2]; exact j1 _ hr
        | inr w2 =>
          obtain ⟨f1, s2, p2⟩ := w2
          dsimp only
          refine ⟨fun e he => (nomatch he), fun f s' p' he => ?_⟩
          cases he
          rw [e1, e2, j2 _ _ _ hr, lenF_cons, pre_cons, pre_cons, pre_nil, List.append_nil, List.append_assoc, List.cons_append, show cnt + 1 + lenF f1 = cnt + (1 + lenF f1) by omega]
    · rw [if_neg hgo]
      cases s with
      | nil =>
        refine ⟨fun e he => ?_, fun f s' p' he => by cases he⟩
        cases he
        exact mrun_end (by omega) rfl
      | cons c t =>
        by_cases hc : c = 41
        · subst hc
          dsimp only
          rw [if_pos rfl]
          refine ⟨fun e he => (nomatch he), fun f s' p' he => ?_⟩
          cases he
          rw [mrun_go hS1 tk_Te]
          rw [show lenF nil = 0 from rfl, pre_nil, List.append_nil, Nat.add_zero]
        · dsimp only
          rw [if_neg hc]
          refine ⟨fun e he => ?_, fun f s' p' he => by cases he⟩
          cases he
          refine mrun_no hS1 ?_
          rw [tk_Ts hc]
          by_cases c6 : cnt = 6
          · rw [if_pos c6]
          · rw [if_neg c6]
            refine bTerm_none (t := t) hq2 ?_
            cases hb : isTm hol (c :: t) with
            | false => rfl
            | true => exact absurd (Or.inr ⟨by omega, hb⟩) hgo
/-- a term -/
theorem mach_T {hol : Bool} {R : R3} : ∀ (n dep : Nat) (q : Int) (s : List Int) (p : Int) (S : List Itm) (N : List Nd), q = 2 * (dep : Int) + (if hol = true then 1 else 0) → 9 ≤ n + dep → dep ≤ 8 → S.length + 2 * (9 - dep) < 370 → Tells b pb S N R (trun b pb s p q (S, N, R)) (pT hol n dep s p) := by
  intro n
  induction n with
  | zero => intro dep q s p S N hq h9 h8; omega
  | succ n ih =>
    intro dep q s p S N hq h9 h8 hS
    have hqm : q % 2 = if hol = true then 1 else 0 := by rw [hq]; split <;> omega
    have hqd : q / 2 = (dep : Int) := by rw [hq]; split <;> omega
    unfold pT
    cases s with
    | nil => exact ⟨fun e he => (by cases he; rfl), fun nd s' p' he => by cases he⟩
    | cons c r =>
      dsimp only
      rw [trun_cons]
      unfold bTerm
      dsimp only
      by_cases c1 : isV c = true
      · simp only [if_pos c1, if_pos (show isV c = true ∨ isD c = true from Or.inl c1)]
        refine ⟨fun e he => (nomatch he), fun nd s' p' he => ?_⟩
        cases he
        rfl
      simp only [if_neg c1]
      by_cases c2 : isD c = true
      · simp only [if_pos c2, if_pos (show isV c = true ∨ isD c = true from Or.inr c2)]
        refine ⟨fun e he => (nomatch he), fun nd s' p' he => ?_⟩
        cases he
        rfl
      simp only [if_neg c2, if_neg (show ¬ (isV c = true ∨ isD c = true) from not_or.mpr ⟨c1, c2⟩)]
      by_cases c3 : c = 35
      · simp only [if_pos c3, if_pos (show c = 35 ∨ (c = 95 ∧ q % 2 = 1) from Or.inl c3)]
        refine ⟨fun e he => (nomatch he), fun nd s' p' he => ?_⟩
        cases he
        rfl
      simp only [if_neg c3]
      by_cases c4 : hol = true ∧ c = 95
      · simp only [if_pos c4, if_pos (show c = 35 ∨ (c = 95 ∧ q % 2 = 1) from Or.inr ⟨c4.2, by rw [hqm, if_pos c4.1]⟩)]
        refine ⟨fun e he => (nomatch he), fun nd s' p' he => ?_⟩
        cases he
        rfl
      have c4' : ¬ (c = 35 ∨ (c = 95 ∧ q % 2 = 1)) := by
        rintro (h | ⟨h1, h2⟩)
        · exact c3 h
        · rw [hqm] at h2
          by_cases hh : hol = true
          · exact c4 ⟨hh, h1⟩
          · rw [if_neg hh] at h2; cases h2
      simp only [if_neg c4, if_neg c4']
      by_cases c5 : isL c = true
      · simp only [if_pos c5]
        -- nothing behind it
        have plain : ∀ (h : ∀ x t, r = x :: t → ¬ (x = 40 ∧ dep < 8)), mrun b pb r (p + 1) ((201, b + N.length, q) :: S, N ++ [(5, c - 65, 0, p)], R) = mrun b pb r (p + 1) (S, N ++ pre (cons (5, c - 65, p) nil nil), R) := by
          intro h
          rw [mrun_may (by omega) rfl]
          · rfl
          · intro x t hx
            have := h x t hx
            unfold goesOn
            by_cases x40 : x = 40
            · have d8 : dep = 8 := by omega
              simp [hqd, d8]
            · simp [x40]
        cases r with
        | nil =>
          dsimp only
          refine ⟨fun e he => (nomatch he), fun nd s' p' he => ?_⟩
          cases he
          exact plain (fun x t hx => by cases hx)
        | cons x r' =>
          dsimp only
          by_cases hx : x = 40 ∧ dep < 8
          · rw [if_pos hx]
            obtain ⟨rfl, h8'⟩ := hx
            have e1 : mrun b pb (40 :: r') (p + 1) ((201, b + N.length, q) :: S, N ++ [(5, c - 65, 0, p)], R) = trun b pb r' (p + 2) (q + 2) ((202, b + N.length, q) :: S, N ++ [(5, c - 65, 1, p)], R) := by
              obtain ⟨nm, gv, ptt⟩ := R
              have : tk b pb 40 (p + 1) ((201, b + N.length, q) :: S) (N ++ [(5, c - 65, 0, p)], nm, gv, ptt) = some ((200, q + 2, 0) :: (202, b + N.length, q) :: S, N ++ [(5, c - 65, 1, p)], nm, gv, ptt) := by
                unfold tk
                rw [if_neg (by simp [goesOn, hqd]; omega), if_neg (by decide), if_pos (by decide)]
                unfold tDecl
                dsimp only
                rw [if_neg (by decide), if_pos rfl, show (b + (N.length : Int) - b).toNat = N.length by omega, setC_mid]
              rw [mrun_go (by simp; omega) this, show p + 1 + 1 = p + 2 by omega, mrun_term (by simp; omega), Int.add_zero]
            rw [e1]
            have ihc : ∀ (s : List Int) (p' : Int) (N' : List Nd), Tells b pb ((202, b + N.length, q) :: S) N' R (trun b pb s p' (q + 2) ((202, b + N.length, q) :: S, N', R)) (pT hol n (dep + 1) s p') := fun s p' N' => ih (dep + 1) (q + 2) s p' _ N' (by rw [hq]; omega) (by omega) (by omega) (by simp; omega)
            obtain ⟨i1, i2⟩ := ihc r' (p + 2) (N ++ [(5, c - 65, 1, p)])
            unfold pTs
            rw [if_pos (Or.inl rfl)]
            cases hpt : pT hol n (dep + 1) r' (p + 2) with
            | inl e' =>
              dsimp only
              refine ⟨fun e he => ?_, fun nd s' p' he => by cases he⟩
              cases he
              exact i1 _ hpt
            | inr w =>
              obtain ⟨nd, s1, p1⟩ := w
              dsimp only
              have e2 := i2 _ _ _ hpt
              rw [List.append_assoc, List.singleton_append] at e2
              obtain ⟨j1, j2⟩ := mach_Ts (b := b) (pb := pb) (v := c - 65) (p0 := p) hq (by omega) ihc 6 1 s1 p1 (pre (cons nd.1 nd.2 nil)) (by decide) (by decide) (by decide)
              cases hr : pTs (pT hol n (dep + 1)) hol 6 (0 + 1) s1 p1 with
              | inl e' =>
                dsimp only
                refine ⟨fun e he => ?_, fun nd s' p' he => by cases he⟩
                cases he
                rw [e2]; exact j1 _ hr
              | inr w2 =>
                obtain ⟨f1, s2, p2⟩ := w2
                dsimp only
                refine ⟨fun e he => (nomatch he), fun nd' s' p' he => ?_⟩
                cases he
                have e3 := j2 _ _ _ hr
                rw [e2]
                refine e3.trans ?_
                congr 3
                rw [pre_cons, pre_nil, List.append_nil, pre_cons, pre_cons, pre_nil, List.append_nil]
                rfl
          · rw [if_neg hx]
            refine ⟨fun e he => (nomatch he), fun nd s' p' he => ?_⟩
            cases he
            exact plain (fun y t hy => by cases hy; exact hx)
      · simp only [if_neg c5]
        exact ⟨fun e he => (by cases he; rfl), fun nd s' p' he => by cases he⟩
end MA
