/-! L3: the machine reads programs -/
def crun (b pb : Int) (s : List Int) (p d : Int) (st : RSt) : Option (Int ⊕ (List Nd × R3)) := match s with
  | [] => some (.inl p)
  | c :: r => match bCode b c p d st with
    | none => some (.inl p)
    | some st' => mrun b pb r (p + 1) st'
section MC
variable {b pb : Int}
theorem crun_cons {c : Int} {s : List Int} {p d : Int} {st : RSt} : crun b pb (c :: s) p d st = match bCode b c p d st with
    | none => some (.inl p)
    | some st' => mrun b pb s (p + 1) st' := rfl
theorem tk_lit {what : Int} (h : what = 210) {c p a q : Int} {S : List Itm} {N : List Nd} {R : R3} : tk b pb c p ((what, a, q) :: S) (N, R) = bCode b c p a (S, N, R) := by
  subst h
  obtain ⟨nm, gv, pt⟩ := R
  unfold tk
  simp [goesOn, tCode]
theorem mrun_code {s : List Int} {p a q : Int} {S : List Itm} {N : List Nd} {R : R3} (hS : S.length < 380) : mrun b pb s p ((210, a, q) :: S, N, R) = crun b pb s p a (S, N, R) := by
  cases s with
  | nil => exact mrun_end hS rfl
  | cons c r => rw [mrun_cons (by simp; omega), tk_lit rfl, crun_cons]; rfl
theorem bCode_none {c p d : Int} {st : RSt} {t : List Int} (h : isCd (c :: t) = false) : bCode b c p d st = none := by
  obtain ⟨S, N, R⟩ := st
  simp only [isCd, Bool.or_eq_false_iff, decide_eq_false_iff_not] at h
  obtain ⟨⟨⟨⟨⟨⟨⟨h1, h2⟩, h3⟩, h4⟩, h5⟩, h6⟩, h7⟩, h8⟩ := h
  unfold bCode
  dsimp only
  rw [if_neg (by simp [h1, h3, h8]), if_neg (by simp [h2])]
  by_cases hd : d = 12
  · rw [if_pos hd]
  · rw [if_neg hd, if_neg (by simp [h4, h5]), if_neg h6, if_neg h7]
theorem tk_Cs {c p q : Int} {S : List Itm} {N M : List Nd} {R : R3} {v p0 : Int} {cnt : Nat} (hc : c ≠ 41) : tk b pb c p ((212, b + N.length, q) :: S) (N ++ (5, v, (cnt : Int), p0) :: M, R) = if cnt = 6 then none else bCode b c p (q + 1) ((212, b + N.length, q) :: S, N ++ (5, v, ((cnt + 1 : Nat) : Int), p0) :: M, R) := by
  obtain ⟨nm, gv, ptt⟩ := R
  unfold tk
  rw [if_neg (by simp [goesOn]), if_neg (by decide), if_neg (by decide)]
  unfold tCode
  dsimp only
  rw [if_neg (by decide), if_neg (by decide), if_neg (by decide), if_pos rfl, if_neg hc, show (b + (N.length : Int) - b).toNat = N.length by omega, cntA_mid, setC_mid]
  by_cases hc6 : cnt = 6
  · rw [if_pos hc6, if_pos (by show (cnt : Int) = 6; omega)]
  · rw [if_neg hc6, if_neg (by show ¬ (cnt : Int) = 6; omega)]; rfl
theorem tk_Ce {p q : Int} {S : List Itm} {N : List Nd} {i : Int} {R : R3} : tk b pb 41 p ((212, i, q) :: S) (N, R) = some (S, N, R) := by
  obtain ⟨nm, gv, ptt⟩ := R
  unfold tk
  simp [goesOn, tCode]
theorem mach_Cs {q : Int} {pc : List Int → Int → RR (Lb × TF)} {S : List Itm} {R : R3} {N : List Nd} {v p0 : Int} (hS : S.length < 370)
    (ih : ∀ (s : List Int) (p : Int) (N' : List Nd), Tells b pb ((212, b + N.length, q) :: S) N' R (crun b pb s p (q + 1) ((212, b + N.length, q) :: S, N', R)) (pc s p)) :
    ∀ (k cnt : Nat) (s : List Int) (p : Int) (M : List Nd), 1 ≤ cnt → cnt ≤ 6 → k + cnt = 7 →
      (∀ e, pCs pc k cnt s p = .inl e → mrun b pb s p ((212, b + N.length, q) :: S, N ++ (5, v, (cnt : Int), p0) :: M, R) = some (.inl e)) ∧
      (∀ f s' p', pCs pc k cnt s p = .inr (f, s', p') → mrun b pb s p ((212, b + N.length, q) :: S, N ++ (5, v, (cnt : Int), p0) :: M, R) = mrun b pb s' p' (S, N ++ (5, v, ((cnt + lenF f : Nat) : Int), p0) :: (M ++ pre f), R)) := by
  have hS1 : ((212, b + (N.length : Int), q) :: S).length ≤ 380 := by simp; omega
  intro k
  induction k with
  | zero => intro cnt s p M h1 h2 h3; omega
  | succ k ihk =>
    intro cnt s p M h1 h6 h7
    unfold pCs
    by_cases hgo : cnt = 0 ∨ (cnt < 6 ∧ isCd s = true)
    · rw [if_pos hgo]
      have h5 : cnt < 6 ∧ isCd s = true := hgo.resolve_left (by omega)
      obtain ⟨c, t, rfl⟩ : ∃ c t, s = c :: t := by
        cases s with
        | nil => simp [isCd] at h5
        | cons c t => exact ⟨c, t, rfl⟩
      have hc : c ≠ 41 := by
        rintro rfl
        simp [isCd, isV, isL, isD] at h5
      have e1 : mrun b pb (c :: t) p ((212, b + N.length, q) :: S, N ++ (5, v, (cnt : Int), p0) :: M, R) = crun b pb (c :: t) p (q + 1) ((212, b + N.length, q) :: S, N ++ (5, v, ((cnt + 1 : Nat) : Int), p0) :: M, R) := by
        rw [mrun_cons hS1, tk_Cs hc, if_neg (by omega), crun_cons]; rfl
      obtain ⟨i1, i2⟩ := ih (c :: t) p (N ++ (5, v, ((cnt + 1 : Nat) : Int), p0) :: M)
      cases hpt : pc (c :: t) p with
      | inl e' =>
        dsimp only
        refine ⟨fun e he => ?_, fun f s' p' he => by cases he⟩
        cases he
        rw [e1]; exact i1 _ hpt
      | inr w =>
        obtain ⟨nd, s1, p1⟩ := w
        dsimp only
        have e2 := i2 _ _ _ hpt
        rw [List.append_assoc, List.cons_append] at e2
        obtain ⟨j1, j2⟩ := ihk (cnt + 1) s1 p1 (M ++ pre (cons nd.1 nd.2 nil)) (by omega) (by omega) (by omega)
        cases hr : pCs pc k (cnt + 1) s1 p1 with
        | inl e' =>
          dsimp only
          refine ⟨fun e he => ?_, fun f s' p' he => by cases he⟩
          cases he
          rw [e1, e2]; exact j1 _ hr
        | inr w2 =>
          obtain ⟨f1, s2, p2⟩ := w2
          dsimp only
          refine ⟨fun e he => (nomatch he), fun f s' p' he => ?_⟩
          cases he
          rw [e1, e2, j2 _ _ _ hr, lenF_cons, pre_cons, pre_cons, pre_nil, List.append_nil, List.append_assoc, List.cons_append, show cnt + 1 + lenF f1 = cnt + (1 + lenF f1) by omega]
    · rw [if_neg hgo]
      cases s with
      | nil =>
        refine ⟨fun e he => ?_, fun f s' p' he => by cases he⟩
        cases he
        exact mrun_end (by omega) rfl
      | cons c t =>
        by_cases hc : c = 41
        · subst hc
          dsimp only
          rw [if_pos rfl]
          refine ⟨fun e he => (nomatch he), fun f s' p' he => ?_⟩
          cases he
          rw [mrun_go hS1 tk_Ce]
          rw [show lenF nil = 0 from rfl, pre_nil, List.append_nil, Nat.add_zero]
        · dsimp only
          rw [if_neg hc]
          refine ⟨fun e he => ?_, fun f s' p' he => by cases he⟩
          cases he
          refine mrun_no hS1 ?_
          rw [tk_Cs hc]
          by_cases c6 : cnt = 6
          · rw [if_pos c6]
          · rw [if_neg c6]
            refine bCode_none (t := t) ?_
            cases hb : isCd (c :: t) with
            | false => rfl
            | true => exact absurd (Or.inr ⟨by omega, hb⟩) hgo
/-- the names of a form -/
theorem mach_Vs {S : List Itm} {R : R3} {N : List Nd} {v p0 : Int} (hS : S.length < 370) : ∀ (k cnt : Nat) (s : List Int) (p : Int) (M : List Nd), cnt + k = 6 →
    (∀ e, (match pVs k (decide (cnt = 0)) s p with
      | .inl e => .inl e
      | .inr (f, s1, p1) => match pCh 41 s1 p1 with
        | .inl e => .inl e
        | .inr (_, s2, p2) => .inr (f, s2, p2) : RR TF) = .inl e → mrun b pb s p ((216, b + N.length, 0) :: S, N ++ (13, v, (cnt : Int), p0) :: M, R) = some (.inl e)) ∧
    (∀ f s' p', (match pVs k (decide (cnt = 0)) s p with
      | .inl e => .inl e
      | .inr (f, s1, p1) => match pCh 41 s1 p1 with
        | .inl e => .inl e
        | .inr (_, s2, p2) => .inr (f, s2, p2) : RR TF) = .inr (f, s', p') → mrun b pb s p ((216, b + N.length, 0) :: S, N ++ (13, v, (cnt : Int), p0) :: M, R) = mrun b pb s' p' (S, N ++ (13, v, ((cnt + lenF f : Nat) : Int), p0) :: (M ++ pre f), R)) := by
  obtain ⟨nm, gv, pt⟩ := R
  have hS1 : ((216, b + (N.length : Int), 0) :: S).length ≤ 380 := by simp; omega
  have htk : ∀ (c p : Int) (cnt : Nat) (M : List Nd), tk b pb c p ((216, b + N.length, 0) :: S) (N ++ (13, v, (cnt : Int), p0) :: M, nm, gv, pt) = if c = 41 then (if 0 < cnt then some (S, N ++ (13, v, (cnt : Int), p0) :: M, nm, gv, pt) else none) else if isV c = true ∧ cnt ≠ 6 then some ((216, b + N.length, 0) :: S, N ++ (13, v, ((cnt + 1 : Nat) : Int), p0) :: (M ++ [(14, c - 97, 0, p)]), nm, gv, pt) else none := fun c p cnt M => by
    unfold tk
    rw [if_neg (by simp [goesOn]), if_neg (by decide), if_neg (by decide)]
    unfold tCode
    dsimp only
    simp only [show ((216 : Int) = 209) = False by decide, show ((216 : Int) = 210) = False by decide, show ((216 : Int) = 211) = False by decide, show ((216 : Int) = 212) = False by decide, show ((216 : Int) = 213) = False by decide, show ((216 : Int) = 214) = False by decide, show ((216 : Int) = 215) = False by decide, if_false, if_true]
    rw [show (b + (N.length : Int) - b).toNat = N.length by omega, cntA_mid, List.append_assoc, List.cons_append, setC_mid]
    dsimp only
    by_cases hc : c = 41
    · rw [if_pos hc, if_pos hc]
      by_cases h0 : 0 < cnt
      · rw [if_pos h0, if_pos (by omega)]
      · rw [if_neg h0, if_neg (by omega)]
    · rw [if_neg hc, if_neg hc]
      by_cases h6 : isV c = true ∧ cnt ≠ 6
      · rw [if_pos h6, if_pos ⟨h6.1, by omega⟩]; rfl
      · rw [if_neg h6, if_neg (fun q => h6 ⟨q.1, by omega⟩)]
  intro k
  induction k with
  | zero =>
    intro cnt s p M hk
    obtain rfl : cnt = 6 := by omega
    cases s with
    | nil =>
      refine ⟨fun e he => ?_, fun f s' p' he => by simp [pVs, pCh] at he⟩
      simp only [pVs, pCh] at he
      cases he
      exact mrun_end (by omega) rfl
    | cons c t =>
      have h := htk c p 6 M
      by_cases hc : c = 41
      · subst hc
        rw [if_pos rfl, if_pos (by decide)] at h
        refine ⟨fun e he => by simp [pVs, pCh] at he, fun f s' p' he => ?_⟩
        simp only [pVs, pCh, if_true] at he
        cases he
        rw [mrun_go hS1 h, show lenF nil = 0 from rfl, pre_nil, List.append_nil]
      · rw [if_neg hc, if_neg (fun q => q.2 rfl)] at h
        refine ⟨fun e he => ?_, fun f s' p' he => by simp [pVs, pCh, hc] at he⟩
        simp only [pVs, pCh, if_neg hc] at he
        cases he
        exact mrun_no hS1 h
  | succ k ih =>
    intro cnt s p M hk
    cases s with
    | nil =>
      refine ⟨fun e he => ?_, fun f s' p' he => ?_⟩
      · by_cases h0 : cnt = 0
        · simp [pVs, h0] at he
          subst he
          exact mrun_end (by omega) rfl
        · simp [pVs, h0, pCh] at he
          subst he
          exact mrun_end (by omega) rfl
      · by_cases h0 : cnt = 0
        · simp [pVs, h0] at he
        · simp [pVs, h0, pCh] at he
    | cons c t =>
      have h := htk c p cnt M
      by_cases hv : isV c = true
      · have hc : ¬ c = 41 := fun e => by rw [e] at hv; simp [isV] at hv
        rw [if_neg hc, if_pos ⟨hv, by omega⟩] at h
        have hr : pVs (k + 1) (decide (cnt = 0)) (c :: t) p = (match pVs k false t (p + 1) with
          | .inl e => .inl e
          | .inr (f, s', p') => .inr (cons (14, c - 97, p) nil f, s', p')) := by
          simp only [pVs, if_pos hv]
          rfl
        rw [hr, mrun_go hS1 h]
        obtain ⟨j1, j2⟩ := ih (cnt + 1) t (p + 1) (M ++ [(14, c - 97, 0, p)]) (by omega)
        rw [show decide (cnt + 1 = 0) = false by simp] at j1 j2
        cases h3 : pVs k false t (p + 1) with
        | inl e' =>
          rw [h3] at j1
          dsimp only
          refine ⟨fun e he => ?_, fun l s' p' he => by cases he⟩
          cases he
          exact j1 _ rfl
        | inr w2 =>
          obtain ⟨f1, s2, p2⟩ := w2
          rw [h3] at j1 j2
          dsimp only at j1 j2 ⊢
          cases h4 : pCh 41 s2 p2 with
          | inl e' =>
            rw [h4] at j1
            dsimp only
            refine ⟨fun e he => ?_, fun l s' p' he => by cases he⟩
            cases he
            exact j1 _ rfl
          | inr w3 =>
            obtain ⟨u, s3, p3⟩ := w3
            rw [h4] at j2
            dsimp only
            refine ⟨fun e he => (nomatch he), fun l s' p' he => ?_⟩
            cases he
            rw [j2 _ _ _ rfl, lenF_cons, pre_cons, pre_nil, List.nil_append, List.append_assoc, List.singleton_append, show cnt + 1 + lenF f1 = cnt + (1 + lenF f1) by omega]
            rfl
      · by_cases h0 : cnt = 0
        · have hr : pVs (k + 1) (decide (cnt = 0)) (c :: t) p = .inl p := by
            simp [pVs, hv, h0]
          rw [hr]
          dsimp only
          refine ⟨fun e he => ?_, fun l s' p' he => by cases he⟩
          cases he
          refine mrun_no hS1 ?_
          rw [h]
          by_cases hc : c = 41
          · rw [if_pos hc, if_neg (by omega)]
          · rw [if_neg hc, if_neg (fun q => hv q.1)]
        · have hr : pVs (k + 1) (decide (cnt = 0)) (c :: t) p = .inr (nil, c :: t, p) := by
            simp [pVs, hv, h0]
          rw [hr]
          dsimp only
          by_cases hc : c = 41
          · rw [if_pos hc, if_pos (by omega)] at h
            refine ⟨fun e he => by simp [pCh, hc] at he, fun f s' p' he => ?_⟩
            simp only [pCh, if_pos hc] at he
            cases he
            rw [mrun_go hS1 h, show lenF nil = 0 from rfl, pre_nil, List.append_nil, Nat.add_zero]
          · rw [if_neg hc, if_neg (fun q => hv q.1)] at h
            refine ⟨fun e he => ?_, fun f s' p' he => by simp [pCh, hc] at he⟩
            simp only [pCh, if_neg hc] at he
            cases he
            exact mrun_no hS1 h
/-- a pattern -/
theorem mach_Pat {S : List Itm} {R : R3} {N : List Nd} {s : List Int} {p : Int} (hS : S.length < 360) : Tells b pb S N R (mrun b pb s p ((214, 0, 0) :: S, N, R)) (pPat s p) := by
  have hS1 : (((214 : Int), (0 : Int), (0 : Int)) :: S).length ≤ 380 := by simp; omega
  cases s with
  | nil => exact ⟨fun e he => (by cases he; exact mrun_end (by omega) rfl), fun nd s' p' he => by cases he⟩
  | cons c r =>
    have htk : tk b pb c p ((214, 0, 0) :: S) (N, R) = bPat b c p (S, N, R) := by
      obtain ⟨nm, gv, pt⟩ := R
      unfold tk
      simp [goesOn, tCode]
    rw [mrun_cons hS1, htk]
    unfold pPat bPat
    dsimp only
    by_cases c1 : isD c = true
    · have nL : ¬ isL c = true := fun q => by simp [isL, isD] at q c1; omega
      have n95 : ¬ c = 95 := fun q => by rw [q] at c1; simp [isD] at c1
      simp only [if_pos c1, if_neg nL, if_pos (show c = 95 ∨ isD c = true from Or.inr c1), if_neg n95]
      refine ⟨fun e he => (nomatch he), fun nd s' p' he => ?_⟩
      cases he; rfl
    · simp only [if_neg c1]
      by_cases c2 : c = 95
      · have nL : ¬ isL c = true := fun q => by rw [c2] at q; simp [isL] at q
        simp only [if_pos c2, if_neg nL, if_pos (show c = 95 ∨ isD c = true from Or.inl c2)]
        refine ⟨fun e he => (nomatch he), fun nd s' p' he => ?_⟩
        cases he
        rw [c2]; rfl
      · simp only [if_neg c2]
        by_cases c3 : isL c = true
        · simp only [if_pos c3]
          have plain : ∀ (h : ∀ x t, r = x :: t → x ≠ 40), mrun b pb r (p + 1) ((215, b + N.length, 0) :: S, N ++ [(13, c - 65, 0, p)], R) = mrun b pb r (p + 1) (S, N ++ pre (cons (13, c - 65, p) nil nil), R) := by
            intro h
            rw [mrun_may (by omega) rfl]
            · rfl
            · intro x t hx
              have := h x t hx
              unfold goesOn
              simp [this]
          cases r with
          | nil =>
            dsimp only
            refine ⟨fun e he => (nomatch he), fun nd s' p' he => ?_⟩
            cases he
            exact plain (fun x t hx => by cases hx)
          | cons x r' =>
            dsimp only
            by_cases hx : x = 40
            · subst hx
              rw [if_pos rfl]
              have hk : tk b pb 40 (p + 1) ((215, b + N.length, 0) :: S) (N ++ [(13, c - 65, 0, p)], R) = some ((216, b + N.length, 0) :: S, N ++ [(13, c - 65, 0, p)], R) := by
                obtain ⟨nm, gv, pt⟩ := R
                unfold tk
                simp [goesOn, tCode]
              rw [mrun_go (by simp; omega) hk, show p + 1 + 1 = p + 2 by omega]
              obtain ⟨j1, j2⟩ := mach_Vs (b := b) (pb := pb) (S := S) (R := R) (N := N) (v := c - 65) (p0 := p) (by omega) 6 0 r' (p + 2) [] (by decide)
              rw [show decide ((0 : Nat) = 0) = true by decide] at j1 j2
              cases h3 : pVs 6 true r' (p + 2) with
              | inl e' =>
                rw [h3] at j1
                dsimp only
                refine ⟨fun e he => ?_, fun l s' p' he => by cases he⟩
                cases he
                exact j1 _ rfl
              | inr w2 =>
                obtain ⟨f1, s2, p2⟩ := w2
                rw [h3] at j1 j2
                dsimp only at j1 j2 ⊢
                cases h4 : pCh 41 s2 p2 with
                | inl e' =>
                  rw [h4] at j1
                  dsimp only
                  refine ⟨fun e he => ?_, fun l s' p' he => by cases he⟩
                  cases he
                  exact j1 _ rfl
                | inr w3 =>
                  obtain ⟨u, s3, p3⟩ := w3
                  rw [h4] at j2
                  dsimp only
                  refine ⟨fun e he => (nomatch he), fun l s' p' he => ?_⟩
                  cases he
                  have e9 := j2 _ _ _ rfl
                  refine e9.trans ?_
                  rw [pre_cons, pre_nil, List.append_nil, Nat.zero_add, List.nil_append]
                  rfl
            · rw [if_neg hx]
              refine ⟨fun e he => (nomatch he), fun nd s' p' he => ?_⟩
              cases he
              exact plain (fun y t hy => by cases hy; exact hx)
        · simp only [if_neg c3, if_neg (show ¬ (c = 95 ∨ isD c = true) from not_or.mpr ⟨c2, c1⟩)]
          exact ⟨fun e he => (by cases he; rfl), fun nd s' p' he => by cases he⟩
theorem mach_Cases {q : Int} {pc : List Int → Int → RR (Lb × TF)} {S : List Itm} {R : R3} {N : List Nd} {p0 : Int} (hS : S.length < 340)
    (ih : ∀ (s : List Int) (p : Int) (N' : List Nd), Tells b pb ((213, b + N.length, q) :: S) N' R (crun b pb s p (q + 1) ((213, b + N.length, q) :: S, N', R)) (pc s p)) :
    ∀ (k cnt : Nat) (s : List Int) (p : Int) (M : List Nd), k + cnt = 5 →
      (∀ e, pCases pc k cnt s p = .inl e → mrun b pb s p ((213, b + N.length, q) :: S, N ++ (8, 0, (cnt : Int), p0) :: M, R) = some (.inl e)) ∧
      (∀ f s' p', pCases pc k cnt s p = .inr (f, s', p') → ∃ j : Nat, lenF f = 2 * j ∧ mrun b pb s p ((213, b + N.length, q) :: S, N ++ (8, 0, (cnt : Int), p0) :: M, R) = mrun b pb s' p' (S, N ++ (8, 0, ((cnt + j : Nat) : Int), p0) :: (M ++ pre f), R)) := by
  have hS1 : ((213, b + (N.length : Int), q) :: S).length ≤ 380 := by simp; omega
  have htk : ∀ (c p : Int) (cnt : Nat) (M : List Nd), tk b pb c p ((213, b + N.length, q) :: S) (N ++ (8, 0, (cnt : Int), p0) :: M, R) = if c = 125 then (if 0 < cnt then some (S, N ++ (8, 0, (cnt : Int), p0) :: M, R) else none) else if c = 124 ∧ cnt ≠ 5 then some ((214, 0, 0) :: (62, 0, 0) :: (210, q + 1, 0) :: (213, b + N.length, q) :: S, N ++ (8, 0, ((cnt + 1 : Nat) : Int), p0) :: M, R) else none := fun c p cnt M => by
    obtain ⟨nm, gv, pt⟩ := R
    unfold tk
    rw [if_neg (by simp [goesOn]), if_neg (by decide), if_neg (by decide)]
    unfold tCode
    dsimp only
    simp only [show ((213 : Int) = 209) = False by decide, show ((213 : Int) = 210) = False by decide, show ((213 : Int) = 211) = False by decide, show ((213 : Int) = 212) = False by decide, if_false, if_true]
    rw [show (b + (N.length : Int) - b).toNat = N.length by omega, cntA_mid, setC_mid]
    dsimp only
    by_cases hc : c = 125
    · rw [if_pos hc, if_pos hc]
      by_cases h0 : 0 < cnt
      · rw [if_pos h0, if_pos (by omega)]
      · rw [if_neg h0, if_neg (by omega)]
    · rw [if_neg hc, if_neg hc]
      by_cases h6 : c = 124 ∧ cnt ≠ 5
      · rw [if_pos h6, if_pos ⟨h6.1, by omega⟩]; rfl
      · rw [if_neg h6, if_neg (fun q => h6 ⟨q.1, by omega⟩)]
  have fin : ∀ (cnt : Nat) (M : List Nd) (p : Int) (t : List Int), 0 < cnt → mrun b pb (125 :: t) p ((213, b + N.length, q) :: S, N ++ (8, 0, (cnt : Int), p0) :: M, R) = mrun b pb t (p + 1) (S, N ++ (8, 0, ((cnt + 0 : Nat) : Int), p0) :: (M ++ pre nil), R) := fun cnt M p t h0 => by
    have h := htk 125 p cnt M
    rw [if_pos rfl, if_pos h0] at h
    rw [mrun_go hS1 h, pre_nil, List.append_nil, Nat.add_zero]
  intro k
  induction k with
  | zero =>
    intro cnt s p M hk
    obtain rfl : cnt = 5 := by omega
    cases s with
    | nil =>
      refine ⟨fun e he => ?_, fun f s' p' he => by simp [pCases] at he⟩
      simp only [pCases] at he
      cases he
      exact mrun_end (by omega) rfl
    | cons c t =>
      by_cases hc : c = 125
      · subst hc
        refine ⟨fun e he => by simp [pCases] at he, fun f s' p' he => ?_⟩
        simp only [pCases, if_true] at he
        cases he
        exact ⟨0, rfl, fin 5 M p t (by decide)⟩
      · refine ⟨fun e he => ?_, fun f s' p' he => by simp [pCases, hc] at he⟩
        simp only [pCases, if_neg hc] at he
        cases he
        refine mrun_no hS1 ?_
        rw [htk, if_neg hc, if_neg (fun q => q.2 rfl)]
  | succ k ihk =>
    intro cnt s p M hk
    cases s with
    | nil =>
      refine ⟨fun e he => ?_, fun f s' p' he => by simp [pCases] at he⟩
      simp only [pCases] at he
      cases he
      exact mrun_end (by omega) rfl
    | cons c t =>
      by_cases hc : c = 124
      · have n125 : ¬ c = 125 := by omega
        have h := htk c p cnt M
        rw [if_neg n125, if_pos ⟨hc, by omega⟩] at h
        rw [mrun_go hS1 h]
        have hr : pCases pc (k + 1) cnt (c :: t) p = (match pCase pc t (p + 1) with
          | .inl e => .inl e
          | .inr ((a, b), s1, p1) => match pCases pc k (cnt + 1) s1 p1 with
            | .inl e => .inl e
            | .inr (f, s2, p2) => .inr (cons a.1 a.2 (cons b.1 b.2 f), s2, p2)) := by
          simp only [pCases, if_pos hc]
          rfl
        rw [hr]
        unfold pCase
        obtain ⟨g1, g2⟩ := mach_Pat (b := b) (pb := pb) (S := (62, 0, 0) :: (210, q + 1, 0) :: (213, b + N.length, q) :: S) (R := R) (N := N ++ (8, 0, ((cnt + 1 : Nat) : Int), p0) :: M) (s := t) (p := p + 1) (by simp; omega)
        cases h1 : pPat t (p + 1) with
        | inl e' =>
          dsimp only
          refine ⟨fun e he => ?_, fun f s' p' he => by cases he⟩
          cases he
          exact g1 _ h1
        | inr w =>
          obtain ⟨a, s1, p1⟩ := w
          dsimp only
          rw [g2 _ _ _ h1]
          obtain ⟨k1, k2⟩ := mrun_ch (b := b) (pb := pb) (x := 62) (y := 0) (z := 0) (by decide) (s := s1) (p := p1) (S := (210, q + 1, 0) :: (213, b + N.length, q) :: S) (r := (N ++ (8, 0, ((cnt + 1 : Nat) : Int), p0) :: M ++ pre (cons a.1 a.2 nil), R)) (by simp; omega)
          cases h2 : pCh 62 s1 p1 with
          | inl e' =>
            dsimp only
            refine ⟨fun e he => ?_, fun f s' p' he => by cases he⟩
            cases he
            exact k1 _ h2
          | inr w2 =>
            obtain ⟨u, s2, p2⟩ := w2
            dsimp only
            rw [k2 _ _ _ h2, mrun_code (by simp; omega)]
            obtain ⟨i1, i2⟩ := ih s2 p2 (N ++ (8, 0, ((cnt + 1 : Nat) : Int), p0) :: M ++ pre (cons a.1 a.2 nil))
            cases h3 : pc s2 p2 with
            | inl e' =>
              dsimp only
              refine ⟨fun e he => ?_, fun f s' p' he => by cases he⟩
              cases he
              exact i1 _ h3
            | inr w3 =>
              obtain ⟨a2, s3, p3⟩ := w3
              dsimp only
              have e9 := i2 _ _ _ h3
              simp only [List.append_assoc, List.cons_append] at e9 ⊢
              rw [e9]
              obtain ⟨j1, j2⟩ := ihk (cnt + 1) s3 p3 (M ++ (pre (cons a.1 a.2 nil) ++ pre (cons a2.1 a2.2 nil))) (by omega)
              cases h4 : pCases pc k (cnt + 1) s3 p3 with
              | inl e' =>
                dsimp only
                refine ⟨fun e he => ?_, fun f s' p' he => by cases he⟩
                cases he
                exact j1 _ h4
              | inr w4 =>
                obtain ⟨f1, s4, p4⟩ := w4
                dsimp only
                refine ⟨fun e he => (nomatch he), fun f s' p' he => ?_⟩
                cases he
                obtain ⟨jj, e5, e6⟩ := j2 _ _ _ h4
                refine ⟨jj + 1, by rw [lenF_cons, lenF_cons, e5]; omega, ?_⟩
                rw [e6, pre_cons, pre_cons, pre_cons, pre_cons, pre_nil, List.append_nil, List.append_nil, show cnt + 1 + jj = cnt + (jj + 1) by omega]
                simp only [List.append_assoc, List.cons_append]
      · by_cases hc2 : c = 125 ∧ 0 < cnt
        · have hr : pCases pc (k + 1) cnt (c :: t) p = .inr (nil, t, p + 1) := by
            simp only [pCases, if_neg hc, if_pos hc2]
          rw [hr]
          refine ⟨fun e he => (nomatch he), fun f s' p' he => ?_⟩
          cases he
          obtain ⟨rfl, h0⟩ := hc2
          exact ⟨0, rfl, fin cnt M p _ h0⟩
        · have hr : pCases pc (k + 1) cnt (c :: t) p = .inl p := by
            simp only [pCases, if_neg hc, if_neg hc2]
          rw [hr]
          refine ⟨fun e he => ?_, fun f s' p' he => by cases he⟩
          cases he
          refine mrun_no hS1 ?_
          rw [htk]
          by_cases h125 : c = 125
          · rw [if_pos h125, if_neg (fun q => hc2 ⟨h125, q⟩)]
          · rw [if_neg h125, if_neg (fun q => hc q.1)]
theorem setV_mid (N M : List Nd) (e : Nd) (x : Int) : tCode.setV (N ++ e :: M) N.length x = N ++ (e.1, x, e.2.2.1, e.2.2.2) :: M := by
  unfold tCode.setV
  rw [List.getElem?_append_right (Nat.le_refl _), Nat.sub_self]
  simp
/-- a code -/
theorem mach_C {R : R3} : ∀ (n dep : Nat) (s : List Int) (p : Int) (S : List Itm) (N : List Nd), 13 ≤ n + dep → dep ≤ 12 → S.length + 9 * (13 - dep) < 330 → Tells b pb S N R (crun b pb s p (dep : Int) (S, N, R)) (pC n dep s p) := by
  intro n
  induction n with
  | zero => intro dep s p S N h9 h8; omega
  | succ n ih =>
    intro dep s p S N h9 h8 hS
    unfold pC
    cases s with
    | nil => exact ⟨fun e he => (by cases he; rfl), fun nd s' p' he => by cases he⟩
    | cons c r =>
      dsimp only
      rw [crun_cons]
      unfold bCode
      dsimp only
      by_cases c1 : isV c = true
      · simp only [if_pos c1, if_pos (show isV c = true ∨ isD c = true ∨ c = 126 from Or.inl c1)]
        refine ⟨fun e he => (nomatch he), fun nd s' p' he => ?_⟩
        cases he
        rfl
      simp only [if_neg c1]
      by_cases c2 : isD c = true
      · have n126 : ¬ c = 126 := fun q => by rw [q] at c2; simp [isD] at c2
        simp only [if_pos c2, if_pos (show isV c = true ∨ isD c = true ∨ c = 126 from Or.inr (Or.inl c2)), if_neg n126]
        refine ⟨fun e he => (nomatch he), fun nd s' p' he => ?_⟩
        cases he
        rfl
      simp only [if_neg c2]
      by_cases c3 : c = 126
      · simp only [if_pos c3, if_pos (show isV c = true ∨ isD c = true ∨ c = 126 from Or.inr (Or.inr c3))]
        refine ⟨fun e he => (nomatch he), fun nd s' p' he => ?_⟩
        cases he
        rw [c3]; rfl
      simp only [if_neg c3, if_neg (show ¬ (isV c = true ∨ isD c = true ∨ c = 126) from fun q => q.elim c1 (fun q => q.elim c2 c3))]
      by_cases c5 : isL c = true
      · simp only [if_pos c5]
        have plain : ∀ (h : ∀ x t, r = x :: t → ¬ (x = 40 ∧ dep < 12)), mrun b pb r (p + 1) ((211, b + N.length, (dep : Int)) :: S, N ++ [(5, c - 65, 0, p)], R) = mrun b pb r (p + 1) (S, N ++ pre (cons (5, c - 65, p) nil nil), R) := by
          intro h
          rw [mrun_may (by omega) rfl]
          · rfl
          · intro x t hx
            have := h x t hx
            unfold goesOn
            by_cases x40 : x = 40
            · have d8 : dep = 12 := by omega
              simp [d8]
            · simp [x40]
        cases r with
        | nil =>
          dsimp only
          refine ⟨fun e he => (nomatch he), fun nd s' p' he => ?_⟩
          cases he
          exact plain (fun x t hx => by cases hx)
        | cons x r' =>
          dsimp only
          by_cases hx : x = 40 ∧ dep < 12
          · rw [if_pos hx]
            obtain ⟨rfl, h8'⟩ := hx
            have e1 : mrun b pb (40 :: r') (p + 1) ((211, b + N.length, (dep : Int)) :: S, N ++ [(5, c - 65, 0, p)], R) = crun b pb r' (p + 2) ((dep : Int) + 1) ((212, b + N.length, (dep : Int)) :: S, N ++ [(5, c - 65, 1, p)], R) := by
              obtain ⟨nm, gv, ptt⟩ := R
              have : tk b pb 40 (p + 1) ((211, b + N.length, (dep : Int)) :: S) (N ++ [(5, c - 65, 0, p)], nm, gv, ptt) = some ((210, (dep : Int) + 1, 0) :: (212, b + N.length, (dep : Int)) :: S, N ++ [(5, c - 65, 1, p)], nm, gv, ptt) := by
                unfold tk
                rw [if_neg (by simp [goesOn]; omega), if_neg (by decide), if_neg (by decide)]
                unfold tCode
                dsimp only
                rw [if_neg (by decide), if_neg (by decide), if_pos rfl, show (b + (N.length : Int) - b).toNat = N.length by omega, setC_mid]
              rw [mrun_go (by simp; omega) this, show p + 1 + 1 = p + 2 by omega, mrun_code (by simp; omega)]
            rw [e1]
            have ihc : ∀ (s : List Int) (p' : Int) (N' : List Nd), Tells b pb ((212, b + N.length, (dep : Int)) :: S) N' R (crun b pb s p' ((dep : Int) + 1) ((212, b + N.length, (dep : Int)) :: S, N', R)) (pC n (dep + 1) s p') := fun s p' N' => by
              have := ih (dep + 1) s p' ((212, b + N.length, (dep : Int)) :: S) N' (by omega) (by omega) (by simp; omega)
              rw [show ((dep + 1 : Nat) : Int) = (dep : Int) + 1 by omega] at this
              exact this
            obtain ⟨i1, i2⟩ := ihc r' (p + 2) (N ++ [(5, c - 65, 1, p)])
            unfold pCs
            rw [if_pos (Or.inl rfl)]
            cases hpt : pC n (dep + 1) r' (p + 2) with
            | inl e' =>
              dsimp only
              refine ⟨fun e he => ?_, fun nd s' p' he => by cases he⟩
              cases he
              exact i1 _ hpt
            | inr w =>
              obtain ⟨nd, s1, p1⟩ := w
              dsimp only
              have e2 := i2 _ _ _ hpt
              rw [List.append_assoc, List.singleton_append] at e2
              obtain ⟨j1, j2⟩ := mach_Cs (b := b) (pb := pb) (v := c - 65) (p0 := p) (by omega) ihc 6 1 s1 p1 (pre (cons nd.1 nd.2 nil)) (by decide) (by decide) (by decide)
              cases hr : pCs (pC n (dep + 1)) 6 (0 + 1) s1 p1 with
              | inl e' =>
                dsimp only
                refine ⟨fun e he => ?_, fun nd s' p' he => by cases he⟩
                cases he
                rw [e2]; exact j1 _ hr
              | inr w2 =>
                obtain ⟨f1, s2, p2⟩ := w2
                dsimp only
                refine ⟨fun e he => (nomatch he), fun nd' s' p' he => ?_⟩
                cases he
                have e3 := j2 _ _ _ hr
                rw [e2]
                refine e3.trans ?_
                congr 3
                rw [pre_cons, pre_nil, List.append_nil, pre_cons, pre_cons, pre_nil, List.append_nil]
                rfl
          · rw [if_neg hx]
            refine ⟨fun e he => (nomatch he), fun nd s' p' he => ?_⟩
            cases he
            exact plain (fun y t hy => by cases hy; exact hx)
      simp only [if_neg c5]
      by_cases d12 : dep < 12
      · have nd12 : ¬ ((dep : Int) = 12) := by omega
        have ihs : ∀ (S' : List Itm) (s : List Int) (p' : Int) (N' : List Nd), S'.length ≤ S.length + 8 → Tells b pb S' N' R (crun b pb s p' ((dep : Int) + 1) (S', N', R)) (pC n (dep + 1) s p') := fun S' s p' N' h => by
          have := ih (dep + 1) s p' S' N' (by omega) (by omega) (by omega)
          rw [show ((dep + 1 : Nat) : Int) = (dep : Int) + 1 by omega] at this
          exact this
        simp only [if_neg (show ¬ ¬ dep < 12 from fun q => q d12), if_neg nd12]
        by_cases c6 : c = 123
        · have n43 : ¬ (c = 43 ∨ c = 45) := by omega
          simp only [if_pos c6, if_neg n43]
          rw [mrun_code (by simp; omega)]
          obtain ⟨i1, i2⟩ := ihs ((213, b + N.length, (dep : Int)) :: S) r (p + 1) (N ++ [(8, 0, 0, p)]) (by simp)
          cases h1 : pC n (dep + 1) r (p + 1) with
          | inl e' =>
            dsimp only
            refine ⟨fun e he => ?_, fun nd s' p' he => by cases he⟩
            cases he
            exact i1 _ h1
          | inr w =>
            obtain ⟨a, s1, p1⟩ := w
            dsimp only
            have e2 := i2 _ _ _ h1
            rw [List.append_assoc, List.singleton_append] at e2
            rw [e2]
            obtain ⟨j1, j2⟩ := mach_Cases (b := b) (pb := pb) (p0 := p) (N := N) (by omega) (fun s p' N' => ihs ((213, b + N.length, (dep : Int)) :: S) s p' N' (by simp)) 5 0 s1 p1 (pre (cons a.1 a.2 nil)) (by decide)
            cases hr : pCases (pC n (dep + 1)) 5 0 s1 p1 with
            | inl e' =>
              dsimp only
              refine ⟨fun e he => ?_, fun nd s' p' he => by cases he⟩
              cases he
              exact j1 _ hr
            | inr w2 =>
              obtain ⟨f1, s2, p2⟩ := w2
              dsimp only
              refine ⟨fun e he => (nomatch he), fun nd' s' p' he => ?_⟩
              cases he
              obtain ⟨jj, e5, e6⟩ := j2 _ _ _ hr
              refine e6.trans ?_
              congr 3
              rw [pre_cons a.1 a.2 nil, pre_nil, List.append_nil, pre_cons, pre_cons, pre_nil, List.append_nil]
              have : cntOf (8, 0, p) (cons a.1 a.2 f1) = ((0 + jj : Nat) : Int) := by
                show (((lenF (cons a.1 a.2 f1) - 1) / 2 : Nat) : Int) = _
                rw [lenF_cons, e5]; omega
              rw [this]
              simp
        simp only [if_neg c6]
        by_cases c7 : c = 91
        · have n43 : ¬ (c = 43 ∨ c = 45) := by omega
          simp only [if_pos c7, if_neg n43]
          rw [mrun_code (by simp; omega)]
          obtain ⟨i1, i2⟩ := ihs ((217, b + N.length, 0) :: (210, (dep : Int) + 1, 0) :: (63, 0, 0) :: (210, (dep : Int) + 1, 0) :: (58, 0, 0) :: (210, (dep : Int) + 1, 0) :: (93, 0, 0) :: S) r (p + 1) (N ++ [(9, 0, 0, p)]) (by simp)
          cases h1 : pC n (dep + 1) r (p + 1) with
          | inl e' =>
            dsimp only
            refine ⟨fun e he => ?_, fun nd s' p' he => by cases he⟩
            cases he
            exact i1 _ h1
          | inr w =>
            obtain ⟨a1, s1, p1⟩ := w
            dsimp only
            have e2 := i2 _ _ _ h1
            rw [List.append_assoc, List.singleton_append] at e2
            rw [e2]
            cases s1 with
            | nil =>
              dsimp only
              refine ⟨fun e he => ?_, fun nd s' p' he => by cases he⟩
              cases he
              exact mrun_end (by simp; omega) rfl
            | cons x s1' =>
              dsimp only
              have hk : tk b pb x p1 ((217, b + N.length, 0) :: (210, (dep : Int) + 1, 0) :: (63, 0, 0) :: (210, (dep : Int) + 1, 0) :: (58, 0, 0) :: (210, (dep : Int) + 1, 0) :: (93, 0, 0) :: S) (N ++ (9, 0, 0, p) :: pre (cons a1.1 a1.2 nil), R) = if x = 61 ∨ x = 60 then some ((210, (dep : Int) + 1, 0) :: (63, 0, 0) :: (210, (dep : Int) + 1, 0) :: (58, 0, 0) :: (210, (dep : Int) + 1, 0) :: (93, 0, 0) :: S, N ++ (9, x, 0, p) :: pre (cons a1.1 a1.2 nil), R) else none := by
                obtain ⟨nm, gv, pt⟩ := R
                unfold tk
                rw [if_neg (by simp [goesOn]), if_neg (by decide), if_neg (by decide)]
                unfold tCode
                dsimp only
                simp only [show ((217 : Int) = 209) = False by decide, show ((217 : Int) = 210) = False by decide, show ((217 : Int) = 211) = False by decide, show ((217 : Int) = 212) = False by decide, show ((217 : Int) = 213) = False by decide, show ((217 : Int) = 214) = False by decide, show ((217 : Int) = 215) = False by decide, show ((217 : Int) = 216) = False by decide, if_false, if_true]
                rw [show (b + (N.length : Int) - b).toNat = N.length by omega, setV_mid]
              by_cases hx : x = 61 ∨ x = 60
              · rw [if_pos hx] at hk ⊢
                rw [mrun_go (by simp; omega) hk, mrun_code (by simp; omega)]
                obtain ⟨k1, k2⟩ := ihs ((63, 0, 0) :: (210, (dep : Int) + 1, 0) :: (58, 0, 0) :: (210, (dep : Int) + 1, 0) :: (93, 0, 0) :: S) s1' (p1 + 1) (N ++ (9, x, 0, p) :: pre (cons a1.1 a1.2 nil)) (by simp)
                cases h2 : pC n (dep + 1) s1' (p1 + 1) with
                | inl e' =>
                  dsimp only
                  refine ⟨fun e he => ?_, fun nd s' p' he => by cases he⟩
                  cases he
                  exact k1 _ h2
                | inr w2 =>
                  obtain ⟨a2, s2, p2⟩ := w2
                  dsimp only
                  rw [k2 _ _ _ h2]
                  obtain ⟨m1, m2⟩ := mrun_ch (b := b) (pb := pb) (x := 63) (y := 0) (z := 0) (by decide) (s := s2) (p := p2) (S := (210, (dep : Int) + 1, 0) :: (58, 0, 0) :: (210, (dep : Int) + 1, 0) :: (93, 0, 0) :: S) (r := (N ++ (9, x, 0, p) :: pre (cons a1.1 a1.2 nil) ++ pre (cons a2.1 a2.2 nil), R)) (by simp; omega)
                  cases h3 : pCh 63 s2 p2 with
                  | inl e' =>
                    dsimp only
                    refine ⟨fun e he => ?_, fun nd s' p' he => by cases he⟩
                    cases he
                    exact m1 _ h3
                  | inr w3 =>
                    obtain ⟨u3, s3, p3⟩ := w3
                    dsimp only
                    rw [m2 _ _ _ h3, mrun_code (by simp; omega)]
                    obtain ⟨o1, o2⟩ := ihs ((58, 0, 0) :: (210, (dep : Int) + 1, 0) :: (93, 0, 0) :: S) s3 p3 (N ++ (9, x, 0, p) :: pre (cons a1.1 a1.2 nil) ++ pre (cons a2.1 a2.2 nil)) (by simp)
                    cases h4 : pC n (dep + 1) s3 p3 with
                    | inl e' =>
                      dsimp only
                      refine ⟨fun e he => ?_, fun nd s' p' he => by cases he⟩
                      cases he
                      exact o1 _ h4
                    | inr w4 =>
                      obtain ⟨a3, s4, p4⟩ := w4
                      dsimp only
                      rw [o2 _ _ _ h4]
                      obtain ⟨q1, q2⟩ := mrun_ch (b := b) (pb := pb) (x := 58) (y := 0) (z := 0) (by decide) (s := s4) (p := p4) (S := (210, (dep : Int) + 1, 0) :: (93, 0, 0) :: S) (r := (N ++ (9, x, 0, p) :: pre (cons a1.1 a1.2 nil) ++ pre (cons a2.1 a2.2 nil) ++ pre (cons a3.1 a3.2 nil), R)) (by simp; omega)
                      cases h5 : pCh 58 s4 p4 with
                      | inl e' =>
                        dsimp only
                        refine ⟨fun e he => ?_, fun nd s' p' he => by cases he⟩
                        cases he
                        exact q1 _ h5
                      | inr w5 =>
                        obtain ⟨u5, s5, p5⟩ := w5
                        dsimp only
                        rw [q2 _ _ _ h5, mrun_code (by simp; omega)]
                        obtain ⟨v1, v2⟩ := ihs ((93, 0, 0) :: S) s5 p5 (N ++ (9, x, 0, p) :: pre (cons a1.1 a1.2 nil) ++ pre (cons a2.1 a2.2 nil) ++ pre (cons a3.1 a3.2 nil)) (by simp)
                        cases h6 : pC n (dep + 1) s5 p5 with
                        | inl e' =>
                          dsimp only
                          refine ⟨fun e he => ?_, fun nd s' p' he => by cases he⟩
                          cases he
                          exact v1 _ h6
                        | inr w6 =>
                          obtain ⟨a4, s6, p6⟩ := w6
                          dsimp only
                          rw [v2 _ _ _ h6]
                          obtain ⟨z1, z2⟩ := mrun_ch (b := b) (pb := pb) (x := 93) (y := 0) (z := 0) (by decide) (s := s6) (p := p6) (S := S) (r := (N ++ (9, x, 0, p) :: pre (cons a1.1 a1.2 nil) ++ pre (cons a2.1 a2.2 nil) ++ pre (cons a3.1 a3.2 nil) ++ pre (cons a4.1 a4.2 nil), R)) (by omega)
                          cases h7 : pCh 93 s6 p6 with
                          | inl e' =>
                            dsimp only
                            refine ⟨fun e he => ?_, fun nd s' p' he => by cases he⟩
                            cases he
                            exact z1 _ h7
                          | inr w7 =>
                            obtain ⟨u7, s7, p7⟩ := w7
                            dsimp only
                            refine ⟨fun e he => (nomatch he), fun nd' s' p' he => ?_⟩
                            cases he
                            rw [z2 _ _ _ h7]
                            congr 3
                            simp only [pre_cons, pre_nil, List.append_nil, List.append_assoc, List.cons_append]
                            rfl
              · rw [if_neg hx] at hk ⊢
                refine ⟨fun e he => ?_, fun nd s' p' he => by cases he⟩
                cases he
                exact mrun_no (by simp; omega) hk
        simp only [if_neg c7]
        by_cases c8 : c = 43 ∨ c = 45
        · simp only [if_pos c8]
          rw [mrun_code (by simp; omega)]
          obtain ⟨i1, i2⟩ := ihs ((210, (dep : Int) + 1, 0) :: S) r (p + 1) (N ++ [(if c = 43 then 6 else 7, 0, 0, p)]) (by simp)
          cases h1 : pC n (dep + 1) r (p + 1) with
          | inl e' =>
            dsimp only
            refine ⟨fun e he => ?_, fun nd s' p' he => by cases he⟩
            cases he
            exact i1 _ h1
          | inr w =>
            obtain ⟨a1, s1, p1⟩ := w
            dsimp only
            rw [i2 _ _ _ h1, mrun_code (by omega)]
            obtain ⟨k1, k2⟩ := ihs S s1 p1 (N ++ [(if c = 43 then 6 else 7, 0, 0, p)] ++ pre (cons a1.1 a1.2 nil)) (by simp)
            cases h2 : pC n (dep + 1) s1 p1 with
            | inl e' =>
              dsimp only
              refine ⟨fun e he => ?_, fun nd s' p' he => by cases he⟩
              cases he
              exact k1 _ h2
            | inr w2 =>
              obtain ⟨a2, s2, p2⟩ := w2
              dsimp only
              refine ⟨fun e he => (nomatch he), fun nd' s' p' he => ?_⟩
              cases he
              rw [k2 _ _ _ h2]
              congr 3
              by_cases q : c = 43
              · simp only [if_pos q, pre_cons, pre_nil, List.append_nil, List.append_assoc, List.cons_append, List.nil_append]
                rfl
              · simp only [if_neg q, pre_cons, pre_nil, List.append_nil, List.append_assoc, List.cons_append, List.nil_append]
                rfl
        simp only [if_neg c8]
        exact ⟨fun e he => (by cases he; rfl), fun nd s' p' he => by cases he⟩
      · have d12' : (dep : Int) = 12 := by omega
        simp only [if_pos d12, if_pos d12']
        exact ⟨fun e he => (by cases he; rfl), fun nd s' p' he => by cases he⟩
/-- the variables of a program: names of the list, as the twin keeps them -/
def vals : TF → List Int
  | .leaf => []
  | .inner _ a _ _ s => a.2.1 :: vals s
theorem mach_Ps {pt : List Pt5} {N : List Nd} : ∀ (k a : Nat) (s : List Int) (p : Int) (nm : Int) (gv : List Int), a + k = 4 →
    (∀ e, (match pVs k (decide (a = 0)) s p with
      | .inl e => .inl e
      | .inr (f, s1, p1) => match pCh 61 s1 p1 with
        | .inl e => .inl e
        | .inr (_, s2, p2) => .inr (f, s2, p2) : RR TF) = .inl e → mrun b pb s p ([(209, (a : Int), 0)], N, nm, gv, pt) = some (.inl e)) ∧
    (∀ f s' p', (match pVs k (decide (a = 0)) s p with
      | .inl e => .inl e
      | .inr (f, s1, p1) => match pCh 61 s1 p1 with
        | .inl e => .inl e
        | .inr (_, s2, p2) => .inr (f, s2, p2) : RR TF) = .inr (f, s', p') → mrun b pb s p ([(209, (a : Int), 0)], N, nm, gv, pt) = mrun b pb s' p' ([(210, 1, 0)], N, if lenF f = 0 then nm else ((a + lenF f : Nat) : Int), gv ++ vals f, pt)) := by
  have htk : ∀ (c p : Int) (a : Nat) (nm : Int) (gv : List Int), tk b pb c p [(209, (a : Int), 0)] (N, nm, gv, pt) = if c = 61 ∧ 0 < a then some ([(210, 1, 0)], N, nm, gv, pt) else if isV c = true ∧ a ≠ 4 then some ([(209, ((a + 1 : Nat) : Int), 0)], N, ((a + 1 : Nat) : Int), gv ++ [c - 97], pt) else none := fun c p a nm gv => by
    unfold tk
    rw [if_neg (by simp [goesOn]), if_neg (by decide), if_neg (by decide)]
    unfold tCode
    dsimp only
    rw [if_pos rfl]
    by_cases h1 : c = 61 ∧ 0 < a
    · rw [if_pos h1, if_pos ⟨h1.1, by omega⟩]
    · rw [if_neg h1, if_neg (fun q => h1 ⟨q.1, by omega⟩)]
      by_cases h2 : isV c = true ∧ a ≠ 4
      · rw [if_pos h2, if_pos ⟨h2.1, by omega⟩]; rfl
      · rw [if_neg h2, if_neg (fun q => h2 ⟨q.1, by omega⟩)]
  have fin : ∀ (a : Nat) (p : Int) (t : List Int) (nm : Int) (gv : List Int), 0 < a → mrun b pb (61 :: t) p ([(209, (a : Int), 0)], N, nm, gv, pt) = mrun b pb t (p + 1) ([(210, 1, 0)], N, if lenF nil = 0 then nm else ((a + lenF nil : Nat) : Int), gv ++ vals nil, pt) := fun a p t nm gv h => by
    have hk := htk 61 p a nm gv
    rw [if_pos ⟨rfl, h⟩] at hk
    rw [mrun_go (by simp) hk, show vals nil = [] from rfl, List.append_nil, if_pos (show lenF nil = 0 from rfl)]
  intro k
  induction k with
  | zero =>
    intro a s p nm gv ha
    obtain rfl : a = 4 := by omega
    cases s with
    | nil =>
      refine ⟨fun e he => ?_, fun f s' p' he => by simp [pVs, pCh] at he⟩
      simp only [pVs, pCh] at he
      cases he
      exact mrun_end (by simp) rfl
    | cons c t =>
      have hk := htk c p 4 nm gv
      by_cases hc : c = 61
      · subst hc
        refine ⟨fun e he => by simp [pVs, pCh] at he, fun f s' p' he => ?_⟩
        simp only [pVs, pCh, if_true] at he
        cases he
        exact fin 4 p t nm gv (by decide)
      · rw [if_neg (fun q => hc q.1), if_neg (fun q => q.2 rfl)] at hk
        refine ⟨fun e he => ?_, fun f s' p' he => by simp [pVs, pCh, hc] at he⟩
        simp only [pVs, pCh, if_neg hc] at he
        cases he
        exact mrun_no (by simp) hk
  | succ k ih =>
    intro a s p nm gv ha
    cases s with
    | nil =>
      refine ⟨fun e he => ?_, fun f s' p' he => ?_⟩
      · by_cases h0 : a = 0
        · simp [pVs, h0] at he
          subst he
          exact mrun_end (by simp) rfl
        · simp [pVs, h0, pCh] at he
          subst he
          exact mrun_end (by simp) rfl
      · by_cases h0 : a = 0
        · simp [pVs, h0] at he
        · simp [pVs, h0, pCh] at he
    | cons c t =>
      have hk := htk c p a nm gv
      by_cases hv : isV c = true
      · have hc : ¬ c = 61 := fun e => by rw [e] at hv; simp [isV] at hv
        rw [if_neg (fun q => hc q.1), if_pos ⟨hv, by omega⟩] at hk
        have hr : pVs (k + 1) (decide (a = 0)) (c :: t) p = (match pVs k false t (p + 1) with
          | .inl e => .inl e
          | .inr (f, s', p') => .inr (cons (14, c - 97, p) nil f, s', p')) := by
          simp only [pVs, if_pos hv]
          rfl
        rw [hr, mrun_go (by simp) hk]
        obtain ⟨j1, j2⟩ := ih (a + 1) t (p + 1) ((a + 1 : Nat) : Int) (gv ++ [c - 97]) (by omega)
        rw [show decide (a + 1 = 0) = false by simp] at j1 j2
        cases h3 : pVs k false t (p + 1) with
        | inl e' =>
          rw [h3] at j1
          dsimp only
          refine ⟨fun e he => ?_, fun l s' p' he => by cases he⟩
          cases he
          exact j1 _ rfl
        | inr w2 =>
          obtain ⟨f1, s2, p2⟩ := w2
          rw [h3] at j1 j2
          dsimp only at j1 j2 ⊢
          cases h4 : pCh 61 s2 p2 with
          | inl e' =>
            rw [h4] at j1
            dsimp only
            refine ⟨fun e he => ?_, fun l s' p' he => by cases he⟩
            cases he
            exact j1 _ rfl
          | inr w3 =>
            obtain ⟨u, s3, p3⟩ := w3
            rw [h4] at j2
            dsimp only
            refine ⟨fun e he => (nomatch he), fun l s' p' he => ?_⟩
            cases he
            rw [j2 _ _ _ rfl, lenF_cons, if_neg (show ¬ 1 + lenF f1 = 0 by omega)]
            show _ = mrun b pb s3 p3 ([(210, 1, 0)], N, _, gv ++ ((c - 97) :: vals f1), pt)
            rw [List.append_assoc, List.singleton_append]
            by_cases hf : lenF f1 = 0
            · rw [if_pos hf, hf]
            · rw [if_neg hf, show a + 1 + lenF f1 = a + (1 + lenF f1) by omega]
      · by_cases h0 : a = 0
        · have hr : pVs (k + 1) (decide (a = 0)) (c :: t) p = .inl p := by
            simp [pVs, hv, h0]
          rw [hr]
          dsimp only
          refine ⟨fun e he => ?_, fun l s' p' he => by cases he⟩
          cases he
          refine mrun_no (by simp) ?_
          rw [hk, if_neg (by omega), if_neg (fun q => hv q.1)]
        · have hr : pVs (k + 1) (decide (a = 0)) (c :: t) p = .inr (nil, c :: t, p) := by
            simp [pVs, hv, h0]
          rw [hr]
          dsimp only
          by_cases hc : c = 61
          · refine ⟨fun e he => by simp [pCh, hc] at he, fun f s' p' he => ?_⟩
            simp only [pCh, if_pos hc] at he
            cases he
            subst hc
            exact fin a p _ nm gv (by omega)
          · rw [if_neg (fun q => hc q.1), if_neg (fun q => hv q.1)] at hk
            refine ⟨fun e he => ?_, fun f s' p' he => by simp [pCh, hc] at he⟩
            simp only [pCh, if_neg hc] at he
            cases he
            exact mrun_no (by simp) hk
theorem pVs_len : ∀ (k : Nat) (m : Bool) (s : List Int) (p : Int) (f : TF) (s' : List Int) (p' : Int), pVs k m s p = .inr (f, s', p') → lenF f ≤ k ∧ (m = true → 0 < k → 0 < lenF f)
  | 0, m, s, p, f, s', p', h => by simp only [pVs] at h; cases h; exact ⟨by simp [lenF, nil], fun _ q => absurd q (by decide)⟩
  | k + 1, m, [], p, f, s', p', h => by
    cases m with
    | true => simp [pVs] at h
    | false =>
      simp [pVs] at h
      obtain ⟨rfl, -, -⟩ := h
      exact ⟨by simp [lenF, nil], fun q => by cases q⟩
  | k + 1, m, c :: r, p, f, s', p', h => by
    by_cases hv : isV c = true
    · simp only [pVs, if_pos hv] at h
      cases h1 : pVs k false r (p + 1) with
      | inl e => rw [h1] at h; cases h
      | inr w =>
        obtain ⟨f1, s1, p1⟩ := w
        rw [h1] at h
        cases h
        have := (pVs_len k false r (p + 1) f1 _ _ h1).1
        rw [lenF_cons]
        exact ⟨by omega, fun _ _ => by omega⟩
    · cases m with
      | true => simp [pVs, hv] at h
      | false =>
        simp [pVs, hv] at h
        obtain ⟨rfl, -, -⟩ := h
        exact ⟨by simp [lenF, nil], fun q => by cases q⟩
/-- a whole program -/
theorem mach_Prog {nm : Int} {pt : List Pt5} {N : List Nd} {s : List Int} {p : Int} : mrun b pb s p ([(209, 0, 0)], N, nm, [], pt) = match pEnd (pProg 13 s p) with
      | .inl e => some (.inl e)
      | .inr (v, a) => some (.inr (N ++ pre (cons a.1 a.2 nil), (lenF v : Int), vals v, pt)) := by
  obtain ⟨j1, j2⟩ := mach_Ps (b := b) (pb := pb) (pt := pt) (N := N) 4 0 s p nm [] (by decide)
  rw [show decide ((0 : Nat) = 0) = true by decide] at j1 j2
  unfold pProg
  cases h3 : pVs 4 true s p with
  | inl e' =>
    rw [h3] at j1
    exact j1 _ rfl
  | inr w2 =>
    obtain ⟨f1, s2, p2⟩ := w2
    rw [h3] at j1 j2
    dsimp only at j1 j2 ⊢
    cases h4 : pCh 61 s2 p2 with
    | inl e' =>
      rw [h4] at j1
      exact j1 _ rfl
    | inr w3 =>
      obtain ⟨u, s3, p3⟩ := w3
      rw [h4] at j2
      dsimp only
      have hl := (pVs_len _ _ _ _ _ _ _ h3).2 rfl (by decide)
      have e9 := j2 _ _ _ rfl
      rw [if_neg (by omega), Nat.zero_add, List.nil_append] at e9
      refine e9.trans ?_
      rw [mrun_code (by simp)]
      obtain ⟨i1, i2⟩ := mach_C (b := b) (pb := pb) (R := ((lenF f1 : Int), vals f1, pt)) 13 1 s3 p3 [] N (by decide) (by decide) (by simp)
      cases h5 : pC 13 1 s3 p3 with
      | inl e => exact i1 _ h5
      | inr w =>
        obtain ⟨a, s4, p4⟩ := w
        refine (i2 _ _ _ h5).trans ?_
        cases s4 with
        | nil => rw [mrun_nil (by simp)]; rfl
        | cons c t => rw [mrun_no (by simp)]; rfl; rfl
end MC
