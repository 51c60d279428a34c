/-! L3: the machine reads rows of terms and declarations -/
section MB
variable {b pb : Int}
/-- a literal sign -/
theorem mrun_ch {x y z : Int} (hx : x < 200) {s : List Int} {p : Int} {S : List Itm} {r : List Nd × R3} (hS : S.length < 380) : (∀ e, pCh x s p = .inl e → mrun b pb s p ((x, y, z) :: S, r) = some (.inl e)) ∧ (∀ u s' p', pCh x s p = .inr (u, s', p') → mrun b pb s p ((x, y, z) :: S, r) = mrun b pb s' p' (S, r)) := by
  have hg : ∀ c, goesOn x z c = false := fun c => by unfold goesOn; simp; omega
  cases s with
  | nil =>
    refine ⟨fun e he => ?_, fun u s' p' he => by cases he⟩
    cases he
    refine mrun_end hS ?_
    unfold may; simp; omega
  | cons c t =>
    have htk : tk b pb c p ((x, y, z) :: S) r = if c = x then some (S, r) else none := by
      unfold tk
      rw [hg, if_neg (by decide), if_pos hx]
    unfold pCh
    by_cases hc : c = x
    · simp only [if_pos hc]
      refine ⟨fun e he => (nomatch he), fun u s' p' he => ?_⟩
      cases he
      rw [if_pos hc] at htk
      exact mrun_go (by simp; omega) htk
    · simp only [if_neg hc]
      refine ⟨fun e he => ?_, fun u s' p' he => by cases he⟩
      cases he
      rw [if_neg hc] at htk
      exact mrun_no (by simp; omega) htk
theorem lenF_pos {a : Lb} {c s : TF} : 0 < lenF (cons a c s) := by rw [lenF_cons]; omega
/-- a row of terms, the whole text -/
theorem mach_Row {gv : List Int} {pt : List Pt5} : ∀ (k a : Nat) (s : List Int) (p : Int) (N : List Nd) (nm : Int), a + k = 6 →
    mrun b pb s p ([(218, (a : Int), 0)], N, nm, gv, pt) = match pEnd (pRow false 9 k (decide (a = 0)) s p) with
      | .inl e => some (.inl e)
      | .inr f => some (.inr (N ++ pre f, if lenF f = 0 then nm else ((a + lenF f : Nat) : Int), gv, pt)) := by
  intro k
  induction k with
  | zero =>
    intro a s p N nm ha
    obtain rfl : a = 6 := by omega
    cases s with
    | nil => rw [mrun_nil (by simp)]; simp [may, pRow, pEnd, pre, lenF, nil]
    | cons c t =>
      rw [mrun_no (by simp)]
      · rfl
      · unfold tk; simp [goesOn, tCode]
  | succ k ih =>
    intro a s p N nm ha
    have h1 : ([(218, (a : Int), 0)] : List Itm).length ≤ 380 := by simp
    have htk : ∀ c, tk b pb c p [(218, (a : Int), 0)] (N, nm, gv, pt) = bTerm b c p 2 ([(218, ((a + 1 : Nat) : Int), 0)], N, ((a + 1 : Nat) : Int), gv, pt) := fun c => by
      unfold tk
      rw [if_neg (by simp [goesOn]), if_neg (by decide), if_neg (by decide)]
      unfold tCode
      dsimp only
      simp only [show ((218 : Int) = 209) = False by decide, show ((218 : Int) = 210) = False by decide, show ((218 : Int) = 211) = False by decide, show ((218 : Int) = 212) = False by decide, show ((218 : Int) = 213) = False by decide, show ((218 : Int) = 214) = False by decide, show ((218 : Int) = 215) = False by decide, show ((218 : Int) = 216) = False by decide, show ((218 : Int) = 217) = False by decide, if_false]
      rw [if_neg (by omega)]; rfl
    by_cases hgo : a = 0 ∨ isTm false s = true
    · have hr : pRow false 9 (k + 1) (decide (a = 0)) s p = (match pT false 9 1 s p with
          | .inl e => .inl e
          | .inr (nd, s', p') => match pRow false 9 k false s' p' with
            | .inl e => .inl e
            | .inr (f, s'', p'') => .inr (cons nd.1 nd.2 f, s'', p'')) := by
        show (if decide (a = 0) = true ∨ isTm false s = true then _ else _) = _
        rw [if_pos (hgo.imp (fun q => by simp [q]) id)]
        rfl
      rw [hr]
      obtain ⟨t1, t2⟩ := mach_T (b := b) (pb := pb) (hol := false) (R := (((a + 1 : Nat) : Int), gv, pt)) 9 1 2 s p [(218, ((a + 1 : Nat) : Int), 0)] N (by simp) (by decide) (by decide) (by simp)
      have e1 : s ≠ [] → mrun b pb s p ([(218, (a : Int), 0)], N, nm, gv, pt) = trun b pb s p 2 ([(218, ((a + 1 : Nat) : Int), 0)], N, ((a + 1 : Nat) : Int), gv, pt) := fun hs => by
        cases s with
        | nil => exact absurd rfl hs
        | cons c t => rw [mrun_cons h1, htk, trun_cons]
      have e0 : s = [] → mrun b pb s p ([(218, (a : Int), 0)], N, nm, gv, pt) = some (.inl p) := fun hs => by
        subst hs
        have a0 : a = 0 := hgo.resolve_right (by simp [isTm])
        subst a0
        rw [mrun_end (by simp)]; rfl
      by_cases hs : s = []
      · rw [e0 hs, hs]; rfl
      rw [e1 hs]
      cases hp : pT false 9 1 s p with
      | inl e => rw [t1 _ hp]; rfl
      | inr w =>
        obtain ⟨nd, s1, p1⟩ := w
        rw [t2 _ _ _ hp, ih (a + 1) s1 p1 _ _ (by omega)]
        dsimp only
        rw [show decide (a + 1 = 0) = false by simp]
        cases hq : pRow false 9 k false s1 p1 with
        | inl e => rfl
        | inr w2 =>
          obtain ⟨f, s2, p2⟩ := w2
          cases s2 with
          | cons c t => rfl
          | nil =>
            dsimp only [pEnd]
            congr 2
            rw [pre_cons, pre_cons, pre_nil, List.append_nil, List.append_assoc, List.cons_append, lenF_cons, if_neg (show ¬ 1 + lenF f = 0 by omega), show a + (1 + lenF f) = a + 1 + lenF f by omega]
            by_cases hf : lenF f = 0
            · rw [if_pos hf, hf]
            · rw [if_neg hf]
    · have hr : pRow false 9 (k + 1) (decide (a = 0)) s p = .inr (nil, s, p) := by
        show (if decide (a = 0) = true ∨ isTm false s = true then _ else _) = _
        rw [if_neg (fun q => hgo (q.imp (fun r => by simpa using r) id))]
      rw [hr]
      have a0 : a ≠ 0 := fun q => hgo (Or.inl q)
      cases s with
      | nil =>
        rw [mrun_nil h1]
        have : may (218, (a : Int), 0) = true := by unfold may; simp; omega
        simp [this, pEnd, pre, lenF, nil]
      | cons c t =>
        rw [mrun_no h1]
        · rfl
        · rw [htk]
          refine bTerm_none (hol := false) (t := t) (by simp) ?_
          cases hb : isTm false (c :: t) with
          | false => rfl
          | true => exact absurd (Or.inr hb) hgo
/-- one term, the whole text -/
theorem mach_One {R : R3} {s : List Int} {p : Int} {N : List Nd} : mrun b pb s p ([(200, 2, 1)], N, R) = match pEnd (pT true 9 1 s p) with
      | .inl e => some (.inl e)
      | .inr nd => some (.inr (N ++ pre (cons nd.1 nd.2 nil), R)) := by
  rw [mrun_term (by simp)]
  obtain ⟨t1, t2⟩ := mach_T (b := b) (pb := pb) (hol := true) (R := R) 9 1 (2 + 1) s p [] N (by simp) (by decide) (by decide) (by simp)
  cases hp : pT true 9 1 s p with
  | inl e => rw [t1 _ hp]; rfl
  | inr w =>
    obtain ⟨nd, s1, p1⟩ := w
    rw [t2 _ _ _ hp]
    cases s1 with
    | nil => rw [mrun_nil (by simp)]; rfl
    | cons c t => rw [mrun_no (by simp)]; rfl; rfl
/-- the part's row in the twin's tables -/
def ptOf (a : Pa) (i : Int) : Pt5 := (a.1, a.2.1, i, if a.1 = 2 then (lenF a.2.2.2 : Int) - 1 else 1, a.2.2.1)
def prun (b pb : Int) (s : List Int) (p n : Int) (st : RSt) : Option (Int ⊕ (List Nd × R3)) := match s with
  | [] => some (.inl p)
  | c :: r => match bPart b pb c p n st with
    | none => some (.inl p)
    | some st' => mrun b pb r (p + 1) st'
theorem incP_end (pt : List Pt5) (e : Pt5) : tDecl.incP (pt ++ [e]) pt.length = pt ++ [(e.1, e.2.1, e.2.2.1, e.2.2.2.1 + 1, e.2.2.2.2)] := by
  unfold tDecl.incP
  rw [List.getElem?_append_right (Nat.le_refl _), Nat.sub_self]
  simp
theorem setPN_end (pt : List Pt5) (e : Pt5) (l p : Int) : tDecl.setPN (pt ++ [e]) pt.length l p = pt ++ [(e.1, l, e.2.2.1, e.2.2.2.1, p)] := by
  unfold tDecl.setPN
  rw [List.getElem?_append_right (Nat.le_refl _), Nat.sub_self]
  simp
theorem cntP_end (pt : List Pt5) (e : Pt5) : tDecl.cntP (pt ++ [e]) pt.length = e.2.2.2.1 := by
  unfold tDecl.cntP
  rw [List.getElem?_append_right (Nat.le_refl _), Nat.sub_self]
  simp
theorem lenF_apF : ∀ (f g : TF), lenF (apF f g) = lenF f + lenF g
  | .leaf, g => by unfold apF lenF; omega
  | .inner z a u c s, g => by
    show 1 + lenF (apF s g) = 1 + lenF s + lenF g
    rw [lenF_apF s g]; omega
theorem pre_apF : ∀ (f g : TF), pre (apF f g) = pre f ++ pre g
  | .leaf, g => rfl
  | .inner z a u c s, g => by
    show _ :: (pre c ++ pre (apF s g)) = _ :: (pre c ++ pre s) ++ pre g
    rw [pre_apF s g, List.cons_append, List.append_assoc]
/-- the terms of a condition, behind the first -/
theorem mach_Cd {S : List Itm} {nm : Int} {gv : List Int} {pt : List Pt5} {w1 w2 w3 w5 : Int} (hS : S.length < 340) :
    ∀ (k cnt : Nat) (s : List Int) (p : Int) (N : List Nd), 1 ≤ cnt → cnt ≤ 6 → k + cnt = 7 →
      (∀ e, pTs (pT false 9 1) false k cnt s p = .inl e → mrun b pb s p ((208, pb + pt.length, 0) :: S, N, nm, gv, pt ++ [(w1, w2, w3, (cnt : Int), w5)]) = some (.inl e)) ∧
      (∀ f s' p', pTs (pT false 9 1) false k cnt s p = .inr (f, s', p') → mrun b pb s p ((208, pb + pt.length, 0) :: S, N, nm, gv, pt ++ [(w1, w2, w3, (cnt : Int), w5)]) = mrun b pb s' p' (S, N ++ pre f, nm, gv, pt ++ [(w1, w2, w3, ((cnt + lenF f : Nat) : Int), w5)])) := by
  have hS1 : ((208, pb + (pt.length : Int), 0) :: S).length ≤ 380 := by simp; omega
  intro k
  induction k with
  | zero => intro cnt s p M h1 h2 h3; omega
  | succ k ihk =>
    intro cnt s p N h1 h6 h7
    have htk : ∀ c, c ≠ 41 → tk b pb c p ((208, pb + pt.length, 0) :: S) (N, nm, gv, pt ++ [(w1, w2, w3, (cnt : Int), w5)]) = if cnt = 6 then none else bTerm b c p 2 ((208, pb + pt.length, 0) :: S, N, nm, gv, pt ++ [(w1, w2, w3, ((cnt + 1 : Nat) : Int), w5)]) := fun c hc => by
      unfold tk
      rw [if_neg (by simp [goesOn]), if_neg (by decide), if_pos (by decide)]
      unfold tDecl
      dsimp only
      simp only [show ((208 : Int) = 200) = False by decide, show ((208 : Int) = 201) = False by decide, show ((208 : Int) = 202) = False by decide, show ((208 : Int) = 203) = False by decide, show ((208 : Int) = 204) = False by decide, show ((208 : Int) = 205) = False by decide, show ((208 : Int) = 206) = False by decide, show ((208 : Int) = 207) = False by decide, if_false]
      rw [if_neg hc, show (pb + (pt.length : Int) - pb).toNat = pt.length by omega, cntP_end, incP_end]
      by_cases hc6 : cnt = 6
      · rw [if_pos hc6, if_pos (by show (cnt : Int) = 6; omega)]
      · rw [if_neg hc6, if_neg (by show ¬ (cnt : Int) = 6; omega)]; rfl
    have htk41 : tk b pb 41 p ((208, pb + pt.length, 0) :: S) (N, nm, gv, pt ++ [(w1, w2, w3, (cnt : Int), w5)]) = some (S, N, nm, gv, pt ++ [(w1, w2, w3, (cnt : Int), w5)]) := by
      unfold tk
      simp [goesOn, tDecl]
    unfold pTs
    by_cases hgo : cnt = 0 ∨ (cnt < 6 ∧ isTm false s = true)
    · rw [if_pos hgo]
      have h5 : cnt < 6 ∧ isTm false s = true := hgo.resolve_left (by omega)
      obtain ⟨c, t, rfl⟩ : ∃ c t, s = c :: t := by
        cases s with
        | nil => simp [isTm] at h5
        | cons c t => exact ⟨c, t, rfl⟩
      have hc : c ≠ 41 := by
        rintro rfl
        simp [isTm, isV, isL, isD] at h5
      have e1 : mrun b pb (c :: t) p ((208, pb + pt.length, 0) :: S, N, nm, gv, pt ++ [(w1, w2, w3, (cnt : Int), w5)]) = trun b pb (c :: t) p 2 ((208, pb + pt.length, 0) :: S, N, nm, gv, pt ++ [(w1, w2, w3, ((cnt + 1 : Nat) : Int), w5)]) := by
        rw [mrun_cons hS1, htk c hc, if_neg (by omega), trun_cons]
      obtain ⟨i1, i2⟩ := mach_T (b := b) (pb := pb) (hol := false) (R := (nm, gv, pt ++ [(w1, w2, w3, ((cnt + 1 : Nat) : Int), w5)])) 9 1 2 (c :: t) p ((208, pb + pt.length, 0) :: S) N (by simp) (by decide) (by decide) (by simp; omega)
      cases hpt : pT false 9 1 (c :: t) p with
      | inl e' =>
        dsimp only
        refine ⟨fun e he => ?_, fun f s' p' he => by cases he⟩
        cases he
        rw [e1]; exact i1 _ hpt
      | inr w =>
        obtain ⟨nd, s1, p1⟩ := w
        dsimp only
        have e2 := i2 _ _ _ hpt
        obtain ⟨j1, j2⟩ := ihk (cnt + 1) s1 p1 (N ++ pre (cons nd.1 nd.2 nil)) (by omega) (by omega) (by omega)
        cases hr : pTs (pT false 9 1) false k (cnt + 1) s1 p1 with
        | inl e' =>
          dsimp only
          refine ⟨fun e he => ?_, fun f s' p' he => by cases he⟩
          cases he
          rw [e1, e2]; exact j1 _ hr
        | inr w2 =>
          obtain ⟨f1, s2, p2⟩ := w2
          dsimp only
          refine ⟨fun e he => (nomatch he), fun f s' p' he => ?_⟩
          cases he
          rw [e1, e2, j2 _ _ _ hr, lenF_cons, pre_cons, pre_cons, pre_nil, List.append_nil, List.append_assoc, List.cons_append, show cnt + 1 + lenF f1 = cnt + (1 + lenF f1) by omega]
    · rw [if_neg hgo]
      cases s with
      | nil =>
        refine ⟨fun e he => ?_, fun f s' p' he => by cases he⟩
        cases he
        exact mrun_end (by omega) rfl
      | cons c t =>
        by_cases hc : c = 41
        · subst hc
          dsimp only
          rw [if_pos rfl]
          refine ⟨fun e he => (nomatch he), fun f s' p' he => ?_⟩
          cases he
          rw [mrun_go hS1 htk41]
          rw [show lenF nil = 0 from rfl, pre_nil, List.append_nil, Nat.add_zero]
        · dsimp only
          rw [if_neg hc]
          refine ⟨fun e he => ?_, fun f s' p' he => by cases he⟩
          cases he
          refine mrun_no hS1 ?_
          rw [htk c hc]
          by_cases c6 : cnt = 6
          · rw [if_pos c6]
          · rw [if_neg c6]
            refine bTerm_none (hol := false) (t := t) (by simp) ?_
            cases hb : isTm false (c :: t) with
            | false => rfl
            | true => exact absurd (Or.inr ⟨by omega, hb⟩) hgo
/-- a part -/
theorem mach_Part {S : List Itm} {n : Int} {nm : Int} {gv : List Int} {pt : List Pt5} {N : List Nd} {s : List Int} {p : Int} (hS : S.length < 330) :
    (∀ e, pPart 9 s p = .inl e → prun b pb s p n (S, N, nm, gv, pt) = some (.inl e)) ∧
    (∀ a s' p', pPart 9 s p = .inr (a, s', p') → prun b pb s p n (S, N, nm, gv, pt) = mrun b pb s' p' ((205, n + 1, 0) :: S, N ++ pre a.2.2.2, nm, gv, pt ++ [ptOf a (b + N.length)])) := by
  unfold pPart
  cases s with
  | nil => exact ⟨fun e he => (by cases he; rfl), fun a s' p' he => by cases he⟩
  | cons c r =>
    have hpr : prun b pb (c :: r) p n (S, N, nm, gv, pt) = match bPart b pb c p n (S, N, nm, gv, pt) with
      | none => some (.inl p)
      | some st' => mrun b pb r (p + 1) st' := rfl
    rw [hpr]
    unfold bPart
    dsimp only
    by_cases c1 : c = 63
    · have nV : ¬ isV c = true := by rw [c1]; decide
      have nL : ¬ (c = 35 ∨ isL c = true) := by rw [c1]; decide
      simp only [if_pos c1, if_neg nV, if_neg nL]
      cases r with
      | nil =>
        dsimp only
        refine ⟨fun e he => ?_, fun a s' p' he => by cases he⟩
        cases he
        exact mrun_end (by simp; omega) rfl
      | cons l r1 =>
        dsimp only
        have htk : tk b pb l (p + 1) ((207, pb + (pt.length : Int), 0) :: (40, 0, 0) :: (200, 2, 0) :: (208, pb + (pt.length : Int), 0) :: (61, 0, 0) :: (200, 2, 0) :: (205, n + 1, 0) :: S) (N, nm, gv, pt ++ [(2, -1, b + (N.length : Int), 1, p)]) = if isL l = true then some ((40, 0, 0) :: (200, 2, 0) :: (208, pb + (pt.length : Int), 0) :: (61, 0, 0) :: (200, 2, 0) :: (205, n + 1, 0) :: S, N, nm, gv, pt ++ [(2, l - 65, b + (N.length : Int), 1, p + 1)]) else none := by
          unfold tk
          rw [if_neg (by simp [goesOn]), if_neg (by decide), if_pos (by decide)]
          unfold tDecl
          dsimp only
          simp only [show ((207 : Int) = 200) = False by decide, show ((207 : Int) = 201) = False by decide, show ((207 : Int) = 202) = False by decide, show ((207 : Int) = 203) = False by decide, show ((207 : Int) = 204) = False by decide, show ((207 : Int) = 205) = False by decide, show ((207 : Int) = 206) = False by decide, if_false, if_true]
          rw [show (pb + (pt.length : Int) - pb).toNat = pt.length by omega, setPN_end]
        by_cases c2 : isL l = true
        · rw [if_pos c2] at htk ⊢
          rw [mrun_go (by simp; omega) htk, show p + 1 + 1 = p + 2 by omega]
          obtain ⟨g1, g2⟩ := mrun_ch (b := b) (pb := pb) (x := 40) (y := 0) (z := 0) (by decide) (s := r1) (p := p + 2) (S := (200, 2, 0) :: (208, pb + (pt.length : Int), 0) :: (61, 0, 0) :: (200, 2, 0) :: (205, n + 1, 0) :: S) (r := (N, nm, gv, pt ++ [(2, l - 65, b + (N.length : Int), 1, p + 1)])) (by simp; omega)
          cases h1 : pCh 40 r1 (p + 2) with
          | inl e' =>
            dsimp only
            refine ⟨fun e he => ?_, fun a s' p' he => by cases he⟩
            cases he
            exact g1 _ h1
          | inr w =>
            obtain ⟨u, r2, p2⟩ := w
            dsimp only
            rw [g2 _ _ _ h1, mrun_term (by simp; omega), Int.add_zero]
            obtain ⟨i1, i2⟩ := mach_T (b := b) (pb := pb) (hol := false) (R := (nm, gv, pt ++ [(2, l - 65, b + (N.length : Int), 1, p + 1)])) 9 1 2 r2 p2 ((208, pb + (pt.length : Int), 0) :: (61, 0, 0) :: (200, 2, 0) :: (205, n + 1, 0) :: S) N (by simp) (by decide) (by decide) (by simp; omega)
            unfold pTs
            rw [if_pos (Or.inl rfl)]
            cases h2 : pT false 9 1 r2 p2 with
            | inl e' =>
              dsimp only
              refine ⟨fun e he => ?_, fun a s' p' he => by cases he⟩
              cases he
              exact i1 _ h2
            | inr w2 =>
              obtain ⟨nd, r3, p3⟩ := w2
              dsimp only
              rw [i2 _ _ _ h2]
              obtain ⟨j1, j2⟩ := mach_Cd (b := b) (pb := pb) (S := (61, 0, 0) :: (200, 2, 0) :: (205, n + 1, 0) :: S) (nm := nm) (gv := gv) (pt := pt) (w1 := 2) (w2 := l - 65) (w3 := b + (N.length : Int)) (w5 := p + 1) (by simp; omega) 6 1 r3 p3 (N ++ pre (cons nd.1 nd.2 nil)) (by decide) (by decide) (by decide)
              cases h3 : pTs (pT false 9 1) false 6 (0 + 1) r3 p3 with
              | inl e' =>
                dsimp only
                refine ⟨fun e he => ?_, fun a s' p' he => by cases he⟩
                cases he
                exact j1 _ h3
              | inr w3 =>
                obtain ⟨f, r4, p4⟩ := w3
                dsimp only
                have e9 := j2 _ _ _ h3
                rw [show ((1 : Nat) : Int) = 1 from rfl] at e9
                rw [e9]
                obtain ⟨k1, k2⟩ := mrun_ch (b := b) (pb := pb) (x := 61) (y := 0) (z := 0) (by decide) (s := r4) (p := p4) (S := (200, 2, 0) :: (205, n + 1, 0) :: S) (r := (N ++ pre (cons nd.1 nd.2 nil) ++ pre f, nm, gv, pt ++ [(2, l - 65, b + (N.length : Int), ((1 + lenF f : Nat) : Int), p + 1)])) (by simp; omega)
                cases h4 : pCh 61 r4 p4 with
                | inl e' =>
                  dsimp only
                  refine ⟨fun e he => ?_, fun a s' p' he => by cases he⟩
                  cases he
                  exact k1 _ h4
                | inr w4 =>
                  obtain ⟨u2, r5, p5⟩ := w4
                  dsimp only
                  rw [k2 _ _ _ h4, mrun_term (by simp; omega), Int.add_zero]
                  obtain ⟨m1, m2⟩ := mach_T (b := b) (pb := pb) (hol := false) (R := (nm, gv, pt ++ [(2, l - 65, b + (N.length : Int), ((1 + lenF f : Nat) : Int), p + 1)])) 9 1 2 r5 p5 ((205, n + 1, 0) :: S) (N ++ pre (cons nd.1 nd.2 nil) ++ pre f) (by simp) (by decide) (by decide) (by simp; omega)
                  cases h5 : pT false 9 1 r5 p5 with
                  | inl e' =>
                    dsimp only
                    refine ⟨fun e he => ?_, fun a s' p' he => by cases he⟩
                    cases he
                    exact m1 _ h5
                  | inr w5 =>
                    obtain ⟨nd2, r6, p6⟩ := w5
                    dsimp only
                    refine ⟨fun e he => (nomatch he), fun a s' p' he => ?_⟩
                    cases he
                    rw [m2 _ _ _ h5]
                    unfold ptOf
                    dsimp only
                    rw [if_pos rfl, lenF_apF, lenF_cons, lenF_cons, show lenF nil = 0 from rfl, pre_apF, pre_cons nd.1 nd.2 f, pre_cons nd.1 nd.2 nil, pre_nil, List.append_nil]
                    simp only [List.append_assoc, List.cons_append]
                    rw [show ((1 + lenF f + (1 + 0) : Nat) : Int) - 1 = ((1 + lenF f : Nat) : Int) by omega]
        · rw [if_neg c2] at htk ⊢
          refine ⟨fun e he => ?_, fun a s' p' he => by cases he⟩
          cases he
          exact mrun_no (by simp; omega) htk
    · simp only [if_neg c1]
      by_cases c2 : isV c = true
      · simp only [if_pos c2]
        obtain ⟨g1, g2⟩ := mrun_ch (b := b) (pb := pb) (x := 58) (y := 0) (z := 0) (by decide) (s := r) (p := p + 1) (S := (200, 2, 0) :: (205, n + 1, 0) :: S) (r := (N, nm, gv, pt ++ [(0, c - 97, b + (N.length : Int), 1, p)])) (by simp; omega)
        cases h1 : pCh 58 r (p + 1) with
        | inl e' =>
          dsimp only
          refine ⟨fun e he => ?_, fun a s' p' he => by cases he⟩
          cases he
          exact g1 _ h1
        | inr w =>
          obtain ⟨u, r2, p2⟩ := w
          dsimp only
          rw [g2 _ _ _ h1, mrun_term (by simp; omega), Int.add_zero]
          obtain ⟨i1, i2⟩ := mach_T (b := b) (pb := pb) (hol := false) (R := (nm, gv, pt ++ [(0, c - 97, b + (N.length : Int), 1, p)])) 9 1 2 r2 p2 ((205, n + 1, 0) :: S) N (by simp) (by decide) (by decide) (by simp; omega)
          cases h2 : pT false 9 1 r2 p2 with
          | inl e' =>
            dsimp only
            refine ⟨fun e he => ?_, fun a s' p' he => by cases he⟩
            cases he
            exact i1 _ h2
          | inr w2 =>
            obtain ⟨nd, r3, p3⟩ := w2
            dsimp only
            refine ⟨fun e he => (nomatch he), fun a s' p' he => ?_⟩
            cases he
            exact i2 _ _ _ h2
      · simp only [if_neg c2]
        by_cases c3 : isL c = true ∨ c = 35
        · simp only [if_pos c3, if_pos c3.symm]
          obtain ⟨i1, i2⟩ := mach_T (b := b) (pb := pb) (hol := false) (R := (nm, gv, pt ++ [(1, -1, b + (N.length : Int), 1, p)])) 9 1 2 (c :: r) p ((205, n + 1, 0) :: S) N (by simp) (by decide) (by decide) (by simp; omega)
          rw [trun_cons] at i1 i2
          cases h2 : pT false 9 1 (c :: r) p with
          | inl e' =>
            dsimp only
            refine ⟨fun e he => ?_, fun a s' p' he => by cases he⟩
            cases he
            exact i1 _ h2
          | inr w2 =>
            obtain ⟨nd, r3, p3⟩ := w2
            dsimp only
            refine ⟨fun e he => (nomatch he), fun a s' p' he => ?_⟩
            cases he
            exact i2 _ _ _ h2
        · simp only [if_neg c3, if_neg (fun q => c3 (Or.symm q))]
          exact ⟨fun e he => (by cases he; rfl), fun a s' p' he => by cases he⟩
/-- the nodes and the rows of several parts -/
def preL : List Pa → List Nd
  | [] => []
  | a :: l => pre a.2.2.2 ++ preL l
def ptL (i : Int) : List Pa → List Pt5
  | [] => []
  | a :: l => ptOf a i :: ptL (i + (pre a.2.2.2).length) l
/-- behind a part: , or > -/
theorem mach_Parts {nm : Int} {gv : List Int} : ∀ (k n : Nat) (s : List Int) (p : Int) (N : List Nd) (pt : List Pt5), n + k = 6 → 1 ≤ n →
    (∀ e, (match pParts 9 k false s p with
      | .inl e => .inl e
      | .inr (l, s1, p1) => match pCh 62 s1 p1 with
        | .inl e => .inl e
        | .inr (_, s2, p2) => .inr (l, s2, p2) : RR (List Pa)) = .inl e → mrun b pb s p ([(205, (n : Int), 0)], N, nm, gv, pt) = some (.inl e)) ∧
    (∀ l s' p', (match pParts 9 k false s p with
      | .inl e => .inl e
      | .inr (l, s1, p1) => match pCh 62 s1 p1 with
        | .inl e => .inl e
        | .inr (_, s2, p2) => .inr (l, s2, p2) : RR (List Pa)) = .inr (l, s', p') → mrun b pb s p ([(205, (n : Int), 0)], N, nm, gv, pt) = mrun b pb s' p' ([(206, 0, 0)], N ++ preL l, nm, gv, pt ++ ptL (b + N.length) l)) := by
  have htk : ∀ (c p n : Int) (N : List Nd) (pt : List Pt5), tk b pb c p [(205, n, 0)] (N, nm, gv, pt) = if c = 62 then some ([(206, 0, 0)], N, nm, gv, pt) else if c = 44 ∧ n < 6 then some ([(204, n, 0)], N, nm, gv, pt) else none := fun c p n N pt => by
    unfold tk
    rw [if_neg (by simp [goesOn]), if_neg (by decide), if_pos (by decide)]
    unfold tDecl
    dsimp only
    simp only [show ((205 : Int) = 200) = False by decide, show ((205 : Int) = 201) = False by decide, show ((205 : Int) = 202) = False by decide, show ((205 : Int) = 203) = False by decide, show ((205 : Int) = 204) = False by decide, if_false, if_true]
  intro k
  induction k with
  | zero =>
    intro n s p N pt hn h1
    have h6 : ¬ ((n : Int) < 6) := by omega
    cases s with
    | nil =>
      refine ⟨fun e he => ?_, fun l s' p' he => by cases he⟩
      cases he
      exact mrun_end (by simp) rfl
    | cons c t =>
      have hk := htk c p n N pt
      by_cases hc : c = 62
      · subst hc
        rw [if_pos rfl] at hk
        refine ⟨fun e he => by simp [pParts, pCh] at he, fun l s' p' he => ?_⟩
        simp only [pParts, pCh, if_true] at he
        cases he
        rw [mrun_go (by simp) hk]
        show _ = mrun b pb t (p + 1) ([(206, 0, 0)], N ++ [], nm, gv, pt ++ [])
        rw [List.append_nil, List.append_nil]
      · rw [if_neg hc, if_neg (fun q => h6 q.2)] at hk
        refine ⟨fun e he => ?_, fun l s' p' he => by simp [pParts, pCh, hc] at he⟩
        simp only [pParts, pCh, if_neg hc] at he
        cases he
        exact mrun_no (by simp) hk
  | succ k ih =>
    intro n s p N pt hn h1
    cases s with
    | nil =>
      refine ⟨fun e he => ?_, fun l s' p' he => by simp [pParts, pCh] at he⟩
      simp only [pParts, pCh] at he
      cases he
      exact mrun_end (by simp) rfl
    | cons c t =>
      have hk := htk c p n N pt
      by_cases hc : c = 44
      · have c62 : ¬ c = 62 := by omega
        rw [if_neg c62, if_pos ⟨hc, by omega⟩] at hk
        have hr : pParts 9 (k + 1) false (c :: t) p = (match pPart 9 t (p + 1) with
          | .inl e => .inl e
          | .inr (a, s', p') => match pParts 9 k false s' p' with
            | .inl e => .inl e
            | .inr (l, s'', p'') => .inr (a :: l, s'', p'')) := by
          simp only [pParts, if_pos hc]
          rfl
        rw [hr, mrun_go (by simp) hk]
        have hpr : mrun b pb t (p + 1) ([(204, (n : Int), 0)], N, nm, gv, pt) = prun b pb t (p + 1) n ([], N, nm, gv, pt) := by
          cases t with
          | nil => exact mrun_end (by simp) rfl
          | cons c' t' =>
            have : tk b pb c' (p + 1) [(204, (n : Int), 0)] (N, nm, gv, pt) = bPart b pb c' (p + 1) n ([], N, nm, gv, pt) := by
              unfold tk
              rw [if_neg (by simp [goesOn]), if_neg (by decide), if_pos (by decide)]
              unfold tDecl
              dsimp only
              simp only [show ((204 : Int) = 200) = False by decide, show ((204 : Int) = 201) = False by decide, show ((204 : Int) = 202) = False by decide, show ((204 : Int) = 203) = False by decide, if_false, if_true]
            rw [mrun_cons (by simp), this]; rfl
        rw [hpr]
        obtain ⟨g1, g2⟩ := mach_Part (b := b) (pb := pb) (S := []) (n := n) (nm := nm) (gv := gv) (pt := pt) (N := N) (s := t) (p := p + 1) (by simp)
        cases h2 : pPart 9 t (p + 1) with
        | inl e' =>
          dsimp only
          refine ⟨fun e he => ?_, fun l s' p' he => by cases he⟩
          cases he
          exact g1 _ h2
        | inr w =>
          obtain ⟨a, s1, p1⟩ := w
          dsimp only
          rw [g2 _ _ _ h2]
          obtain ⟨j1, j2⟩ := ih (n + 1) s1 p1 (N ++ pre a.2.2.2) (pt ++ [ptOf a (b + N.length)]) (by omega) (by omega)
          cases h3 : pParts 9 k false s1 p1 with
          | inl e' =>
            rw [h3] at j1
            dsimp only
            refine ⟨fun e he => ?_, fun l s' p' he => by cases he⟩
            cases he
            exact j1 _ rfl
          | inr w2 =>
            obtain ⟨l1, s2, p2⟩ := w2
            rw [h3] at j1 j2
            dsimp only at j1 j2 ⊢
            cases h4 : pCh 62 s2 p2 with
            | inl e' =>
              rw [h4] at j1
              dsimp only
              refine ⟨fun e he => ?_, fun l s' p' he => by cases he⟩
              cases he
              exact j1 _ rfl
            | inr w3 =>
              obtain ⟨u, s3, p3⟩ := w3
              rw [h4] at j2
              dsimp only
              refine ⟨fun e he => (nomatch he), fun l s' p' he => ?_⟩
              cases he
              have e9 := j2 _ _ _ rfl
              rw [show ((n + 1 : Nat) : Int) = (n : Int) + 1 by omega] at e9
              rw [e9]
              show _ = mrun b pb s3 p3 ([(206, 0, 0)], N ++ (pre a.2.2.2 ++ preL l1), nm, gv, pt ++ (ptOf a (b + N.length) :: ptL (b + N.length + (pre a.2.2.2).length) l1))
              rw [List.append_assoc, List.append_assoc, List.singleton_append, List.length_append, show b + ((N.length + (pre a.2.2.2).length : Nat) : Int) = b + N.length + (pre a.2.2.2).length by omega]
      · have hr : pParts 9 (k + 1) false (c :: t) p = .inr ([], c :: t, p) := by
          simp only [pParts, if_neg hc]
          rfl
        rw [hr]
        dsimp only
        by_cases hc2 : c = 62
        · subst hc2
          rw [if_pos rfl] at hk
          refine ⟨fun e he => by simp [pCh] at he, fun l s' p' he => ?_⟩
          simp only [pCh, if_true] at he
          cases he
          rw [mrun_go (by simp) hk]
          show _ = mrun b pb t (p + 1) ([(206, 0, 0)], N ++ [], nm, gv, pt ++ [])
          rw [List.append_nil, List.append_nil]
        · rw [if_neg hc2, if_neg (fun q => hc q.1)] at hk
          refine ⟨fun e he => ?_, fun l s' p' he => by simp [pCh, hc2] at he⟩
          simp only [pCh, if_neg hc2] at he
          cases he
          exact mrun_no (by simp) hk
def preR (r : Option (Lb × TF)) : List Nd := match r with
  | none => []
  | some nd => pre (cons nd.1 nd.2 nil)
/-- the result, and the end -/
theorem mach_Res {nm : Int} {gv : List Int} {pt : List Pt5} {N : List Nd} {s : List Int} {p : Int} : mrun b pb s p ([(206, 0, 0)], N, nm, gv, pt) = match pEnd (pRes 9 s p) with
      | .inl e => some (.inl e)
      | .inr r => some (.inr (N ++ preR r, if r.isNone = true then -2 else b + N.length, gv, pt)) := by
  cases s with
  | nil => exact mrun_end (by simp) rfl
  | cons c t =>
    have hk : tk b pb c p [(206, 0, 0)] (N, nm, gv, pt) = if c = 42 then some ([], N, -2, gv, pt) else bTerm b c p 2 ([], N, b + N.length, gv, pt) := by
      unfold tk
      rw [if_neg (by simp [goesOn]), if_neg (by decide), if_pos (by decide)]
      unfold tDecl
      dsimp only
      simp only [show ((206 : Int) = 200) = False by decide, show ((206 : Int) = 201) = False by decide, show ((206 : Int) = 202) = False by decide, show ((206 : Int) = 203) = False by decide, show ((206 : Int) = 204) = False by decide, show ((206 : Int) = 205) = False by decide, if_false, if_true]
    unfold pRes
    by_cases hc : c = 42
    · rw [if_pos hc] at hk
      dsimp only
      rw [if_pos hc, mrun_go (by simp) hk]
      cases t with
      | nil => rw [mrun_nil (by simp)]; simp [pEnd, preR]
      | cons c' t' => rw [mrun_no (by simp)]; rfl; rfl
    · rw [if_neg hc] at hk
      dsimp only
      rw [if_neg hc, mrun_cons (by simp), hk]
      obtain ⟨i1, i2⟩ := mach_T (b := b) (pb := pb) (hol := false) (R := (b + N.length, gv, pt)) 9 1 2 (c :: t) p [] N (by simp) (by decide) (by decide) (by simp)
      rw [trun_cons] at i1 i2
      cases h2 : pT false 9 1 (c :: t) p with
      | inl e' => rw [show _ = _ from i1 _ h2]; rfl
      | inr w =>
        obtain ⟨nd, s1, p1⟩ := w
        rw [show _ = _ from i2 _ _ _ h2]
        cases s1 with
        | nil => rw [mrun_nil (by simp)]; simp [pEnd, preR]
        | cons c' t' => rw [mrun_no (by simp)]; rfl; rfl
/-- a whole declaration -/
theorem mach_Decl {nm : Int} {gv : List Int} {pt : List Pt5} {N : List Nd} {s : List Int} {p : Int} : mrun b pb s p ([(203, 0, 0)], N, nm, gv, pt) = match pEnd (pDecl 9 s p) with
      | .inl e => some (.inl e)
      | .inr (l, r) => some (.inr (N ++ preL l ++ preR r, if r.isNone = true then -2 else b + ((N ++ preL l).length : Int), gv, pt ++ ptL (b + N.length) l)) := by
  have hpr : ∀ (c : Int) (t : List Int), s = c :: t → c ≠ 62 → mrun b pb s p ([(203, 0, 0)], N, nm, gv, pt) = prun b pb s p 0 ([], N, nm, gv, pt) := by
    intro c t hs hc
    subst hs
    have : tk b pb c p [(203, 0, 0)] (N, nm, gv, pt) = bPart b pb c p 0 ([], N, nm, gv, pt) := by
      unfold tk
      rw [if_neg (by simp [goesOn]), if_neg (by decide), if_pos (by decide)]
      unfold tDecl
      dsimp only
      simp only [show ((203 : Int) = 200) = False by decide, show ((203 : Int) = 201) = False by decide, show ((203 : Int) = 202) = False by decide, if_false, if_true]
      rw [if_neg hc]
    rw [mrun_cons (by simp), this]; rfl
  have body : ∀ (l : List Pa) (s2 : List Int) (p2 : Int) (N' : List Nd) (pt' : List Pt5), (match pEnd (match pRes 9 s2 p2 with
        | .inl e => .inl e
        | .inr (r, s3, p3) => .inr ((l, r), s3, p3) : RR (List Pa × Option (Lb × TF))) with
      | .inl e => some (.inl e)
      | .inr (l, r) => some (.inr (N' ++ preR r, if r.isNone = true then -2 else b + (N'.length : Int), gv, pt')) : Option (Int ⊕ (List Nd × R3))) = mrun b pb s2 p2 ([(206, 0, 0)], N', nm, gv, pt') := by
    intro l s2 p2 N' pt'
    rw [mach_Res]
    cases pRes 9 s2 p2 with
    | inl e => rfl
    | inr w =>
      obtain ⟨r, s3, p3⟩ := w
      cases s3 with
      | nil => rfl
      | cons c t => rfl
  cases s with
  | nil =>
    rw [mrun_end (by simp) rfl]; rfl
  | cons c t =>
    by_cases hc : c = 62
    · subst hc
      have hk : tk b pb 62 p [(203, 0, 0)] (N, nm, gv, pt) = some ([(206, 0, 0)], N, nm, gv, pt) := by
        unfold tk
        simp [goesOn, tDecl]
      rw [mrun_go (by simp) hk, ← body [] t (p + 1)]
      have : pDecl 9 (62 :: t) p = (match pRes 9 t (p + 1) with
        | .inl e => .inl e
        | .inr (r, s3, p3) => .inr (([], r), s3, p3)) := by
        simp [pDecl, pCh]
        rfl
      rw [this]
      cases pRes 9 t (p + 1) with
      | inl e => rfl
      | inr w =>
        obtain ⟨r, s3, p3⟩ := w
        cases s3 with
        | nil => simp [pEnd, preL, ptL]
        | cons c t => rfl
    · rw [hpr c t rfl hc]
      obtain ⟨g1, g2⟩ := mach_Part (b := b) (pb := pb) (S := []) (n := 0) (nm := nm) (gv := gv) (pt := pt) (N := N) (s := c :: t) (p := p) (by simp)
      have hd : pDecl 9 (c :: t) p = (match (match pParts 9 6 true (c :: t) p with
          | .inl e => .inl e
          | .inr (l, s1, p1) => match pCh 62 s1 p1 with
            | .inl e => .inl e
            | .inr (_, s2, p2) => .inr (l, s2, p2) : RR (List Pa)) with
          | .inl e => .inl e
          | .inr (l, s2, p2) => match pRes 9 s2 p2 with
            | .inl e => .inl e
            | .inr (r, s3, p3) => .inr ((l, r), s3, p3)) := by
        unfold pDecl
        dsimp only
        rw [if_neg hc]
        cases pParts 9 6 true (c :: t) p with
        | inl e => rfl
        | inr w =>
          obtain ⟨l, s1, p1⟩ := w
          dsimp only
          cases pCh 62 s1 p1 with
          | inl e => rfl
          | inr w2 => rfl
      have hp6 : pParts 9 6 true (c :: t) p = (match pPart 9 (c :: t) p with
          | .inl e => .inl e
          | .inr (a, s', p') => match pParts 9 5 false s' p' with
            | .inl e => .inl e
            | .inr (l, s'', p'') => .inr (a :: l, s'', p'')) := by
        show (if true = true then _ else _) = _
        rw [if_pos rfl]; rfl
      rw [hd, hp6]
      cases h2 : pPart 9 (c :: t) p with
      | inl e' => rw [g1 _ h2]; rfl
      | inr w =>
        obtain ⟨a, s1, p1⟩ := w
        rw [g2 _ _ _ h2]
        dsimp only
        obtain ⟨j1, j2⟩ := mach_Parts (b := b) (pb := pb) (nm := nm) (gv := gv) 5 1 s1 p1 (N ++ pre a.2.2.2) (pt ++ [ptOf a (b + N.length)]) (by decide) (by decide)
        rw [show ((1 : Nat) : Int) = 0 + 1 from rfl] at j1 j2
        cases h3 : pParts 9 5 false s1 p1 with
        | inl e' =>
          rw [h3] at j1
          rw [j1 _ rfl]; rfl
        | inr w2 =>
          obtain ⟨l1, s2, p2⟩ := w2
          rw [h3] at j1 j2
          dsimp only at j1 j2 ⊢
          cases h4 : pCh 62 s2 p2 with
          | inl e' =>
            rw [h4] at j1
            rw [j1 _ rfl]; rfl
          | inr w3 =>
            obtain ⟨u, s3, p3⟩ := w3
            rw [h4] at j2
            rw [j2 _ _ _ rfl, ← body (a :: l1) s3 p3]
            dsimp only
            cases pRes 9 s3 p3 with
            | inl e => rfl
            | inr w =>
              obtain ⟨r, s4, p4⟩ := w
              cases s4 with
              | nil =>
                dsimp only [pEnd]
                simp only [preL, ptL, List.append_assoc, List.singleton_append, List.length_append]
                rw [show b + ((N.length + (pre a.2.2.2).length : Nat) : Int) = b + N.length + (pre a.2.2.2).length by omega]
              | cons c t => rfl
end MB
