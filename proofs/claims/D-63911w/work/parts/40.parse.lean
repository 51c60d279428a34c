/-! L3: the spec's trees and its reading by recursive descent -/
/-- a forest: nothing, or a label, its children, its siblings -/
abbrev TF : Type := Std.DTreeMap.Internal.Impl (Nat × Int × Int) (fun _ => Unit)
abbrev Lb : Type := Nat × Int × Int
def nil : TF := .leaf
def cons (a : Lb) (c s : TF) : TF := .inner 0 a () c s
/-- one forest behind another -/
def apF : TF → TF → TF
  | .leaf, g => g
  | .inner z a u c s, g => .inner z a u c (apF s g)
def isV (c : Int) : Bool := decide (97 ≤ c) && decide (c ≤ 122)
def isL (c : Int) : Bool := decide (65 ≤ c) && decide (c ≤ 90)
def isD (c : Int) : Bool := decide (48 ≤ c) && decide (c ≤ 57)
/-- what a reader comes to: a fault's place, or what was read, the rest, the place behind it -/
abbrev RR (α : Type) : Type := Int ⊕ (α × List Int × Int)
def isTm (hol : Bool) (s : List Int) : Bool := match s with
  | [] => false
  | c :: _ => isV c || isL c || isD c || decide (c = 35) || (hol && decide (c = 95))
/-- a sign that must come -/
def pCh (x : Int) (s : List Int) (p : Int) : RR Unit := match s with
  | [] => .inl p
  | c :: r => if c = x then .inr ((), r, p + 1) else .inl p
/-- so many more terms at most (the first one must come where none is there), and the ) behind them -/
def pTs (pt : List Int → Int → RR (Lb × TF)) (hol : Bool) : Nat → Nat → List Int → Int → RR TF
  | 0, _, _, p => .inl p
  | k + 1, cnt, s, p =>
    if cnt = 0 ∨ (cnt < 6 ∧ isTm hol s = true) then
      (match pt s p with
      | .inl e => .inl e
      | .inr (nd, s', p') => match pTs pt hol k (cnt + 1) s' p' with
        | .inl e => .inl e
        | .inr (f, s'', p'') => .inr (cons nd.1 nd.2 f, s'', p''))
    else match s with
      | [] => .inl p
      | c :: r => if c = 41 then .inr (nil, r, p + 1) else .inl p
/-- a term: its label and what is below it -/
def pT (hol : Bool) : Nat → Nat → List Int → Int → RR (Lb × TF)
  | 0, _, _, p => .inl p
  | n + 1, dep, s, p => match s with
    | [] => .inl p
    | c :: r =>
      if isV c = true then .inr (((1, c - 97, p), nil), r, p + 1)
      else if isD c = true then .inr (((2, c - 48, p), nil), r, p + 1)
      else if c = 35 then .inr (((3, 0, p), nil), r, p + 1)
      else if hol = true ∧ c = 95 then .inr (((4, 0, p), nil), r, p + 1)
      else if isL c = true then
        (match r with
        | [] => .inr (((5, c - 65, p), nil), r, p + 1)
        | x :: r' => if x = 40 ∧ dep < 8 then
            (match pTs (pT hol n (dep + 1)) hol 7 0 r' (p + 2) with
            | .inl e => .inl e
            | .inr (f, s'', p'') => .inr (((5, c - 65, p), f), s'', p''))
          else .inr (((5, c - 65, p), nil), r, p + 1))
      else .inl p
/-- a row of one to k terms -/
def pRow (hol : Bool) (n : Nat) : Nat → Bool → List Int → Int → RR TF
  | 0, _, s, p => .inr (nil, s, p)
  | k + 1, must, s, p =>
    if must = true ∨ isTm hol s = true then
      (match pT hol n 1 s p with
      | .inl e => .inl e
      | .inr (nd, s', p') => match pRow hol n k false s' p' with
        | .inl e => .inl e
        | .inr (f, s'', p'') => .inr (cons nd.1 nd.2 f, s'', p''))
    else .inr (nil, s, p)
/-- the whole text must be read -/
def pEnd {α : Type} (r : RR α) : Int ⊕ α := match r with
  | .inl e => .inl e
  | .inr (a, s, p) => match s with
    | [] => .inr a
    | _ :: _ => .inl p
/-- a part: kind (0 named, 1 without a name, 2 a condition), name, place, its terms -/
abbrev Pa : Type := Int × Int × Int × TF
def pPart (n : Nat) (s : List Int) (p : Int) : RR Pa := match s with
  | [] => .inl p
  | c :: r =>
    if c = 63 then
      (match r with
      | [] => .inl (p + 1)
      | l :: r1 => if isL l = true then
          (match pCh 40 r1 (p + 2) with
          | .inl e => .inl e
          | .inr (_, r2, p2) => match pTs (pT false n 1) false 7 0 r2 p2 with
            | .inl e => .inl e
            | .inr (f, r3, p3) => match pCh 61 r3 p3 with
              | .inl e => .inl e
              | .inr (_, r4, p4) => match pT false n 1 r4 p4 with
                | .inl e => .inl e
                | .inr (nd, r5, p5) => .inr ((2, l - 65, p + 1, apF f (cons nd.1 nd.2 nil)), r5, p5))
        else .inl (p + 1))
    else if isV c = true then
      (match pCh 58 r (p + 1) with
      | .inl e => .inl e
      | .inr (_, r2, p2) => match pT false n 1 r2 p2 with
        | .inl e => .inl e
        | .inr (nd, r3, p3) => .inr ((0, c - 97, p, cons nd.1 nd.2 nil), r3, p3))
    else if isL c = true ∨ c = 35 then
      (match pT false n 1 s p with
      | .inl e => .inl e
      | .inr (nd, r3, p3) => .inr ((1, -1, p, cons nd.1 nd.2 nil), r3, p3))
    else .inl p
/-- up to six parts; the first one must come -/
def pParts (n : Nat) : Nat → Bool → List Int → Int → RR (List Pa)
  | 0, _, s, p => .inr ([], s, p)
  | k + 1, must, s, p =>
    if must = true then
      (match pPart n s p with
      | .inl e => .inl e
      | .inr (a, s', p') => match pParts n k false s' p' with
        | .inl e => .inl e
        | .inr (l, s'', p'') => .inr (a :: l, s'', p''))
    else match s with
      | [] => .inr ([], s, p)
      | c :: r => if c = 44 then
          (match pPart n r (p + 1) with
          | .inl e => .inl e
          | .inr (a, s', p') => match pParts n k false s' p' with
            | .inl e => .inl e
            | .inr (l, s'', p'') => .inr (a :: l, s'', p''))
        else .inr ([], s, p)
/-- a declaration's result: * or a term -/
def pRes (n : Nat) (s : List Int) (p : Int) : RR (Option (Lb × TF)) := match s with
  | [] => .inl p
  | c :: r => if c = 42 then .inr (none, r, p + 1) else match pT false n 1 s p with
    | .inl e => .inl e
    | .inr (nd, s', p') => .inr (some nd, s', p')
def pDecl (n : Nat) (s : List Int) (p : Int) : RR (List Pa × Option (Lb × TF)) :=
  match (match s with
    | [] => pParts n 6 true s p
    | c :: _ => if c = 62 then .inr ([], s, p) else pParts n 6 true s p) with
  | .inl e => .inl e
  | .inr (l, s1, p1) => match pCh 62 s1 p1 with
    | .inl e => .inl e
    | .inr (_, s2, p2) => match pRes n s2 p2 with
      | .inl e => .inl e
      | .inr (r, s3, p3) => .inr ((l, r), s3, p3)
/-! codes -/
def isCd (s : List Int) : Bool := match s with
  | [] => false
  | c :: _ => isV c || isL c || isD c || decide (c = 43) || decide (c = 45) || decide (c = 123) || decide (c = 91) || decide (c = 126)
def pCs (pc : List Int → Int → RR (Lb × TF)) : Nat → Nat → List Int → Int → RR TF
  | 0, _, _, p => .inl p
  | k + 1, cnt, s, p =>
    if cnt = 0 ∨ (cnt < 6 ∧ isCd s = true) then
      (match pc s p with
      | .inl e => .inl e
      | .inr (nd, s', p') => match pCs pc k (cnt + 1) s' p' with
        | .inl e => .inl e
        | .inr (f, s'', p'') => .inr (cons nd.1 nd.2 f, s'', p''))
    else match s with
      | [] => .inl p
      | c :: r => if c = 41 then .inr (nil, r, p + 1) else .inl p
/-- one to k variables, as nodes -/
def pVs : Nat → Bool → List Int → Int → RR TF
  | 0, _, s, p => .inr (nil, s, p)
  | k + 1, must, s, p => match s with
    | [] => if must = true then .inl p else .inr (nil, s, p)
    | c :: r => if isV c = true then
        (match pVs k false r (p + 1) with
        | .inl e => .inl e
        | .inr (f, s', p') => .inr (cons (14, c - 97, p) nil f, s', p'))
      else if must = true then .inl p else .inr (nil, s, p)
/-- a pattern -/
def pPat (s : List Int) (p : Int) : RR (Lb × TF) := match s with
  | [] => .inl p
  | c :: r =>
    if isD c = true then .inr (((12, c - 48, p), nil), r, p + 1)
    else if c = 95 then .inr (((11, 47, p), nil), r, p + 1)
    else if isL c = true then
      (match r with
      | [] => .inr (((13, c - 65, p), nil), r, p + 1)
      | x :: r' => if x = 40 then
          (match pVs 6 true r' (p + 2) with
          | .inl e => .inl e
          | .inr (f, s1, p1) => match pCh 41 s1 p1 with
            | .inl e => .inl e
            | .inr (_, s2, p2) => .inr (((13, c - 65, p), f), s2, p2))
        else .inr (((13, c - 65, p), nil), r, p + 1))
    else .inl p
/-- a case: pattern > code -/
def pCase (pc : List Int → Int → RR (Lb × TF)) (s : List Int) (p : Int) : RR ((Lb × TF) × (Lb × TF)) := match pPat s p with
  | .inl e => .inl e
  | .inr (a, s1, p1) => match pCh 62 s1 p1 with
    | .inl e => .inl e
    | .inr (_, s2, p2) => match pc s2 p2 with
      | .inl e => .inl e
      | .inr (b, s3, p3) => .inr ((a, b), s3, p3)
/-- one to k cases, each behind its |, and the } -/
def pCases (pc : List Int → Int → RR (Lb × TF)) : Nat → Nat → List Int → Int → RR TF
  | 0, _, s, p => (match s with
    | [] => .inl p
    | c :: r => if c = 125 then .inr (nil, r, p + 1) else .inl p)
  | k + 1, cnt, s, p => match s with
    | [] => .inl p
    | c :: r => if c = 124 then
        (match pCase pc r (p + 1) with
        | .inl e => .inl e
        | .inr ((a, b), s1, p1) => match pCases pc k (cnt + 1) s1 p1 with
          | .inl e => .inl e
          | .inr (f, s2, p2) => .inr (cons a.1 a.2 (cons b.1 b.2 f), s2, p2))
      else if c = 125 ∧ 0 < cnt then .inr (nil, r, p + 1) else .inl p
def pC : Nat → Nat → List Int → Int → RR (Lb × TF)
  | 0, _, _, p => .inl p
  | n + 1, dep, s, p => match s with
    | [] => .inl p
    | c :: r =>
      if isV c = true then .inr (((1, c - 97, p), nil), r, p + 1)
      else if isD c = true then .inr (((2, c - 48, p), nil), r, p + 1)
      else if c = 126 then .inr (((10, 78, p), nil), r, p + 1)
      else if isL c = true then
        (match r with
        | [] => .inr (((5, c - 65, p), nil), r, p + 1)
        | x :: r' => if x = 40 ∧ dep < 12 then
            (match pCs (pC n (dep + 1)) 7 0 r' (p + 2) with
            | .inl e => .inl e
            | .inr (f, s'', p'') => .inr (((5, c - 65, p), f), s'', p''))
          else .inr (((5, c - 65, p), nil), r, p + 1))
      else if ¬ dep < 12 then .inl p
      else if c = 123 then
        (match pC n (dep + 1) r (p + 1) with
        | .inl e => .inl e
        | .inr (a, s1, p1) => match pCases (pC n (dep + 1)) 5 0 s1 p1 with
          | .inl e => .inl e
          | .inr (f, s2, p2) => .inr (((8, 0, p), cons a.1 a.2 f), s2, p2))
      else if c = 91 then
        (match pC n (dep + 1) r (p + 1) with
        | .inl e => .inl e
        | .inr (a1, s1, p1) => match s1 with
          | [] => .inl p1
          | x :: s1' => if x = 61 ∨ x = 60 then
              (match pC n (dep + 1) s1' (p1 + 1) with
              | .inl e => .inl e
              | .inr (a2, s2, p2) => match pCh 63 s2 p2 with
                | .inl e => .inl e
                | .inr (_, s3, p3) => match pC n (dep + 1) s3 p3 with
                  | .inl e => .inl e
                  | .inr (a3, s4, p4) => match pCh 58 s4 p4 with
                    | .inl e => .inl e
                    | .inr (_, s5, p5) => match pC n (dep + 1) s5 p5 with
                      | .inl e => .inl e
                      | .inr (a4, s6, p6) => match pCh 93 s6 p6 with
                        | .inl e => .inl e
                        | .inr (_, s7, p7) => .inr (((9, x, p), cons a1.1 a1.2 (cons a2.1 a2.2 (cons a3.1 a3.2 (cons a4.1 a4.2 nil)))), s7, p7))
            else .inl p1)
      else if c = 43 ∨ c = 45 then
        (match pC n (dep + 1) r (p + 1) with
        | .inl e => .inl e
        | .inr (a1, s1, p1) => match pC n (dep + 1) s1 p1 with
          | .inl e => .inl e
          | .inr (a2, s2, p2) => .inr (((if c = 43 then 6 else 7, 0, p), cons a1.1 a1.2 (cons a2.1 a2.2 nil)), s2, p2))
      else .inl p
/-- a program: its variables, its code -/
def pProg (n : Nat) (s : List Int) (p : Int) : RR (TF × (Lb × TF)) := match pVs 4 true s p with
  | .inl e => .inl e
  | .inr (v, s1, p1) => match pCh 61 s1 p1 with
    | .inl e => .inl e
    | .inr (_, s2, p2) => match pC n 1 s2 p2 with
      | .inl e => .inl e
      | .inr (a, s3, p3) => .inr ((v, a), s3, p3)
/-! the nodes of a forest, in order: (op, val, cnt, place); cnt: children of a letter or a form, cases of a match -/
abbrev Nd : Type := Int × Int × Int × Int
def lenF : TF → Nat
  | .leaf => 0
  | .inner _ _ _ _ s => 1 + lenF s
def cntOf (a : Lb) (c : TF) : Int := match a.1 with
  | 5 => (lenF c : Int)
  | 13 => (lenF c : Int)
  | 8 => ((lenF c - 1) / 2 : Nat)
  | _ => 0
def pre : TF → List Nd
  | .leaf => []
  | .inner _ a _ c s => ((a.1 : Int), a.2.1, cntOf a c, a.2.2) :: (pre c ++ pre s)
/-! the twin's machine: what is expected (what, a, b), the nodes, names, given, parts -/
abbrev Itm : Type := Int × Int × Int
abbrev Pt5 : Type := Int × Int × Int × Int × Int
abbrev RSt : Type := List Itm × List Nd × Int × List Int × List Pt5
def setC (N : List Nd) (i : Nat) (f : Int → Int) : List Nd := match N[i]? with
  | some e => N.set i (e.1, e.2.1, f e.2.2.1, e.2.2.2)
  | none => N
def cntA (N : List Nd) (i : Nat) : Int := match N[i]? with
  | some e => e.2.2.1
  | none => 0
def bTerm (b c p q : Int) : RSt → Option RSt
  | (S, N, r) =>
    if isV c = true ∨ isD c = true then some (S, N ++ [(if isV c = true then 1 else 2, if isV c = true then c - 97 else c - 48, 0, p)], r)
    else if c = 35 ∨ (c = 95 ∧ q % 2 = 1) then some (S, N ++ [(if c = 35 then 3 else 4, 0, 0, p)], r)
    else if isL c = true then some ((201, b + N.length, q) :: S, N ++ [(5, c - 65, 0, p)], r)
    else none
def bCode (b c p d : Int) : RSt → Option RSt
  | (S, N, r) =>
    if isV c = true ∨ isD c = true ∨ c = 126 then some (S, N ++ [(if isV c = true then 1 else if c = 126 then 10 else 2, if isV c = true then c - 97 else c - 48, 0, p)], r)
    else if isL c = true then some ((211, b + N.length, d) :: S, N ++ [(5, c - 65, 0, p)], r)
    else if d = 12 then none
    else if c = 43 ∨ c = 45 then some ((210, d + 1, 0) :: (210, d + 1, 0) :: S, N ++ [(if c = 43 then 6 else 7, 0, 0, p)], r)
    else if c = 123 then some ((210, d + 1, 0) :: (213, b + N.length, d) :: S, N ++ [(8, 0, 0, p)], r)
    else if c = 91 then some ((210, d + 1, 0) :: (217, b + N.length, 0) :: (210, d + 1, 0) :: (63, 0, 0) :: (210, d + 1, 0) :: (58, 0, 0) :: (210, d + 1, 0) :: (93, 0, 0) :: S, N ++ [(9, 0, 0, p)], r)
    else none
def bPart (b pb c p n : Int) : RSt → Option RSt
  | (S, N, nm, gv, pt) =>
    if isV c = true then some ((58, 0, 0) :: (200, 2, 0) :: (205, n + 1, 0) :: S, N, nm, gv, pt ++ [(0, c - 97, b + N.length, 1, p)])
    else if c = 35 ∨ isL c = true then bTerm b c p 2 ((205, n + 1, 0) :: S, N, nm, gv, pt ++ [(1, -1, b + N.length, 1, p)])
    else if c = 63 then some ((207, pb + pt.length, 0) :: (40, 0, 0) :: (200, 2, 0) :: (208, pb + pt.length, 0) :: (61, 0, 0) :: (200, 2, 0) :: (205, n + 1, 0) :: S, N, nm, gv, pt ++ [(2, -1, b + N.length, 1, p)])
    else none
def bPat (b c p : Int) : RSt → Option RSt
  | (S, N, r) =>
    if isL c = true then some ((215, b + N.length, 0) :: S, N ++ [(13, c - 65, 0, p)], r)
    else if c = 95 ∨ isD c = true then some (S, N ++ [(if c = 95 then 11 else 12, c - 48, 0, p)], r)
    else none
def tDecl (b pb what a q c p : Int) : RSt → Option RSt
  | (S, N, nm, gv, pt) =>
    if what = 200 then bTerm b c p (a + q) (S, N, nm, gv, pt)
    else if what = 201 then some ((200, q + 2, 0) :: (202, a, q) :: S, setC N (a - b).toNat (fun _ => 1), nm, gv, pt)
    else if what = 202 then
      (if c = 41 then some (S, N, nm, gv, pt)
      else if cntA N (a - b).toNat = 6 then none
      else bTerm b c p (q + 2) ((202, a, q) :: S, setC N (a - b).toNat (fun x => x + 1), nm, gv, pt))
    else if what = 203 then (if c = 62 then some ((206, 0, 0) :: S, N, nm, gv, pt) else bPart b pb c p 0 (S, N, nm, gv, pt))
    else if what = 204 then bPart b pb c p a (S, N, nm, gv, pt)
    else if what = 205 then (if c = 62 then some ((206, 0, 0) :: S, N, nm, gv, pt) else if c = 44 ∧ a < 6 then some ((204, a, 0) :: S, N, nm, gv, pt) else none)
    else if what = 206 then (if c = 42 then some (S, N, -2, gv, pt) else bTerm b c p 2 (S, N, b + N.length, gv, pt))
    else if what = 207 then (if isL c = true then some (S, N, nm, gv, setPN pt (a - pb).toNat (c - 65) p) else none)
    else (if c = 41 then some (S, N, nm, gv, pt)
      else if cntP pt (a - pb).toNat = 6 then none
      else bTerm b c p 2 ((208, a, 0) :: S, N, nm, gv, incP pt (a - pb).toNat))
where
  setPN (pt : List Pt5) (i : Nat) (l p : Int) : List Pt5 := match pt[i]? with
    | some e => pt.set i (e.1, l, e.2.2.1, e.2.2.2.1, p)
    | none => pt
  cntP (pt : List Pt5) (i : Nat) : Int := match pt[i]? with
    | some e => e.2.2.2.1
    | none => 0
  incP (pt : List Pt5) (i : Nat) : List Pt5 := match pt[i]? with
    | some e => pt.set i (e.1, e.2.1, e.2.2.1, e.2.2.2.1 + 1, e.2.2.2.2)
    | none => pt
def tCode (b what a q c p : Int) : RSt → Option RSt
  | (S, N, nm, gv, pt) =>
    if what = 209 then
      (if c = 61 ∧ 0 < a then some ((210, 1, 0) :: S, N, nm, gv, pt)
      else if isV c = true ∧ a ≠ 4 then some ((209, a + 1, 0) :: S, N, a + 1, gv ++ [c - 97], pt) else none)
    else if what = 210 then bCode b c p a (S, N, nm, gv, pt)
    else if what = 211 then some ((210, q + 1, 0) :: (212, a, q) :: S, setC N (a - b).toNat (fun _ => 1), nm, gv, pt)
    else if what = 212 then
      (if c = 41 then some (S, N, nm, gv, pt)
      else if cntA N (a - b).toNat = 6 then none
      else bCode b c p (q + 1) ((212, a, q) :: S, setC N (a - b).toNat (fun x => x + 1), nm, gv, pt))
    else if what = 213 then
      (if c = 125 then (if 0 < cntA N (a - b).toNat then some (S, N, nm, gv, pt) else none)
      else if c = 124 ∧ cntA N (a - b).toNat ≠ 5 then some ((214, 0, 0) :: (62, 0, 0) :: (210, q + 1, 0) :: (213, a, q) :: S, setC N (a - b).toNat (fun x => x + 1), nm, gv, pt) else none)
    else if what = 214 then bPat b c p (S, N, nm, gv, pt)
    else if what = 215 then some ((216, a, 0) :: S, N, nm, gv, pt)
    else if what = 216 then
      (if c = 41 then (if 0 < cntA N (a - b).toNat then some (S, N, nm, gv, pt) else none)
      else if isV c = true ∧ cntA N (a - b).toNat ≠ 6 then some ((216, a, 0) :: S, setC (N ++ [(14, c - 97, 0, p)]) (a - b).toNat (fun x => x + 1), nm, gv, pt) else none)
    else if what = 217 then (if c = 61 ∨ c = 60 then some (S, setV N (a - b).toNat c, nm, gv, pt) else none)
    else (if a = 6 then none else bTerm b c p 2 ((218, a + 1, 0) :: S, N, a + 1, gv, pt))
where
  setV (N : List Nd) (i : Nat) (v : Int) : List Nd := match N[i]? with
    | some e => N.set i (e.1, v, e.2.2.1, e.2.2.2)
    | none => N
/-- may the item be left out ahead of c? -/
def goesOn (what b c : Int) : Bool := (decide (what = 201) && (!decide (c = 40) || decide (b / 2 = 8))) || (decide (what = 211) && (!decide (c = 40) || decide (b = 12))) || (decide (what = 215) && !decide (c = 40))
def tk (b pb c p : Int) : List Itm → (List Nd × Int × List Int × List Pt5) → Option RSt
  | [], _ => none
  | (what, a, q) :: S, r =>
    if goesOn what q c = true then tk b pb c p S r
    else if what < 200 then (if c = what then some (S, r) else none)
    else if what < 209 then tDecl b pb what a q c p (S, r) else tCode b what a q c p (S, r)
def may (e : Itm) : Bool := decide (e.1 = 201) || decide (e.1 = 211) || decide (e.1 = 215) || (decide (e.1 = 218) && decide (0 < e.2.1))
/-- the machine's run over the rest of the text; none: the table of what is expected is full -/
def mrun (b pb : Int) : List Int → Int → RSt → Option (Int ⊕ (List Nd × Int × List Int × List Pt5))
  | [], p, st => if 380 < st.1.length then none else some (if st.1.all may = true then .inr st.2 else .inl p)
  | c :: s, p, st => if 380 < st.1.length then none else match tk b pb c p st.1 st.2 with
    | none => some (.inl p)
    | some st' => mrun b pb s (p + 1) st'
