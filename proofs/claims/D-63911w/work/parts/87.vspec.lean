/-! L3: the spec's values, runs and types -/
/-- a value: 2 a number, 3 #, 4 a hole (which one), 5 a constant's letter and what is below it, 6 a rigid one, 7 * -/
abbrev Tr : Type := Lb × TF
abbrev Dl : Type := List (Int × Tr)
abbrev Env : Type := List (Int × Tr)
/-- what a letter stands for: a constant (parts, result: none is *), a program (variables, code) -/
abbrev Mg : Type := Option ((List Pa × Option Tr) ⊕ (TF × Tr))
def nzF : TF → Nat
  | .leaf => 0
  | .inner _ _ _ c s => 1 + nzF c + nzF s
def nzT (t : Tr) : Nat := 1 + nzF t.2
def occF (k : Int) : TF → Bool
  | .leaf => false
  | .inner _ a _ c s => (decide (a.1 = 4) && decide (a.2.1 = k)) || occF k c || occF k s
def occT (k : Int) (t : Tr) : Bool := (decide (t.1.1 = 4) && decide (t.1.2.1 = k)) || occF k t.2
def subN (k : Int) (o : Tr) (a : Lb) (c : TF) : Tr := if a.1 = 4 ∧ a.2.1 = k then o else (a, c)
/-- a hole gets its value -/
def subF (k : Int) (o : Tr) : TF → TF
  | .leaf => nil
  | .inner _ a _ c s => cons (subN k o a (subF k o c)).1 (subN k o a (subF k o c)).2 (subF k o s)
def subT (k : Int) (o : Tr) (t : Tr) : Tr := subN k o t.1 (subF k o t.2)
def rsl (δ : Dl) (t : Tr) : Tr := δ.foldl (fun t e => subT e.1 e.2 t) t
def resE (δ : Dl) (e : Env) : Env := e.map (fun p => (p.1, rsl δ p.2))
def kids : TF → List Tr
  | .leaf => []
  | .inner _ a _ c s => (a, c) :: kids s
def ofV : List Tr → TF
  | [] => nil
  | x :: l => cons x.1 x.2 (ofV l)
def getE : Env → Int → Option Tr
  | [], _ => none
  | (n, t) :: e, k => if n = k then some t else getE e k
def starT : Tr := ((7, 0, 0), nil)
/-- a term's value: e names, h the places of holes -/
def valN (e h : Env) (a : Lb) (c : TF) : Tr := if a.1 = 1 then (getE e a.2.1).getD starT else if a.1 = 4 then (getE h a.2.2).getD starT else ((a.1, a.2.1, 0), c)
def valF (e h : Env) : TF → TF
  | .leaf => nil
  | .inner _ a _ c s => cons (valN e h a (valF e h c)).1 (valN e h a (valF e h c)).2 (valF e h s)
def valT (e h : Env) (t : Tr) : Tr := valN e h t.1 (valF e h t.2)
/-- every name and hole in it has a value -/
def scN (e h : Env) (a : Lb) : Bool := if a.1 = 1 then (getE e a.2.1).isSome else if a.1 = 4 then (getE h a.2.2).isSome else true
def scF (e h : Env) : TF → Bool
  | .leaf => true
  | .inner _ a _ c s => scN e h a && scF e h c && scF e h s
def scT (e h : Env) (t : Tr) : Bool := scN e h t.1 && scF e h t.2
/-! two values made the same, or compared -/
def zipF : TF → TF → List (Tr × Tr)
  | .inner _ a _ c s, .inner _ b _ e r => ((a, c), (b, e)) :: zipF s r
  | _, _ => []
def lvl (a b : Tr) : Bool := decide (a.1.1 = b.1.1) && decide (a.1.2.1 = b.1.2.1) && decide (lenF a.2 = lenF b.2)
def uni : Nat → List (Tr × Tr) → Option Dl
  | _, [] => some []
  | 0, _ :: _ => none
  | f + 1, (a, b) :: r =>
    if a.1.1 = 4 then
      (if b.1.1 = 4 ∧ b.1.2.1 = a.1.2.1 then uni f r
      else if nzT b ≤ 200 ∧ occT a.1.2.1 b = false then (uni f (r.map (fun p => (subT a.1.2.1 b p.1, subT a.1.2.1 b p.2)))).map ((a.1.2.1, b) :: ·)
      else none)
    else if b.1.1 = 4 then
      (if nzT a ≤ 200 ∧ occT b.1.2.1 a = false then (uni f (r.map (fun p => (subT b.1.2.1 a p.1, subT b.1.2.1 a p.2)))).map ((b.1.2.1, a) :: ·)
      else none)
    else if lvl a b = true then uni f (zipF a.2 b.2 ++ r)
    else none
def cmp : Nat → List (Tr × Tr) → Int
  | _, [] => 1
  | 0, _ :: _ => -1
  | f + 1, (a, b) :: r => if a.1.1 = 4 ∨ b.1.1 = 4 then -1 else if lvl a b = true then cmp f (zipF a.2 b.2 ++ r) else 0
/-! runs -/
/-- names are bound, the later ones ahead -/
def cBind : TF → List Tr → Env → Env
  | .inner _ a _ _ s, v :: l, e => cBind s l ((a.2.1, v) :: e)
  | _, _, e => e
def fitC (p : Lb) (v : Tr) : Bool := decide (p.1 = 11) || (decide (p.1 = 12) && decide (v.1.1 = 2) && decide (v.1.2.1 = p.2.1)) || (decide (p.1 = 13) && decide (v.1.1 = 5) && decide (v.1.2.1 = p.2.1))
def caseS : TF → Tr → Option (TF × Tr)
  | .inner _ p _ pc (.inner _ a _ c s), v => if fitC p v = true then some (pc, (a, c)) else caseS s v
  | _, _ => none
def argS (stp : Tr → Nat → Nat × Option Tr) : TF → Nat → Nat × Option (List Tr)
  | .leaf, o => (o, some [])
  | .inner _ a _ c s, o => match stp (a, c) o with
    | (o1, none) => (o1, none)
    | (o1, some v) => match argS stp s o1 with
      | (o2, none) => (o2, none)
      | (o2, some l) => (o2, some (v :: l))
/-- what a sum, a difference or a choice does with its two values: a value, a code to go on with (0 or 1), or nothing -/
def reckS (a : Lb) (x y : Tr) : Option (Tr ⊕ Bool) :=
  if a.1 = 9 ∧ a.2.1 = 61 then (if cmp 1000 [(x, y)] < 0 then none else some (.inr (decide (cmp 1000 [(x, y)] = 1))))
  else if x.1.1 = 2 ∧ y.1.1 = 2 then
    (if a.1 = 6 then some (.inl ((2, wr (x.1.2.1 + y.1.2.1), 0), nil))
    else if a.1 = 7 then some (.inl ((2, wr (x.1.2.1 - y.1.2.1), 0), nil))
    else some (.inr (decide (x.1.2.1 < y.1.2.1))))
  else none
/-- a code's run: how many steps there were, and what it gives -/
def stepS (G : Int → Mg) : Nat → Tr → Env → Nat → Nat × Option Tr
  | 0, _, _, o => (o, none)
  | d + 1, (a, c), e, o =>
    if 100 ≤ o then (o, none)
    else if a.1 = 1 then (o + 1, getE e a.2.1)
    else if a.1 = 2 then (o + 1, some ((2, a.2.1, 0), nil))
    else if a.1 = 5 then
      (match argS (fun t o => stepS G d t e o) c (o + 1) with
      | (o1, none) => (o1, none)
      | (o1, some l) => match G a.2.1 with
        | some (.inr (ns, b)) => stepS G d b (cBind ns l []) o1
        | _ => if nzT ((5, a.2.1, 0), ofV l) ≤ 200 then (o1, some ((5, a.2.1, 0), ofV l)) else (o1, none))
    else if a.1 = 8 then
      (match c with
      | .leaf => (o + 1, none)
      | .inner _ a1 _ c1 s => match stepS G d (a1, c1) e (o + 1) with
        | (o1, none) => (o1, none)
        | (o1, some v) => if v.1.1 = 4 then (o1, none) else match caseS s v with
          | none => (o1, none)
          | some (ns, cd) => stepS G d cd (cBind ns (kids v.2) e) o1)
    else if a.1 = 6 ∨ a.1 = 7 ∨ a.1 = 9 then
      (match c with
      | .inner _ a1 _ c1 (.inner _ a2 _ c2 s) => match stepS G d (a1, c1) e (o + 1) with
        | (o1, none) => (o1, none)
        | (o1, some x) => match stepS G d (a2, c2) e o1 with
          | (o2, none) => (o2, none)
          | (o2, some y) => match reckS a x y with
            | none => (o2, none)
            | some (.inl v) => (o2, some v)
            | some (.inr yes) => match s with
              | .inner _ a3 _ c3 (.inner _ a4 _ c4 _) => if yes = true then stepS G d (a3, c3) e o2 else stepS G d (a4, c4) e o2
              | _ => (o2, none)
      | _ => (o + 1, none))
    else (o + 1, none)
/-! types. State: the holes' values by place; how many holes and rigid ones were made; fillings; the twin's values; the component's; steps in all -/
abbrev TSt : Type := Env × Nat × Nat × Nat × Nat × Nat
abbrev TyR : Type := Option (TSt × (Int ⊕ (Option Tr × Dl)))
def chg (x y : Nat) : TSt → Option TSt
  | (h, i, f, w, u, n) => if w + x ≤ 5900 ∧ u + y ≤ 16000 then some (h, i, f, w + x, u + y, n) else none
def fil (δ : Dl) : TSt → TSt
  | (h, i, f, w, u, n) => (resE δ h, i, f + δ.length, w, u, n)
/-- what was taken since st0 is given back if no hole was made or filled -/
def bak (st0 : TSt) : TSt → TSt
  | (h, i, f, w, u, n) => (h, i, f, if f = st0.2.2.1 then st0.2.2.2.1 else w, u, n)
def stp (o : Nat) : TSt → TSt
  | (h, i, f, w, u, n) => (h, i, f, w, u, n + o)
def hol (p : Int) : TSt → TSt
  | (h, i, f, w, u, n) => ((p, ((4, (i : Int), 0), nil)) :: h, i + 1, f + 1, w, u, n)
def isCo (p : Pa) : Bool := decide (p.1 = 2)
def nPr (ps : List Pa) : Nat := (ps.filter (fun p => !isCo p)).length
/-- a condition: none: beyond the tables -/
def meetS (G : Int → Mg) (p : Pa) (e : Env) (st : TSt) : Option (TSt × Option Dl) :=
  match G p.2.1 with
  | some (.inr (ns, b)) => match chg (nzF p.2.2.2 + 101) (nzF p.2.2.2 + 101) st with
    | none => none
    | some st1 => if scF e [] p.2.2.2 = true ∧ lenF p.2.2.2 = lenF ns + 1 then
        (match stepS G 30 b (cBind ns ((kids p.2.2.2).dropLast.map (valT e [])) []) 0 with
        | (o, none) => some (stp o st1, none)
        | (o, some v) => match uni 1000 [(v, valT e [] ((kids p.2.2.2).getLastD starT))] with
          | none => some (stp o st1, none)
          | some δ => some (bak st (fil δ (stp o st1)), some δ))
      else none
  | _ => none
def fstT (f : TF) : Tr := (kids f).headD starT
def partsS (G : Int → Mg) (ty : Tr → TSt → TyR) (e0 : Env) (pl : Int) (rs : Option Tr) : List Pa → TF → Env → Dl → TSt → TyR
  | [], _, e, δ, st => (match rs with
    | none => some (st, .inr (none, δ))
    | some r => match chg (nzT r) (nzT r) st with
      | none => none
      | some st1 => if scT e [] r = true then some (st1, .inr (some (valT e [] r), δ)) else none)
  | p :: ps, args, e, δ, st =>
    if p.1 = 2 then
      (match meetS G p e st with
      | none => none
      | some (st1, none) => some (st1, .inl pl)
      | some (st1, some δ1) => partsS G ty e0 pl rs ps args (resE δ1 e) (δ ++ δ1) st1)
    else match args with
      | .leaf => none
      | .inner _ a _ c s => match chg 0 (nzT (fstT p.2.2.2)) st with
        | none => none
        | some st1 => if scT e [] (fstT p.2.2.2) = false then none
          else if a.1 = 4 then
            (match chg 1 1 st1 with
            | none => none
            | some st2 => partsS G ty e0 pl rs ps s (if p.1 = 0 then (p.2.1, ((4, (st2.2.1 : Int), 0), nil)) :: e else e) δ (hol a.2.2 st2))
          else match ty (a, c) st1 with
            | none => none
            | some (st2, .inl q) => some (st2, .inl q)
            | some (st2, .inr (none, _)) => some (st2, .inl a.2.2)
            | some (st2, .inr (some t, δ1)) => match chg (nzT (fstT p.2.2.2)) 0 st2 with
              | none => none
              | some st3 => match uni 1000 [(t, valT (resE δ1 e) [] (fstT p.2.2.2))] with
                | none => some (st3, .inl a.2.2)
                | some δ2 => match (if p.1 = 0 then chg (nzT (a, c)) (nzT (a, c)) (if a.1 = 5 then bak st1 (fil δ2 st3) else fil δ2 st3) else some (if a.1 = 5 then bak st1 (fil δ2 st3) else fil δ2 st3)) with
                  | none => none
                  | some st4 => if p.1 = 0 ∧ scT e0 st4.1 (a, c) = false then none else partsS G ty e0 pl rs ps s (if p.1 = 0 then (p.2.1, valT e0 st4.1 (a, c)) :: resE δ2 (resE δ1 e) else resE δ2 (resE δ1 e)) (δ ++ (δ1 ++ δ2)) st4
/-- the type of a term: a fault's place, or the type (none: *) and what was filled -/
def typeS (G : Int → Mg) (dc : Bool) (e0 et : Env) : Nat → Tr → TSt → TyR
  | 0, _, _ => none
  | n + 1, (a, c), st =>
    if a.1 = 2 then (match chg 1 0 st with
      | none => none
      | some st1 => some (st1, .inr (some ((3, 0, 0), nil), [])))
    else if a.1 = 3 then some (st, .inr (none, []))
    else if a.1 = 1 then (match getE et a.2.1 with
      | none => some (st, .inl a.2.2)
      | some t => some (st, .inr (some t, [])))
    else if a.1 = 5 then (match G a.2.1 with
      | some (.inl (ps, rs)) => if nPr ps = lenF c ∧ ¬ (dc = true ∧ ps.any isCo = true) then partsS G (typeS G dc e0 et n) e0 a.2.2 rs ps c [] [] st else some (st, .inl a.2.2)
      | _ => some (st, .inl a.2.2))
    else some (st, .inl a.2.2)
