/-! L1: the memory's picture of the heap; methods; the weakest precondition -/
def cellV (G : GM) (row : Int → Int) (cell : Cell) : Prop :=
  cell.vm ≠ .unknown ∧ cell.vm.isStatics = false ∧
  ((∃ (c : Nat) (r : KC), row (-1) = (c : Int) + 1 ∧ clsL[c]? = some r ∧ cell.cls = gC G c ∧ ∀ f : Nat, f < r.2.2.1 → cell.slots[gI G c f]? = some (cv G (tg (r.2.2.2.1 f), row f)) ∧ okT (r.2.2.2.1 f) (row f)) ∨
   (∃ (t : Nat) (ty : FieldType), row (-1) = 100 + (t : Int) ∧ arrT t = some ty ∧ (g0 G).isArrayOf cell ty ∧ (cell.slots.size : Int) = row (-2) ∧ row (-2) < 2147483648 ∧ ∀ i : Nat, i < cell.slots.size → cell.slots[i]? = some (cv G (tg ty, row i)) ∧ okT ty (row i)) ∨
   (∃ (j : Nat) (cf : ClassId) (kf : Class) (fi : Nat) (fd : Field), row (-1) = 50 + (j : Int) ∧ j < 3 ∧ cell.cls = gC G (50 + j) ∧ (g0 G).fieldFound? "java/lang/Enum" "ordinal" "I" = some (cf, kf, fi, fd) ∧ fd.isStatic = false ∧ cell.slots[fd.slot]? = some (.int (Int32.ofInt (row 0))) ∧ in32 (row 0)))
/-- enums: Act, Form, Sort -/
def enN (j : Nat) : String := match j with
  | 0 => "ConditionedProofs$Act"
  | 1 => "ConditionedProofs$Form"
  | _ => "ConditionedProofs$Sort"
/-- static fields that nobody writes: class, name, descriptor, what it holds -/
def stL : List (String × String × String × AV) := [
  ("ConditionedProofs$Act", "NAME", "LConditionedProofs$Act;", (1, -1)), ("ConditionedProofs$Act", "DIGIT", "LConditionedProofs$Act;", (1, -2)), ("ConditionedProofs$Act", "USE", "LConditionedProofs$Act;", (1, -3)),
  ("ConditionedProofs$Act", "SUM", "LConditionedProofs$Act;", (1, -4)), ("ConditionedProofs$Act", "DIFFERENCE", "LConditionedProofs$Act;", (1, -5)), ("ConditionedProofs$Act", "MATCH", "LConditionedProofs$Act;", (1, -6)),
  ("ConditionedProofs$Act", "EQUAL", "LConditionedProofs$Act;", (1, -7)), ("ConditionedProofs$Act", "LESS", "LConditionedProofs$Act;", (1, -8)), ("ConditionedProofs$Act", "FAIL", "LConditionedProofs$Act;", (1, -9)),
  ("ConditionedProofs$Form", "VARIABLE", "LConditionedProofs$Form;", (1, -10)), ("ConditionedProofs$Form", "LITERAL", "LConditionedProofs$Form;", (1, -11)), ("ConditionedProofs$Form", "BLANK", "LConditionedProofs$Form;", (1, -12)), ("ConditionedProofs$Form", "CONSTANT", "LConditionedProofs$Form;", (1, -13)),
  ("ConditionedProofs$Sort", "NUMBER", "LConditionedProofs$Sort;", (1, -14)), ("ConditionedProofs$Sort", "STAR", "LConditionedProofs$Sort;", (1, -15)), ("ConditionedProofs$Sort", "NUMBERS", "LConditionedProofs$Sort;", (1, -16)),
  ("ConditionedProofs$Sort", "RIGID", "LConditionedProofs$Sort;", (1, -17)), ("ConditionedProofs$Sort", "HOLE", "LConditionedProofs$Sort;", (1, -18)), ("ConditionedProofs$Sort", "MADE", "LConditionedProofs$Sort;", (1, -19)),
  ("java/util/ArrayList", "DEFAULTCAPACITY_EMPTY_ELEMENTDATA", "[Ljava/lang/Object;", (1, -20)), ("java/lang/Integer", "DigitTens", "[B", (1, -21)), ("java/lang/Integer", "DigitOnes", "[B", (1, -22)),
  ("java/lang/String", "COMPACT_STRINGS", "Z", (0, 1)), ("jdk/internal/util/Preconditions", "SIOOBE_FORMATTER", "Ljava/util/function/BiFunction;", (3, 0)), ("java/lang/Throwable", "UNASSIGNED_STACK", "[Ljava/lang/StackTraceElement;", (3, 1)), ("java/lang/Throwable", "SUPPRESSED_SENTINEL", "Ljava/util/List;", (3, 2))]
/-- pairs of classes of which the first can't be cast to the second -/
def noC : List (Nat × Nat) := [(14, 11), (20, 21), (21, 20)]
def cellN (G : GM) (row : Int → Int) (cell : Cell) : Prop :=
  cellV G row cell ∧ cell.vm = .none ∧ cell.monitor = {} ∧ (∀ t : Nat, row (-1) = 100 + (t : Int) → cell.cls = gA G t)
def LIMC : Nat := 1203200
def LIMS : Nat := 5491882
def sumS (H : Heap) (n : Nat) : Nat := ((H.toList.drop n).map (·.slots.size)).sum
/-- the memory h tells the heap H: h 0 0 is the next new cell, h 0 1 the slots in use, h x (-1) a cell's tag, h x (-2) an array's length -/
def Rel (G : GM) (h : SM) (H : Heap) : Prop :=
  (h 0 0 ≤ (LIMC : Int) + 1 ∧ h 0 1 ≤ (LIMS : Int)) ∧ gn G ≤ H.size ∧ h 0 0 = (H.size : Int) - gn G + 1 ∧ h 0 1 = (sumS H (gn G) : Int) ∧
  (∀ a, a < gn G → H[a]? = (g0 G).heap[a]?) ∧ (∀ x f, x < 0 → h x f = gK G x f) ∧ h 0 (-1) = 0 ∧ (∀ x, h 0 0 ≤ x → h x (-1) = 0) ∧
  ∀ x : Int, 0 < x → x < h 0 0 → ∃ cell, H[ad G x]? = some cell ∧ cellN G (h x) cell
/-- what holds of the law's start -/
def GX (G : GM) : Prop :=
  (∃ A : Array Value, ∀ w ∈ lw_tbl, w.before A (g0 G) = true) ∧
  (∀ (c : Nat) (r : KC), clsL[c]? = some r → u_Kn (g0 G) r.1 r.2.1 r.2.2.1 (gC G c) (gI G c)) ∧
  (∀ (t : Nat) (ty : FieldType), arrT t = some ty → ArrOfT (g0 G) (gA G t) ty ∧ va_RA (g0 G) (gA G t) ty) ∧
  (∀ i : Nat, 1 ≤ i → (i : Int) ≤ NC → gO G i < gn G) ∧
  (∀ i j : Nat, 1 ≤ i → (i : Int) ≤ NC → 1 ≤ j → (j : Int) ≤ NC → gO G i = gO G j → i = j) ∧
  (∀ x : Int, x < 0 → gK G x (-1) ≠ 0 → -NC ≤ x ∧ ∃ cell, (g0 G).heap[gO G (-x).toNat]? = some cell ∧ cellV G (gK G x) cell) ∧
  (∀ q ∈ noC, (g0 G).vm.assignable (gC G q.1) (gC G q.2) = false) ∧ (∀ j, j < 3 → (g0 G).vm.findClass (enN j) = some (gC G (50 + j))) ∧
  (∀ q ∈ stL, va_Z q.1 q.2.1 q.2.2.1 (cv G q.2.2.2) (fun a => gn G ≤ a) (g0 G) (g0 G).heap) ∧ vk_R "ConditionedProofs$Reader" 227 "" (gO G 23) (g0 G) ∧ va_Mi "[Ljava/lang/Object;" (gO G 26) (g0 G) ∧ ∀ e : Env, (gl G).admits e → e.platform.stackTraces = false
/-- a method: its name, its class's number, bytes, locals, answer, handlers, code -/
abbrev Mt : Type := MethodName × Nat × ByteArray × Nat × Option FieldType × List (Nat × Nat × Nat × Nat) × List (Nat × Instr × Nat)
def mtN (M : Mt) : MethodName := M.1
def mtO (M : Mt) : Nat := M.2.1
def mtB (M : Mt) : ByteArray := M.2.2.1
def mtL (M : Mt) : Nat := M.2.2.2.1
def mtR (M : Mt) : Option FieldType := M.2.2.2.2.1
def mtH (M : Mt) : List (Nat × Nat × Nat × Nat) := M.2.2.2.2.2.1
def mtI (M : Mt) : List (Nat × Instr × Nat) := M.2.2.2.2.2.2
/-- the printed code is what the bytes decode to -/
def mtOK (M : Mt) : Prop := ∀ e ∈ mtI M, decode (mtB M) e.1 = .ok (e.2.1, e.2.2)
/-- the walk of a method's body, of a method that was entered at the state s, with room for d calls inside one another -/
def Cx (G : GM) (M : Mt) (d : Nat) (p : Program) (R : Room) (s : State) (m : MethodId) (meth : Method) (c : Code) : Prop :=
  p.tables.exec = Jvm.exec ∧ c.code = mtB M ∧ c.maxLocals = mtL M ∧ meth.sig.returnType = mtR M ∧ meth.locks = false ∧ s.vm.findClass (mtN M).cls = some m.cls ∧ meth.name = (mtN M).name ∧
  c.exceptionTable.toList.map (fun h => (h.startPc, h.endPc, h.handlerPc, h.catchType)) = mtH M ∧
  (g0 G).WarmedH s.vm ∧ GX G ∧ mtOK M ∧ gn G ≤ s.heap.size ∧ d ≤ R.frames ∧ 64 * d ≤ R.locals ∧ R.cells + (s.heap.size - gn G) = LIMC ∧ R.slots + sumS s.heap (gn G) = LIMS
section CX
variable {G : GM} {M : Mt} {d : Nat} {p : Program} {R : Room} {s : State} {m : MethodId} {meth : Method} {c : Code}
theorem Cx.exec (C : Cx G M d p R s m meth c) : p.tables.exec = Jvm.exec := by
  obtain ⟨h, -, -, -, -, -, -, -, -, -, -, -, -, -, -, -⟩ := C
  exact h
theorem Cx.bytes (C : Cx G M d p R s m meth c) : c.code = mtB M := by
  obtain ⟨-, h, -, -, -, -, -, -, -, -, -, -, -, -, -, -⟩ := C
  exact h
theorem Cx.locals (C : Cx G M d p R s m meth c) : c.maxLocals = mtL M := by
  obtain ⟨-, -, h, -, -, -, -, -, -, -, -, -, -, -, -, -⟩ := C
  exact h
theorem Cx.ret (C : Cx G M d p R s m meth c) : meth.sig.returnType = mtR M := by
  obtain ⟨-, -, -, h, -, -, -, -, -, -, -, -, -, -, -, -⟩ := C
  exact h
theorem Cx.locks (C : Cx G M d p R s m meth c) : meth.locks = false := by
  obtain ⟨-, -, -, -, h, -, -, -, -, -, -, -, -, -, -, -⟩ := C
  exact h
theorem Cx.own (C : Cx G M d p R s m meth c) : s.vm.findClass (mtN M).cls = some m.cls := by
  obtain ⟨-, -, -, -, -, h, -, -, -, -, -, -, -, -, -, -⟩ := C
  exact h
theorem Cx.name (C : Cx G M d p R s m meth c) : meth.name = (mtN M).name := by
  obtain ⟨-, -, -, -, -, -, h, -, -, -, -, -, -, -, -, -⟩ := C
  exact h
theorem Cx.table (C : Cx G M d p R s m meth c) : c.exceptionTable.toList.map (fun h => (h.startPc, h.endPc, h.handlerPc, h.catchType)) = mtH M := by
  obtain ⟨-, -, -, -, -, -, -, h, -, -, -, -, -, -, -, -⟩ := C
  exact h
theorem Cx.warm (C : Cx G M d p R s m meth c) : (g0 G).WarmedH s.vm := by
  obtain ⟨-, -, -, -, -, -, -, -, h, -, -, -, -, -, -, -⟩ := C
  exact h
theorem Cx.gx (C : Cx G M d p R s m meth c) : GX G := by
  obtain ⟨-, -, -, -, -, -, -, -, -, h, -, -, -, -, -, -⟩ := C
  exact h
theorem Cx.ok (C : Cx G M d p R s m meth c) : mtOK M := by
  obtain ⟨-, -, -, -, -, -, -, -, -, -, h, -, -, -, -, -⟩ := C
  exact h
theorem Cx.old (C : Cx G M d p R s m meth c) : gn G ≤ s.heap.size := by
  obtain ⟨-, -, -, -, -, -, -, -, -, -, -, h, -, -, -, -⟩ := C
  exact h
theorem Cx.frames (C : Cx G M d p R s m meth c) : d ≤ R.frames := by
  obtain ⟨-, -, -, -, -, -, -, -, -, -, -, -, h, -, -, -⟩ := C
  exact h
theorem Cx.words (C : Cx G M d p R s m meth c) : 64 * d ≤ R.locals := by
  obtain ⟨-, -, -, -, -, -, -, -, -, -, -, -, -, h, -, -⟩ := C
  exact h
theorem Cx.cells (C : Cx G M d p R s m meth c) : R.cells + (s.heap.size - gn G) = LIMC := by
  obtain ⟨-, -, -, -, -, -, -, -, -, -, -, -, -, -, h, -⟩ := C
  exact h
theorem Cx.slots (C : Cx G M d p R s m meth c) : R.slots + sumS s.heap (gn G) = LIMS := by
  obtain ⟨-, -, -, -, -, -, -, -, -, -, -, -, -, -, -, h⟩ := C
  exact h
end CX
/-- locals as the frame has them -/
def Lok (G : GM) (n : Nat) (ls : List AV) (la : Array Slot) : Prop :=
  la.size = n ∧ lv_wf la ∧ ls.length ≤ n ∧ ∀ (i : Nat) (v : AV), ls[i]? = some v → v.1 ≠ 9 → la[i]? = some (.val (cv G v)) ∧ okv v
def Sok (st : List AV) : Prop := ∀ v ∈ st, v.1 ≠ 9 ∧ okv v
/-- how a method may end: (0, answer) or (1, what is thrown) -/
def oc (G : GM) (r : Option FieldType) (k : Nat) (v : Int) : Outcome := match k with
  | 0 => .returned (r.map fun ty => cv G (tg ty, v))
  | _ => .threw (ad G v)
def okR (r : Option FieldType) (k : Nat) (v : Int) : Prop := match k with
  | 0 => ∀ ty, r = some ty → okT ty v
  | _ => 0 < v
def QP (G : GM) (r : Option FieldType) (P : Nat → Int → SM → Prop) (s : State) (below : List Frame) : State → Prop := fun t =>
  ∃ (k : Nat) (v : Int) (h' : SM) (L : List Loc), t.status = .running ∧ Ended t below (oc G r k v) ∧ okR r k v ∧ P k v h' ∧ Rel G h' t.heap ∧ s.WarmedH t.vm ∧
    (∀ q ∈ L, gn G ≤ q.base) ∧ s.sameButNew ({ t with vm := s.vm } : State) L (t.heap.size - s.heap.size) (sumS t.heap (gn G) - sumS s.heap (gn G))
def WP (G : GM) (M : Mt) (pc : Nat) (ls st : List AV) (h : SM) (d : Nat) (P : Nat → Int → SM → Prop) : Prop :=
  ∀ (p : Program) (e : Env) (R : Room) (s : State) (m : MethodId) (args : Array Value) (below : List Frame) (meth : Method) (c : Code) (H : Heap) (locs : List Loc) (la : Array Slot),
    Cx G M d p R s m meth c → Rel G h H → s.heap.size ≤ H.size → sumS s.heap (gn G) ≤ sumS H (gn G) → (∀ q ∈ locs, gn G ≤ q.base) → Lok G (mtL M) ls la → Sok st →
    W p (gl G) e R s m args below meth c H locs (H.size - s.heap.size) (sumS H (gn G) - sumS s.heap (gn G)) (QP G (mtR M) P s below) (F0 m pc la (st.map (cv G)))
theorem WP.mono {G : GM} {M : Mt} {pc : Nat} {ls st : List AV} {h : SM} {d : Nat} {P P' : Nat → Int → SM → Prop} (w : WP G M pc ls st h d P) (hP : ∀ k v h', P k v h' → P' k v h') : WP G M pc ls st h d P' := by
  intro p e R s m args below meth c H locs la C hR h1 h2 h3 h4 h5 T hT X
  obtain ⟨t, st, k, v, h', L, q1, q2, q3, q4, q5⟩ := w p e R s m args below meth c H locs la C hR h1 h2 h3 h4 h5 T hT X
  exact ⟨t, st, k, v, h', L, q1, q2, q3, hP _ _ _ q4, q5⟩
