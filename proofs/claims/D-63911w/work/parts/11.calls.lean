/-! L1: calls, returns, exceptions -/
theorem Steps.outer {tb : Tables} {e : Env} {g : JFrame} {below : List Frame} {s t : State} (h : Steps tb e (.java g :: below) s t) : Steps tb e below s t := by
  obtain ⟨n, h1, h2⟩ := h
  refine ⟨n, h1, fun k hk => ?_⟩
  obtain ⟨ab, e1, e2, -⟩ := h2 k hk
  refine ⟨ab ++ [.java g], by rw [e1]; simp, by simp, fun a he => ?_⟩
  have := congrArg List.length he
  cases ab with
  | nil => exact e2 rfl
  | cons x xs => simp at this
/-- arguments as locals -/
def ent : List AV → List AV
  | [] => []
  | v :: vs => if v.1 = 2 then v :: (9, 0) :: ent vs else v :: ent vs
def entL (as : List AV) (n : Nat) : List AV := ent as ++ List.replicate (n - (ent as).length) (9, 0)
theorem ent_len (G : GM) (as : List AV) : (lg_sl (as.map (cv G))).length = (ent as).length := by
  induction as with
  | nil => rfl
  | cons v vs ih =>
    unfold lg_sl at ih ⊢
    rw [List.map_cons, List.flatMap_cons, List.length_append, ih, cat_cv]
    show _ = (if v.1 = 2 then v :: (9, 0) :: ent vs else v :: ent vs).length
    by_cases h : v.1 = 2
    · simp [h]; omega
    · simp [h]; omega
theorem ent_args (G : GM) {as : List AV} : ∀ {i j : Nat} {v : AV}, (ent as)[j]? = some v → v.1 ≠ 9 → (i + j, cv G v) ∈ lv_args i (as.map (cv G)) ∧ v ∈ as := by
  induction as with
  | nil => intro i j v h; simp [ent] at h
  | cons w ws ih =>
    intro i j v h h9
    unfold ent at h
    rw [List.map_cons]
    unfold lv_args
    rw [cat_cv]
    by_cases hw : w.1 = 2
    · rw [if_pos hw] at h
      rw [if_pos hw, if_pos rfl]
      match j, h with
      | 0, h => cases h; exact ⟨List.mem_cons_self .., List.mem_cons_self ..⟩
      | 1, h => cases h; exact absurd rfl h9
      | j + 2, h =>
        obtain ⟨a, b⟩ := ih (i := i + 2) (j := j) h h9
        rw [show i + (j + 2) = i + 2 + j by omega]
        exact ⟨List.mem_cons_of_mem _ a, List.mem_cons_of_mem _ b⟩
    · rw [if_neg hw] at h
      rw [if_neg hw, if_neg (by decide)]
      match j, h with
      | 0, h => cases h; exact ⟨List.mem_cons_self .., List.mem_cons_self ..⟩
      | j + 1, h =>
        obtain ⟨a, b⟩ := ih (i := i + 1) (j := j) h h9
        rw [show i + (j + 1) = i + 1 + j by omega]
        exact ⟨List.mem_cons_of_mem _ a, List.mem_cons_of_mem _ b⟩
theorem Lok.entry (G : GM) {as : List AV} {n : Nat} (hl : (ent as).length ≤ n) (has : ∀ v ∈ as, v.1 ≠ 9 ∧ okv v) :
    Lok G n (entL as n) ((lg_sl (as.map (cv G)) ++ List.replicate (n - (lg_sl (as.map (cv G))).length) Slot.unset).toArray) := by
  have h := lv_entry (as.map (cv G)) (n := n) (by rw [ent_len]; exact hl)
  refine ⟨h.1, h.2.1, by unfold entL; rw [List.length_append, List.length_replicate]; omega, fun i v hv h9 => ?_⟩
  unfold entL at hv
  by_cases hi : i < (ent as).length
  · rw [List.getElem?_append_left hi] at hv
    obtain ⟨a, b⟩ := ent_args G (i := 0) hv h9
    rw [Nat.zero_add] at a
    exact ⟨h.2.2 _ a, (has v b).2⟩
  · rw [List.getElem?_append_right (by omega), List.getElem?_replicate] at hv
    split at hv
    · cases hv; exact absurd rfl h9
    · cases hv
/-- what is asked of a method that is called -/
def mtG (M : Mt) : Prop := ((mtH M = [] ∧ Cond.code (mtN M) (mtB M) (mtL M) (mtR M) ∈ lw_all) ∨ Cond.codeWith (mtN M) (mtB M) (mtL M) (mtR M) (mtH M) ∈ lw_all) ∧ mtOK M ∧ plainName (mtN M).cls = true ∧
  ((mtN M).cls ≠ "java/lang/invoke/MethodHandle" ∧ (mtN M).cls ≠ "java/lang/invoke/VarHandle") ∧ Cond.initialized (mtN M).cls ∈ lw_all
theorem mtG.at {G : GM} {M M' : Mt} {d : Nat} {p : Program} {R : Room} {s : State} {m : MethodId} {meth : Method} {c : Code} (hM : mtG M') (C : Cx G M d p R s m meth c) :
    ∃ mk methk ck, s.methodNamed? (mtN M') = some mk ∧ s.vm.method? mk = some methk ∧ methk.code = some ck ∧ ck.code = mtB M' ∧ ck.maxLocals = mtL M' ∧
      ck.exceptionTable.toList.map (fun h => (h.startPc, h.endPc, h.handlerPc, h.catchType)) = mtH M' ∧ methk.sig.returnType = mtR M' ∧ methk.locks = false ∧ parseMethodDescriptor (mtN M').desc = some methk.sig ∧ methk.name = (mtN M').name := by
  rcases hM.1 with ⟨h0, hw⟩ | hw
  · have hw := C.word (args := #[]) hw
    obtain ⟨mk, hn⟩ := Cond.code_named hw
    obtain ⟨methk, ck, h1, h2, h3, h4, h5, h6, h7, h8⟩ := Cond.code_spec hn hw
    refine ⟨mk, methk, ck, hn, h1, h2, h3, h4, ?_, h5, h6, h8, (name_of_methodNamed hn h1).1⟩
    have : ck.exceptionTable.toList = [] := by
      rw [Array.isEmpty_iff] at h7
      rw [h7]
    rw [this, h0]; rfl
  · have hw := C.word (args := #[]) hw
    obtain ⟨mk, methk, ck, hn, h1, h2, h3, h4, h5, h6, h7, h8⟩ := Cond.codeWith_spec hw
    exact ⟨mk, methk, ck, hn, h1, h2, h3, h4, h5, h6, h7, h8, (name_of_methodNamed hn h1).1⟩
section RT
variable {G : GM} {M : Mt} {d : Nat} {p : Program} {e : Env} {R : Room} {s : State} {m : MethodId} {args : Array Value} {below : List Frame} {meth : Method} {c : Code} {H : Heap} {locs : List Loc} {la : Array Slot} {pc : Nat} {h : SM} {P : Nat → Int → SM → Prop}
/-- the end of a method, out of what the library says of leaving -/
theorem qp_end {t : State} {k : Nat} {v : Int} (hR : Rel G h t.heap) (h1 : s.heap.size ≤ t.heap.size) (h3 : ∀ q ∈ locs, gn G ≤ q.base) (hP : P k v h) (ho : okR (mtR M) k v) (hrun : t.status = .running) (hend : Ended t below (oc G (mtR M) k v)) (hW : s.WarmedH t.vm)
    (hf : s.sameButNew ({ t with vm := s.vm } : State) locs (t.heap.size - s.heap.size) (sumS t.heap (gn G) - sumS s.heap (gn G))) : QP G (mtR M) P s below t :=
  ⟨k, v, h, locs, hrun, hend, ho, hP, hR, hW, h3, hf⟩
end RT
section RR
variable {G : GM} {M : Mt} {d pc : Nat} {ls st : List AV} {h : SM} {P : Nat → Int → SM → Prop}
theorem s_vret (hm : (pc, .return_, 1) ∈ mtI M) (hr : mtR M = none) (w : P 0 0 h) : WP G M pc ls [] h d P := by
  intro p e R s m args below meth c H locs la C hR h1 h2 h3 h4 h5 T hT X
  have hlocks : meth.locks = false := C.locks
  have hdg := C.ok (pc, .return_, 1) hm
  have hx := C.exec
  have hb := C.bytes
  have hret0 : meth.sig.returnType = none := by rw [C.ret, hr]
  obtain ⟨fs, hret, hrun, hended, hW, hframe⟩ := X.leave (v := none) (fun _ => rfl)
  have hmeth' : T.vm.method? m = some meth := X.method'
  refine ⟨T.setFrames fs, ?_, qp_end (M := M) (k := 0) (v := 0) (by show Rel G h T.heap; rw [hT]; exact hR) (by show s.heap.size ≤ T.heap.size; rw [hT]; exact h1) h3 w (by intro ty hty; rw [hr] at hty; cases hty) hrun (by rw [hr]; exact hended) hW (by show State.sameButNew _ _ _ (T.heap.size - _) (sumS T.heap _ - _); rw [hT]; exact hframe)⟩
  jvm_step X.here [X.here.top, hx, hb, hdg, hmeth', hret0]
  (try refine ⟨rfl, ?_⟩); (try refine ⟨rfl, ?_⟩)
  first | (intro acts; rw [hret _ acts rfl rfl rfl]) | rw [hret _ _ rfl rfl rfl]
  exact Steps.refl _
theorem s_iret {x : Int} {ty : FieldType} (hm : (pc, .ireturn, 1) ∈ mtI M) (hr : mtR M = some ty) (ht : tg ty = 0) (hn : okN ty x) (w : P 0 x h) : WP G M pc ls [(0, x)] h d P := by
  intro p e R s m args below meth c H locs la C hR h1 h2 h3 h4 h5 T hT X
  have hlocks : meth.locks = false := C.locks
  have hdg := C.ok (pc, .ireturn, 1) hm
  have hx := C.exec
  have hb := C.bytes
  have hret0 : meth.sig.returnType = some ty := by rw [C.ret, hr]
  have hoT : okT ty x := okT_N (by rw [ht]; exact h5.hd) hn
  have hcv : cv G (tg ty, x) = .int (Int32.ofInt x) := by rw [ht]; rfl
  have hnar := narrow_of G hoT
  rw [hcv] at hnar
  obtain ⟨fs, hret, hrun, hended, hW, hframe⟩ := X.leave (v := some (.int (Int32.ofInt x))) (fun h => by rw [hret0] at h; cases h)
  have hmeth' : T.vm.method? m = some meth := X.method'
  refine ⟨T.setFrames fs, ?_, qp_end (M := M) (k := 0) (v := x) (by show Rel G h T.heap; rw [hT]; exact hR) (by show s.heap.size ≤ T.heap.size; rw [hT]; exact h1) h3 w (by intro ty' hty; rw [hr] at hty; cases hty; exact hoT) hrun (by rw [hr]; show Ended _ _ (.returned (some (cv G (tg ty, x)))); rw [hcv]; exact hended) hW (by show State.sameButNew _ _ _ (T.heap.size - _) (sumS T.heap _ - _); rw [hT]; exact hframe)⟩
  show Steps p.tables e below (T.setTop (F0 m pc la [.int (Int32.ofInt x)])) _
  jvm_step X.here [X.here.top, hx, hb, hdg, hmeth', hret0, hnar]
  (try refine ⟨rfl, ?_⟩); (try refine ⟨rfl, ?_⟩)
  first | (intro acts; rw [hret _ acts rfl rfl rfl]) | rw [hret _ _ rfl rfl rfl]
  exact Steps.refl _
theorem s_aret {x : Int} {ty : FieldType} (hm : (pc, .areturn, 1) ∈ mtI M) (hr : mtR M = some ty) (ht : tg ty = 1) (w : P 0 x h) : WP G M pc ls [(1, x)] h d P := by
  intro p e R s m args below meth c H locs la C hR h1 h2 h3 h4 h5 T hT X
  have hlocks : meth.locks = false := C.locks
  have hdg := C.ok (pc, .areturn, 1) hm
  have hx := C.exec
  have hb := C.bytes
  have hret0 : meth.sig.returnType = some ty := by rw [C.ret, hr]
  have hrt : (∃ n, ty = .object n) ∨ ∃ t, ty = .array t := by
    cases ty <;> simp [tg] at ht
    · exact Or.inl ⟨_, rfl⟩
    · exact Or.inr ⟨_, rfl⟩
  have hoT : okT ty x := okT_N (by rw [ht]; exact h5.hd) (by rcases hrt with ⟨n, rfl⟩ | ⟨t, rfl⟩ <;> trivial)
  have hcv : cv G (tg ty, x) = rf G x := by rw [ht]; rfl
  have hv : rf G x = .null ∨ ∃ a, rf G x = .ref a := by unfold rf; split; exact Or.inl rfl; exact Or.inr ⟨_, rfl⟩
  obtain ⟨fs, hret, hrun, hended, hW, hframe⟩ := X.leave (v := some (rf G x)) (fun h => by rw [hret0] at h; cases h)
  have hmeth' : T.vm.method? m = some meth := X.method'
  refine ⟨T.setFrames fs, ?_, qp_end (M := M) (k := 0) (v := x) (by show Rel G h T.heap; rw [hT]; exact hR) (by show s.heap.size ≤ T.heap.size; rw [hT]; exact h1) h3 w (by intro ty' hty; rw [hr] at hty; cases hty; exact hoT) hrun (by rw [hr]; show Ended _ _ (.returned (some (cv G (tg ty, x)))); rw [hcv]; exact hended) hW (by show State.sameButNew _ _ _ (T.heap.size - _) (sumS T.heap _ - _); rw [hT]; exact hframe)⟩
  show Steps p.tables e below (T.setTop (F0 m pc la [rf G x])) _
  generalize rf G x = vv at hv hret hended
  rcases hrt with ⟨n, rfl⟩ | ⟨t, rfl⟩ <;> rcases hv with rfl | ⟨a, rfl⟩ <;>
    (jvm_step X.here [X.here.top, hx, hb, hdg, hmeth', hret0]
     (try refine ⟨rfl, ?_⟩); (try refine ⟨rfl, ?_⟩)
     first | (intro acts; rw [hret _ acts rfl rfl rfl]) | rw [hret _ _ rfl rfl rfl]
     exact Steps.refl _)
end RR
/-! exceptions: the search in a method's own table -/
/-- an exception class's site -/
def XOK (own : String) (idx c : Nat) : Prop := ∃ r : KC, clsL[c]? = some r ∧ Cond.classLink own idx r.1 ∈ lw_all ∧ idx ≠ 0
section TH
variable {G : GM} {M : Mt} {d pc : Nat} {ls st : List AV} {h : SM} {P : Nat → Int → SM → Prop}
/-- through the rows that cover: the first that takes it -/
def hch (G : GM) (M : Mt) (cf : Nat → Option Nat) (ls : List AV) (h : SM) (d : Nat) (P : Nat → Int → SM → Prop) (v : Int) : List (Nat × Nat × Nat × Nat) → Prop
  | [] => False
  | e :: es => match cf e.2.2.2 with
    | none => False
    | some c => (h v (-1) = (c : Int) + 1 → WP G M e.2.2.1 ls [(1, v)] h d P) ∧ (h v (-1) ≠ (c : Int) + 1 → (∃ q ∈ noC, h v (-1) = (q.1 : Int) + 1 ∧ c = q.2) ∧ hch G M cf ls h d P v es)
def covP (pc : Nat) (e : Nat × Nat × Nat × Nat) : Bool := decide (e.1 ≤ pc) && decide (pc < e.2.1)
/-- something is thrown at pc -/
def thr (G : GM) (M : Mt) (cf : Nat → Option Nat) (pc : Nat) (ls : List AV) (h : SM) (d : Nat) (P : Nat → Int → SM → Prop) (v : Int) : Prop :=
  match (mtH M).filter (covP pc) with
  | [] => P 1 v h
  | e :: es => hch G M cf ls h d P v (e :: es)
theorem fh_yes {Q : Handler → Pre} {E : CtlPost} {e : Env} {dd : Bool} {acts : List Action} {S : State} {f : JFrame} {a : Addr} {x : ExceptionTableEntry} {t : List ExceptionTableEntry} {c : ClassId} {cell : Cell} (hx : covers x f.pc = true) (h0 : x.catchType ≠ 0)
    (hl : S.vm.ClassLinks e.platform f.method.cls x.catchType c) (hcell : S.heap[a]? = some cell) (hobj : ∀ k, cell.vm ≠ .statics k) (hk : ∃ k, S.vm.classes[cell.cls]? = some k) (hc : ∃ k, S.vm.classes[c]? = some k) (hfit : S.vm.assignable cell.cls c = true) :
    wp (findHandler.go f a (x :: t)) Q E e dd acts S ↔ Q (.found x.handlerPc) dd acts (S.setVm (S.vm.noted f.method.cls x.catchType (.cls c))) := by
  simp only [covers] at hx
  obtain ⟨ha, ht⟩ := (resolveClass_links e.toSetting hl).op (op := VmOp.resolveClass f.method.cls x.catchType) rfl
  have hal : S.vm.Alike (S.vm.noted f.method.cls x.catchType (.cls c)) := (Vm.Alike.refl S.vm).noted _ _ _
  obtain ⟨k1, hk1⟩ := hk
  obtain ⟨k2, hk2⟩ := hc
  obtain ⟨k1', hk1', -⟩ := hal.2.2 _ _ hk1
  obtain ⟨k2', hk2', -⟩ := hal.2.2 _ _ hk2
  have hfit' : (S.vm.noted f.method.cls x.catchType (.cls c)).assignable cell.cls c = true := by rw [hal.assignable]; exact hfit
  simp [findHandler.go, hx, h0, ha, ht, hcell, hobj, hk1', hk2', hfit', VmOp.dirties, VmOp.acts]
theorem fh_no {Q : Handler → Pre} {E : CtlPost} {e : Env} {dd : Bool} {acts : List Action} {S : State} {f : JFrame} {a : Addr} {x : ExceptionTableEntry} {t : List ExceptionTableEntry} {c : ClassId} {cell : Cell} (hx : covers x f.pc = true) (h0 : x.catchType ≠ 0)
    (hl : S.vm.ClassLinks e.platform f.method.cls x.catchType c) (hcell : S.heap[a]? = some cell) (hobj : ∀ k, cell.vm ≠ .statics k) (hk : ∃ k, S.vm.classes[cell.cls]? = some k) (hc : ∃ k, S.vm.classes[c]? = some k) (hfit : S.vm.assignable cell.cls c = false) :
    wp (findHandler.go f a (x :: t)) Q E e dd acts S ↔ wp (findHandler.go f a t) Q E e dd acts (S.setVm (S.vm.noted f.method.cls x.catchType (.cls c))) := by
  simp only [covers] at hx
  obtain ⟨ha, ht⟩ := (resolveClass_links e.toSetting hl).op (op := VmOp.resolveClass f.method.cls x.catchType) rfl
  have hal : S.vm.Alike (S.vm.noted f.method.cls x.catchType (.cls c)) := (Vm.Alike.refl S.vm).noted _ _ _
  obtain ⟨k1, hk1⟩ := hk
  obtain ⟨k2, hk2⟩ := hc
  obtain ⟨k1', hk1', -⟩ := hal.2.2 _ _ hk1
  obtain ⟨k2', hk2', -⟩ := hal.2.2 _ _ hk2
  have hfit' : (S.vm.noted f.method.cls x.catchType (.cls c)).assignable cell.cls c = false := by rw [hal.assignable]; exact hfit
  simp [findHandler.go, hx, h0, ha, ht, hcell, hobj, hk1', hk2', hfit', VmOp.dirties, VmOp.acts]
theorem self_asg {vm : Vm} {c : ClassId} {k : Class} (hk : vm.classes[c]? = some k) (ho : k.kind = .ordinary) : vm.assignable c c = true := by
  simp [Vm.assignable, Vm.assignableAux, hk, ho, Vm.isSubclass, Vm.isSubclassAux]
/-- the search finds the handler of 'hch' -/
theorem fh_go {cf : Nat → Option Nat} {p : Program} {e : Env} {R : Room} {s : State} {m : MethodId} {args : Array Value} {meth : Method} {c : Code} {f : JFrame} {v : Int} {r : KC} {k : Nat} {cell : Cell} (C : Cx G M d p R s m meth c) (hpl : e.platform.magicAccessors = ({} : Platform).magicAccessors) (hf : f.method = m)
    (hcf : ∀ idx c, cf idx = some c → XOK (mtN M).cls idx c) (hr : clsL[k]? = some r) (hk : h v (-1) = (k : Int) + 1) (hcls : cell.cls = gC G k) (hobj : ∀ k, cell.vm ≠ .statics k) (es : List ExceptionTableEntry) :
    ∀ (S : State), s.WarmedH S.vm → S.heap[ad G v]? = some cell → hch G M cf ls h d P v ((es.map (fun h => (h.startPc, h.endPc, h.handlerPc, h.catchType))).filter (covP f.pc)) →
      ∃ (vm' : Vm) (hp : Nat), s.WarmedH vm' ∧ (∀ (Q : Handler → Pre) (E : CtlPost) (dd : Bool) (acts : List Action), wp (findHandler.go f (ad G v) es) Q E e dd acts S ↔ Q (.found hp) dd acts (S.setVm vm')) ∧ WP G M hp ls [(1, v)] h d P := by
  induction es with
  | nil => intro S _ _ hh; exact hh.elim
  | cons x es ih =>
    intro S hW hcell hh
    rw [List.map_cons] at hh
    have hkn := C.kn hr
    obtain ⟨kk, hkk, hord⟩ := hkn.2.2
    obtain ⟨kk', hkk', -⟩ := hW.alike.2.2 _ _ hkk
    by_cases hcov : covers x f.pc = true
    · rw [List.filter_cons_of_pos (by exact hcov)] at hh
      unfold hch at hh
      dsimp only at hh
      cases hc : cf x.catchType with
      | none => rw [hc] at hh; exact hh.elim
      | some ci =>
        rw [hc] at hh
        dsimp only at hh
        obtain ⟨r', e1, e2, e3⟩ := hcf _ _ hc
        obtain ⟨cT, hcT, hcl⟩ := Cond.classLink_spec C.own (C.word (args := args) e2) e.platform hpl
        have hkn' := C.kn e1
        have hcT' : cT = gC G ci := Option.some.inj (hcT.symm.trans hkn'.2.1)
        rw [hcT'] at hcl
        obtain ⟨dk, _, _, kt, hd', _, _, _, _, hkt, _, hopen⟩ := hcl.here
        obtain ⟨kt', hkt', -⟩ := hW.alike.2.2 _ _ hkt
        have hlS := hW.classLinks hcl
        by_cases ht : h v (-1) = (ci : Int) + 1
        · obtain rfl : ci = k := by omega
          refine ⟨_, x.handlerPc, hW.noted hd' hopen (State.rightAt_cls hcl), fun Q E dd acts => ?_, hh.1 ht⟩
          rw [← hf] at hlS ⊢
          exact fh_yes hcov e3 hlS hcell hobj (by rw [hcls]; exact ⟨kk', hkk'⟩) ⟨kt', hkt'⟩ (by rw [hW.alike.assignable, hcls]; exact self_asg hkk hord)
        · obtain ⟨⟨q, hq, q1, q2⟩, hh2⟩ := hh.2 ht
          have hno : s.vm.assignable (gC G k) (gC G ci) = false := by
            obtain rfl : q.1 = k := by omega
            rw [q2, C.warm.alike.assignable]
            exact C.gx.2.2.2.2.2.2.1 q hq
          obtain ⟨vm', hp, w1, w2, w3⟩ := ih (S.setVm (S.vm.noted m.cls x.catchType (.cls (gC G ci)))) (hW.noted hd' hopen (State.rightAt_cls hcl)) hcell hh2
          refine ⟨vm', hp, w1, fun Q E dd acts => ?_, w3⟩
          rw [← hf] at hlS w2
          rw [fh_no hcov e3 hlS hcell hobj (by rw [hcls]; exact ⟨kk', hkk'⟩) ⟨kt', hkt'⟩ (by rw [hW.alike.assignable, hcls]; exact hno)]
          exact w2 Q E dd acts
    · rw [List.filter_cons_of_neg (by exact hcov)] at hh
      obtain ⟨vm', hp, w1, w2, w3⟩ := ih S hW hcell hh
      refine ⟨vm', hp, w1, fun Q E dd acts => ?_, w3⟩
      rw [W.findHandler_go_skip (by simpa using hcov)]
      exact w2 Q E dd acts
end TH
