/-! L1: an exception's constructor, its cell alone being written -/
section CT
variable {p : Program} {l : Launch} {e : Env} {R : Room} {s : State} {m₀ : MethodId} {args : Array Value} {below : List Frame} {meth : Method} {c : Code} {U : State} {locs : List Loc} {cells slots : Nat}
set_option maxHeartbeats 1000000 in
theorem ctor0 (X : Stand p l e R s m₀ args below meth c U locs cells slots) (hexec : p.tables.exec = Jvm.exec) (htr : e.platform.stackTraces = false) {own cls : String} {names : List String} {ic : Nat}
    (hown : s.vm.findClass own = some m₀.cls) (hcls : Bundle.fit cls = true) (hnames : ∀ n ∈ names, Bundle.fit n = true) (hat : ∀ a ∈ Bundle.ownAtoms0 own ic cls names, a.before args s = true)
    (hlocs : ∀ x ∈ locs, ∀ cell, s.heap[x.base]? = some cell → cell.vm.isStatics = false)
    {a : Addr} {cX : ClassId} {kX : Class} (hfX : s.vm.findClass cls = some cX) (hkX : s.vm.classes[cX]? = some kX) (hcell : U.heap[a]? = some (freshCell cX kX)) (hnew : s.heap.size ≤ a)
    {g : JFrame} (hg : g.method = m₀) (hsize : g.locals.size = c.maxLocals) {rest : List Value} (hstack : g.stack = .ref a :: rest)
    (hd6 : decode c.code g.pc = .ok (.invokespecial ic, 3)) (hRf : names.length + 3 < R.frames) (hRl : 2 * g.monitorRoom + (rest.map fun v => v.category).sum + (13 * (names.length + 1) + 41) ≤ R.locals) :
    ∃ (vm' : Vm) (ce : Cell) (L : List Loc), ce.cls = cX ∧ ce.vm = .none ∧ ce.monitor = {} ∧ ce.slots.size = (freshCell cX kX).slots.size ∧ (∀ q ∈ L, q.base = a) ∧ Stand p l e R s m₀ args below meth c ((U.setVm vm').setCell a ce) (locs ++ L) cells slots ∧
      ∀ target, Steps p.tables e below (((U.setVm vm').setCell a ce).setTop { g with pc := g.pc + 3, stack := rest }) target → Steps p.tables e below (U.setTop g) target := by
  have howns : e.platform.frameOwnsMonitors = true := by rw [X.admits.platform]
  have hfin : e.platform.finalization = false := by rw [X.admits.platform]
  have hpl : e.platform.magicAccessors = ({} : Platform).magicAccessors := by rw [X.admits.platform]
  have at' : ∀ x, x ∈ Bundle.ownAtoms0 own ic cls names → x.holds args s none s [] = true := fun x hx => hat x hx
  obtain ⟨T, Z, L, LZ, Y⟩ := ThrowableC.of_atoms (args := args) howns hfin hpl (fun x hx => hat x (by simp [Bundle.ownAtoms0, hx]))
  obtain ⟨P1, Ps, hlen, L1, hL, hP1, hk1, hk2⟩ := Bundle.chain0 (args := args) hpl Y.init0 names cls hcls hnames (fun x hx => hat x (by simp [Bundle.ownAtoms0, hx]))
  have hfd : s.vm.findClass cls = some P1.m.cls := findClass_of_methodNamed hP1
  cases Option.some.inj (hfX.symm.trans hfd)
  obtain ⟨c1, kX', hc1, hk, hord, -, -, -⟩ := Cond.instantiable_spec (at' (.instantiable cls 6) (by simp [Bundle.ownAtoms0]))
  cases Option.some.inj (hc1.symm.trans hfd)
  cases Option.some.inj (hkX.symm.trans hk)
  have hs0 : selectMethod e.platform s.vm P1.m.cls T.fill0 = .method T.fill0 := by
    obtain ⟨c2, r2, m2, q1, q2, q3, q4, -⟩ := Cond.selects_spec (at' (.selects cls Bundle.tFill0 Bundle.tFill0) (by simp [Bundle.ownAtoms0]))
    cases Option.some.inj (q1.symm.trans hfd)
    cases Option.some.inj (q2.symm.trans (State.methodFound?_of_named Y.fill0 (by decide)))
    cases Option.some.inj (q3.symm.trans Y.fill0)
    rw [Launch.admits_selectMethod X.admits]; exact q4
  have hsF : selectMethod e.platform s.vm P1.m.cls T.fill = .method T.fill := by
    obtain ⟨c2, r2, m2, q1, q2, q3, q4, -⟩ := Cond.selects_spec (at' (.selects cls Bundle.tFill Bundle.tFill) (by simp [Bundle.ownAtoms0]))
    cases Option.some.inj (q1.symm.trans hfd)
    cases Option.some.inj (q2.symm.trans (State.methodFound?_of_named Y.fill (by decide)))
    cases Option.some.inj (q3.symm.trans Y.fill)
    rw [Launch.admits_selectMethod X.admits]; exact q4
  obtain ⟨cS0, hcS0, hiss⟩ := Y.statics
  obtain ⟨u0, hu0⟩ := Cond.staticRefV Y.unassigned L.unassignedStatic L.statics hcS0 hiss (at' (.isRef (.static Bundle.tN "UNASSIGNED_STACK" Bundle.steD)) (by simp [Bundle.ownAtoms0]))
  obtain ⟨sen, hsen⟩ := Cond.staticRefV Y.sentinel L.sentinelStatic L.statics hcS0 hiss (at' (.isRef (.static Bundle.tN "SUPPRESSED_SENTINEL" Bundle.listD)) (by simp [Bundle.ownAtoms0]))
  obtain ⟨ci198, i198, fB, hk198, hg198, ha198, hsB, -, hnB, htB, hffB⟩ := Cond.ownField (t := .object "java/lang/Object") Y.found L.cls (by decide +kernel) (at' (.fieldLink Bundle.tN 198 Bundle.tN "backtrace" "Ljava/lang/Object;") (by simp [Bundle.ownAtoms0])) (at' (.lays Bundle.tN Bundle.tN "backtrace" "Ljava/lang/Object;") (by simp [Bundle.ownAtoms0])) e.platform hpl
  obtain ⟨cS, hcS', heS, -, hkeep⟩ := X.same.2.2.2.2.2 T.aS cS0 hcS0
  have hcS : U.heap[T.aS]? = some cS := hcS'
  have hout : ∀ i, (⟨T.aS, i⟩ : Loc) ∉ locs := fun i hmem => by
    have := hlocs _ hmem cS0 hcS0
    rw [hiss] at this; cases this
  have hkS : cS.vm ≠ .unknown := by
    rw [heS]; intro hu
    rw [show cS0.vm = .unknown from hu] at hiss
    cases hiss
  have hneS : T.aS ≠ a := Nat.ne_of_lt (Nat.lt_of_lt_of_le (Array.getElem?_eq_some_iff.mp hcS0).1 hnew)
  obtain ⟨tyC, dC, hdC, hdnC⟩ := Cond.laysAt hfd hk Y.cause (at' (.lays cls Bundle.tN "cause" "Ljava/lang/Throwable;") (by simp [Bundle.ownAtoms0]))
  obtain ⟨tyS, dS, hdS, hdnS⟩ := Cond.laysAt hfd hk Y.stack (at' (.lays cls Bundle.tN "stackTrace" Bundle.steD) (by simp [Bundle.ownAtoms0]))
  obtain ⟨tyP, dP, hdP, hdnP⟩ := Cond.laysAt hfd hk Y.supp (at' (.lays cls Bundle.tN "suppressedExceptions" Bundle.listD) (by simp [Bundle.ownAtoms0]))
  obtain ⟨tyB, dB, hdB, hdnB⟩ := Cond.laysAt hfd hk hffB (at' (.lays cls Bundle.tN "backtrace" "Ljava/lang/Object;") (by simp [Bundle.ownAtoms0]))
  have bC := Cond.laysApart hdB hdC hdnB hdnC (by rw [hnB, Y.causeName]; decide)
  have bS := Cond.laysApart hdB hdS hdnB hdnS (by rw [hnB, Y.stackName]; decide)
  have bP := Cond.laysApart hdB hdP hdnB hdnP (by rw [hnB, Y.suppName]; decide)
  have hskip : SkipFacts T e.platform s (fun u => u) u0 ((preparedCellV T.toThrowableT (freshCell P1.m.cls kX) a u0 sen).withEntry U.cur) :=
    ⟨{ ci198 := ci198, i198 := i198, fBack := fB }, ⟨hk198, hg198, ha198, hsB⟩, by
      have := fresh_default (c := P1.m.cls) tyB
      rw [htB] at this
      simpa [preparedCellV, Cell.setSlot, Cell.withEntry, Array.getElem?_setIfInBounds, bC, bS, bP, bC.symm, bS.symm, bP.symm, defaultValue] using this, fun _ _ => rfl⟩
  obtain ⟨tm, methC, cdC, kC, vm₁, hnC, -, -, -, -, -, -, -, hW₁, st1⟩ := Steps.initCold (tb := p.tables) (e := e) (below := below) (s := s) (U := U) X.here hexec X.warmed hpl hown (t := Bundle.init0 cls) rfl rfl (Bundle.fit_spec hcls).2
    (at' (.methodLink own ic (Bundle.init0 cls)) (by simp [Bundle.ownAtoms0])) (hat (.instanceMethod (Bundle.init0 cls)) (by cases names <;> simp [Bundle.ownAtoms0, Bundle.chain0Atoms, Bundle.passAtoms])) (bytes := Bundle.five) (maxL := 1) (hat (.code (Bundle.init0 cls) Bundle.five 1 none) (by cases names <;> simp [Bundle.ownAtoms0, Bundle.chain0Atoms, Bundle.passAtoms]))
    (f := g) hg (a := a) (rest := rest) hstack hd6
  cases Option.some.inj (hnC.symm.trans hP1)
  have X₁ := X.noted hW₁
  obtain ⟨vm₂, X₂, st2⟩ := X₁.ctorPlainOffV hexec (g := { g with stack := rest }) hg hsize T L Z LZ (P1 :: Ps)
    (fun P hP => by rcases List.mem_cons.mp hP with rfl | hP; exact L1; exact hL P hP) ⟨hk1, hk2⟩ (u0 := u0) (sen := sen) (self := a) (cell := freshCell P1.m.cls kX) (cellS := cS)
    hcell (fun _ => by simp) (by simp) rfl rfl hs0 hsF hcS hneS hkS (by rw [hkeep _ (hout _)]; exact hu0) (by rw [hkeep _ (hout _)]; exact hsen)
    (Takes.of_laid hk hord tyC (by rw [Y.causeType]; rfl)) (Takes.of_laid hk hord tyS (by rw [Y.stackType]; exact fits_refV_array _ u0)) (Takes.of_laid hk hord tyP (by rw [Y.suppType]; exact fits_refV_object _ sen)) Y.objLocals hskip htr [] hd6
    (by simp only [List.length_cons, hlen]; omega) (by simp only [List.length_cons, hlen]; exact hRl)
  refine ⟨vm₂, _, _, ?_, ?_, ?_, ?_, ?_, X₂, fun target hh => st1 target fun acts => ?_⟩
  · rfl
  · rfl
  · rfl
  · simp [preparedCellV, Cell.setSlot]
  · intro q hq
    simp only [List.mem_cons, List.not_mem_nil, or_false] at hq
    rcases hq with rfl | rfl | rfl | rfl <;> rfl
  · rw [doInvoke_state]
    exact st2 _ hh
end CT
section TN
variable {G : GM} {M : Mt} {d pc idx ic : Nat} {ls st : List AV} {h : SM} {P : Nat → Int → SM → Prop}
def excs : List Nat := [11, 14, 17]
theorem s_thrown {c : Nat} {r : KC} (hc : c ∈ excs) (hm0 : (pc, .new idx, 3) ∈ mtI M) (hm1 : (pc + 3, .dup, 1) ∈ mtI M) (hm2 : (pc + 4, .invokespecial ic, 3) ∈ mtI M) (hm3 : (pc + 7, .athrow, 1) ∈ mtI M)
    (hK : KOK (mtN M).cls idx c) (hr : clsL[c]? = some r) (hl : Cond.methodLink (mtN M).cls ic ⟨r.1, "<init>", "()V"⟩ ∈ lw_all) (hcov : (mtH M).filter (covP (pc + 7)) = []) (hlc : h 0 0 ≤ LIMC) (hls : h 0 1 + 6 ≤ LIMS) (hd : 6 ≤ d) (hst : st.length ≤ 20)
    (w : P 1 (h 0 0) (al h ((c : Int) + 1) 0 6)) : WP G M pc ls st h d P := by
  have hr6 : r.2.2.2.2 = 6 ∧ (r.1 = "java/lang/IllegalArgumentException" ∨ r.1 = "java/lang/IllegalStateException" ∨ r.1 = "java/lang/UnsupportedOperationException") ∧ r.2.2.1 = 0 := by
    simp only [excs, List.mem_cons, List.not_mem_nil, or_false] at hc
    rcases hc with rfl | rfl | rfl
    · cases (show clsL[11]? = some (RJ16, TJ16, 0, tyJ16, 6) from rfl).symm.trans hr; exact ⟨rfl, Or.inl rfl, rfl⟩
    · cases (show clsL[14]? = some (RJ18, TJ18, 0, tyJ18, 6) from rfl).symm.trans hr; exact ⟨rfl, Or.inr (Or.inl rfl), rfl⟩
    · cases (show clsL[17]? = some (RJ21, TJ21, 0, tyJ21, 6) from rfl).symm.trans hr; exact ⟨rfl, Or.inr (Or.inr rfl), rfl⟩
  obtain ⟨hr6, hrn, hr0⟩ := hr6
  intro p e R s m args below meth cd H locs la C hR h1 h2 h3 h4 h5
  obtain ⟨r', e1, w1, w2, w3⟩ := hK
  cases hr.symm.trans e1
  have hdg := C.ok (pc, .new idx, 3) hm0
  have hcells := C.cells
  have hslots := C.slots
  have hold := C.old
  have hfr := C.frames
  have hwo := C.words
  have hcat := cat_sum G st
  obtain ⟨-, q1, q2, q3, q4, -⟩ := id hR
  refine W.newc C.exec C.bytes C.own (C.word w1) (C.word w2) (C.word w3) rfl hdg (by omega) (by omega) fun cC kC k1 k2 k3 k4 => ?_
  have hkn := C.kn hr
  have hcC : cC = gC G c := Option.some.inj (k1.symm.trans hkn.2.1)
  subst hcC
  refine lv_dup C.exec C.bytes (C.ok (pc + 3, .dup, 1) hm1) rfl ?_
  intro T hT X
  have hdi := C.ok (pc + 4, .invokespecial ic, 3) hm2
  have hsold : ∀ a, a < gn G → s.heap[a]? = (g0 G).heap[a]? := by
    intro a ha
    obtain ⟨cc, hcc⟩ : ∃ cc, s.heap[a]? = some cc := ⟨_, Array.getElem?_eq_getElem (by omega)⟩
    obtain ⟨c2, g1, g2, g3, g4⟩ := X.same.2.2.2.2.2 a cc hcc
    have g1 : T.heap[a]? = some c2 := g1
    rw [hT, Array.getElem?_push, if_neg (by omega), q4 a ha] at g1
    rw [hcc, g1]
    congr 1
    rw [g2]
    have : c2.slots = cc.slots := Array.ext_getElem? fun i => g4 i fun hmem => by
      have := h3 _ hmem
      have this : gn G ≤ a := this
      omega
    rw [this]
  have hat : ∀ a ∈ Bundle.ownAtoms0 (mtN M).cls ic r.1 ["java/lang/RuntimeException", "java/lang/Exception"], a.before args s = true := by
    rcases hrn with hrn | hrn | hrn <;> rw [hrn] at hl ⊢
    · exact at_iae C hsold hl
    · exact at_ise C hsold hl
    · exact at_uoe C hsold hl
  have hfit : Bundle.fit r.1 = true := by rcases hrn with hrn | hrn | hrn <;> (rw [hrn]; decide)
  have hcell : T.heap[H.size]? = some (freshCell (gC G c) kC) := by rw [hT]; simp [freshCell]
  obtain ⟨vm', ce, L, c1, c2, c3, c4, c5, X', step⟩ := ctor0 X C.exec (C.gx.2.2.2.2.2.2.2.2.2.2.2 e X.admits) C.own hfit (by decide) hat (fun q hq cell hcl => by
      have hb := h3 q hq
      obtain ⟨cl2, g1, g2, -⟩ := X.same.2.2.2.2.2 q.base cell hcl
      have g1 : T.heap[q.base]? = some cl2 := g1
      have hvm : cl2.vm = cell.vm := by rw [g2]
      rw [← hvm]
      rw [hT, Array.getElem?_push] at g1
      split at g1
      · cases g1; rfl
      · obtain ⟨cl3, z1, z2⟩ := hR.2.2.2.2.2.2.2.2 ((q.base : Int) - gn G + 1) (by omega) (by have := (Array.getElem?_eq_some_iff.mp g1).1; omega)
        rw [ad_pos (by omega), show gn G + ((q.base : Int) - gn G + 1).toNat - 1 = q.base by omega] at z1
        cases z1.symm.trans g1
        rw [z2.2.1]; rfl)
    hkn.2.1 k2 hcell (by omega) (g := F0 m (pc + 3 + 1) la (.ref H.size :: .ref H.size :: st.map (cv G))) rfl (by rw [C.locals]; exact h4.1) (rest := .ref H.size :: st.map (cv G)) rfl (by rw [C.bytes]; exact hdi) (by show 2 + 3 < R.frames; omega)
    (by show 2 * 0 + (1 + (List.map (fun v => v.category) (List.map (cv G) st)).sum) + (13 * (2 + 1) + 41) ≤ R.locals; omega)
  have hdt := C.ok (pc + 7, .athrow, 1) hm3
  have hout : ∀ y ∈ cd.exceptionTable.toList, covers y (pc + 7) = false := by
    intro y hy
    have hmem : (y.startPc, y.endPc, y.handlerPc, y.catchType) ∈ mtH M := by
      rw [← C.table]; exact List.mem_map.mpr ⟨y, hy, rfl⟩
    rcases hcc : covers y (pc + 7) with _ | _
    · rfl
    · have : (y.startPc, y.endPc, y.handlerPc, y.catchType) ∈ (mtH M).filter (covP (pc + 7)) := List.mem_filter.mpr ⟨hmem, hcc⟩
      rw [hcov] at this; cases this
  have hlocks := C.locks
  obtain ⟨t1, t2, t3, t4, t5⟩ := X'.athrowLeaves C.exec (g := F0 m (pc + 7) la (.ref H.size :: st.map (cv G))) rfl rfl rfl hout (a := H.size) (rest := st.map (cv G)) rfl (by rw [C.bytes]; exact hdt)
  have hpos : 0 < h 0 0 := by omega
  have had : ad G (h 0 0) = H.size := by rw [ad_pos hpos]; omega
  refine ⟨_, step _ t1, ?_⟩
  have hal : ∀ f : Int, al h ((c : Int) + 1) 0 6 (h 0 0) f = if f = -1 then (c : Int) + 1 else if f = -2 then 0 else 0 := fun f => by
    unfold al; rw [if_neg (by omega), if_pos rfl]
  have c25 := clsL_len hr
  have hN : cellN G (al h ((c : Int) + 1) 0 6 (h 0 0)) ce := by
    refine ⟨⟨by rw [c2]; exact fun q => (by cases q), by rw [c2]; rfl, Or.inl ⟨c, r, by rw [hal, if_pos rfl], hr, c1, fun f hf => by rw [hr0] at hf; omega⟩⟩, c2, c3, fun t ht => ?_⟩
    rw [hal, if_pos rfl] at ht; omega
  have hlt : H.size < (T.setVm vm').heap.size := by show _ < T.heap.size; rw [hT]; simp
  have g1 : ((T.setVm vm').setCell H.size ce).heap[H.size]? = some ce := heapAt_setCell_self _ hlt
  have g2 : ((T.setVm vm').setCell H.size ce).heap.size = H.size + 1 := by rw [size_setCell]; show T.heap.size = _; rw [hT]; simp
  have g3 : ∀ q, q < H.size → ((T.setVm vm').setCell H.size ce).heap[q]? = H[q]? := fun q hq => by
    rw [heapAt_setCell_ne _ (Nat.ne_of_gt hq)]; show T.heap[q]? = _; rw [hT, Array.getElem?_push, if_neg (by omega)]
  have hce : (ce.slots.size : Int) = 6 := by rw [c4]; simp [freshCell, k4, hr6]
  obtain ⟨hR', -, -⟩ := hR.born (k := (c : Int) + 1) (l := 0) (n := 6) g1 g2 g3 hce hN hlc hls
  have hS' := sumS_push q1 g2 g3 g1
  refine ⟨1, h 0 0, _, locs ++ L, t2, ?_, hpos, w, hR', t4, fun q hq => ?_, ?_⟩
  · show Ended _ _ (.threw (ad G (h 0 0)))
    rw [had]; exact t3
  · rcases List.mem_append.mp hq with hq | hq
    · exact h3 q hq
    · rw [c5 q hq]; exact q1
  · have t5' := t5
    show State.sameButNew _ _ _ (((T.setVm vm').setCell H.size ce).heap.size - s.heap.size) (sumS ((T.setVm vm').setCell H.size ce).heap (gn G) - sumS s.heap (gn G))
    rw [g2, hS']
    rw [show H.size + 1 - s.heap.size = H.size - s.heap.size + 1 by omega, show sumS H (gn G) + ce.slots.size - sumS s.heap (gn G) = sumS H (gn G) - sumS s.heap (gn G) + r.2.2.2.2 by omega]
    exact t5'
end TN
