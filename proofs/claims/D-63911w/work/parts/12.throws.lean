/-! L1: what is thrown is caught or leaves -/
def FdTo (e : Env) (s : State) (f : JFrame) (a : Addr) (hd : Handler) (vm' : Vm) : Prop :=
  ∀ (Q : Handler → Pre) (E : CtlPost) (d : Bool) (acts : List Action), wp (findHandler f a) Q E e d acts s ↔ Q hd d acts (s.setVm vm')
theorem st_catch {e : Env} {s : State} {a : Addr} {f : JFrame} {r : List Frame} {pc : Nat} {vm' : Vm} (hfind : FdTo e s f a (.found pc) vm') :
    (stepThrowing e s a (.java f :: r)).Is ((s.setVm vm').setFrames (.java { f with pc := pc, stack := [.ref a] } :: r)) [] := by
  simp only [stepThrowing, searchFrame, vmDo]
  generalize hr : Sem.go _ e false [] s = res
  obtain ⟨as, rfl, ha⟩ := Sem.eq_ok_of hr (a := Handler.found pc) (s' := s.setVm vm') (acts' := []) (by simp [hfind _ _ _ _])
  exact ⟨rfl, ha⟩
theorem sf_vm (u : State) (vm' : Vm) (F F' : List Frame) : ((u.setFrames F).setVm vm').setFrames F' = (u.setVm vm').setFrames F' := by
  have h1 : (u.setFrames F).setVm vm' = (u.setVm vm').setFrames F := rfl
  rw [h1, State.setFrames_setFrames]
theorem Steps.catchTo {tb : Tables} {e : Env} {s target : State} {g : JFrame} {c : Code} {below : List Frame} {a : Addr} (h : At s g.method c below) {pc : Nat} {vm' : Vm}
    (hfind : FdTo e ((s.setTop g).pushFrame (.throwing a)) g a (.found pc) vm') (hrest : Steps tb e below ((s.setVm vm').setTop { g with pc := pc, stack := [.ref a] }) target) :
    Steps tb e below ((s.setTop g).pushFrame (.throwing a)) target := by
  obtain ⟨hgo, hw⟩ := h.throwing a
  refine Steps.head hgo hw ?_
  rw [stepThread_throwing (frames_entered h.top _), (st_catch (s := (s.setTop g).pushFrame (.throwing a)) hfind).1]
  obtain ⟨g₀, hg⟩ := Option.isSome_iff_exists.mp h.top
  obtain ⟨r, hr⟩ := State.topJava?_eq_some.mp hg
  have hr' : (s.setVm vm').frames = .java g₀ :: r := hr
  rw [State.setTop_of_frames _ hr'] at hrest
  rw [hr, List.tail_cons, State.pushFrame, sf_vm, State.setTop_of_frames _ hr, sf_vm]
  exact hrest
section TO
variable {G : GM} {M : Mt} {d pc : Nat} {ls : List AV} {h : SM} {P : Nat → Int → SM → Prop}
theorem noC_cls : ∀ q ∈ noC, ∃ r, clsL[q.1]? = some r := by
  intro q hq
  simp only [noC, List.mem_cons, List.not_mem_nil, or_false] at hq
  rcases hq with rfl | rfl | rfl <;> exact ⟨_, rfl⟩
theorem thr_ok {cf : Nat → Option Nat} {p : Program} {e : Env} {R : Room} {s : State} {m : MethodId} {args : Array Value} {below : List Frame} {meth : Method} {c : Code} {T : State} {locs : List Loc} {la : Array Slot} {stk : List Value} {v : Int}
    (C : Cx G M d p R s m meth c) (hcf : ∀ idx c, cf idx = some c → XOK (mtN M).cls idx c) (hR : Rel G h T.heap) (h1 : s.heap.size ≤ T.heap.size) (h2 : sumS s.heap (gn G) ≤ sumS T.heap (gn G)) (h3 : ∀ q ∈ locs, gn G ≤ q.base) (hL : Lok G (mtL M) ls la) (hv : 0 < v)
    (X : Stand p (gl G) e R s m args below meth c T locs (T.heap.size - s.heap.size) (sumS T.heap (gn G) - sumS s.heap (gn G))) (ht : thr G M cf pc ls h d P v) :
    ∃ t, Steps p.tables e below ((T.setTop (F0 m pc la stk)).pushFrame (.throwing (ad G v))) t ∧ QP G (mtR M) P s below t := by
  have hlocks := C.locks
  unfold thr at ht
  cases hfl : (mtH M).filter (covP pc) with
  | nil =>
    rw [hfl] at ht
    have hout : ∀ x ∈ c.exceptionTable.toList, covers x (F0 m pc la stk).pc = false := by
      intro x hx
      have hmem : (x.startPc, x.endPc, x.handlerPc, x.catchType) ∈ mtH M := by
        rw [← C.table]; exact List.mem_map.mpr ⟨x, hx, rfl⟩
      rcases hcc : covers x (F0 m pc la stk).pc with _ | _
      · rfl
      · have : (x.startPc, x.endPc, x.handlerPc, x.catchType) ∈ (mtH M).filter (covP pc) := List.mem_filter.mpr ⟨hmem, hcc⟩
        rw [hfl] at this; cases this
    obtain ⟨q1, q2, q3, q4, q5⟩ := X.leaveThrown (ad G v) (g := F0 m pc la stk) rfl rfl rfl hout
    exact ⟨_, q1, 1, v, h, locs, q2, q3, hv, ht, hR, q4, h3, q5⟩
  | cons en es =>
    rw [hfl] at ht
    dsimp only at ht
    have hcls : ∃ (k : Nat) (r : KC), clsL[k]? = some r ∧ h v (-1) = (k : Int) + 1 := by
      have ht' := ht
      unfold hch at ht'
      cases hc : cf en.2.2.2 with
      | none => rw [hc] at ht'; exact ht'.elim
      | some ci =>
        rw [hc] at ht'
        dsimp only at ht'
        by_cases he : h v (-1) = (ci : Int) + 1
        · obtain ⟨r, e1, -⟩ := hcf _ _ hc
          exact ⟨ci, r, e1, he⟩
        · obtain ⟨⟨q, hq, q1, -⟩, -⟩ := ht'.2 he
          obtain ⟨r, hr⟩ := noC_cls q hq
          exact ⟨q.1, r, hr, q1⟩
    obtain ⟨k, r, hr, hk⟩ := hcls
    obtain ⟨h0, cell, y1, y2, y3, y4, -⟩ := hR.obj C.gx hr hk
    have hpl : e.platform.magicAccessors = ({} : Platform).magicAccessors := by rw [X.admits.platform]
    rw [← hfl, ← C.table] at ht
    obtain ⟨vm', hp, w1, w2, w3⟩ := fh_go (args := args) (f := F0 m pc la stk) (cell := cell) C hpl rfl hcf hr hk y4 (VmData.ne_statics_of y3) c.exceptionTable.toList ((T.setTop (F0 m pc la stk)).pushFrame (.throwing (ad G v))) X.warmed y1 ht
    have hfd : FdTo e ((T.setTop (F0 m pc la stk)).pushFrame (.throwing (ad G v))) (F0 m pc la stk) (ad G v) (.found hp) vm' := fun Q E dd acts => by
      rw [W.findHandler_eq (s := (T.setTop (F0 m pc la stk)).pushFrame (.throwing (ad G v))) (f := F0 m pc la stk) (a := ad G v) X.method' X.code]; exact w2 Q E dd acts
    have XV := X.noted w1
    have hS : Sok [((1, v) : AV)] := (show Sok [] from fun v hv => by cases hv).cr (by unfold NC; omega)
    obtain ⟨t, t1, t2⟩ := w3 p e R s m args below meth c T.heap locs la C hR h1 h2 h3 hL hS (T.setVm vm') rfl XV
    rw [List.map_cons, show cv G ((1, v) : AV) = .ref (ad G v) from rf_pos (by omega)] at t1
    exact ⟨t, Steps.catchTo X.here hfd t1, t2⟩
theorem s_athrow {x : Int} (hm : (pc, .athrow, 1) ∈ mtI M) (hc : (mtH M).filter (covP pc) = []) (hx0 : 0 < x) (w : P 1 x h) {st : List AV} : WP G M pc ls ((1, x) :: st) h d P := by
  intro p e R s m args below meth c H locs la C hR h1 h2 h3 h4 h5 T hT X
  have hlocks := C.locks
  have hdg := C.ok (pc, .athrow, 1) hm
  have hout : ∀ y ∈ c.exceptionTable.toList, covers y (F0 m pc la (((1, x) :: st).map (cv G))).pc = false := by
    intro y hy
    have hmem : (y.startPc, y.endPc, y.handlerPc, y.catchType) ∈ mtH M := by
      rw [← C.table]; exact List.mem_map.mpr ⟨y, hy, rfl⟩
    rcases hcc : covers y (F0 m pc la (((1, x) :: st).map (cv G))).pc with _ | _
    · rfl
    · have : (y.startPc, y.endPc, y.handlerPc, y.catchType) ∈ (mtH M).filter (covP pc) := List.mem_filter.mpr ⟨hmem, hcc⟩
      rw [hc] at this; cases this
  obtain ⟨q1, q2, q3, q4, q5⟩ := X.athrowLeaves C.exec (g := F0 m pc la (((1, x) :: st).map (cv G))) rfl rfl rfl hout (a := ad G x) (rest := st.map (cv G)) (by show List.map (cv G) ((1, x) :: st) = _; rw [List.map_cons, show cv G ((1, x) : AV) = .ref (ad G x) from rf_pos (by omega)]) (by rw [C.bytes]; exact hdg)
  exact ⟨_, q1, 1, x, h, locs, q2, q3, hx0, w, by show Rel G h T.heap; rw [hT]; exact hR, q4, h3, by show State.sameButNew _ _ _ (T.heap.size - _) (sumS T.heap _ - _); rw [hT]; exact q5⟩
end TO
/-! L1: the call itself -/
/-- the stack behind a return -/
def pshR (r : Option FieldType) (v : Int) (st : List AV) : List AV := match r with
  | none => st
  | some ty => (tg ty, v) :: st
theorem cat_sum (G : GM) (st : List AV) : ((st.map (cv G)).map fun v => v.category).sum ≤ 2 * st.length := by
  induction st with
  | nil => simp
  | cons v vs ih =>
    rw [List.map_cons, List.map_cons, List.sum_cons, List.length_cons, cat_cv]
    split <;> omega
section CM
variable {G : GM} {M M' : Mt} {d pc len : Nat} {ls st as : List AV} {h : SM} {P P' : Nat → Int → SM → Prop}
set_option maxHeartbeats 1000000 in
theorem call_main {cf : Nat → Option Nat} {p : Program} {e : Env} {R : Room} {s : State} {m : MethodId} {args : Array Value} {below : List Frame} {meth : Method} {c : Code} {H : Heap} {locs : List Loc} {la : Array Slot} {stk : List Value} {ig : Instr} {mk : MethodId}
    (C : Cx G M d p R s m meth c) (hcf : ∀ idx c, cf idx = some c → XOK (mtN M).cls idx c) (hR : Rel G h H) (h1 : s.heap.size ≤ H.size) (h2 : sumS s.heap (gn G) ≤ sumS H (gn G)) (h3 : ∀ q ∈ locs, gn G ≤ q.base) (hL : Lok G (mtL M) ls la) (hS : Sok st)
    (hd : 0 < d) (hdg : decode (mtB M) pc = .ok (ig, len)) (hM : mtG M') (has : ∀ v ∈ as, v.1 ≠ 9 ∧ okv v) (hfit : mtL M' + 2 * st.length ≤ 50) (hent : (ent as).length ≤ mtL M') (hmk : s.methodNamed? (mtN M') = some mk)
    (hgo : ∀ T : State, T.heap = H → Stand p (gl G) e R s m args below meth c T locs (H.size - s.heap.size) (sumS H (gn G) - sumS s.heap (gn G)) → ∃ vm₁, Stand p (gl G) e R s m args below meth c (T.setVm vm₁) locs (H.size - s.heap.size) (sumS H (gn G) - sumS s.heap (gn G)) ∧
      ∀ target, (∀ acts, Steps p.tables e below (doInvoke e ((T.setVm vm₁).setTop (F0 m pc la (st.map (cv G)))) acts mk (as.map (cv G)).toArray).1 target) → Steps p.tables e below (T.setTop (F0 m pc la stk)) target)
    (w : WP G M' 0 (entL as (mtL M')) [] h (d - 1) P')
    (kr : ∀ v h', P' 0 v h' → WP G M (pc + len) ls (pshR (mtR M') v st) h' d P)
    (kt : ∀ k v h', k ≠ 0 → P' k v h' → thr G M cf pc ls h' d P v) :
    W p (gl G) e R s m args below meth c H locs (H.size - s.heap.size) (sumS H (gn G) - sumS s.heap (gn G)) (QP G (mtR M) P s below) (F0 m pc la stk) := by
  intro T hT X
  obtain ⟨vm₁, X₁, hstep⟩ := hgo T hT X
  obtain ⟨mk', methk, ck, n1, n2, n3, n4, n5, n6, n7, n8, n9, n10⟩ := hM.at C
  cases hmk.symm.trans n1
  have hal := X₁.warmed.alike
  have hmkT : (T.setVm vm₁).vm.method? mk = some methk := by rw [hal.method?]; exact n2
  have hplain : (T.setVm vm₁).plainMethod mk := by
    refine State.plainMethod.of_name ?_
    intro k hk
    obtain ⟨k', hk', hn⟩ := className_of_methodNamed (X₁.named n1)
    cases hk.symm.trans hk'
    rw [hn]; exact hM.2.2.1
  have hcells := C.cells
  have hslots := C.slots
  have hold := C.old
  have hfr := C.frames
  have hwo := C.words
  have hsz : (F0 m pc la (st.map (cv G))).locals.size = c.maxLocals := by rw [C.locals]; exact hL.1
  have hcat := cat_sum G st
  have hmon : (F0 m pc la (st.map (cv G))).monitorRoom = 0 := rfl
  have hRT : Rel G h (T.setVm vm₁).heap := by show Rel G h T.heap; rw [hT]; exact hR
  obtain ⟨r0, r1, r2, r3, -⟩ := id hR
  obtain ⟨Y, hdo⟩ := X₁.into (g := F0 m pc la (st.map (cv G))) rfl hsz (by rw [C.bytes]; exact hdg) (mk := mk) (as.map (cv G)).toArray
    (R' := { frames := d - 1, locals := 64 * (d - 1), cells := R.cells - (H.size - s.heap.size), slots := R.slots - (sumS H (gn G) - sumS s.heap (gn G)) }) hmkT n3 n8 hplain (by show d - 1 + 1 ≤ R.frames; omega)
    (by rw [hmon, n5]; show 2 * 0 + (List.map (fun v => v.category) (List.map (cv G) st)).sum + (mtL M' + 11) + 64 * (d - 1) ≤ R.locals; omega)
    (by show _ + (R.cells - _) ≤ R.cells; omega)
    (by show _ + (R.slots - _) ≤ R.slots; omega)
  generalize hs' : (T.setVm vm₁).calling (F0 m pc la (st.map (cv G))) mk (as.map (cv G)).toArray = s' at Y
  have hs'h : s'.heap = H := by rw [← hs']; exact hT
  have hs'v : s'.vm = vm₁ := by rw [← hs']; rfl
  have C' : Cx G M' (d - 1) p { frames := d - 1, locals := 64 * (d - 1), cells := R.cells - (H.size - s.heap.size), slots := R.slots - (sumS H (gn G) - sumS s.heap (gn G)) } s' mk methk ck := by
    refine ⟨C.exec, n4, n5, n7, n8, ?_, n10, n6, ?_, C.gx, hM.2.1, by rw [hs'h]; exact r1, Nat.le_refl _, Nat.le_refl _, ?_, ?_⟩
    · rw [hs'v]; exact findClass_of_methodNamed (X₁.named n1)
    · rw [hs'v]; exact State.WarmedH.trans C.warm X₁.warmed
    · rw [hs'h]; show R.cells - (H.size - s.heap.size) + (H.size - gn G) = LIMC; omega
    · rw [hs'h]; show R.slots - (sumS H (gn G) - sumS s.heap (gn G)) + sumS H (gn G) = LIMS; omega
  have hw := w p e _ s' mk (as.map (cv G)).toArray (.java (F0 m pc la (st.map (cv G))) :: below) methk ck H [] _ C' hR (by rw [hs'h]; exact Nat.le_refl _) (by rw [hs'h]; exact Nat.le_refl _) (fun q hq => by cases hq) (Lok.entry G hent has) (fun v hv => by cases hv)
  obtain ⟨t, st1, k, v, h', L, t1, t2, t3, t4, t5, t6, t7, t8⟩ := hw (((T.setVm vm₁).setTop (F0 m pc la (st.map (cv G)))).pushFrame (.java (entryFrame mk (as.map (cv G)).toArray ck.maxLocals))) (by show T.heap = H; exact hT) (by rw [hs'h, Nat.sub_self, Nat.sub_self]; exact Y)
  have hent2 : entryFrame mk (as.map (cv G)).toArray ck.maxLocals = F0 mk 0 ((lg_sl (as.map (cv G)) ++ List.replicate (mtL M' - (lg_sl (as.map (cv G))).length) Slot.unset).toArray) [] := by rw [lg_entry_eq, n5]
  have hreach : ∀ target, Steps p.tables e below t target → Steps p.tables e below (T.setTop (F0 m pc la stk)) target := fun target hh => hstep target fun acts => by
    rw [hdo acts]
    have hent3 : F0 mk 0 ((lg_sl (as.map (cv G)) ++ List.replicate (mtL M' - (lg_sl (as.map (cv G))).length) Slot.unset).toArray) (List.map (cv G) []) = entryFrame mk (as.map (cv G)).toArray ck.maxLocals := hent2.symm
    rw [hent3] at st1
    exact (Steps.outer st1).trans hh
  have hsm : s'.heap.size ≤ t.heap.size := t8.2.1
  have hss : sumS s'.heap (gn G) ≤ sumS t.heap (gn G) := by
    have e2 : sumS t.heap (gn G) = sumS s'.heap (gn G) + ((t.heap.toList.drop s'.heap.size).map (·.slots.size)).sum := by
      have h6 := t8.2.2.2.2.2
      have hpre : (t.heap.toList.take s'.heap.size).map (·.slots.size) = s'.heap.toList.map (·.slots.size) := by
        apply List.ext_getElem?
        intro q
        rw [List.getElem?_map, List.getElem?_map, List.getElem?_take, Array.getElem?_toList, Array.getElem?_toList]
        by_cases hq : q < s'.heap.size
        · rw [if_pos hq]
          obtain ⟨cq, hcq⟩ : ∃ cq, s'.heap[q]? = some cq := ⟨_, Array.getElem?_eq_getElem hq⟩
          obtain ⟨c2, g1, -, g2, -⟩ := h6 q cq hcq
          have g1 : t.heap[q]? = some c2 := g1
          rw [hcq, g1]; simp [g2]
        · rw [if_neg hq, Array.getElem?_eq_none (by omega)]
      unfold sumS
      have hsp : t.heap.toList = t.heap.toList.take s'.heap.size ++ t.heap.toList.drop s'.heap.size := (List.take_append_drop _ _).symm
      have hle : gn G ≤ (t.heap.toList.take s'.heap.size).length := by rw [List.length_take, Array.length_toList]; rw [hs'h] at hsm ⊢; omega
      conv => lhs; rw [hsp, List.drop_append_of_le_length hle, List.map_append, List.sum_append, List.map_drop, hpre]
      simp only [List.map_drop]
    omega
  rw [← hs'] at t6 t8
  by_cases hk : k = 0
  · subst hk
    obtain ⟨T', X', -, -, te⟩ := X₁.outOf (g := F0 m pc la (st.map (cv G))) rfl (by rw [C.bytes]; exact hdg) t2 t6 t8
    have hh : t.heap = T'.heap := by rw [te]; rfl
    rw [hs', hs'h] at X'
    rw [hs'h] at hsm hss
    rw [hh] at X' hsm hss t5
    have hSk : Sok (pshR (mtR M') v st) := by
      cases hrt : mtR M' with
      | none => exact hS
      | some ty => exact hS.cons (by show tg ty ≠ 9; cases ty <;> simp [tg]) (okv_T (t3 ty hrt))
    obtain ⟨t', a1, a2⟩ := kr v h' t4 p e R s m args below meth c T'.heap (locs ++ L) la C t5 (by omega) (by omega) (fun q hq => by
      rcases List.mem_append.mp hq with hq | hq
      · exact h3 q hq
      · exact t7 q hq) hL hSk T' rfl (by
        rw [show T'.heap.size - s.heap.size = H.size - s.heap.size + (T'.heap.size - H.size) by omega, show sumS T'.heap (gn G) - sumS s.heap (gn G) = sumS H (gn G) - sumS s.heap (gn G) + (sumS T'.heap (gn G) - sumS H (gn G)) by omega]
        exact X')
    refine ⟨t', hreach t' ?_, a2⟩
    rw [te]
    have hpsh : (pshR (mtR M') v st).map (cv G) = ((mtR M').map fun ty => cv G (tg ty, v)).toList ++ st.map (cv G) := by
      cases mtR M' <;> rfl
    rw [hpsh] at a1
    exact a1
  · have ho : oc G (mtR M') k v = .threw (ad G v) := by cases k with
      | zero => exact absurd rfl hk
      | succ k => rfl
    have hv0 : 0 < v := by cases k with
      | zero => exact absurd rfl hk
      | succ k => exact t3
    rw [ho] at t2
    obtain ⟨T', X', -, -, te⟩ := X₁.outOfThrown (g := F0 m pc la (st.map (cv G))) rfl t2 t6 t8
    have hh : t.heap = T'.heap := by rw [te]; rfl
    rw [hs', hs'h] at X'
    rw [hs'h] at hsm hss
    rw [hh] at X' hsm hss t5
    obtain ⟨t', a1, a2⟩ := thr_ok (stk := st.map (cv G)) (locs := locs ++ L) C hcf t5 (by omega) (by omega) (fun q hq => by
      rcases List.mem_append.mp hq with hq | hq
      · exact h3 q hq
      · exact t7 q hq) hL hv0 (by
        rw [show T'.heap.size - s.heap.size = H.size - s.heap.size + (T'.heap.size - H.size) by omega, show sumS T'.heap (gn G) - sumS s.heap (gn G) = sumS H (gn G) - sumS s.heap (gn G) + (sumS T'.heap (gn G) - sumS H (gn G)) by omega]
        exact X') (kt k v h' hk t4)
    exact ⟨t', hreach t' (by rw [te]; exact a1), a2⟩
end CM
