/-! L1: the call rows, by kind -/
theorem map_rev (G : GM) (as st : List AV) : (as.reverse ++ st).map (cv G) = (as.map (cv G)).reverse ++ st.map (cv G) := by rw [List.map_append, List.map_reverse]
def nPar (M : Mt) : Option Nat := (parseMethodDescriptor (mtN M).desc).map (fun d => d.parameters.length)
def SOK (own : String) (idx : Nat) (M' : Mt) : Prop := (Cond.methodLink own idx (mtN M') ∈ lw_all ∨ ∃ host, Cond.methodLinkNest own idx (mtN M') host ∈ lw_tbl) ∧ Cond.static (mtN M') ∈ lw_all ∧ mtG M'
def IOK (own : String) (idx : Nat) (M' : Mt) : Prop := (Cond.methodLink own idx (mtN M') ∈ lw_all ∨ ∃ host, Cond.methodLinkNest own idx (mtN M') host ∈ lw_tbl) ∧ (mtN M').name = "<init>" ∧ Cond.instanceMethod (mtN M') ∈ lw_all ∧ Cond.code (mtN M') (mtB M') (mtL M') none ∈ lw_all ∧ mtG M'
/-- the receiver is of the class C -/
def Recv (G : GM) (h : SM) (x : Int) (C : String) : Prop := (∃ (c : Nat) (r : KC), clsL[c]? = some r ∧ r.1 = C ∧ h x (-1) = (c : Int) + 1) ∨ (∃ j : Nat, j < 3 ∧ enN j = C ∧ h x (-1) = 50 + (j : Int))
theorem Recv.at {G : GM} {M : Mt} {d : Nat} {p : Program} {R : Room} {s : State} {m : MethodId} {meth : Method} {c : Code} {h : SM} {H : Heap} {x : Int} {C : String} (hv : Recv G h x C) (Cc : Cx G M d p R s m meth c) (hR : Rel G h H) :
    x ≠ 0 ∧ ∃ cell, H[ad G x]? = some cell ∧ cell.vm.isStatics = false ∧ s.vm.findClass C = some cell.cls := by
  rcases hv with ⟨c', r, h1, h2, h3⟩ | ⟨j, h1, h2, h3⟩
  · obtain ⟨h0, cell, q1, q2, q3, q4, -⟩ := hR.obj Cc.gx h1 h3
    refine ⟨h0, cell, q1, q3, ?_⟩
    rw [q4, ← h2]; exact (Cc.kn h1).2.1
  · obtain ⟨h0, cell, q1, q2, q3, q4⟩ := hR.view Cc.gx (x := x) (by omega)
    refine ⟨h0, cell, q1, q3, ?_⟩
    rcases q4 with ⟨c', r', e1, e2, -⟩ | ⟨t, ty, e1, -⟩ | ⟨j', _, _, _, _, e1, e2, e3, -⟩
    · have := clsL_len e2; omega
    · omega
    · obtain rfl : j' = j := by omega
      rw [e3, Cc.warm.alike.findClass, ← h2]
      exact Cc.gx.2.2.2.2.2.2.2.1 j' h1
section CR
variable {G : GM} {M M' : Mt} {d pc idx : Nat} {ls st as : List AV} {h : SM} {P : Nat → Int → SM → Prop} {cf : Nat → Option Nat}
/-- what a call's callee must come to -/
abbrev Kc (G : GM) (M M' : Mt) (cf : Nat → Option Nat) (pc len : Nat) (ls st : List AV) (d : Nat) (P : Nat → Int → SM → Prop) : Nat → Int → SM → Prop := fun k v h' =>
  (k = 0 → WP G M (pc + len) ls (pshR (mtR M') v st) h' d P) ∧ (k ≠ 0 → thr G M cf pc ls h' d P v)
theorem Sok.app {as st : List AV} (hs : Sok (as.reverse ++ st)) : (∀ v ∈ as, v.1 ≠ 9 ∧ okv v) ∧ Sok st :=
  ⟨fun v hv => hs v (List.mem_append_left _ (List.mem_reverse.mpr hv)), fun v hv => hs v (List.mem_append_right _ hv)⟩
theorem s_callS (hm : (pc, .invokestatic idx, 3) ∈ mtI M) (hO : SOK (mtN M).cls idx M') (hcf : ∀ idx c, cf idx = some c → XOK (mtN M).cls idx c) (hn : nPar M' = some as.length) (hd : 0 < d) (hfit : mtL M' + 2 * st.length ≤ 50) (hent : (ent as).length ≤ mtL M')
    (w : WP G M' 0 (entL as (mtL M')) [] h (d - 1) (Kc G M M' cf pc 3 ls st d P)) : WP G M pc ls (as.reverse ++ st) h d P := by
  intro p e R s m args below meth c H locs la C hR h1 h2 h3 h4 h5
  obtain ⟨hl, hst, hM⟩ := hO
  have hdg := C.ok (pc, .invokestatic idx, 3) hm
  obtain ⟨mk, methk, ck, n1, n2, n3, n4, n5, n6, n7, n8, n9, n10⟩ := hM.at C
  obtain ⟨has, hS⟩ := h5.app
  have hstatic : methk.isStatic = true := Cond.static_spec n1 n2 (C.word (args := args) hst)
  obtain ⟨kP, hkP, -⟩ := className_of_methodNamed n1
  have hinitP : kP.init = .initialized := Cond.initialized_spec (args := args) (findClass_of_methodNamed n1) hkP (C.word hM.2.2.2.2)
  have hlen : (as.map (cv G)).length = methk.sig.parameters.length := by
    unfold nPar at hn
    rw [n9] at hn
    rw [List.length_map]; exact (Option.some.inj hn).symm
  refine call_main (M' := M') (cf := cf) (len := 3) C hcf hR h1 h2 h3 h4 hS hd hdg hM has hfit hent n1 (fun T hT X => ?_) w (fun v h' q => q.1 rfl) (fun k v h' hk q => q.2 hk)
  rcases hl with hl | ⟨host, hl⟩
  · exact X.invokestatic C.exec C.own (C.word hl) n1 n2 hstatic hkP hinitP hM.2.2.2.1 (g := F0 m pc la _) rfl (argsL := as.map (cv G)) (rest := st.map (cv G)) hlen (map_rev G as st) (by rw [C.bytes]; exact hdg)
  · exact X.invokestaticNest C.exec C.own (C.nestM hl) n1 n2 hstatic hkP hinitP hM.2.2.2.1 (g := F0 m pc la _) rfl (argsL := as.map (cv G)) (rest := st.map (cv G)) hlen (map_rev G as st) (by rw [C.bytes]; exact hdg)
theorem s_callI {x : Int} (hm : (pc, .invokespecial idx, 3) ∈ mtI M) (hO : IOK (mtN M).cls idx M') (hcf : ∀ idx c, cf idx = some c → XOK (mtN M).cls idx c) (hn : nPar M' = some as.length) (hd : 0 < d) (hfit : mtL M' + 2 * st.length ≤ 50) (hent : (ent ((1, x) :: as)).length ≤ mtL M') (hx0 : x ≠ 0)
    (w : WP G M' 0 (entL ((1, x) :: as) (mtL M')) [] h (d - 1) (Kc G M M' cf pc 3 ls st d P)) : WP G M pc ls (as.reverse ++ (1, x) :: st) h d P := by
  intro p e R s m args below meth c H locs la C hR h1 h2 h3 h4 h5
  obtain ⟨hl, hnm, hin, hcd, hM⟩ := hO
  have hdg := C.ok (pc, .invokespecial idx, 3) hm
  obtain ⟨mk, methk, ck, n1, n2, n3, n4, n5, n6, n7, n8, n9, n10⟩ := hM.at C
  obtain ⟨has, hS⟩ := h5.app
  have hlen : ∀ sig, parseMethodDescriptor (mtN M').desc = some sig → (as.map (cv G)).length = sig.parameters.length := fun sig hsg => by
    unfold nPar at hn
    rw [hsg] at hn
    rw [List.length_map]; exact (Option.some.inj hn).symm
  have hst : (as.reverse ++ (1, x) :: st).map (cv G) = (as.map (cv G)).reverse ++ .ref (ad G x) :: st.map (cv G) := by
    rw [map_rev, List.map_cons, show cv G ((1, x) : AV) = .ref (ad G x) from rf_pos hx0]
  have harr : (((1, x) :: as).map (cv G)).toArray = (Value.ref (ad G x) :: as.map (cv G)).toArray := by rw [List.map_cons, show cv G ((1, x) : AV) = .ref (ad G x) from rf_pos hx0]
  have hpl : e.platform.magicAccessors = ({} : Platform).magicAccessors ∨ True := Or.inr trivial
  refine call_main (M' := M') (cf := cf) (len := 3) (as := (1, x) :: as) C hcf hR h1 h2 h3 h4 hS.tl hd hdg hM (fun v hv => by
    rcases List.mem_cons.mp hv with rfl | hv
    · exact hS _ (List.mem_cons_self ..)
    · exact has v hv) hfit hent n1 (fun T hT X => ?_) w (fun v h' q => q.1 rfl) (fun k v h' hk q => q.2 hk)
  have hpl : e.platform.magicAccessors = ({} : Platform).magicAccessors := by rw [X.admits.platform]
  rcases hl with hl | ⟨host, hl⟩
  · obtain ⟨mk', methM, cM, kP, vm₁, hnamed, hmethM, hcodeM, -, hlocalsM, -, hkP, -, hW₁, hstep₁⟩ := Steps.initColdArgs (e := e) X.here C.exec X.warmed hpl C.own hnm hM.2.2.2.1 (C.word (args := args) hl) (C.word (args := args) hin) (C.word (args := args) hcd) (f := F0 m pc la _) rfl hlen hst (by rw [C.bytes]; exact hdg)
    cases hnamed.symm.trans n1
    rw [harr]
    exact ⟨vm₁, X.noted hW₁, hstep₁⟩
  · obtain ⟨mk', methM, cM, kP, vm₁, hnamed, hmethM, hcodeM, -, hlocalsM, -, hkP, -, hW₁, hstep₁⟩ := Steps.initColdArgsNest (e := e) X.here C.exec X.warmed hpl C.own hnm hM.2.2.2.1 (C.nestM (args := args) hl) (C.word (args := args) hin) (C.word (args := args) hcd) (f := F0 m pc la _) rfl hlen hst (by rw [C.bytes]; exact hdg)
    cases hnamed.symm.trans n1
    rw [harr]
    exact ⟨vm₁, X.noted hW₁, hstep₁⟩
/-- a call through an object of class C: its own method, or a private one -/
def VOK (own : String) (idx : Nat) (C : String) (M' : Mt) : Prop := Cond.methodLink own idx (mtN M') ∈ lw_all ∧ Cond.instanceMethod (mtN M') ∈ lw_all ∧ (Cond.selects C (mtN M') (mtN M') ∈ lw_all ∨ Cond.privateMethod (mtN M') ∈ lw_tbl) ∧ mtG M'
theorem s_callV {x : Int} {C : String} (hm : (pc, .invokevirtual idx, 3) ∈ mtI M) (hO : VOK (mtN M).cls idx C M') (hcf : ∀ idx c, cf idx = some c → XOK (mtN M).cls idx c) (hn : nPar M' = some as.length) (hd : 0 < d) (hfit : mtL M' + 2 * st.length ≤ 50) (hent : (ent ((1, x) :: as)).length ≤ mtL M') (hrv : Recv G h x C)
    (hface : Cond.selects C (mtN M') (mtN M') ∈ lw_all ∨ ∃ n, Cond.sameMethod (mtN M').cls (mtN M').cls (mtN M').name (mtN M').desc ∈ lw_all ∧ n = 0)
    (w : WP G M' 0 (entL ((1, x) :: as) (mtL M')) [] h (d - 1) (Kc G M M' cf pc 3 ls st d P)) : WP G M pc ls (as.reverse ++ (1, x) :: st) h d P := by
  intro p e R s m args below meth c H locs la Cc hR h1 h2 h3 h4 h5
  obtain ⟨hl, hin, hsl, hM⟩ := hO
  have hdg := Cc.ok (pc, .invokevirtual idx, 3) hm
  obtain ⟨hx0, cellB, hcB, hoB, hclB⟩ := hrv.at Cc hR
  obtain ⟨mk, methk, ck, n1, n2, n3, n4, n5, n6, n7, n8, n9, n10⟩ := hM.at Cc
  obtain ⟨mkZ, methZ, hnamed, hmethM, hstM, habM⟩ := Cond.instanceMethod_spec (Cc.word (args := args) hin)
  cases hnamed.symm.trans n1
  cases hmethM.symm.trans n2
  obtain ⟨has, hS⟩ := h5.app
  have hlen : (as.map (cv G)).length = methk.sig.parameters.length := by
    unfold nPar at hn
    rw [n9] at hn
    rw [List.length_map]; exact (Option.some.inj hn).symm
  have hst : (as.reverse ++ (1, x) :: st).map (cv G) = (as.map (cv G)).reverse ++ .ref (ad G x) :: st.map (cv G) := by
    rw [map_rev, List.map_cons, show cv G ((1, x) : AV) = .ref (ad G x) from rf_pos hx0]
  have harr : (((1, x) :: as).map (cv G)).toArray = (Value.ref (ad G x) :: as.map (cv G)).toArray := by rw [List.map_cons, show cv G ((1, x) : AV) = .ref (ad G x) from rf_pos hx0]
  have hk : ∃ kP, s.vm.classes[mk.cls]? = some kP ∧ kP.isInterface = false := by
    rcases hface with hf | ⟨n, hf, -⟩
    · obtain ⟨c2, r2, m2, q1, q2, q3, q4, kP, hkP, hkPi⟩ := Cond.selects_spec (Cc.word (args := args) hf)
      cases hnamed.symm.trans q3
      exact ⟨kP, hkP, hkPi⟩
    · obtain ⟨cn, ck', r1, hcn, hck, hni, hf', hn1⟩ := Cond.sameMethod_found (Cc.word (args := args) hf)
      have : mk.cls = cn := Option.some.inj ((findClass_of_methodNamed hnamed).symm.trans hcn)
      exact ⟨ck', by rw [this]; exact hck, hni⟩
  obtain ⟨kP, hkP, hkPi⟩ := hk
  refine call_main (M' := M') (cf := cf) (len := 3) (as := (1, x) :: as) Cc hcf hR h1 h2 h3 h4 hS.tl hd hdg hM (fun v hv => by
    rcases List.mem_cons.mp hv with rfl | hv
    · exact hS _ (List.mem_cons_self ..)
    · exact has v hv) hfit hent n1 (fun T hT X => ?_) w (fun v h' q => q.1 rfl) (fun k v h' hk q => q.2 hk)
  have hselP : selectMethod e.platform s.vm cellB.cls mk = .method mk := by
    rcases hsl with hsl | hsl
    · obtain ⟨c2, r2, m2, q1, q2, q3, q4, -⟩ := Cond.selects_spec (Cc.word (args := args) hsl)
      cases hclB.symm.trans q1
      cases (State.methodFound?_of_named hnamed hM.2.2.2.1).symm.trans q2
      cases hnamed.symm.trans q3
      rw [Launch.admits_selectMethod X.admits]; exact q4
    · obtain ⟨A, hA⟩ := Cc.gx.1
      have hp0 := hA _ hsl
      obtain ⟨mk0, meth0, g1, g2, -, -⟩ := Cond.instanceMethod_spec (hA _ (lw_all_tbl hin))
      have hpr := Cond.privateMethod_at hp0 mk0 meth0 g1 g2
      have e1 : mk0 = mk := by
        have h9 : s.methodNamed? (mtN M') = (g0 G).methodNamed? (mtN M') := State.methodNamed?_setVm (s := g0 G) Cc.warm.alike (mtN M')
        exact Option.some.inj (g1.symm.trans (h9.symm.trans hnamed))
      subst e1
      have e2 : meth0 = methk := Option.some.inj (by rw [← g2, ← hmethM, Cc.warm.alike.method?])
      subst e2
      exact selectMethod_private hmethM hpr
  rw [harr]
  exact X.invokevirtual Cc.exec Cc.own (Cc.word hl) hnamed hmethM hstM hkP hkPi hM.2.2.2.1 (a := ad G x) (cell := cellB) (by rw [hT]; exact hcB)
    (fun z hz => by rw [hz] at hoB; cases hoB) hselP hmethM habM hkP hkPi (g := F0 m pc la _) rfl (argsL := as.map (cv G)) (rest := st.map (cv G)) hlen hst (by rw [Cc.bytes]; exact hdg)
end CR
