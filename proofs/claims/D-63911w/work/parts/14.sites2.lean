section CR2
variable {G : GM} {M M' : Mt} {d pc idx : Nat} {ls st as : List AV} {h : SM} {P : Nat → Int → SM → Prop} {cf : Nat → Option Nat}
/-- a call whose named method y is inherited: the receiver's class C selects M' -/
def UOK (own : String) (idx : Nat) (y : MethodName) (owner C : String) (M' : Mt) : Prop := Cond.methodLink own idx y ∈ lw_all ∧ Cond.sameMethod y.cls owner y.name y.desc ∈ lw_all ∧ Cond.instanceMethod ⟨owner, y.name, y.desc⟩ ∈ lw_all ∧ (∃ b n r, Cond.code ⟨owner, y.name, y.desc⟩ b n r ∈ lw_all) ∧
  (owner ≠ "java/lang/invoke/MethodHandle" ∧ owner ≠ "java/lang/invoke/VarHandle") ∧ Cond.selects C y (mtN M') ∈ lw_all ∧ Cond.instanceMethod (mtN M') ∈ lw_all ∧ y.desc = (mtN M').desc ∧ mtG M'
theorem s_callU {x : Int} {C owner : String} {y : MethodName} (hm : (pc, .invokevirtual idx, 3) ∈ mtI M) (hO : UOK (mtN M).cls idx y owner C M') (hcf : ∀ idx c, cf idx = some c → XOK (mtN M).cls idx c) (hn : nPar M' = some as.length) (hd : 0 < d) (hfit : mtL M' + 2 * st.length ≤ 50) (hent : (ent ((1, x) :: as)).length ≤ mtL M') (hrv : Recv G h x C)
    (w : WP G M' 0 (entL ((1, x) :: as) (mtL M')) [] h (d - 1) (Kc G M M' cf pc 3 ls st d P)) : WP G M pc ls (as.reverse ++ (1, x) :: st) h d P := by
  intro p e R s m args below meth c H locs la Cc hR h1 h2 h3 h4 h5
  obtain ⟨hl, hsm, hdi, ⟨b0, n0, r0', hdc⟩, how, hsl, hin, hde, hM⟩ := hO
  have hdg := Cc.ok (pc, .invokevirtual idx, 3) hm
  obtain ⟨hx0, cellB, hcB, hoB, hclB⟩ := hrv.at Cc hR
  obtain ⟨mk, methk, ck, n1, n2, n3, n4, n5, n6, n7, n8, n9, n10⟩ := hM.at Cc
  obtain ⟨mkZ, methZ, hnamed, hmethM, hstM, habM⟩ := Cond.instanceMethod_spec (Cc.word (args := args) hin)
  cases hnamed.symm.trans n1
  cases hmethM.symm.trans n2
  obtain ⟨has, hS⟩ := h5.app
  obtain ⟨r0, r, hnr, hrm, hstR, hsigR⟩ := va_Decl.of (Cc.word (args := args) hdi) (Cc.word hdc)
  have hlen : (as.map (cv G)).length = r.sig.parameters.length := by
    unfold nPar at hn
    rw [← hde] at hn
    rw [hsigR] at hn
    rw [List.length_map]; exact (Option.some.inj hn).symm
  have hst : (as.reverse ++ (1, x) :: st).map (cv G) = (as.map (cv G)).reverse ++ .ref (ad G x) :: st.map (cv G) := by
    rw [map_rev, List.map_cons, show cv G ((1, x) : AV) = .ref (ad G x) from rf_pos hx0]
  have harr : (((1, x) :: as).map (cv G)).toArray = (Value.ref (ad G x) :: as.map (cv G)).toArray := by rw [List.map_cons, show cv G ((1, x) : AV) = .ref (ad G x) from rf_pos hx0]
  refine call_main (M' := M') (cf := cf) (len := 3) (as := (1, x) :: as) Cc hcf hR h1 h2 h3 h4 hS.tl hd hdg hM (fun v hv => by
    rcases List.mem_cons.mp hv with rfl | hv
    · exact hS _ (List.mem_cons_self ..)
    · exact has v hv) hfit hent n1 (fun T hT X => ?_) w (fun v h' q => q.1 rfl) (fun k v h' hk q => q.2 hk)
  obtain ⟨cn, ck', r1, hcn, hck, hni, hf, hn1⟩ := Cond.sameMethod_found (Cc.word (args := args) hsm)
  cases hnr.symm.trans hn1
  obtain ⟨c2, r2, m2, q1, q2, q3, q4, kP, hkP, hkPi⟩ := Cond.selects_spec (Cc.word (args := args) hsl)
  cases hclB.symm.trans q1
  cases hf.symm.trans q2
  cases hnamed.symm.trans q3
  have hselP : selectMethod e.platform s.vm cellB.cls r0 = .method mk := by rw [Launch.admits_selectMethod X.admits]; exact q4
  rw [harr]
  exact X.invokevirtualUp Cc.exec Cc.own (Cc.word hl) (Cc.word hsm) how hnr hrm hstR (a := ad G x) (cell := cellB) (by rw [hT]; exact hcB)
    (fun z hz => by rw [hz] at hoB; cases hoB) hselP hmethM habM hkP hkPi (g := F0 m pc la _) rfl (argsL := as.map (cv G)) (rest := st.map (cv G)) hlen hst (by rw [Cc.bytes]; exact hdg)
/-- super.m(..) -/
def POK (own : String) (idx : Nat) (M' : Mt) : Prop := Cond.methodLink own idx (mtN M') ∈ lw_all ∧ Cond.sameMethod (mtN M').cls (mtN M').cls (mtN M').name (mtN M').desc ∈ lw_all ∧ Cond.superclass own (mtN M').cls ∈ lw_all ∧ Cond.instanceMethod (mtN M') ∈ lw_all ∧ (mtN M').name ≠ "<init>" ∧ mtG M'
theorem s_callP {x : Int} {C : String} (hm : (pc, .invokespecial idx, 3) ∈ mtI M) (hO : POK (mtN M).cls idx M') (hcf : ∀ idx c, cf idx = some c → XOK (mtN M).cls idx c) (hn : nPar M' = some as.length) (hd : 0 < d) (hfit : mtL M' + 2 * st.length ≤ 50) (hent : (ent ((1, x) :: as)).length ≤ mtL M') (hrv : Recv G h x C)
    (w : WP G M' 0 (entL ((1, x) :: as) (mtL M')) [] h (d - 1) (Kc G M M' cf pc 3 ls st d P)) : WP G M pc ls (as.reverse ++ (1, x) :: st) h d P := by
  intro p e R s m args below meth c H locs la Cc hR h1 h2 h3 h4 h5
  obtain ⟨hl, hsm, hsu, hin, hno, hM⟩ := hO
  have hdg := Cc.ok (pc, .invokespecial idx, 3) hm
  obtain ⟨hx0, cellB, hcB, hoB, hclB⟩ := hrv.at Cc hR
  obtain ⟨mk, methk, ck, n1, n2, n3, n4, n5, n6, n7, n8, n9, n10⟩ := hM.at Cc
  obtain ⟨mkZ, methZ, hnamed, hmethM, hstM, habM⟩ := Cond.instanceMethod_spec (Cc.word (args := args) hin)
  cases hnamed.symm.trans n1
  cases hmethM.symm.trans n2
  obtain ⟨has, hS⟩ := h5.app
  have hlen : (as.map (cv G)).length = methk.sig.parameters.length := by
    unfold nPar at hn
    rw [n9] at hn
    rw [List.length_map]; exact (Option.some.inj hn).symm
  have hst : (as.reverse ++ (1, x) :: st).map (cv G) = (as.map (cv G)).reverse ++ .ref (ad G x) :: st.map (cv G) := by
    rw [map_rev, List.map_cons, show cv G ((1, x) : AV) = .ref (ad G x) from rf_pos hx0]
  have harr : (((1, x) :: as).map (cv G)).toArray = (Value.ref (ad G x) :: as.map (cv G)).toArray := by rw [List.map_cons, show cv G ((1, x) : AV) = .ref (ad G x) from rf_pos hx0]
  refine call_main (M' := M') (cf := cf) (len := 3) (as := (1, x) :: as) Cc hcf hR h1 h2 h3 h4 hS.tl hd hdg hM (fun v hv => by
    rcases List.mem_cons.mp hv with rfl | hv
    · exact hS _ (List.mem_cons_self ..)
    · exact has v hv) hfit hent n1 (fun T hT X => ?_) w (fun v h' q => q.1 rfl) (fun k v h' hk q => q.2 hk)
  obtain ⟨ps, dk, kp, hps, hdk, hkp, hsuper, -, -, hnid⟩ := Cond.superclass_spec Cc.own (Cc.word (args := args) hsu)
  have hn' : s.methodNamed? ⟨(mtN M').cls, (mtN M').name, (mtN M').desc⟩ = some mk := hnamed
  have hpm : ps = mk.cls := Option.some.inj (hps.symm.trans (findClass_of_methodNamed hnamed))
  have hsub : s.vm.isSubclass ps mk.cls = true := by rw [hpm]; simp [Vm.isSubclass, Vm.isSubclassAux]
  obtain ⟨kB, hkB⟩ := Vm.classAt_of_findClass hclB
  obtain ⟨vm₁, X₁, hstep⟩ := X.invokespecialUp Cc.exec Cc.own (Cc.word hl) (Cc.word hsm) hn' hmethM hstM habM hno hdk hnid hps hsuper hsub (a := ad G x) (cell := cellB) (by rw [hT]; exact hcB)
    (fun z hz => by rw [hz] at hoB; cases hoB) hkB (g := F0 m pc la _) rfl (argsL := as.map (cv G)) (rest := st.map (cv G)) hlen hst (by rw [Cc.bytes]; exact hdg)
  rw [harr]
  exact ⟨vm₁, X₁, fun target hh => hstep target (hh [])⟩
/-- a call through an interface -/
def FaOK (own : String) (idx : Nat) (y : MethodName) (C : String) (M' : Mt) : Prop := Cond.methodLink own idx y ∈ lw_all ∧ Cond.declares y ∈ lw_tbl ∧ Cond.interfaceMethod y.cls y.cls y.name y.desc ∈ lw_tbl ∧ Cond.selects C y (mtN M') ∈ lw_all ∧ Cond.instanceMethod (mtN M') ∈ lw_all ∧ Cond.publicMethod (mtN M') ∈ lw_tbl ∧ Cond.unhidden C y.name y.desc ∈ lw_tbl ∧ Cond.castable C y.cls ∈ lw_tbl ∧
  (y.cls ≠ "java/lang/invoke/MethodHandle" ∧ y.cls ≠ "java/lang/invoke/VarHandle") ∧ y.desc = (mtN M').desc ∧ mtG M'
theorem s_callF {x : Int} {C : String} {y : MethodName} {cnt : Nat} (hm : (pc, .invokeinterface idx cnt, 5) ∈ mtI M) (hO : FaOK (mtN M).cls idx y C M') (hcf : ∀ idx c, cf idx = some c → XOK (mtN M).cls idx c) (hn : nPar M' = some as.length) (hd : 0 < d) (hfit : mtL M' + 2 * st.length ≤ 50) (hent : (ent ((1, x) :: as)).length ≤ mtL M') (hrv : Recv G h x C)
    (w : WP G M' 0 (entL ((1, x) :: as) (mtL M')) [] h (d - 1) (Kc G M M' cf pc 5 ls st d P)) : WP G M pc ls (as.reverse ++ (1, x) :: st) h d P := by
  intro p e R s m args below meth c H locs la Cc hR h1 h2 h3 h4 h5
  obtain ⟨hl, hde, hfa, hsl, hin, hpu, hun, hca, hy, hdd, hM⟩ := hO
  have hdg := Cc.ok (pc, .invokeinterface idx cnt, 5) hm
  obtain ⟨hx0, cellB, hcB, hoB, hclB⟩ := hrv.at Cc hR
  obtain ⟨mk, methk, ck, n1, n2, n3, n4, n5, n6, n7, n8, n9, n10⟩ := hM.at Cc
  obtain ⟨mkZ, methZ, hnamed, hmethM, hstM, habM⟩ := Cond.instanceMethod_spec (Cc.word (args := args) hin)
  cases hnamed.symm.trans n1
  cases hmethM.symm.trans n2
  obtain ⟨has, hS⟩ := h5.app
  obtain ⟨A, hA⟩ := Cc.gx.1
  have hFw := va_Fw.moved hy Cc.warm.alike (va_Fw.of (hA _ hde) (hA _ hfa) (hA _ hpu) (hA _ hun) (hA _ hca))
  obtain ⟨f1, f2, f3, f4, f5⟩ := hFw
  obtain ⟨r0, r, hnr, hrm, hstR, hsigR⟩ := Cond.declares_spec f1
  have hlen : (as.map (cv G)).length = r.sig.parameters.length := by
    unfold nPar at hn
    rw [← hdd] at hn
    rw [hsigR] at hn
    rw [List.length_map]; exact (Option.some.inj hn).symm
  have hst : (as.reverse ++ (1, x) :: st).map (cv G) = (as.map (cv G)).reverse ++ .ref (ad G x) :: st.map (cv G) := by
    rw [map_rev, List.map_cons, show cv G ((1, x) : AV) = .ref (ad G x) from rf_pos hx0]
  have harr : (((1, x) :: as).map (cv G)).toArray = (Value.ref (ad G x) :: as.map (cv G)).toArray := by rw [List.map_cons, show cv G ((1, x) : AV) = .ref (ad G x) from rf_pos hx0]
  refine call_main (M' := M') (cf := cf) (len := 5) (as := (1, x) :: as) Cc hcf hR h1 h2 h3 h4 hS.tl hd hdg hM (fun v hv => by
    rcases List.mem_cons.mp hv with rfl | hv
    · exact hS _ (List.mem_cons_self ..)
    · exact has v hv) hfit hent n1 (fun T hT X => ?_) w (fun v h' q => q.1 rfl) (fun k v h' hk q => q.2 hk)
  obtain ⟨cL, kL, r1, hcL, hkL, hiL, hfoundL, hn1⟩ := Cond.interfaceMethod_spec f2
  cases hnr.symm.trans hn1
  have hr0cls : r0.cls = cL := Option.some.inj ((findClass_of_methodNamed hnr).symm.trans hcL)
  obtain ⟨hnameR, hdescR⟩ := name_of_methodNamed hnr hrm
  obtain ⟨c2, r2, m2, q1, q2, q3, q4, -⟩ := Cond.selects_spec (Cc.word (args := args) hsl)
  cases hclB.symm.trans q1
  cases hfoundL.symm.trans q2
  cases hnamed.symm.trans q3
  have hselP : selectMethod e.platform s.vm cellB.cls r0 = .method mk := by rw [Launch.admits_selectMethod X.admits]; exact q4
  have hpubM : hasFlag methk.accessFlags Acc.public_ = true := Cond.publicMethod_spec hnamed hmethM f3
  have hway : ((cellB.cls :: s.vm.superclasses cellB.cls).any fun k => (declaredIn s.vm r.name r.desc k).any fun (_, z) => z.isPrivate || z.isStatic) = false := by
    rw [hnameR, hdescR]; exact Cond.unhidden_spec hclB f4
  obtain ⟨c3, t3, w1, w2, w3⟩ := Cond.castable_spec f5
  cases hclB.symm.trans w1
  cases hcL.symm.trans w2
  obtain ⟨kB, hkB⟩ := Vm.classAt_of_findClass hclB
  rw [harr]
  exact X.invokeinterface Cc.exec Cc.own (Cc.word hl) hnr hrm hstR (by rw [hr0cls]; exact hkL) hiL hy (a := ad G x) (cell := cellB) (kcell := kB) (by rw [hT]; exact hcB)
    (fun z hz => by rw [hz] at hoB; cases hoB) hkB (by rw [hr0cls]; exact w3) hselP hmethM hway hpubM habM (g := F0 m pc la _) rfl (argsL := as.map (cv G)) (rest := st.map (cv G)) hlen hst (by rw [Cc.bytes]; exact hdg)
end CR2
