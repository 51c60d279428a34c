/-! L1: Object(), ordinal(), arraycopy, getClass -/
theorem Rel.row {G : GM} {h h' : SM} {H H' : Heap} (R : Rel G h H) {x : Int} (hx : 0 < x) (hx2 : x < h 0 0) {cell cell' : Cell} (hc : H[ad G x]? = some cell) (hc' : H'[ad G x]? = some cell') (hz : H'.size = H.size) (ho : ∀ q, q ≠ ad G x → H'[q]? = H[q]?)
    (hs : cell'.slots.size = cell.slots.size) (hh : ∀ y, y ≠ x → h' y = h y) (hn : cellN G (h' x) cell') (ht : h' x (-1) ≠ 0 ∨ True) : Rel G h' H' ∧ sumS H' (gn G) = sumS H (gn G) := by
  obtain ⟨r0, r1, r2, r3, r4, r5, r6, r7, r8⟩ := R
  have e0 : h' 0 = h 0 := hh 0 (by omega)
  have hS : sumS H' (gn G) = sumS H (gn G) := sumS_eq fun q => by
    by_cases hq : q = ad G x
    · rw [hq, hc, hc']; simp [hs]
    · rw [ho q hq]
  refine ⟨⟨by rw [e0]; exact r0, by rw [hz]; exact r1, by rw [e0, r2, hz], by rw [e0, r3, hS], fun a ha => ?_, fun y f hy => ?_, by rw [e0]; exact r6, fun y hy => ?_, fun y h1 h2 => ?_⟩, hS⟩
  · rw [ho a (by rw [ad_pos hx]; omega)]; exact r4 a ha
  · rw [hh y (by omega)]; exact r5 y f hy
  · rw [e0] at hy
    rw [hh y (by omega)]; exact r7 y hy
  · rw [e0] at h2
    by_cases hq : y = x
    · subst hq; exact ⟨cell', hc', hn⟩
    · obtain ⟨cl, hcl, hv⟩ := r8 y h1 h2
      exact ⟨cl, by rw [ho _ (fun he => hq (ad_inj h1 hx he))]; exact hcl, by rw [hh y hq]; exact hv⟩
def cpM (h : SM) (src sp dst dp n : Int) : SM := fun a f => if a = dst ∧ dp ≤ f ∧ f < dp + n then h src (sp + (f - dp)) else h a f
section PR
variable {G : GM} {M : Mt} {d pc idx : Nat} {ls st : List AV} {h : SM} {P : Nat → Int → SM → Prop}
theorem s_obj {x : Int} (hm : (pc, .invokespecial idx, 3) ∈ mtI M) (hO : Cond.methodLink (mtN M).cls idx Lib.objectInit ∈ lw_all) (hi : Cond.instanceMethod Lib.objectInit ∈ lw_all) (hcd : Cond.code Lib.objectInit ⟨#[0xb1]⟩ 1 none ∈ lw_all) (hx : x ≠ 0) (hd : 0 < d) (hst : st.length ≤ 20)
    (w : WP G M (pc + 3) ls st h d P) : WP G M pc ls ((1, x) :: st) h d P := by
  intro p e R s m args below meth cd H locs la C hR h1 h2 h3 h4 h5
  have hdg := C.ok (pc, .invokespecial idx, 3) hm
  have hfr := C.frames
  have hwo := C.words
  have hcat := cat_sum G st
  rw [List.map_cons, show cv G ((1, x) : AV) = .ref (ad G x) from rf_pos hx]
  refine W.objInit C.exec C.bytes C.own (C.word hO) (C.word hi) (C.word hcd) rfl (by rw [C.locals]; exact h4.1) rfl hdg (by omega) ?_ (w p e R s m args below meth cd H locs la C hR h1 h2 h3 h4 h5.tl)
  show 2 * 0 + (List.map (fun v => v.category) (List.map (cv G) st)).sum + 12 ≤ R.locals
  omega
theorem s_geto {x : Int} {j : Nat} (hm : (pc, .getfield idx, 3) ∈ mtI M) (hO : Cond.fieldLink (mtN M).cls idx "java/lang/Enum" "ordinal" "I" ∈ lw_all) (hj : j < 3) (ht : h x (-1) = 50 + (j : Int))
    (w : WP G M (pc + 3) ls ((0, h x 0) :: st) h d P) : WP G M pc ls ((1, x) :: st) h d P := by
  intro p e R s m args below meth cd H locs la C hR h1 h2 h3 h4 h5
  have hdg := C.ok (pc, .getfield idx, 3) hm
  obtain ⟨h0, cell, q1, q2, q3, q4⟩ := hR.view C.gx (x := x) (by omega)
  rw [List.map_cons, show cv G ((1, x) : AV) = .ref (ad G x) from rf_pos h0]
  rcases q4 with ⟨c', r', e1, e2, -⟩ | ⟨t, ty, e1, -⟩ | ⟨j', cf, kf, fi, fd, e1, e2, e3, e4, e5, e6, e7⟩
  · have := clsL_len e2; omega
  · omega
  · obtain ⟨k', hi', -⟩ := State.fieldFound?_setVm C.warm.alike e4
    exact W.getf C.exec C.bytes C.own (C.word hO) (show s.fieldFound? "java/lang/Enum" "ordinal" "I" = some (cf, k', fi, fd) from hi') e5 q1 q2 e6 rfl rfl hdg (w p e R s m args below meth cd H locs la C hR h1 h2 h3 h4 (h5.tl.ci e7))
/-- what System.arraycopy asks of the tables -/
def acOK (own : String) (idx : Nat) : Prop := Cond.methodLink own idx arraycopyName ∈ lw_all ∧ Cond.native arraycopyName ∈ lw_all ∧ Cond.static arraycopyName ∈ lw_all ∧ Cond.initialized "java/lang/System" ∈ lw_all
theorem s_copy {t : Nat} {ty : FieldType} {src sp dst dp n : Int} (hm : (pc, .invokestatic idx, 3) ∈ mtI M) (hO : acOK (mtN M).cls idx) (ha : arrT t = some ty) (hx0 : 0 < dst) (ht1 : h src (-1) = 100 + (t : Int)) (ht2 : h dst (-1) = 100 + (t : Int))
    (hsp : 0 ≤ sp) (hdp : 0 ≤ dp) (hn : 0 ≤ n) (hb1 : sp + n ≤ h src (-2)) (hb2 : dp + n ≤ h dst (-2)) (hel : ∀ E, ty = .object E → ∀ i, sp ≤ i → i < sp + n → h src i = 0 ∨ ∃ c : Nat, h (h src i) (-1) = (c : Int) + 1 ∧ asgOK t c)
    (hd : 0 < d) (hst : st.length ≤ 20) (w : WP G M (pc + 3) ls st (cpM h src sp dst dp n) d P) : WP G M pc ls ((0, n) :: (0, dp) :: (1, dst) :: (0, sp) :: (1, src) :: st) h d P := by
  intro p e R s m args below meth cd H locs la C hR h1 h2 h3 h4 h5
  have hdg := C.ok (pc, .invokestatic idx, 3) hm
  have hfr := C.frames
  have hwo := C.words
  have hcat := cat_sum G st
  obtain ⟨hx2, cell, q1, qN⟩ := hR.new hx0 (by omega)
  obtain ⟨h0, cell', q1', q2, q3, q4, q5, q6, q7⟩ := hR.arr C.gx ha ht2
  cases q1.symm.trans q1'
  obtain ⟨s0, cs, y1, y2, y3, y4, y5, y6, y7⟩ := hR.arr C.gx ha ht1
  obtain ⟨w1, w2, w3, w4⟩ := hO
  obtain ⟨N, rfl⟩ := Int.eq_ofNat_of_zero_le hn
  obtain ⟨SP, rfl⟩ := Int.eq_ofNat_of_zero_le hsp
  obtain ⟨DP, rfl⟩ := Int.eq_ofNat_of_zero_le hdp
  have iN : in32 (N : Int) := h5.hd
  have iD : in32 (DP : Int) := h5.tl.hd
  have iS : in32 (SP : Int) := h5.tl.tl.tl.hd
  have cN : (Int32.ofInt (N : Int)).toNatClampNeg = N := by rw [i32_clamp hn iN.2]; rfl
  have cS : (Int32.ofInt (SP : Int)).toNatClampNeg = SP := by rw [i32_clamp hsp iS.2]; rfl
  have cD : (Int32.ofInt (DP : Int)).toNatClampNeg = DP := by rw [i32_clamp hdp iD.2]; rfl
  have q4' := State.isArrayOf_alike C.warm.alike q4
  have y4' := State.isArrayOf_alike C.warm.alike y4
  obtain ⟨-, kd, hkd, cmd, hkkd⟩ := q4'
  obtain ⟨-, ks, hks, cms, hkks⟩ := y4'
  have nz : ∀ z : Int, 0 ≤ z → in32 z → ¬ Int32.ofInt z < 0 := fun z hz hi => by rw [i0, i32_lt hi in0]; omega
  intro T hT X
  have hvals : ∀ vm', s.vm.Alike vm' → ∀ i, i < (Int32.ofInt (N : Int)).toNatClampNeg → fits ty (cs.slots.getD ((Int32.ofInt (SP : Int)).toNatClampNeg + i) .null) = true ∧ (T.setVm vm').takes cmd (cs.slots.getD ((Int32.ofInt (SP : Int)).toNatClampNeg + i) .null) := by
    intro vm' hal i hi
    rw [cN] at hi
    rw [cS]
    have hlt : SP + i < cs.slots.size := by omega
    obtain ⟨g1, g2⟩ := y7 (SP + i) hlt
    have eg : cs.slots.getD (SP + i) .null = cv G (tg ty, h src ((SP + i : Nat) : Int)) := by rw [Array.getD_eq_getD_getElem?, g1]; rfl
    rw [eg]
    refine ⟨fits_of G g2, ?_⟩
    rcases arrT_cases ha with ⟨-, rfl⟩ | ⟨-, rfl⟩ | ⟨-, rfl⟩ | ht | ht
    · trivial
    · trivial
    · trivial
    all_goals
      obtain ⟨-, rfl⟩ := ht
      show (T.setVm vm').takes cmd (rf G (h src ((SP + i : Nat) : Int)))
      rcases hel _ rfl ((SP + i : Nat) : Int) (by omega) (by omega) with e0 | ⟨c, hc, r, E, a1, a2, a3⟩
      · rw [e0]; trivial
      · cases ha.symm.trans a2
        obtain ⟨v0, cl2, z1, z2, z3, z4, -⟩ := hR.obj C.gx a1 hc
        rw [rf_pos v0]
        have hkn := C.kn a1
        obtain ⟨kC, hkC, -⟩ := hkn.2.2
        obtain ⟨cC, cT, f1, f2, f3⟩ := Cond.castable_spec (va_Nw.use (A := args) rfl (C.cast a3))
        have hcC : cC = gC G c := Option.some.inj (f1.symm.trans hkn.2.1)
        obtain ⟨kA, comp, b1, b2, b3, b4⟩ := ((C.gx.2.2.1 t _ ha).2).moved C.warm.alike
        rw [qN.2.2.2 t ht2] at hkd
        cases hkd.symm.trans b1
        cases hkkd.symm.trans b2
        have hcT : cT = cmd := Option.some.inj (f2.symm.trans b3)
        obtain ⟨kE, hkE⟩ := Vm.classAt_of_findClass b3
        obtain ⟨kC', hkC', -⟩ := hal.2.2 _ _ hkC
        obtain ⟨kE', hkE', -⟩ := hal.2.2 _ _ hkE
        refine ⟨cl2, by show T.heap[_]? = _; rw [hT]; exact z1, VmData.ne_statics_of z3, by rw [z4]; exact ⟨kC', hkC'⟩, ⟨kE', hkE'⟩, ?_⟩
        show vm'.assignable _ _ = true
        rw [hal.assignable, z4, ← hcC, ← hcT]; exact f3
  obtain ⟨vm', X', step⟩ := X.arraycopy C.exec C.own (C.word w1) (C.word w2) (C.word w3) (C.word w4) (src := ad G src) (dst := ad G dst) (cs := cs) (cd := cell) (srcPos := Int32.ofInt (SP : Int)) (destPos := Int32.ofInt (DP : Int)) (n := Int32.ofInt (N : Int)) (by rw [hT]; exact y1) (by rw [hT]; exact q1)
    (VmData.ne_statics_of y3) (VmData.ne_statics_of q3) y2 q2 hks hkd hkks hkkd (by cases refKind ty <;> simp) (nz _ hsp iS) (nz _ hdp iD) (nz _ hn iN)
    (by rw [i32_toInt iS.1 iS.2, i32_toInt iN.1 iN.2]; omega) (by rw [i32_toInt iD.1 iD.2, i32_toInt iN.1 iN.2]; omega) hvals
    (g := F0 m pc la (.int (Int32.ofInt (N : Int)) :: .int (Int32.ofInt (DP : Int)) :: .ref (ad G dst) :: .int (Int32.ofInt (SP : Int)) :: .ref (ad G src) :: st.map (cv G))) rfl (by rw [C.locals]; exact h4.1) (rest := st.map (cv G)) rfl (by rw [C.bytes]; exact hdg) (by omega)
    (by show 2 * 0 + (List.map (fun v => v.category) (List.map (cv G) st)).sum + (nativeFrameWords "java/lang/System" "arraycopy" 5 + 11) ≤ R.locals; have : nativeFrameWords "java/lang/System" "arraycopy" 5 = 7 := by decide
        omega)
  have hcp : copied cs cell (Int32.ofInt (SP : Int)) (Int32.ofInt (DP : Int)) (Int32.ofInt (N : Int)) = cell.storeRun DP (cs.stretch SP N) := by
    show cell.storeRun (Int32.ofInt (DP : Int)).toNatClampNeg (cs.stretch (Int32.ofInt (SP : Int)).toNatClampNeg (Int32.ofInt (N : Int)).toNatClampNeg) = _
    rw [cN, cS, cD]
  rw [hcp] at X' step
  have hlenS : (cs.stretch SP N).length = N := by simp [Cell.stretch]
  obtain ⟨f1, f2, f3, f4, f5⟩ := Cell.storeRun_facts cell DP (cs.stretch SP N)
  have hget := fun j => Cell.storeRun_get cell DP (cs.stretch SP N) j (by rw [hlenS]; omega)
  generalize hcl' : cell.storeRun DP (cs.stretch SP N) = cell2 at X' step f1 f2 f3 f4 f5 hget
  have e1 : ∀ f, f < 0 → cpM h src SP dst DP N dst f = h dst f := fun f hf => by unfold cpM; rw [if_neg (by omega)]
  have hN2 : cellN G (cpM h src SP dst DP N dst) cell2 := by
    obtain ⟨⟨v1, v2, v3⟩, m1, m2, m3⟩ := qN
    refine ⟨⟨by rw [f2]; exact v1, by rw [f2]; exact v2, Or.inr (Or.inl ⟨t, ty, by rw [e1 _ (by omega)]; exact ht2, ha, ?_, by rw [f3, e1 _ (by omega)]; exact q5, by rw [e1 _ (by omega)]; exact q6, fun i hi => ?_⟩)⟩, by rw [f2]; exact m1, by rw [f5]; exact m2, fun t' he => by rw [e1 _ (by omega)] at he; rw [f1]; exact m3 t' he⟩
    · obtain ⟨g1, k, hk, hkk⟩ := q4
      exact ⟨fun k hk' => (by rw [f2] at hk'; exact g1 k hk'), k, by rw [f1]; exact hk, hkk⟩
    · rw [f3] at hi
      rw [hget i]
      by_cases hin : DP ≤ i ∧ i < DP + N
      · have e2 : cpM h src SP dst DP N dst (i : Int) = h src ((SP + (i - DP) : Nat) : Int) := by
          unfold cpM; rw [if_pos ⟨rfl, by omega, by omega⟩]; congr 1; omega
        obtain ⟨g1, g2⟩ := y7 (SP + (i - DP)) (by omega)
        rw [e2]
        refine ⟨?_, g2⟩
        rw [if_pos ⟨hin.1, by rw [hlenS]; exact hin.2⟩]
        have : (cs.stretch SP N)[i - DP]? = some (cs.slots.getD (SP + (i - DP)) .null) := by
          unfold Cell.stretch
          rw [List.getElem?_map, List.getElem?_range (by omega)]; rfl
        rw [this, Array.getD_eq_getD_getElem?, g1]; rfl
      · have e2 : cpM h src SP dst DP N dst (i : Int) = h dst (i : Int) := by
          unfold cpM; rw [if_neg (by omega)]
        rw [e2, if_neg (by rw [hlenS]; exact hin)]
        exact q7 i hi
  have hh : ∀ y, y ≠ dst → cpM h src SP dst DP N y = h y := fun y hy => funext fun f => by unfold cpM; rw [if_neg (fun q => hy q.1)]
  have hlt : ad G dst < (T.setVm vm').heap.size := by show _ < T.heap.size; rw [hT]; exact (Array.getElem?_eq_some_iff.mp q1).1
  have g1 : ((T.setVm vm').setCell (ad G dst) cell2).heap[ad G dst]? = some cell2 := heapAt_setCell_self _ hlt
  have g2 : ((T.setVm vm').setCell (ad G dst) cell2).heap.size = H.size := by rw [size_setCell]; show T.heap.size = _; rw [hT]
  have g3 : ∀ q, q ≠ ad G dst → ((T.setVm vm').setCell (ad G dst) cell2).heap[q]? = H[q]? := fun q hq => by rw [heapAt_setCell_ne _ (Ne.symm hq)]; show T.heap[q]? = _; rw [hT]
  obtain ⟨hR', hS'⟩ := hR.row hx0 hx2 q1 g1 g2 g3 f3 hh hN2 (Or.inr trivial)
  obtain ⟨t', a1, b1⟩ := w p e R s m args below meth cd _ (locs ++ (List.map (fun q => (⟨ad G dst, (Int32.ofInt (DP : Int)).toNatClampNeg + q.2⟩ : Loc)) (cs.stretch (Int32.ofInt (SP : Int)).toNatClampNeg (Int32.ofInt (N : Int)).toNatClampNeg).zipIdx)) la C hR' (by rw [g2]; exact h1) (by rw [hS']; exact h2) (fun q hq => by
    rcases List.mem_append.mp hq with hq | hq
    · exact h3 q hq
    · obtain ⟨z, hz, rfl⟩ := List.mem_map.mp hq
      show gn G ≤ ad G dst
      rw [ad_pos hx0]; omega) h4 h5.tl.tl.tl.tl.tl ((T.setVm vm').setCell (ad G dst) cell2) rfl (by rw [g2, hS']; exact X')
  refine ⟨t', ?_, b1⟩
  rw [List.map_cons, List.map_cons, List.map_cons, List.map_cons, List.map_cons, show cv G ((1, dst) : AV) = .ref (ad G dst) from rf_pos (by omega), show cv G ((1, src) : AV) = .ref (ad G src) from rf_pos s0]
  exact step t' a1
/-- getClass() of an Object[] that was made here -/
def gcOK (own : String) (idx : Nat) : Prop := Cond.methodLink own idx ⟨"java/lang/Object", "getClass", "()Ljava/lang/Class;"⟩ ∈ lw_all ∧ Cond.declares ⟨"java/lang/Object", "getClass", "()Ljava/lang/Class;"⟩ ∈ lw_tbl ∧ Cond.selects "[Ljava/lang/Object;" ⟨"java/lang/Object", "getClass", "()Ljava/lang/Class;"⟩ ⟨"java/lang/Object", "getClass", "()Ljava/lang/Class;"⟩ ∈ lw_all ∧ Cond.instanceMethod ⟨"java/lang/Object", "getClass", "()Ljava/lang/Class;"⟩ ∈ lw_all ∧ Cond.native ⟨"java/lang/Object", "getClass", "()Ljava/lang/Class;"⟩ ∈ lw_all
theorem s_getC {x : Int} (hm : (pc, .invokevirtual idx, 3) ∈ mtI M) (hO : gcOK (mtN M).cls idx) (hx0 : 0 < x) (ht : h x (-1) = 104) (hd : 0 < d) (hst : st.length ≤ 20)
    (w : WP G M (pc + 3) ls ((1, -26) :: st) h d P) : WP G M pc ls ((1, x) :: st) h d P := by
  intro p e R s m args below meth cd H locs la C hR h1 h2 h3 h4 h5
  have hdg := C.ok (pc, .invokevirtual idx, 3) hm
  have hfr := C.frames
  have hwo := C.words
  have hcat := cat_sum G st
  obtain ⟨w1, w2, w3, w4, w5⟩ := hO
  obtain ⟨hx2, cell, q1, qN⟩ := hR.new hx0 (by omega)
  have hra := ((C.gx.2.2.1 4 _ rfl).2).moved C.warm.alike
  have hfc : s.vm.findClass "[Ljava/lang/Object;" = some (gA G 4) := va_nmO hra rfl
  obtain ⟨A, hA⟩ := C.gx.1
  have hM := va_Mi.moved C.warm.alike C.gx.2.2.2.2.2.2.2.2.2.2.1
  have hdc := va_Dc.use (A := args) (va_Dc.moved C.warm.alike (va_Dc.of (hA _ w2)))
  rw [List.map_cons, show cv G ((1, x) : AV) = .ref (ad G x) from rf_pos (by omega)]
  exact va_getC C.exec C.bytes (by rw [C.locals, h4.1]) C.own (C.word w1) hdc (C.word w3) (C.word w4) (C.word w5) hM ⟨cell, q1, by rw [qN.2.1]; rfl, by rw [qN.2.2.2 4 ht]; exact hfc⟩ (by omega) (by omega) hdg (w p e R s m args below meth cd H locs la C hR h1 h2 h3 h4 (h5.tl.cr (by decide)))
end PR
