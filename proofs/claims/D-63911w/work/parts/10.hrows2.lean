/-! L1: births, arrays -/
/-- a class's site: the entry idx of the class own names class c -/
def KOK (own : String) (idx c : Nat) : Prop := ∃ r : KC, clsL[c]? = some r ∧ Cond.classLink own idx r.1 ∈ lw_all ∧ Cond.instantiable r.1 r.2.2.2.2 ∈ lw_all ∧ Cond.initialized r.1 ∈ lw_all
section HR2
variable {G : GM} {M : Mt} {d pc idx : Nat} {ls st : List AV} {h : SM} {P : Nat → Int → SM → Prop}
theorem s_new {c : Nat} {r : KC} (hm : (pc, .new idx, 3) ∈ mtI M) (hK : KOK (mtN M).cls idx c) (hr : clsL[c]? = some r) (hc : h 0 0 ≤ LIMC) (hs : h 0 1 + (r.2.2.2.2 : Int) ≤ LIMS)
    (w : WP G M (pc + 3) ls ((1, h 0 0) :: st) (al h ((c : Int) + 1) 0 r.2.2.2.2) d P) : WP G M pc ls st h d P := by
  intro p e R s m args below meth cd H locs la C hR h1 h2 h3 h4 h5
  obtain ⟨r', e1, w1, w2, w3⟩ := hK
  cases hr.symm.trans e1
  have hdg := C.ok (pc, .new idx, 3) hm
  have hcells := C.cells
  have hslots := C.slots
  have hold := C.old
  obtain ⟨-, r1, r2, r3, -⟩ := id hR
  refine W.newc C.exec C.bytes C.own (C.word w1) (C.word w2) (C.word w3) rfl hdg (by omega) (by omega) fun cC kC k1 k2 k3 k4 => ?_
  obtain ⟨o1, o2, o3⟩ := clsL_ok r (List.mem_of_getElem? hr)
  have hkn := C.kn hr
  have hcC : cC = gC G c := Option.some.inj (k1.symm.trans hkn.2.1)
  subst hcC
  have hcell : (H.push { cls := gC G c, slots := kC.instanceTypes.map defaultValue, vm := .none } : Heap)[H.size]? = some (blank (gC G c) kC) := by simp [blank]
  have hb := u_born (r.2.2.2.1) (args := args) C.words' o3 hkn k2 hcell o2
  obtain ⟨cell, b1, b2, b3, b4⟩ := hb
  cases hcell.symm.trans b1
  have hz : ((blank (gC G c) kC).slots.size : Int) = (r.2.2.2.2 : Int) := by simp [blank, k4]
  have c25 := clsL_len hr
  have hpos : 0 < h 0 0 := by omega
  have hal : ∀ f : Int, al h ((c : Int) + 1) 0 r.2.2.2.2 (h 0 0) f = if f = -1 then (c : Int) + 1 else if f = -2 then 0 else 0 := fun f => by
    unfold al; rw [if_neg (by omega), if_pos rfl]
  have hN : cellN G (al h ((c : Int) + 1) 0 r.2.2.2.2 (h 0 0)) (blank (gC G c) kC) := by
    refine ⟨⟨(fun q => by cases q), rfl, Or.inl ⟨c, r, by rw [hal, if_pos rfl], hr, rfl, fun f hf => ?_⟩⟩, rfl, rfl, fun t ht => ?_⟩
    · have e0 : al h ((c : Int) + 1) 0 r.2.2.2.2 (h 0 0) (f : Int) = 0 := by rw [hal, if_neg (by omega), if_neg (by omega)]
      have hnf := clsL_nf r (List.mem_of_getElem? hr) f hf
      rw [e0]
      exact ⟨(b4 f hf).trans (congrArg some (dflt_0 G hnf)), okT_0 hnf⟩
    · rw [hal, if_pos rfl] at ht; omega
  have hbn := hR.born (H' := H.push { cls := gC G c, slots := kC.instanceTypes.map defaultValue, vm := .none }) hcell (by simp) (fun q hq => by rw [Array.getElem?_push, if_neg (Nat.ne_of_lt hq)]) hz hN hc hs
  obtain ⟨hR', -, had⟩ := hbn
  have hz2 : (H.push { cls := gC G c, slots := kC.instanceTypes.map defaultValue, vm := .none } : Heap).size = H.size + 1 := by simp
  have hS2 : sumS (H.push { cls := gC G c, slots := kC.instanceTypes.map defaultValue, vm := .none } : Heap) (gn G) = sumS H (gn G) + r.2.2.2.2 := by
    rw [sumS_push r1 hz2 (fun q hq => by rw [Array.getElem?_push, if_neg (Nat.ne_of_lt hq)]) hcell]; omega
  have := w p e R s m args below meth cd _ locs la C hR' (by omega) (by omega) h3 h4 (h5.cr (by unfold NC; omega))
  rw [hz2, hS2] at this
  rw [List.map_cons, show cv G ((1, h 0 0) : AV) = .ref (ad G (h 0 0)) from rf_pos (by omega), had] at this
  exact W.cs (by omega) (by omega) this
/-- the new array's cell -/
theorem arr_new {H : Heap} {t : Nat} {ty : FieldType} {N : Nat} {cell : Cell} (X : GX G) (hR : Rel G h H) (ha : arrT t = some ty) (hcls : cell.cls = gA G t) (hsl : cell.slots = Array.replicate N (defaultValue ty)) (hvm : cell.vm = .none) (hmo : cell.monitor = {}) (hN : (N : Int) < 2147483648) :
    cellN G (al h (100 + (t : Int)) N N (h 0 0)) cell := by
  obtain ⟨-, r1, r2, -⟩ := hR
  have hal : ∀ f : Int, al h (100 + (t : Int)) N N (h 0 0) f = if f = -1 then 100 + (t : Int) else if f = -2 then (N : Int) else 0 := fun f => by
    unfold al; rw [if_neg (by omega), if_pos rfl]
  have hz : cell.slots.size = N := by rw [hsl]; simp
  refine ⟨⟨(by rw [hvm]; exact fun q => (by cases q)), (by rw [hvm]; rfl), Or.inr (Or.inl ⟨t, ty, by rw [hal, if_pos rfl], ha, ?_, by rw [hal, hz, if_neg (by omega), if_pos rfl], by rw [hal, if_neg (by omega), if_pos rfl]; exact hN, fun i hi => ?_⟩)⟩, hvm, hmo, fun t' ht => ?_⟩
  · obtain ⟨q1, q2⟩ := (X.2.2.1 t ty ha).1 0 (fun _ => .null)
    refine ⟨fun k hk => (by rw [hvm] at hk; cases hk), ?_⟩
    rw [hcls]; exact q2
  · rw [hal, if_neg (by omega), if_neg (by omega), hsl]
    rw [hz] at hi
    have hnf := arrT_nf ha
    exact ⟨by rw [Array.getElem?_replicate, if_pos hi, dflt_0 G hnf], okT_0 hnf⟩
  · rw [hal, if_pos rfl] at ht
    obtain rfl : t' = t := by omega
    exact hcls
theorem s_newa {t : Nat} {ty : FieldType} {at_ : ArrayType} {n : Int} (hm : (pc, .newarray at_, 2) ∈ mtI M) (hat : newarray.typeOf at_ = ty) (ha : arrT t = some ty) (hp : (∀ C, ty ≠ .object C)) (hw : Cond.arrayClass ty ∈ lw_all) (hn : 0 ≤ n) (hc : h 0 0 ≤ LIMC) (hs : h 0 1 + n ≤ LIMS)
    (w : WP G M (pc + 2) ls ((1, h 0 0) :: st) (al h (100 + (t : Int)) n n) d P) : WP G M pc ls ((0, n) :: st) h d P := by
  intro p e R s m args below meth cd H locs la C hR h1 h2 h3 h4 h5
  obtain ⟨N, rfl⟩ := Int.eq_ofNat_of_zero_le hn
  have hdg := C.ok (pc, .newarray at_, 2) hm
  have hcells := C.cells
  have hslots := C.slots
  have hold := C.old
  obtain ⟨-, r1, r2, r3, -⟩ := id hR
  have hN : (N : Int) < 2147483648 := (show in32 (N : Int) from h5.hd).2
  have hcl : (Int32.ofInt (N : Int)).toNatClampNeg = N := by rw [i32_clamp (by omega) hN]; rfl
  have hS0 : N ≤ LIMS := by omega
  have hcb : componentBytes ty ≤ 8 := by cases ty <;> simp [componentBytes]
  subst hat
  have hmul : N * componentBytes (newarray.typeOf at_) ≤ LIMS * 8 := Nat.mul_le_mul hS0 hcb
  refine W.newa (n := Int32.ofInt (N : Int)) (rest := st.map (cv G)) C.exec C.bytes (C.word hw) rfl hdg rfl ?_ (by rw [hcl]; unfold LIMS at hmul; omega) (by omega) (by rw [hcl]; omega) fun cA kA comp k1 k2 k3 => ?_
  · rw [show (0 : Int32) = Int32.ofInt 0 from rfl, i32_lt h5.hd (by decide)]; omega
  rw [hcl]
  have hA : cA = gA G t := by
    have hra := (C.gx.2.2.1 t _ ha).2
    have hra := hra.moved C.warm.alike
    have : s.vm.findClass ("[" ++ (newarray.typeOf at_).toString) = some (gA G t) := by
      generalize newarray.typeOf at_ = ty at hra hp k1
      cases ty with
      | object C => exact absurd rfl (hp C)
      | _ => exact hra
    exact Option.some.inj (k1.symm.trans this)
  subst hA
  have hcell : (H.push { cls := gA G t, slots := Array.replicate N (defaultValue (newarray.typeOf at_)), vm := .none } : Heap)[H.size]? = some { cls := gA G t, slots := Array.replicate N (defaultValue (newarray.typeOf at_)), vm := .none } := by simp
  have hpos : 0 < h 0 0 := by omega
  have hNN := arr_new (N := N) (cell := { cls := gA G t, slots := Array.replicate N (defaultValue (newarray.typeOf at_)), vm := .none }) C.gx hR ha rfl rfl rfl rfl hN
  obtain ⟨hR', -, had⟩ := hR.born hcell (by simp) (fun q hq => by rw [Array.getElem?_push, if_neg (Nat.ne_of_lt hq)]) (by simp) hNN hc hs
  have hz2 : (H.push { cls := gA G t, slots := Array.replicate N (defaultValue (newarray.typeOf at_)), vm := .none } : Heap).size = H.size + 1 := by simp
  have hS2 : sumS (H.push { cls := gA G t, slots := Array.replicate N (defaultValue (newarray.typeOf at_)), vm := .none } : Heap) (gn G) = sumS H (gn G) + N := by
    rw [sumS_push r1 hz2 (fun q hq => by rw [Array.getElem?_push, if_neg (Nat.ne_of_lt hq)]) hcell]; simp
  have := w p e R s m args below meth cd _ locs la C hR' (by omega) (by omega) h3 h4 (h5.tl.cr (by unfold NC; omega))
  rw [hz2, hS2] at this
  rw [List.map_cons, show cv G ((1, h 0 0) : AV) = .ref (ad G (h 0 0)) from rf_pos (by omega), had] at this
  exact W.cs (by omega) (by omega) this
theorem s_anew {t : Nat} {E : String} {n : Int} (hm : (pc, .anewarray idx, 3) ∈ mtI M) (ha : arrT t = some (.object E)) (hw : Cond.classLink (mtN M).cls idx E ∈ lw_all) (hw2 : Cond.arrayOver (.object E) ∈ lw_tbl) (hn : 0 ≤ n) (hc : h 0 0 ≤ LIMC) (hs : h 0 1 + n ≤ LIMS)
    (w : WP G M (pc + 3) ls ((1, h 0 0) :: st) (al h (100 + (t : Int)) n n) d P) : WP G M pc ls ((0, n) :: st) h d P := by
  intro p e R s m args below meth cd H locs la C hR h1 h2 h3 h4 h5
  obtain ⟨N, rfl⟩ := Int.eq_ofNat_of_zero_le hn
  have hdg := C.ok (pc, .anewarray idx, 3) hm
  have hcells := C.cells
  have hslots := C.slots
  have hold := C.old
  obtain ⟨-, r1, r2, r3, -⟩ := id hR
  have hN : (N : Int) < 2147483648 := (show in32 (N : Int) from h5.hd).2
  have hcl : (Int32.ofInt (N : Int)).toNatClampNeg = N := by rw [i32_clamp (by omega) hN]; rfl
  have hS0 : N ≤ LIMS := by omega
  refine W.anew (n := Int32.ofInt (N : Int)) (rest := st.map (cv G)) C.exec C.bytes C.own (C.word hw) (C.over hw2) rfl hdg rfl ?_ (by rw [hcl]; unfold LIMS at hS0; omega) (by omega) (by rw [hcl]; omega) fun cA kA comp k1 k2 k3 k4 => ?_
  · rw [show (0 : Int32) = Int32.ofInt 0 from rfl, i32_lt h5.hd (by decide)]; omega
  rw [hcl]
  have hA : cA = gA G t := by
    have hra := ((C.gx.2.2.1 t _ ha).2).moved C.warm.alike
    obtain ⟨kA', comp', -, -, -, q4⟩ := hra
    exact Option.some.inj (k1.symm.trans q4)
  subst hA
  have hcell : (H.push { cls := gA G t, slots := Array.replicate N .null, vm := .none } : Heap)[H.size]? = some { cls := gA G t, slots := Array.replicate N .null, vm := .none } := by simp
  have hpos : 0 < h 0 0 := by omega
  have hNN := arr_new (N := N) (cell := { cls := gA G t, slots := Array.replicate N .null, vm := .none }) C.gx hR ha rfl rfl rfl rfl hN
  obtain ⟨hR', -, had⟩ := hR.born hcell (by simp) (fun q hq => by rw [Array.getElem?_push, if_neg (Nat.ne_of_lt hq)]) (by simp) hNN hc hs
  have hz2 : (H.push { cls := gA G t, slots := Array.replicate N .null, vm := .none } : Heap).size = H.size + 1 := by simp
  have hS2 : sumS (H.push { cls := gA G t, slots := Array.replicate N .null, vm := .none } : Heap) (gn G) = sumS H (gn G) + N := by
    rw [sumS_push r1 hz2 (fun q hq => by rw [Array.getElem?_push, if_neg (Nat.ne_of_lt hq)]) hcell]; simp
  have := w p e R s m args below meth cd _ locs la C hR' (by omega) (by omega) h3 h4 (h5.tl.cr (by unfold NC; omega))
  rw [hz2, hS2] at this
  rw [List.map_cons, show cv G ((1, h 0 0) : AV) = .ref (ad G (h 0 0)) from rf_pos (by omega), had] at this
  exact W.cs (by omega) (by omega) this
theorem s_alen {t : Nat} {ty : FieldType} {x : Int} (hm : (pc, .arraylength, 1) ∈ mtI M) (ha : arrT t = some ty) (ht : h x (-1) = 100 + (t : Int))
    (w : WP G M (pc + 1) ls ((0, h x (-2)) :: st) h d P) : WP G M pc ls ((1, x) :: st) h d P := by
  intro p e R s m args below meth cd H locs la C hR h1 h2 h3 h4 h5
  have hdg := C.ok (pc, .arraylength, 1) hm
  obtain ⟨h0, cell, q1, q2, q3, q4, q5, q6, q7⟩ := hR.arr C.gx ha ht
  rw [List.map_cons, show cv G ((1, x) : AV) = .ref (ad G x) from rf_pos h0]
  refine W.alen C.exec C.bytes q1 (State.isArrayOf_alike C.warm.alike q4) (n := Int32.ofInt (h x (-2))) ?_ rfl rfl hdg (w p e R s m args below meth cd H locs la C hR h1 h2 h3 h4 (h5.tl.ci ⟨by omega, by omega⟩))
  rw [← q5]; rfl
theorem in_of {cell : Cell} {i : Int} (hi : 0 ≤ i) (hl : i < (cell.slots.size : Int)) (hx : in32 i) : ¬ (Int32.ofInt i < 0 ∨ cell.slots.size ≤ (Int32.ofInt i).toNatClampNeg) := by
  rw [show (0 : Int32) = Int32.ofInt 0 from rfl, i32_lt hx (by decide), i32_clamp hi hx.2]; omega
/-- loads of the array kinds at hand -/
def ldOp (t : Nat) : Instr := match t with
  | 1 => .iaload
  | 2 => .baload
  | 3 => .laload
  | _ => .aaload
def stOp (t : Nat) : Instr := match t with
  | 1 => .iastore
  | 2 => .bastore
  | 3 => .lastore
  | _ => .aastore
theorem arrT_cases {t : Nat} {ty : FieldType} (ha : arrT t = some ty) : (t = 1 ∧ ty = .int) ∨ (t = 2 ∧ ty = .byte) ∨ (t = 3 ∧ ty = .long) ∨ (t = 4 ∧ ty = .object "java/lang/Object") ∨ (t = 5 ∧ ty = .object "ConditionedProofs$Meaning") := by
  unfold arrT at ha
  split at ha <;> cases ha <;> simp
theorem s_ald {t : Nat} {ty : FieldType} {x i : Int} (hm : (pc, ldOp t, 1) ∈ mtI M) (ha : arrT t = some ty) (ht : h x (-1) = 100 + (t : Int)) (hi : 0 ≤ i) (hl : i < h x (-2))
    (w : WP G M (pc + 1) ls ((tg ty, h x i) :: st) h d P) : WP G M pc ls ((0, i) :: (1, x) :: st) h d P := by
  intro p e R s m args below meth cd H locs la C hR h1 h2 h3 h4 h5
  have hdg := C.ok (pc, ldOp t, 1) hm
  obtain ⟨h0, cell, q1, q2, q3, q4, q5, q6, q7⟩ := hR.arr C.gx ha ht
  obtain ⟨N, rfl⟩ := Int.eq_ofNat_of_zero_le hi
  have hx : in32 (N : Int) := h5.hd
  have hin := in_of (cell := cell) hi (by omega) hx
  have hN : N < cell.slots.size := by omega
  have hcl : (Int32.ofInt (N : Int)).toNatClampNeg = N := by rw [i32_clamp hi hx.2]; rfl
  have hq := q7 N hN
  have q4' := State.isArrayOf_alike C.warm.alike q4
  have kk := w p e R s m args below meth cd H locs la C hR h1 h2 h3 h4 (h5.tl.tl.cons (by cases ty <;> simp [tg]) (okv_T hq.2))
  rw [List.map_cons, List.map_cons, show cv G ((1, x) : AV) = .ref (ad G x) from rf_pos h0]
  have hv : cell.slots[(Int32.ofInt (N : Int)).toNatClampNeg]? = some (cv G (tg ty, h x (N : Int))) := by rw [hcl]; exact hq.1
  rcases arrT_cases ha with ⟨rfl, rfl⟩ | ⟨rfl, rfl⟩ | ⟨rfl, rfl⟩ | ⟨rfl, rfl⟩ | ⟨rfl, rfl⟩
  · exact W.iald C.exec C.bytes q1 q4' q2 hin hv rfl rfl hdg kk
  · exact W.bald C.exec C.bytes q1 q4' q2 hin hv rfl rfl hdg kk
  · exact W.lald C.exec C.bytes q1 q4' q2 hin hv rfl rfl hdg kk
  · exact W.aald C.exec C.bytes q1 q4' rfl q2 hin hv rfl rfl hdg kk
  · exact W.aald C.exec C.bytes q1 q4' rfl q2 hin hv rfl rfl hdg kk
/-- what may lie in an array of references: nothing, or an object of a class that can be cast -/
def asgOK (t c : Nat) : Prop := ∃ (r : KC) (E : String), clsL[c]? = some r ∧ arrT t = some (.object E) ∧ Cond.castable r.1 E ∈ lw_tbl
theorem s_ast {t : Nat} {ty : FieldType} {x i : Int} {v : AV} (hm : (pc, stOp t, 1) ∈ mtI M) (ha : arrT t = some ty) (hx0 : 0 < x) (ht : h x (-1) = 100 + (t : Int)) (hi : 0 ≤ i) (hl : i < h x (-2)) (htv : v.1 = tg ty) (hn : okN ty v.2)
    (hv : ∀ E, ty = .object E → v.2 = 0 ∨ ∃ c : Nat, h v.2 (-1) = (c : Int) + 1 ∧ asgOK t c)
    (w : WP G M (pc + 1) ls st (up h x i v.2) d P) : WP G M pc ls (v :: (0, i) :: (1, x) :: st) h d P := by
  intro p e R s m args below meth cd H locs la C hR h1 h2 h3 h4 h5
  have hdg := C.ok (pc, stOp t, 1) hm
  obtain ⟨hx2, cell, q1, qN⟩ := hR.new hx0 (by omega)
  obtain ⟨h0, cell', q1', q2, q3, q4, q5, q6, q7⟩ := hR.arr C.gx ha ht
  cases q1.symm.trans q1'
  obtain ⟨N, rfl⟩ := Int.eq_ofNat_of_zero_le hi
  have hx : in32 (N : Int) := h5.tl.hd
  have hin := in_of (cell := cell) hi (by omega) hx
  have hN : N < cell.slots.size := by omega
  have hcl : (Int32.ofInt (N : Int)).toNatClampNeg = N := by rw [i32_clamp hi hx.2]; rfl
  have q4' := State.isArrayOf_alike C.warm.alike q4
  have hve : v = (tg ty, v.2) := by rw [← htv]
  have hoT : okT ty v.2 := okT_N (by rw [← hve]; exact h5.hd) hn
  have hcv : cv G v = cv G (tg ty, v.2) := by rw [← hve]
  have kk : ∀ H' : Heap, H'[ad G x]? = some (cell.setSlot (Int32.ofInt (N : Int)).toNatClampNeg (cv G (tg ty, v.2))) → H'.size = H.size → (∀ q, q ≠ ad G x → H'[q]? = H[q]?) →
      W p (gl G) e R s m args below meth cd H' (locs ++ [⟨ad G x, (Int32.ofInt (N : Int)).toNatClampNeg⟩]) (H.size - s.heap.size) (sumS H (gn G) - sumS s.heap (gn G)) (QP G (mtR M) P s below) (F0 m (pc + 1) la (st.map (cv G))) := by
    rw [hcl]
    intro H' e1 e2 e3
    have hN := qN.elem ha ht hN hoT
    have hR' := hR.set hx0 hx2 (by omega) q1 e1 e2 e3 Array.size_setIfInBounds hN
    have hS' : sumS H' (gn G) = sumS H (gn G) := sumS_eq fun q => by
      by_cases hq : q = ad G x
      · rw [hq, q1, e1]; simp [Cell.setSlot]
      · rw [e3 q hq]
    have := w p e R s m args below meth cd H' (locs ++ [⟨ad G x, N⟩]) la C hR' (by omega) (by omega) (fun q hq => by
      rcases List.mem_append.mp hq with hq | hq
      · exact h3 q hq
      · rw [List.mem_singleton.mp hq]; show gn G ≤ ad G x; rw [ad_pos hx0]; omega) h4 h5.tl.tl.tl
    rw [e2, hS'] at this
    exact this
  rw [List.map_cons, List.map_cons, List.map_cons, hcv, show cv G ((1, x) : AV) = .ref (ad G x) from rf_pos h0]
  have hob : ∀ E, ty = .object E → stOp t = .aastore → W p (gl G) e R s m args below meth cd H locs (H.size - s.heap.size) (sumS H (gn G) - sumS s.heap (gn G)) (QP G (mtR M) P s below) (F0 m pc la (cv G (tg ty, v.2) :: cv G (0, (N : Int)) :: Value.ref (ad G x) :: st.map (cv G))) := by
    intro E hE hop
    rw [hop] at hdg
    subst hE
    rcases hv E rfl with h00 | ⟨c, hct, r, E', c1, c2, c3⟩
    · have e0 : cv G (tg (.object E), v.2) = .null := by rw [h00]; rfl
      rw [e0] at kk ⊢
      exact va_WaastN C.exec C.bytes q1 q4' q2 hin rfl rfl hdg kk
    · cases ha.symm.trans c2
      obtain ⟨hv0, cl2, y1, y2, y3, y4, -⟩ := hR.obj C.gx c1 hct
      have e0 : cv G (tg (.object E), v.2) = .ref (ad G v.2) := rf_pos hv0
      rw [e0] at kk ⊢
      obtain ⟨cC, cT, f1, f2, f3⟩ := Cond.castable_spec (va_Nw.use (A := args) rfl (C.cast c3))
      have hkn := C.kn c1
      have hcC : cC = gC G c := Option.some.inj (f1.symm.trans hkn.2.1)
      obtain ⟨kA, comp, g1, g2, g3, g4⟩ := ((C.gx.2.2.1 t _ ha).2).moved C.warm.alike
      have hcT : cT = comp := Option.some.inj (f2.symm.trans g3)
      obtain ⟨kC, hkC, -⟩ := hkn.2.2
      have hcomp : ∃ kcomp, s.vm.classes[comp]? = some kcomp := Vm.classAt_of_findClass g3
      obtain ⟨kcomp, hkcomp⟩ := hcomp
      exact W.aast C.exec C.bytes q1 (fun q hq => by rw [qN.2.1] at hq; cases hq) q2 (by rw [qN.2.2.2 t ht]; exact g1) g2 rfl hkcomp ⟨fun q => hin (Or.inl q), Nat.not_le.mp fun q => hin (Or.inr q)⟩ y1 (fun q hq => by rw [hq] at y3; cases y3) (by rw [y4, ← hcC] ; rw [hcC]; exact hkC) (by rw [y4, ← hcC, ← hcT]; exact f3) rfl rfl hdg kk
  rcases arrT_cases ha with ⟨rfl, rfl⟩ | ⟨rfl, rfl⟩ | ⟨rfl, rfl⟩ | ⟨rfl, rfl⟩ | ⟨rfl, rfl⟩
  · exact W.iast C.exec C.bytes q1 q4' q2 hin rfl rfl hdg kk
  · exact W.bast C.exec C.bytes q1 q4' q2 hin rfl rfl hdg (by rw [show narrow .byte (.int (Int32.ofInt v.2)) = cv G (tg .byte, v.2) from narrow_of G hoT]; exact kk)
  · exact W.last C.exec C.bytes q1 q4' q2 hin rfl rfl hdg kk
  · exact hob _ rfl rfl
  · exact hob _ rfl rfl
end HR2
