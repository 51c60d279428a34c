/-! L1: branches, constants, casts -/
def cnd (c : ClassFile.Cond) (x y : Int) : Prop := match c with
  | .eq => x = y
  | .ne => ¬ x = y
  | .lt => x < y
  | .ge => y ≤ x
  | .gt => y < x
  | .le => x ≤ y
section FL
variable {G : GM} {M : Mt} {d pc idx : Nat} {ls st : List AV} {h : SM} {P : Nat → Int → SM → Prop}
theorem s_pure {i : Instr} {len : Nat} {ls' st' : List AV} (hm : (pc, i, len) ∈ mtI M) (hlen : len = ilen i) (hp : pu i ls st = some (ls', st')) (hn : ∀ n, (i = .iconst n ∨ i = .bipush n ∨ i = .sipush n) → (-32768 ≤ n ∧ n ≤ 32767) ∧ (i = .bipush n → -128 ≤ n ∧ n ≤ 127))
    (w : WP G M (pc + len) ls' st' h d P) : WP G M pc ls st h d P := by
  intro p e R s m args below meth c H locs la C hR h1 h2 h3 h4 h5
  exact pu_ok C h4 h5 hm hlen hp hn fun la' hl hs => w p e R s m args below meth c H locs la' C hR h1 h2 h3 hl hs
theorem i0 : (0 : Int32) = Int32.ofInt 0 := rfl
theorem in0 : in32 0 := by decide
theorem s_if {c : ClassFile.Cond} {off : Int} {tgt : Nat} {x : Int} (hm : (pc, .ifCond c off, 3) ∈ mtI M) (ht : (pc : Int) + off = (tgt : Int))
    (wt : cnd c x 0 → WP G M tgt ls st h d P) (wf : ¬ cnd c x 0 → WP G M (pc + 3) ls st h d P) : WP G M pc ls ((0, x) :: st) h d P := by
  intro p e R s m args below meth cd H locs la C hR h1 h2 h3 h4 h5
  have hdg := C.ok (pc, .ifCond c off, 3) hm
  have hx : in32 x := h5.hd
  have kt := fun q => wt q p e R s m args below meth cd H locs la C hR h1 h2 h3 h4 h5.tl
  have kf := fun q => wf q p e R s m args below meth cd H locs la C hR h1 h2 h3 h4 h5.tl
  cases c with
  | eq => exact lv_if_eq C.exec C.bytes hdg ht (fun q => kt ((i32_eq hx in0).mp q)) (fun q => kf fun z => q ((i32_eq hx in0).mpr z))
  | ne => exact lv_if_ne C.exec C.bytes hdg ht (fun q => kt fun z => q ((i32_eq hx in0).mpr z)) (fun q => kf fun z => z ((i32_eq hx in0).mp q))
  | lt => exact lv_if_lt C.exec C.bytes hdg ht (fun q => kt ((i32_lt hx in0).mp q)) (fun q => kf fun z => q ((i32_lt hx in0).mpr z))
  | ge => exact lv_if_ge C.exec C.bytes hdg ht (fun q => kt ((i32_le in0 hx).mp q)) (fun q => kf fun z => q ((i32_le in0 hx).mpr z))
  | gt => exact lv_if_gt C.exec C.bytes hdg ht (fun q => kt ((i32_lt in0 hx).mp q)) (fun q => kf fun z => q ((i32_lt in0 hx).mpr z))
  | le => exact lv_if_le C.exec C.bytes hdg ht (fun q => kt ((i32_le hx in0).mp q)) (fun q => kf fun z => q ((i32_le hx in0).mpr z))
theorem s_icmp {c : ClassFile.Cond} {off : Int} {tgt : Nat} {x y : Int} (hm : (pc, .if_icmp c off, 3) ∈ mtI M) (ht : (pc : Int) + off = (tgt : Int))
    (wt : cnd c x y → WP G M tgt ls st h d P) (wf : ¬ cnd c x y → WP G M (pc + 3) ls st h d P) : WP G M pc ls ((0, y) :: (0, x) :: st) h d P := by
  intro p e R s m args below meth cd H locs la C hR h1 h2 h3 h4 h5
  have hdg := C.ok (pc, .if_icmp c off, 3) hm
  have hy : in32 y := h5.hd
  have hx : in32 x := h5.tl.hd
  have kt := fun q => wt q p e R s m args below meth cd H locs la C hR h1 h2 h3 h4 h5.tl.tl
  have kf := fun q => wf q p e R s m args below meth cd H locs la C hR h1 h2 h3 h4 h5.tl.tl
  cases c with
  | eq => exact lv_icmp_eq C.exec C.bytes hdg ht (fun q => kt ((i32_eq hx hy).mp q)) (fun q => kf fun z => q ((i32_eq hx hy).mpr z))
  | ne => exact lv_icmp_ne C.exec C.bytes hdg ht (fun q => kt fun z => q ((i32_eq hx hy).mpr z)) (fun q => kf fun z => z ((i32_eq hx hy).mp q))
  | lt => exact lv_icmp_lt C.exec C.bytes hdg ht (fun q => kt ((i32_lt hx hy).mp q)) (fun q => kf fun z => q ((i32_lt hx hy).mpr z))
  | ge => exact lv_icmp_ge C.exec C.bytes hdg ht (fun q => kt ((i32_le hy hx).mp q)) (fun q => kf fun z => q ((i32_le hy hx).mpr z))
  | gt => exact lv_icmp_gt C.exec C.bytes hdg ht (fun q => kt ((i32_lt hy hx).mp q)) (fun q => kf fun z => q ((i32_lt hy hx).mpr z))
  | le => exact lv_icmp_le C.exec C.bytes hdg ht (fun q => kt ((i32_le hx hy).mp q)) (fun q => kf fun z => q ((i32_le hx hy).mpr z))
def opt (G : GM) (x : Int) : Option Nat := if x = 0 then none else some (ad G x)
theorem rf_opt (G : GM) (x : Int) : rf G x = va_rf (opt G x) := by unfold rf opt va_rf; split <;> rfl
theorem opt_inj {G : GM} (X : GX G) {x y : Int} (hx : -NC ≤ x) (hy : -NC ≤ y) : opt G x = opt G y ↔ x = y := by
  constructor
  · intro he
    unfold opt at he
    by_cases x0 : x = 0
    · by_cases y0 : y = 0
      · omega
      · rw [if_pos x0, if_neg y0] at he; cases he
    · by_cases y0 : y = 0
      · rw [if_neg x0, if_pos y0] at he; cases he
      · rw [if_neg x0, if_neg y0] at he
        have he := Option.some.inj he
        obtain ⟨-, -, -, x4, x5, -⟩ := X
        unfold ad at he
        by_cases xn : x < 0
        · have hbx := x4 (-x).toNat (by omega) (by omega)
          by_cases yn : y < 0
          · rw [if_pos xn, if_pos yn] at he
            have := x5 (-x).toNat (-y).toNat (by omega) (by omega) (by omega) (by omega) he
            omega
          · rw [if_pos xn, if_neg yn] at he; omega
        · by_cases yn : y < 0
          · have hby := x4 (-y).toNat (by omega) (by omega)
            rw [if_neg xn, if_pos yn] at he; omega
          · rw [if_neg xn, if_neg yn] at he; omega
  · intro he; rw [he]
theorem s_acmp {c : ACond} {off : Int} {tgt : Nat} {x y : Int} (hm : (pc, .if_acmp c off, 3) ∈ mtI M) (ht : (pc : Int) + off = (tgt : Int))
    (wt : cnd (match c with | .eq => .eq | .ne => .ne) x y → WP G M tgt ls st h d P) (wf : ¬ cnd (match c with | .eq => .eq | .ne => .ne) x y → WP G M (pc + 3) ls st h d P) : WP G M pc ls ((1, y) :: (1, x) :: st) h d P := by
  intro p e R s m args below meth cd H locs la C hR h1 h2 h3 h4 h5
  have hdg := C.ok (pc, .if_acmp c off, 3) hm
  have hy : -NC ≤ y := h5.hd
  have hx : -NC ≤ x := h5.tl.hd
  have hi := opt_inj C.gx hx hy
  have kt := fun q => wt q p e R s m args below meth cd H locs la C hR h1 h2 h3 h4 h5.tl.tl
  have kf := fun q => wf q p e R s m args below meth cd H locs la C hR h1 h2 h3 h4 h5.tl.tl
  rw [List.map_cons, List.map_cons, show cv G ((1, y) : AV) = va_rf (opt G y) from rf_opt G y, show cv G ((1, x) : AV) = va_rf (opt G x) from rf_opt G x]
  cases c with
  | eq => exact lv_acmp_eq C.exec C.bytes hdg ht (fun q => kt (hi.mp q)) (fun q => kf fun z => q (hi.mpr z))
  | ne => exact lv_acmp_ne C.exec C.bytes hdg ht (fun q => kt fun z => q (hi.mpr z)) (fun q => kf fun z => z (hi.mp (by first | exact q | exact Classical.not_not.mp q)))
theorem s_null {off : Int} {tgt : Nat} {x : Int} (hm : (pc, .ifnull off, 3) ∈ mtI M) (ht : (pc : Int) + off = (tgt : Int))
    (wt : x = 0 → WP G M tgt ls st h d P) (wf : ¬ x = 0 → WP G M (pc + 3) ls st h d P) : WP G M pc ls ((1, x) :: st) h d P := by
  intro p e R s m args below meth cd H locs la C hR h1 h2 h3 h4 h5
  have hdg := C.ok (pc, .ifnull off, 3) hm
  have kt := fun q => wt q p e R s m args below meth cd H locs la C hR h1 h2 h3 h4 h5.tl
  have kf := fun q => wf q p e R s m args below meth cd H locs la C hR h1 h2 h3 h4 h5.tl
  rw [List.map_cons, show cv G ((1, x) : AV) = rf G x from rfl]
  by_cases h0 : x = 0
  · rw [show rf G x = .null by unfold rf; rw [if_pos h0]]
    exact lv_ifnullN C.exec C.bytes hdg ht (kt h0)
  · rw [rf_pos h0]
    exact lv_ifnull C.exec C.bytes hdg (kf h0)
theorem s_nonnull {off : Int} {tgt : Nat} {x : Int} (hm : (pc, .ifnonnull off, 3) ∈ mtI M) (ht : (pc : Int) + off = (tgt : Int))
    (wt : ¬ x = 0 → WP G M tgt ls st h d P) (wf : x = 0 → WP G M (pc + 3) ls st h d P) : WP G M pc ls ((1, x) :: st) h d P := by
  intro p e R s m args below meth cd H locs la C hR h1 h2 h3 h4 h5
  have hdg := C.ok (pc, .ifnonnull off, 3) hm
  have kt := fun q => wt q p e R s m args below meth cd H locs la C hR h1 h2 h3 h4 h5.tl
  have kf := fun q => wf q p e R s m args below meth cd H locs la C hR h1 h2 h3 h4 h5.tl
  rw [List.map_cons, show cv G ((1, x) : AV) = rf G x from rfl]
  by_cases h0 : x = 0
  · rw [show rf G x = .null by unfold rf; rw [if_pos h0]]
    exact lv_ifnonnullN C.exec C.bytes hdg (kf h0)
  · rw [rf_pos h0]
    exact lv_ifnonnull C.exec C.bytes hdg ht (kt h0)
theorem s_goto {off : Int} {tgt : Nat} (hm : (pc, .goto off, 3) ∈ mtI M) (ht : (pc : Int) + off = (tgt : Int)) (w : WP G M tgt ls st h d P) : WP G M pc ls st h d P := by
  intro p e R s m args below meth cd H locs la C hR h1 h2 h3 h4 h5
  exact lv_goto C.exec C.bytes (C.ok (pc, .goto off, 3) hm) ht (w p e R s m args below meth cd H locs la C hR h1 h2 h3 h4 h5)
theorem s_tsw {df lo hi : Int} {offs : Array Int} {len : Nat} {x : Int} (hm : (pc, .tableswitch df lo hi offs, len) ∈ mtI M)
    (w : ∀ (off : Int), ((x < lo ∨ hi < x) → off = df) → (¬ (x < lo ∨ hi < x) → offs[(x - lo).toNat]? = some off) → ∃ tgt : Nat, (pc : Int) + off = (tgt : Int) ∧ WP G M tgt ls st h d P) (hall : ¬ (x < lo ∨ hi < x) → ∃ off, offs[(x - lo).toNat]? = some off) : WP G M pc ls ((0, x) :: st) h d P := by
  intro p e R s m args below meth cd H locs la C hR h1 h2 h3 h4 h5
  have hdg := C.ok (pc, .tableswitch df lo hi offs, len) hm
  have hx : in32 x := h5.hd
  have hxi := i32_toInt hx.1 hx.2
  by_cases hr : x < lo ∨ hi < x
  · obtain ⟨tgt, ht, w⟩ := w df (fun _ => rfl) (fun q => absurd hr q)
    exact lv_tableOut C.exec C.bytes hdg (by rw [hxi]; exact hr) ht (w p e R s m args below meth cd H locs la C hR h1 h2 h3 h4 h5.tl)
  · obtain ⟨off, ho⟩ := hall hr
    obtain ⟨tgt, ht, w⟩ := w off (fun q => absurd q hr) (fun _ => ho)
    exact lv_tableIn C.exec C.bytes hdg (by rw [hxi]; omega) (by rw [hxi]; omega) (by rw [hxi]; exact ho) ht (w p e R s m args below meth cd H locs la C hR h1 h2 h3 h4 h5.tl)
theorem s_lsw {df : Int} {ps : Array (Int × Int)} {len tgt : Nat} {x off : Int} (hm : (pc, .lookupswitch df ps, len) ∈ mtI M) (hp : (ps.toList.zip (ps.toList.drop 1)).all (fun (a, next) => a.1 < next.1) = true)
    (ho : Op.lookupswitch.offset ps.toList df x = off) (ht : (pc : Int) + off = (tgt : Int)) (w : WP G M tgt ls st h d P) : WP G M pc ls ((0, x) :: st) h d P := by
  intro p e R s m args below meth cd H locs la C hR h1 h2 h3 h4 h5
  have hx : in32 x := h5.hd
  exact lv_lookup C.exec C.bytes (C.ok (pc, .lookupswitch df ps, len) hm) hp (by rw [i32_toInt hx.1 hx.2]; exact ho) ht (w p e R s m args below meth cd H locs la C hR h1 h2 h3 h4 h5.tl)
theorem of_div (x y : Int) (hx : in32 x) (hy : in32 y) : Int32.ofInt x / Int32.ofInt y = Int32.ofInt (wr (x.tdiv y)) := by
  rw [of_wr]
  apply Int32.toInt_inj.mp
  rw [Int32.toInt_div, i32_toInt hx.1 hx.2, i32_toInt hy.1 hy.2, Int32.toInt_ofInt]
theorem of_divL (x y : Int) (hx : in64 x) (hy : in64 y) : Int64.ofInt x / Int64.ofInt y = Int64.ofInt (wrL (x.tdiv y)) := by
  rw [of_wrL]
  apply Int64.toInt_inj.mp
  rw [Int64.toInt_div, i64_toInt hx.1 hx.2, i64_toInt hy.1 hy.2, Int64.toInt_ofInt]
theorem s_idiv {x y : Int} (hm : (pc, .idiv, 1) ∈ mtI M) (hy : y ≠ 0) (w : WP G M (pc + 1) ls ((0, wr (x.tdiv y)) :: st) h d P) : WP G M pc ls ((0, y) :: (0, x) :: st) h d P := by
  intro p e R s m args below meth cd H locs la C hR h1 h2 h3 h4 h5
  have kk := w p e R s m args below meth cd H locs la C hR h1 h2 h3 h4 (h5.tl.tl.ci (wr_in _))
  rw [List.map_cons, show cv G ((0, wr (x.tdiv y)) : AV) = .int (Int32.ofInt (wr (x.tdiv y))) from rfl, ← of_div x y h5.tl.hd h5.hd] at kk
  exact lv_idiv C.exec C.bytes (C.ok (pc, .idiv, 1) hm) (fun q => hy ((i32_eq h5.hd in0).mp q)) kk
theorem s_irem {x y : Int} (hm : (pc, .irem, 1) ∈ mtI M) (hy : y ≠ 0) (w : WP G M (pc + 1) ls ((0, wr (x - wr (wr (x.tdiv y) * y))) :: st) h d P) : WP G M pc ls ((0, y) :: (0, x) :: st) h d P := by
  intro p e R s m args below meth cd H locs la C hR h1 h2 h3 h4 h5
  have kk := w p e R s m args below meth cd H locs la C hR h1 h2 h3 h4 (h5.tl.tl.ci (wr_in _))
  rw [List.map_cons, show cv G ((0, wr (x - wr (wr (x.tdiv y) * y))) : AV) = .int (Int32.ofInt (wr (x - wr (wr (x.tdiv y) * y)))) from rfl, ← of_sub, ← of_mul, ← of_div x y h5.tl.hd h5.hd] at kk
  exact lv_irem C.exec C.bytes (C.ok (pc, .irem, 1) hm) (fun q => hy ((i32_eq h5.hd in0).mp q)) kk
theorem s_ldiv {x y : Int} (hm : (pc, .ldiv, 1) ∈ mtI M) (hy : y ≠ 0) (w : WP G M (pc + 1) ls ((2, wrL (x.tdiv y)) :: st) h d P) : WP G M pc ls ((2, y) :: (2, x) :: st) h d P := by
  intro p e R s m args below meth cd H locs la C hR h1 h2 h3 h4 h5
  have kk := w p e R s m args below meth cd H locs la C hR h1 h2 h3 h4 (h5.tl.tl.cl (wrL_in _))
  rw [List.map_cons, show cv G ((2, wrL (x.tdiv y)) : AV) = .long (Int64.ofInt (wrL (x.tdiv y))) from rfl, ← of_divL x y h5.tl.hd h5.hd] at kk
  exact lv_ldiv C.exec C.bytes (C.ok (pc, .ldiv, 1) hm) (fun q => hy ((i64_eq h5.hd (by decide : in64 0)).mp q)) kk
theorem of_subL (x y : Int) : Int64.ofInt x - Int64.ofInt y = Int64.ofInt (wrL (x - y)) := by rw [of_wrL, Int64.ofInt_sub]
theorem s_lrem {x y : Int} (hm : (pc, .lrem, 1) ∈ mtI M) (hy : y ≠ 0) (w : WP G M (pc + 1) ls ((2, wrL (x - wrL (wrL (x.tdiv y) * y))) :: st) h d P) : WP G M pc ls ((2, y) :: (2, x) :: st) h d P := by
  intro p e R s m args below meth cd H locs la C hR h1 h2 h3 h4 h5
  have kk := w p e R s m args below meth cd H locs la C hR h1 h2 h3 h4 (h5.tl.tl.cl (wrL_in _))
  rw [List.map_cons, show cv G ((2, wrL (x - wrL (wrL (x.tdiv y) * y))) : AV) = .long (Int64.ofInt (wrL (x - wrL (wrL (x.tdiv y) * y)))) from rfl, ← of_subL, ← of_mulL, ← of_divL x y h5.tl.hd h5.hd] at kk
  exact lv_lrem C.exec C.bytes (C.ok (pc, .lrem, 1) hm) (fun q => hy ((i64_eq h5.hd (by decide : in64 0)).mp q)) kk
/-- a static's site -/
def GOK (own : String) (idx : Nat) (v : AV) : Prop := ∃ q ∈ stL, q.2.2.2 = v ∧ Cond.fieldLink own idx q.1 q.2.1 q.2.2.1 ∈ lw_all
theorem s_gets {v : AV} (hm : (pc, .getstatic idx, 3) ∈ mtI M) (hO : GOK (mtN M).cls idx v) (hv : okv v ∧ v.1 ≠ 9) (w : WP G M (pc + 3) ls (v :: st) h d P) : WP G M pc ls st h d P := by
  intro p e R s m args below meth cd H locs la C hR h1 h2 h3 h4 h5
  obtain ⟨q, hq, rfl, hl⟩ := hO
  have hZ := va_Z.moved C.warm.alike (C.gx.2.2.2.2.2.2.2.2.1 q hq)
  obtain ⟨cf, kf, fi, f, a, cell, z1, z2, z3, z4, z5, z6, z7, z8⟩ := hZ
  have ha : a < gn G := by have z8 : ¬ gn G ≤ a := z8; omega
  obtain ⟨-, -, -, -, r4, -⟩ := id hR
  exact W.gets C.exec C.bytes C.own (C.word hl) z1 z2 z3 z4 (by rw [r4 a ha]; exact z5) (fun e => by rw [e] at z6; cases z6) z7 rfl (C.ok (pc, .getstatic idx, 3) hm)
    (w p e R s m args below meth cd H locs la C hR h1 h2 h3 h4 (h5.cons hv.2 hv.1))
theorem s_ldci {x : Int} (hm : (pc, .ldc idx, 2) ∈ mtI M) (hO : Cond.constant (mtN M).cls idx (Int32.ofInt x) ∈ lw_all) (hx : in32 x) (w : WP G M (pc + 2) ls ((0, x) :: st) h d P) : WP G M pc ls st h d P := by
  intro p e R s m args below meth cd H locs la C hR h1 h2 h3 h4 h5
  exact lv_ldc C.exec C.bytes C.own (C.word hO) (C.ok (pc, .ldc idx, 2) hm) (w p e R s m args below meth cd H locs la C hR h1 h2 h3 h4 (h5.ci hx))
theorem s_ldcl {x : Int} (hm : (pc, .ldc2_w idx, 3) ∈ mtI M) (hO : Cond.constantLong (mtN M).cls idx (Int64.ofInt x) ∈ lw_all) (hx : in64 x) (w : WP G M (pc + 3) ls ((2, x) :: st) h d P) : WP G M pc ls st h d P := by
  intro p e R s m args below meth cd H locs la C hR h1 h2 h3 h4 h5
  exact lv_ldc2 C.exec C.bytes C.own (C.word hO) (C.ok (pc, .ldc2_w idx, 3) hm) (w p e R s m args below meth cd H locs la C hR h1 h2 h3 h4 (h5.cl hx))
/-- the one String constant: "" of the reader -/
theorem s_ldcs (hm : (pc, .ldc 227, 2) ∈ mtI M) (hO : (mtN M).cls = "ConditionedProofs$Reader") (w : WP G M (pc + 2) ls ((1, -23) :: st) h d P) : WP G M pc ls st h d P := by
  intro p e R s m args below meth cd H locs la C hR h1 h2 h3 h4 h5
  have hZ := vk_R.warm C.warm C.gx.2.2.2.2.2.2.2.2.2.1
  rw [← hO] at hZ
  exact va_ldcS C.exec C.bytes C.own hZ (C.ok (pc, .ldc 227, 2) hm) (w p e R s m args below meth cd H locs la C hR h1 h2 h3 h4 (h5.cr (by decide)))
/-- the class Object[] -/
theorem s_ldcm (hm : (pc, .ldc idx, 2) ∈ mtI M) (hO : Cond.classLink (mtN M).cls idx "[Ljava/lang/Object;" ∈ lw_all) (w : WP G M (pc + 2) ls ((1, -26) :: st) h d P) : WP G M pc ls st h d P := by
  intro p e R s m args below meth cd H locs la C hR h1 h2 h3 h4 h5
  have hZ := va_Mi.moved C.warm.alike C.gx.2.2.2.2.2.2.2.2.2.2.1
  exact va_ldcM C.exec C.bytes C.own (C.word hO) hZ (C.ok (pc, .ldc idx, 2) hm) (w p e R s m args below meth cd H locs la C hR h1 h2 h3 h4 (h5.cr (by decide)))
theorem s_cast {x : Int} {c : Nat} (hm : (pc, .checkcast idx, 3) ∈ mtI M) (hO : XOK (mtN M).cls idx c) (hx : x = 0 ∨ h x (-1) = (c : Int) + 1) (w : WP G M (pc + 3) ls ((1, x) :: st) h d P) : WP G M pc ls ((1, x) :: st) h d P := by
  intro p e R s m args below meth cd H locs la C hR h1 h2 h3 h4 h5
  have kk := w p e R s m args below meth cd H locs la C hR h1 h2 h3 h4 h5
  rw [List.map_cons, show cv G ((1, x) : AV) = rf G x from rfl] at kk ⊢
  obtain ⟨r, e1, e2, -⟩ := hO
  rcases hx with h0 | ht
  · rw [show rf G x = .null by unfold rf; rw [if_pos h0]] at kk ⊢
    exact lv_castN C.exec C.bytes (C.ok (pc, .checkcast idx, 3) hm) kk
  · obtain ⟨h0, cell, q1, q2, q3, q4, -⟩ := hR.obj C.gx e1 ht
    rw [rf_pos h0] at kk ⊢
    have hkn := C.kn e1
    exact va_castS C.exec C.bytes C.own (C.word e2) hkn.2 ⟨cell, q1, q3, by rw [q4]; exact hkn.2.1⟩ (C.ok (pc, .checkcast idx, 3) hm) kk
/-- Object[] or byte[] -/
theorem s_castA {x : Int} {t : Nat} {ty : FieldType} {nm : String} (hm : (pc, .checkcast idx, 3) ∈ mtI M) (hw : Cond.classLink (mtN M).cls idx nm ∈ lw_all) (ha : arrT t = some ty) (hnm : "[" ++ ty.toString = nm) (hx0 : 0 < x) (ht : h x (-1) = 100 + (t : Int)) (w : WP G M (pc + 3) ls ((1, x) :: st) h d P) : WP G M pc ls ((1, x) :: st) h d P := by
  intro p e R s m args below meth cd H locs la C hR h1 h2 h3 h4 h5
  have kk := w p e R s m args below meth cd H locs la C hR h1 h2 h3 h4 h5
  have hdg := C.ok (pc, .checkcast idx, 3) hm
  obtain ⟨hx2, cell, q1, qN⟩ := hR.new hx0 (by omega)
  rw [List.map_cons, show cv G ((1, x) : AV) = .ref (ad G x) from rf_pos (by omega)] at kk ⊢
  have hra := ((C.gx.2.2.1 t _ ha).2).moved C.warm.alike
  have hfc : s.vm.findClass nm = some (gA G t) := by
    rw [← hnm]
    cases ty with
    | object E => obtain ⟨_, _, _, _, _, q⟩ := hra; exact q
    | _ => exact hra
  intro T hT X
  obtain ⟨vm', X', st'⟩ := X.checkcastYes C.exec C.own (C.word hw) (by rw [hT]; exact q1) (by rw [qN.2.1]; rfl) hfc (by rw [qN.2.2.2 t ht]; exact va_asg _ _) (g := F0 m pc la (.ref (ad G x) :: st.map (cv G))) rfl rfl (by rw [C.bytes]; exact hdg)
  obtain ⟨t', a1, b1⟩ := kk (T.setVm vm') hT X'
  exact ⟨t', st' t' a1, b1⟩
theorem s_inst {x : Int} {c : Nat} (hm : (pc, .instanceof idx, 3) ∈ mtI M) (hO : XOK (mtN M).cls idx c) (hx : x = 0 ∨ h x (-1) = (c : Int) + 1 ∨ ∃ q ∈ noC, h x (-1) = (q.1 : Int) + 1 ∧ c = q.2) (w : WP G M (pc + 3) ls ((0, if h x (-1) = (c : Int) + 1 then 1 else 0) :: st) h d P) : WP G M pc ls ((1, x) :: st) h d P := by
  intro p e R s m args below meth cd H locs la C hR h1 h2 h3 h4 h5
  have kk := w p e R s m args below meth cd H locs la C hR h1 h2 h3 h4 (h5.tl.ci (by split <;> decide))
  have hdg := C.ok (pc, .instanceof idx, 3) hm
  rw [List.map_cons, show cv G ((1, x) : AV) = rf G x from rfl]
  rw [List.map_cons] at kk
  obtain ⟨r, e1, e2, -⟩ := hO
  have hkn := C.kn e1
  obtain ⟨-, -, -, -, -, -, r6, -⟩ := id hR
  rcases hx with h0 | ht | ⟨q, hq, hq1, hq2⟩
  · rw [show rf G x = .null by unfold rf; rw [if_pos h0]]
    rw [if_neg (by rw [h0, r6]; omega)] at kk
    exact lv_instN C.exec C.bytes hdg kk
  · obtain ⟨h0, cell, q1, q2, q3, q4, -⟩ := hR.obj C.gx e1 ht
    rw [rf_pos h0]
    rw [if_pos ht] at kk
    exact va_instS C.exec C.bytes C.own (C.word e2) hkn.2 ⟨cell, q1, q3, by rw [q4]; exact hkn.2.1⟩ hdg kk
  · obtain ⟨r', hr'⟩ := noC_cls q hq
    obtain ⟨h0, cell, q1, q2, q3, q4, -⟩ := hR.obj C.gx hr' hq1
    rw [rf_pos h0]
    have hne : ¬ h x (-1) = (c : Int) + 1 := by
      intro he
      have : q.1 = q.2 := by omega
      simp only [noC, List.mem_cons, List.not_mem_nil, or_false] at hq
      rcases hq with rfl | rfl | rfl <;> cases this
    rw [if_neg hne] at kk
    have hno := C.gx.2.2.2.2.2.2.1 q hq
    refine va_instNo C.exec C.bytes C.own (C.word e2) (va_Nc.moved (u := g0 G) C.warm.alike (C := r'.1) (T := r.1) ⟨gC G q.1, gC G c, (C.gx.2.1 _ _ hr').2.1, (C.gx.2.1 _ _ e1).2.1, by rw [hq2]; exact hno⟩) ⟨cell, q1, q3, by rw [q4]; exact (C.kn hr').2.1⟩ hdg kk
end FL
