/-! L1: Math.max, Math.min -/
section MM
variable {G : GM} {M : Mt} {d pc idx : Nat} {ls st : List AV} {h : SM} {P : Nat → Int → SM → Prop}
def mxOK (own : String) (idx : Nat) : Prop := Cond.methodLink own idx Lib.Math.max.name ∈ lw_all ∧ Cond.static Lib.Math.max.name ∈ lw_all ∧ Cond.initialized "java/lang/Math" ∈ lw_all ∧ Cond.code Lib.Math.max.name Lib.Math.max.code 2 (some .int) ∈ lw_all
def mnOK (own : String) (idx : Nat) : Prop := Cond.methodLink own idx Lib.Math.min.name ∈ lw_all ∧ Cond.static Lib.Math.min.name ∈ lw_all ∧ Cond.initialized "java/lang/Math" ∈ lw_all ∧ Cond.code Lib.Math.min.name Lib.Math.min.code 2 (some .int) ∈ lw_all
theorem room_now {p : Program} {R : Room} {s : State} {m : MethodId} {meth : Method} {c : Code} {H : Heap} (C : Cx G M d p R s m meth c) (hR : Rel G h H) (h1 : s.heap.size ≤ H.size) (h2 : sumS s.heap (gn G) ≤ sumS H (gn G)) : H.size - s.heap.size ≤ R.cells ∧ sumS H (gn G) - sumS s.heap (gn G) ≤ R.slots := by
  have hcells := C.cells
  have hslots := C.slots
  have hold := C.old
  obtain ⟨r0, r1, r2, r3, -⟩ := hR
  constructor <;> omega
theorem s_max {x y : Int} (hm : (pc, .invokestatic idx, 3) ∈ mtI M) (hO : mxOK (mtN M).cls idx) (hd : 0 < d) (hst : st.length ≤ 20) (w : WP G M (pc + 3) ls ((0, if x < y then y else x) :: st) h d P) : WP G M pc ls ((0, y) :: (0, x) :: st) h d P := by
  intro p e R s m args below meth cd H locs la C hR h1 h2 h3 h4 h5
  obtain ⟨w1, w2, w3, w4⟩ := hO
  have hfr := C.frames
  have hwo := C.words
  have hcat := cat_sum G st
  have hy : in32 y := h5.hd
  have hx : in32 x := h5.tl.hd
  obtain ⟨a1, a2⟩ := room_now C hR h1 h2
  have kk := w p e R s m args below meth cd H locs la C hR h1 h2 h3 h4 (h5.tl.tl.ci (by split; exact hy; exact hx))
  refine va_mmax C.exec C.bytes (by rw [C.locals, h4.1]) C.own (C.word w1) (C.word w2) (C.word w3) (C.word w4) (by omega) (by omega) a1 a2 (C.ok (pc, .invokestatic idx, 3) hm) ?_
  rw [List.map_cons, show cv G ((0, if x < y then y else x) : AV) = .int (if Int32.ofInt x < Int32.ofInt y then Int32.ofInt y else Int32.ofInt x) by
    show Value.int (Int32.ofInt (if x < y then y else x)) = _
    by_cases hxy : x < y
    · rw [if_pos hxy, if_pos ((i32_lt hx hy).mpr hxy)]
    · rw [if_neg hxy, if_neg (fun q => hxy ((i32_lt hx hy).mp q))]] at kk
  exact kk
theorem s_min {x y : Int} (hm : (pc, .invokestatic idx, 3) ∈ mtI M) (hO : mnOK (mtN M).cls idx) (hd : 0 < d) (hst : st.length ≤ 20) (w : WP G M (pc + 3) ls ((0, if y < x then y else x) :: st) h d P) : WP G M pc ls ((0, y) :: (0, x) :: st) h d P := by
  intro p e R s m args below meth cd H locs la C hR h1 h2 h3 h4 h5
  obtain ⟨w1, w2, w3, w4⟩ := hO
  have hfr := C.frames
  have hwo := C.words
  have hcat := cat_sum G st
  have hy : in32 y := h5.hd
  have hx : in32 x := h5.tl.hd
  obtain ⟨a1, a2⟩ := room_now C hR h1 h2
  have kk := w p e R s m args below meth cd H locs la C hR h1 h2 h3 h4 (h5.tl.tl.ci (by split; exact hy; exact hx))
  refine va_mmin C.exec C.bytes (by rw [C.locals, h4.1]) C.own (C.word w1) (C.word w2) (C.word w3) (C.word w4) (by omega) (by omega) a1 a2 (C.ok (pc, .invokestatic idx, 3) hm) ?_
  rw [List.map_cons, show cv G ((0, if y < x then y else x) : AV) = .int (if Int32.ofInt y < Int32.ofInt x then Int32.ofInt y else Int32.ofInt x) by
    show Value.int (Int32.ofInt (if y < x then y else x)) = _
    by_cases hxy : y < x
    · rw [if_pos hxy, if_pos ((i32_lt hy hx).mpr hxy)]
    · rw [if_neg hxy, if_neg (fun q => hxy ((i32_lt hy hx).mp q))]] at kk
  exact kk
end MM
