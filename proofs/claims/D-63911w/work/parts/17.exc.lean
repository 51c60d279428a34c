/-! L1: throw new X(): the machine's own words (made by gen_exc.py) -/
section EX
variable {G : GM} {M : Mt} {d : Nat} {p : Program} {R : Room} {s : State} {m : MethodId} {meth : Method} {c : Code} {args : Array Value}
theorem Cx.decl (C : Cx G M d p R s m meth c) {y : MethodName} (h : Cond.declares y ∈ lw_tbl) : (Cond.declares y).before args s = true := by
  obtain ⟨A, hA⟩ := C.gx.1
  exact (va_Nw.warmD C.warm (va_Nw.of rfl (hA _ h))).use rfl
theorem Cx.laysSt (C : Cx G M d p R s m meth c) (hold : ∀ a, a < gn G → s.heap[a]? = (g0 G).heap[a]?) {o n dd : String} (h : Cond.laysStatic o n dd ∈ lw_tbl) : (Cond.laysStatic o n dd).before args s = true := by
  obtain ⟨A, hA⟩ := C.gx.1
  obtain ⟨c', k, i, f, a, cell, hc, hi, hst, ha, hcell, hs, hcls, hlt, hty⟩ := Cond.laysStatic_spec (hA _ h)
  obtain ⟨k', hi', hek⟩ := State.fieldFound?_setVm C.warm.alike hi
  exact Cond.laysStatic_of (s := s) (by rw [C.warm.alike.findClass]; exact hc) hi' hst (by rw [hek]; exact ha) (by rw [hold a (Array.getElem?_eq_some_iff.mp hcell).1]; exact hcell) hs hcls hlt (by rw [hek]; exact hty)
theorem Cx.isRefSt (C : Cx G M d p R s m meth c) (hold : ∀ a, a < gn G → s.heap[a]? = (g0 G).heap[a]?) {o n dd : String} {j : Int} (h : (o, n, dd, ((3, j) : AV)) ∈ stL) : (Cond.isRef (.static o n dd)).before args s = true := by
  have hZ := va_Z.moved C.warm.alike (C.gx.2.2.2.2.2.2.2.2.1 _ h)
  obtain ⟨cf, kf, fi, f, a, cell, z1, z2, z3, z4, z5, z6, z7, z8⟩ := hZ
  have z5' : s.heap[a]? = some cell := by rw [hold a (Array.getElem?_eq_some_iff.mp z5).1]; exact z5
  have hev : (Term.static o n dd).eval args s none [] s = some (gF G j) := by
    simp [Term.eval, State.fieldNamed?, z1, z2, z4, z5', z6, z7, cv]
  have hg : gF G j = .null ∨ ∃ a, gF G j = .ref a := by unfold gF; split; exact Or.inr ⟨_, rfl⟩; exact Or.inl rfl
  rcases hg with hg | ⟨a, hg⟩ <;> (rw [hg] at hev; simp [Cond.before, Cond.holds, Cond.value, hev, Value.isRef])
set_option maxRecDepth 100000 in
theorem at_iae (C : Cx G M d p R s m meth c) (hold : ∀ a, a < gn G → s.heap[a]? = (g0 G).heap[a]?) {own : String} {ic : Nat} (hl : Cond.methodLink own ic ⟨"java/lang/IllegalArgumentException", "<init>", "()V"⟩ ∈ lw_all) : ∀ a ∈ Bundle.ownAtoms0 own ic "java/lang/IllegalArgumentException" ["java/lang/RuntimeException", "java/lang/Exception"], a.before args s = true := by
  refine List.forall_mem_cons.mpr ⟨C.word (lw_g (lw_at lw_m1 26 rfl) rfl), ?_⟩
  refine List.forall_mem_cons.mpr ⟨C.word (lw_g (lw_at lw_m3 27 rfl) rfl), ?_⟩
  refine List.forall_mem_cons.mpr ⟨C.word (lw_g (lw_at lw_m3 36 rfl) rfl), ?_⟩
  refine List.forall_mem_cons.mpr ⟨C.word (lw_g (lw_at lw_m3 40 rfl) rfl), ?_⟩
  refine List.forall_mem_cons.mpr ⟨C.word (lw_g (lw_at lw_m3 43 rfl) rfl), ?_⟩
  refine List.forall_mem_cons.mpr ⟨C.word (lw_g (lw_at lw_m3 45 rfl) rfl), ?_⟩
  refine List.forall_mem_cons.mpr ⟨C.word (lw_g (lw_at lw_m3 28 rfl) rfl), ?_⟩
  refine List.forall_mem_cons.mpr ⟨C.word (lw_g (lw_at lw_m3 29 rfl) rfl), ?_⟩
  refine List.forall_mem_cons.mpr ⟨C.word (lw_g (lw_at lw_m1 52 rfl) rfl), ?_⟩
  refine List.forall_mem_cons.mpr ⟨C.word (lw_g (lw_at lw_m1 53 rfl) rfl), ?_⟩
  refine List.forall_mem_cons.mpr ⟨C.word (lw_g (lw_at lw_m3 30 rfl) rfl), ?_⟩
  refine List.forall_mem_cons.mpr ⟨C.word (lw_g (lw_at lw_m3 35 rfl) rfl), ?_⟩
  refine List.forall_mem_cons.mpr ⟨C.word (lw_g (lw_at lw_m3 41 rfl) rfl), ?_⟩
  refine List.forall_mem_cons.mpr ⟨C.word (lw_g (lw_at lw_m3 167 rfl) rfl), ?_⟩
  refine List.forall_mem_cons.mpr ⟨C.word (lw_g (lw_at lw_m3 17 rfl) rfl), ?_⟩
  refine List.forall_mem_cons.mpr ⟨C.word (lw_g (lw_at lw_m3 168 rfl) rfl), ?_⟩
  refine List.forall_mem_cons.mpr ⟨C.word (lw_g (lw_at lw_m3 19 rfl) rfl), ?_⟩
  refine List.forall_mem_cons.mpr ⟨C.word (lw_g (lw_at lw_m3 169 rfl) rfl), ?_⟩
  refine List.forall_mem_cons.mpr ⟨C.word (lw_g (lw_at lw_m3 21 rfl) rfl), ?_⟩
  refine List.forall_mem_cons.mpr ⟨C.word (lw_g (lw_at lw_m3 31 rfl) rfl), ?_⟩
  refine List.forall_mem_cons.mpr ⟨C.laysSt hold (lw_at lw_m3 32 rfl), ?_⟩
  refine List.forall_mem_cons.mpr ⟨C.word (lw_g (lw_at lw_m3 33 rfl) rfl), ?_⟩
  refine List.forall_mem_cons.mpr ⟨C.laysSt hold (lw_at lw_m3 34 rfl), ?_⟩
  refine List.forall_mem_cons.mpr ⟨C.word (lw_g (lw_at lw_m3 23 rfl) rfl), ?_⟩
  refine List.forall_mem_cons.mpr ⟨C.word (lw_g (lw_at lw_m4 24 rfl) rfl), ?_⟩
  refine List.forall_mem_cons.mpr ⟨C.word (lw_g (lw_at lw_m4 25 rfl) rfl), ?_⟩
  refine List.forall_mem_cons.mpr ⟨C.word (lw_g (lw_at lw_m4 26 rfl) rfl), ?_⟩
  refine List.forall_mem_cons.mpr ⟨C.word (lw_g (lw_at lw_m4 27 rfl) rfl), ?_⟩
  refine List.forall_mem_cons.mpr ⟨C.decl (lw_at lw_m3 8 rfl), ?_⟩
  refine List.forall_mem_cons.mpr ⟨C.word (lw_g (lw_at lw_m4 27 rfl) rfl), ?_⟩
  refine List.forall_mem_cons.mpr ⟨C.word (lw_g (lw_at lw_m4 28 rfl) rfl), ?_⟩
  refine List.forall_mem_cons.mpr ⟨C.word (lw_g (lw_at lw_m4 29 rfl) rfl), ?_⟩
  refine List.forall_mem_cons.mpr ⟨C.word (lw_g (lw_at lw_m4 30 rfl) rfl), ?_⟩
  refine List.forall_mem_cons.mpr ⟨C.decl (lw_at lw_m3 10 rfl), ?_⟩
  refine List.forall_mem_cons.mpr ⟨C.word (lw_g (lw_at lw_m4 30 rfl) rfl), ?_⟩
  refine List.forall_mem_cons.mpr ⟨C.word (lw_g (lw_at lw_m4 31 rfl) rfl), ?_⟩
  refine List.forall_mem_cons.mpr ⟨C.word (lw_g (lw_at lw_m4 32 rfl) rfl), ?_⟩
  refine List.forall_mem_cons.mpr ⟨C.word (lw_g (lw_at lw_m3 28 rfl) rfl), ?_⟩
  refine List.forall_mem_cons.mpr ⟨C.decl (lw_at lw_m3 12 rfl), ?_⟩
  refine List.forall_mem_cons.mpr ⟨C.word hl, ?_⟩
  refine List.forall_mem_cons.mpr ⟨C.word (lw_g (lw_at lw_m3 6 rfl) rfl), ?_⟩
  refine List.forall_mem_cons.mpr ⟨(C.cast (lw_at lw_m3 7 rfl)).use rfl, ?_⟩
  refine List.forall_mem_cons.mpr ⟨C.word (lw_g (lw_at lw_m3 14 rfl) rfl), ?_⟩
  refine List.forall_mem_cons.mpr ⟨C.word (lw_g (lw_at lw_m3 15 rfl) rfl), ?_⟩
  refine List.forall_mem_cons.mpr ⟨C.word (lw_g (lw_at lw_m3 16 rfl) rfl), ?_⟩
  refine List.forall_mem_cons.mpr ⟨C.word (lw_g (lw_at lw_m3 18 rfl) rfl), ?_⟩
  refine List.forall_mem_cons.mpr ⟨C.word (lw_g (lw_at lw_m3 20 rfl) rfl), ?_⟩
  refine List.forall_mem_cons.mpr ⟨C.word (lw_g (lw_at lw_m3 22 rfl) rfl), ?_⟩
  refine List.forall_mem_cons.mpr ⟨C.isRefSt hold (j := 1) (by decide), ?_⟩
  refine List.forall_mem_cons.mpr ⟨C.isRefSt hold (j := 2) (by decide), ?_⟩
  refine List.forall_mem_cons.mpr ⟨C.word (lw_g (lw_at lw_m3 165 rfl) rfl), ?_⟩
  refine List.forall_mem_cons.mpr ⟨C.word (lw_g (lw_at lw_m3 25 rfl) rfl), ?_⟩
  refine List.forall_mem_cons.mpr ⟨C.word (lw_g (lw_at lw_m3 24 rfl) rfl), ?_⟩
  exact fun a h => absurd h List.not_mem_nil
set_option maxRecDepth 100000 in
theorem at_ise (C : Cx G M d p R s m meth c) (hold : ∀ a, a < gn G → s.heap[a]? = (g0 G).heap[a]?) {own : String} {ic : Nat} (hl : Cond.methodLink own ic ⟨"java/lang/IllegalStateException", "<init>", "()V"⟩ ∈ lw_all) : ∀ a ∈ Bundle.ownAtoms0 own ic "java/lang/IllegalStateException" ["java/lang/RuntimeException", "java/lang/Exception"], a.before args s = true := by
  refine List.forall_mem_cons.mpr ⟨C.word (lw_g (lw_at lw_m1 26 rfl) rfl), ?_⟩
  refine List.forall_mem_cons.mpr ⟨C.word (lw_g (lw_at lw_m3 27 rfl) rfl), ?_⟩
  refine List.forall_mem_cons.mpr ⟨C.word (lw_g (lw_at lw_m3 36 rfl) rfl), ?_⟩
  refine List.forall_mem_cons.mpr ⟨C.word (lw_g (lw_at lw_m3 40 rfl) rfl), ?_⟩
  refine List.forall_mem_cons.mpr ⟨C.word (lw_g (lw_at lw_m3 43 rfl) rfl), ?_⟩
  refine List.forall_mem_cons.mpr ⟨C.word (lw_g (lw_at lw_m3 45 rfl) rfl), ?_⟩
  refine List.forall_mem_cons.mpr ⟨C.word (lw_g (lw_at lw_m3 28 rfl) rfl), ?_⟩
  refine List.forall_mem_cons.mpr ⟨C.word (lw_g (lw_at lw_m3 29 rfl) rfl), ?_⟩
  refine List.forall_mem_cons.mpr ⟨C.word (lw_g (lw_at lw_m1 52 rfl) rfl), ?_⟩
  refine List.forall_mem_cons.mpr ⟨C.word (lw_g (lw_at lw_m1 53 rfl) rfl), ?_⟩
  refine List.forall_mem_cons.mpr ⟨C.word (lw_g (lw_at lw_m3 30 rfl) rfl), ?_⟩
  refine List.forall_mem_cons.mpr ⟨C.word (lw_g (lw_at lw_m3 35 rfl) rfl), ?_⟩
  refine List.forall_mem_cons.mpr ⟨C.word (lw_g (lw_at lw_m3 41 rfl) rfl), ?_⟩
  refine List.forall_mem_cons.mpr ⟨C.word (lw_g (lw_at lw_m3 167 rfl) rfl), ?_⟩
  refine List.forall_mem_cons.mpr ⟨C.word (lw_g (lw_at lw_m3 17 rfl) rfl), ?_⟩
  refine List.forall_mem_cons.mpr ⟨C.word (lw_g (lw_at lw_m3 168 rfl) rfl), ?_⟩
  refine List.forall_mem_cons.mpr ⟨C.word (lw_g (lw_at lw_m3 19 rfl) rfl), ?_⟩
  refine List.forall_mem_cons.mpr ⟨C.word (lw_g (lw_at lw_m3 169 rfl) rfl), ?_⟩
  refine List.forall_mem_cons.mpr ⟨C.word (lw_g (lw_at lw_m3 21 rfl) rfl), ?_⟩
  refine List.forall_mem_cons.mpr ⟨C.word (lw_g (lw_at lw_m3 31 rfl) rfl), ?_⟩
  refine List.forall_mem_cons.mpr ⟨C.laysSt hold (lw_at lw_m3 32 rfl), ?_⟩
  refine List.forall_mem_cons.mpr ⟨C.word (lw_g (lw_at lw_m3 33 rfl) rfl), ?_⟩
  refine List.forall_mem_cons.mpr ⟨C.laysSt hold (lw_at lw_m3 34 rfl), ?_⟩
  refine List.forall_mem_cons.mpr ⟨C.word (lw_g (lw_at lw_m3 23 rfl) rfl), ?_⟩
  refine List.forall_mem_cons.mpr ⟨C.word (lw_g (lw_at lw_m4 206 rfl) rfl), ?_⟩
  refine List.forall_mem_cons.mpr ⟨C.word (lw_g (lw_at lw_m4 207 rfl) rfl), ?_⟩
  refine List.forall_mem_cons.mpr ⟨C.word (lw_g (lw_at lw_m4 208 rfl) rfl), ?_⟩
  refine List.forall_mem_cons.mpr ⟨C.word (lw_g (lw_at lw_m4 27 rfl) rfl), ?_⟩
  refine List.forall_mem_cons.mpr ⟨C.decl (lw_at lw_m3 8 rfl), ?_⟩
  refine List.forall_mem_cons.mpr ⟨C.word (lw_g (lw_at lw_m4 27 rfl) rfl), ?_⟩
  refine List.forall_mem_cons.mpr ⟨C.word (lw_g (lw_at lw_m4 28 rfl) rfl), ?_⟩
  refine List.forall_mem_cons.mpr ⟨C.word (lw_g (lw_at lw_m4 29 rfl) rfl), ?_⟩
  refine List.forall_mem_cons.mpr ⟨C.word (lw_g (lw_at lw_m4 30 rfl) rfl), ?_⟩
  refine List.forall_mem_cons.mpr ⟨C.decl (lw_at lw_m3 10 rfl), ?_⟩
  refine List.forall_mem_cons.mpr ⟨C.word (lw_g (lw_at lw_m4 30 rfl) rfl), ?_⟩
  refine List.forall_mem_cons.mpr ⟨C.word (lw_g (lw_at lw_m4 31 rfl) rfl), ?_⟩
  refine List.forall_mem_cons.mpr ⟨C.word (lw_g (lw_at lw_m4 32 rfl) rfl), ?_⟩
  refine List.forall_mem_cons.mpr ⟨C.word (lw_g (lw_at lw_m3 28 rfl) rfl), ?_⟩
  refine List.forall_mem_cons.mpr ⟨C.decl (lw_at lw_m3 12 rfl), ?_⟩
  refine List.forall_mem_cons.mpr ⟨C.word hl, ?_⟩
  refine List.forall_mem_cons.mpr ⟨C.word (lw_g (lw_at lw_m4 197 rfl) rfl), ?_⟩
  refine List.forall_mem_cons.mpr ⟨(C.cast (lw_at lw_m4 198 rfl)).use rfl, ?_⟩
  refine List.forall_mem_cons.mpr ⟨C.word (lw_g (lw_at lw_m4 199 rfl) rfl), ?_⟩
  refine List.forall_mem_cons.mpr ⟨C.word (lw_g (lw_at lw_m3 38 rfl) rfl), ?_⟩
  refine List.forall_mem_cons.mpr ⟨C.word (lw_g (lw_at lw_m4 200 rfl) rfl), ?_⟩
  refine List.forall_mem_cons.mpr ⟨C.word (lw_g (lw_at lw_m4 201 rfl) rfl), ?_⟩
  refine List.forall_mem_cons.mpr ⟨C.word (lw_g (lw_at lw_m4 202 rfl) rfl), ?_⟩
  refine List.forall_mem_cons.mpr ⟨C.word (lw_g (lw_at lw_m4 203 rfl) rfl), ?_⟩
  refine List.forall_mem_cons.mpr ⟨C.isRefSt hold (j := 1) (by decide), ?_⟩
  refine List.forall_mem_cons.mpr ⟨C.isRefSt hold (j := 2) (by decide), ?_⟩
  refine List.forall_mem_cons.mpr ⟨C.word (lw_g (lw_at lw_m3 165 rfl) rfl), ?_⟩
  refine List.forall_mem_cons.mpr ⟨C.word (lw_g (lw_at lw_m3 25 rfl) rfl), ?_⟩
  refine List.forall_mem_cons.mpr ⟨C.word (lw_g (lw_at lw_m4 204 rfl) rfl), ?_⟩
  exact fun a h => absurd h List.not_mem_nil
set_option maxRecDepth 100000 in
theorem at_uoe (C : Cx G M d p R s m meth c) (hold : ∀ a, a < gn G → s.heap[a]? = (g0 G).heap[a]?) {own : String} {ic : Nat} (hl : Cond.methodLink own ic ⟨"java/lang/UnsupportedOperationException", "<init>", "()V"⟩ ∈ lw_all) : ∀ a ∈ Bundle.ownAtoms0 own ic "java/lang/UnsupportedOperationException" ["java/lang/RuntimeException", "java/lang/Exception"], a.before args s = true := by
  refine List.forall_mem_cons.mpr ⟨C.word (lw_g (lw_at lw_m1 26 rfl) rfl), ?_⟩
  refine List.forall_mem_cons.mpr ⟨C.word (lw_g (lw_at lw_m3 27 rfl) rfl), ?_⟩
  refine List.forall_mem_cons.mpr ⟨C.word (lw_g (lw_at lw_m3 36 rfl) rfl), ?_⟩
  refine List.forall_mem_cons.mpr ⟨C.word (lw_g (lw_at lw_m3 40 rfl) rfl), ?_⟩
  refine List.forall_mem_cons.mpr ⟨C.word (lw_g (lw_at lw_m3 43 rfl) rfl), ?_⟩
  refine List.forall_mem_cons.mpr ⟨C.word (lw_g (lw_at lw_m3 45 rfl) rfl), ?_⟩
  refine List.forall_mem_cons.mpr ⟨C.word (lw_g (lw_at lw_m3 28 rfl) rfl), ?_⟩
  refine List.forall_mem_cons.mpr ⟨C.word (lw_g (lw_at lw_m3 29 rfl) rfl), ?_⟩
  refine List.forall_mem_cons.mpr ⟨C.word (lw_g (lw_at lw_m1 52 rfl) rfl), ?_⟩
  refine List.forall_mem_cons.mpr ⟨C.word (lw_g (lw_at lw_m1 53 rfl) rfl), ?_⟩
  refine List.forall_mem_cons.mpr ⟨C.word (lw_g (lw_at lw_m3 30 rfl) rfl), ?_⟩
  refine List.forall_mem_cons.mpr ⟨C.word (lw_g (lw_at lw_m3 35 rfl) rfl), ?_⟩
  refine List.forall_mem_cons.mpr ⟨C.word (lw_g (lw_at lw_m3 41 rfl) rfl), ?_⟩
  refine List.forall_mem_cons.mpr ⟨C.word (lw_g (lw_at lw_m3 167 rfl) rfl), ?_⟩
  refine List.forall_mem_cons.mpr ⟨C.word (lw_g (lw_at lw_m3 17 rfl) rfl), ?_⟩
  refine List.forall_mem_cons.mpr ⟨C.word (lw_g (lw_at lw_m3 168 rfl) rfl), ?_⟩
  refine List.forall_mem_cons.mpr ⟨C.word (lw_g (lw_at lw_m3 19 rfl) rfl), ?_⟩
  refine List.forall_mem_cons.mpr ⟨C.word (lw_g (lw_at lw_m3 169 rfl) rfl), ?_⟩
  refine List.forall_mem_cons.mpr ⟨C.word (lw_g (lw_at lw_m3 21 rfl) rfl), ?_⟩
  refine List.forall_mem_cons.mpr ⟨C.word (lw_g (lw_at lw_m3 31 rfl) rfl), ?_⟩
  refine List.forall_mem_cons.mpr ⟨C.laysSt hold (lw_at lw_m3 32 rfl), ?_⟩
  refine List.forall_mem_cons.mpr ⟨C.word (lw_g (lw_at lw_m3 33 rfl) rfl), ?_⟩
  refine List.forall_mem_cons.mpr ⟨C.laysSt hold (lw_at lw_m3 34 rfl), ?_⟩
  refine List.forall_mem_cons.mpr ⟨C.word (lw_g (lw_at lw_m3 23 rfl) rfl), ?_⟩
  refine List.forall_mem_cons.mpr ⟨C.word (lw_g (lw_at lw_m5 119 rfl) rfl), ?_⟩
  refine List.forall_mem_cons.mpr ⟨C.word (lw_g (lw_at lw_m5 120 rfl) rfl), ?_⟩
  refine List.forall_mem_cons.mpr ⟨C.word (lw_g (lw_at lw_m5 121 rfl) rfl), ?_⟩
  refine List.forall_mem_cons.mpr ⟨C.word (lw_g (lw_at lw_m4 27 rfl) rfl), ?_⟩
  refine List.forall_mem_cons.mpr ⟨C.decl (lw_at lw_m3 8 rfl), ?_⟩
  refine List.forall_mem_cons.mpr ⟨C.word (lw_g (lw_at lw_m4 27 rfl) rfl), ?_⟩
  refine List.forall_mem_cons.mpr ⟨C.word (lw_g (lw_at lw_m4 28 rfl) rfl), ?_⟩
  refine List.forall_mem_cons.mpr ⟨C.word (lw_g (lw_at lw_m4 29 rfl) rfl), ?_⟩
  refine List.forall_mem_cons.mpr ⟨C.word (lw_g (lw_at lw_m4 30 rfl) rfl), ?_⟩
  refine List.forall_mem_cons.mpr ⟨C.decl (lw_at lw_m3 10 rfl), ?_⟩
  refine List.forall_mem_cons.mpr ⟨C.word (lw_g (lw_at lw_m4 30 rfl) rfl), ?_⟩
  refine List.forall_mem_cons.mpr ⟨C.word (lw_g (lw_at lw_m4 31 rfl) rfl), ?_⟩
  refine List.forall_mem_cons.mpr ⟨C.word (lw_g (lw_at lw_m4 32 rfl) rfl), ?_⟩
  refine List.forall_mem_cons.mpr ⟨C.word (lw_g (lw_at lw_m3 28 rfl) rfl), ?_⟩
  refine List.forall_mem_cons.mpr ⟨C.decl (lw_at lw_m3 12 rfl), ?_⟩
  refine List.forall_mem_cons.mpr ⟨C.word hl, ?_⟩
  refine List.forall_mem_cons.mpr ⟨C.word (lw_g (lw_at lw_m5 110 rfl) rfl), ?_⟩
  refine List.forall_mem_cons.mpr ⟨(C.cast (lw_at lw_m5 111 rfl)).use rfl, ?_⟩
  refine List.forall_mem_cons.mpr ⟨C.word (lw_g (lw_at lw_m5 112 rfl) rfl), ?_⟩
  refine List.forall_mem_cons.mpr ⟨C.word (lw_g (lw_at lw_m3 39 rfl) rfl), ?_⟩
  refine List.forall_mem_cons.mpr ⟨C.word (lw_g (lw_at lw_m5 113 rfl) rfl), ?_⟩
  refine List.forall_mem_cons.mpr ⟨C.word (lw_g (lw_at lw_m5 114 rfl) rfl), ?_⟩
  refine List.forall_mem_cons.mpr ⟨C.word (lw_g (lw_at lw_m5 115 rfl) rfl), ?_⟩
  refine List.forall_mem_cons.mpr ⟨C.word (lw_g (lw_at lw_m5 116 rfl) rfl), ?_⟩
  refine List.forall_mem_cons.mpr ⟨C.isRefSt hold (j := 1) (by decide), ?_⟩
  refine List.forall_mem_cons.mpr ⟨C.isRefSt hold (j := 2) (by decide), ?_⟩
  refine List.forall_mem_cons.mpr ⟨C.word (lw_g (lw_at lw_m3 165 rfl) rfl), ?_⟩
  refine List.forall_mem_cons.mpr ⟨C.word (lw_g (lw_at lw_m3 25 rfl) rfl), ?_⟩
  refine List.forall_mem_cons.mpr ⟨C.word (lw_g (lw_at lw_m5 117 rfl) rfl), ?_⟩
  exact fun a h => absurd h List.not_mem_nil
end EX
