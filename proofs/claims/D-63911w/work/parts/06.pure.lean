/-! L1: instructions that touch locals and stack alone -/
def alist (G : GM) (ls : List AV) : List (Nat × Value) := (List.range ls.length).filterMap fun i => match ls[i]? with
  | some v => if v.1 = 9 then none else some (i, cv G v)
  | none => none
theorem alist_mem {G : GM} {ls : List AV} {q : Nat × Value} : q ∈ alist G ls ↔ ∃ v, ls[q.1]? = some v ∧ v.1 ≠ 9 ∧ q.2 = cv G v := by
  unfold alist
  rw [List.mem_filterMap]
  constructor
  · rintro ⟨i, hi, h⟩
    cases hv : ls[i]? with
    | none => rw [hv] at h; cases h
    | some v =>
      rw [hv] at h
      dsimp only at h
      by_cases h9 : v.1 = 9
      · rw [if_pos h9] at h; cases h
      · rw [if_neg h9] at h; cases h; exact ⟨v, hv, h9, rfl⟩
  · rintro ⟨v, hv, h9, he⟩
    have hlt := (List.getElem?_eq_some_iff.mp hv).1
    refine ⟨q.1, List.mem_range.mpr hlt, ?_⟩
    rw [hv]
    show (if v.1 = 9 then none else some (q.1, cv G v)) = some q
    rw [if_neg h9, ← he]
theorem Lok.has {G : GM} {n : Nat} {ls : List AV} {la : Array Slot} (h : Lok G n ls la) : lv_has la n (alist G ls) :=
  ⟨h.1, h.2.1, fun q hq => by obtain ⟨v, h1, h2, h3⟩ := alist_mem.mp hq; rw [h3]; exact (h.2.2.2 _ _ h1 h2).1⟩
theorem cat_cv (G : GM) (v : AV) : (cv G v).category = if v.1 = 2 then 2 else 1 := by
  obtain ⟨t, x⟩ := v
  have hr : (rf G x).category = 1 := by unfold rf; split <;> rfl
  match t with
  | 0 => rfl
  | 1 => exact hr
  | 2 => rfl
  | 3 => show (gF G x).category = 1; unfold gF; split <;> rfl
  | t + 4 => show (rf G x).category = if t + 4 = 2 then 2 else 1; rw [if_neg (by omega)]; exact hr
/-- store of one slot, of two -/
def st1 (ls : List AV) (i : Nat) (v : AV) : Option (List AV) :=
  if i < ls.length then (match i with
    | 0 => some (ls.set 0 v)
    | j + 1 => match ls[j]? with
      | some w => if w.1 = 2 then none else some (ls.set (j + 1) v)
      | none => none) else none
theorem st1_spec {ls ls' : List AV} {i : Nat} {v : AV} (h : st1 ls i v = some ls') : ls' = ls.set i v ∧ i < ls.length ∧ ∀ j w, j + 1 = i → ls[j]? = some w → w.1 ≠ 2 := by
  unfold st1 at h
  split at h
  · rename_i hi
    cases i with
    | zero => cases h; exact ⟨rfl, hi, fun j w hj => by omega⟩
    | succ k =>
      dsimp only at h
      cases hw : ls[k]? with
      | none => rw [hw] at h; cases h
      | some w =>
        rw [hw] at h
        dsimp only at h
        split at h
        · cases h
        · rename_i h2
          cases h
          refine ⟨rfl, hi, fun j w' hj hj' => ?_⟩
          obtain rfl : j = k := by omega
          rw [hw] at hj'; cases hj'; exact h2
  · cases h
theorem Lok.st1 {G : GM} {n : Nat} {ls : List AV} {la la' : Array Slot} {i : Nat} {v : AV} (h : Lok G n ls la) (hi : i < ls.length) (hp : ∀ j w, j + 1 = i → ls[j]? = some w → w.1 ≠ 2) (hv : okv v)
    (h' : lv_has la' n ((i, cv G v) :: (alist G ls).filter (fun q => !(q.1 == i) && !(q.1 + 1 == i && q.2.category == 2)))) : Lok G n (ls.set i v) la' := by
  refine ⟨h'.1, h'.2.1, by rw [List.length_set]; exact h.2.2.1, fun j w hj h9 => ?_⟩
  by_cases hji : j = i
  · subst hji
    rw [List.getElem?_set_self hi] at hj
    cases hj
    exact ⟨h'.2.2 _ (List.mem_cons_self ..), hv⟩
  · rw [List.getElem?_set_ne (Ne.symm hji)] at hj
    refine ⟨h'.2.2 (j, cv G w) (List.mem_cons_of_mem _ (List.mem_filter.mpr ⟨alist_mem.mpr ⟨w, hj, h9, rfl⟩, ?_⟩)), (h.2.2.2 _ _ hj h9).2⟩
    have h2 : ¬ (j + 1 = i ∧ w.1 = 2) := fun hh => hp j w hh.1 hj hh.2
    simp only [cat_cv]
    by_cases h3 : w.1 = 2
    · have : ¬ j + 1 = i := fun e => h2 ⟨e, h3⟩
      simp [hji, this]
    · simp [hji, h3]
def st2 (ls : List AV) (i : Nat) (v : AV) : Option (List AV) :=
  if i + 1 < ls.length then (match st1 ls i v with
    | some l1 => some (l1.set (i + 1) (9, 0))
    | none => none) else none
theorem Lok.st2 {G : GM} {n : Nat} {ls : List AV} {la la' : Array Slot} {i : Nat} {v : AV} (h : Lok G n ls la) (hi : i + 1 < ls.length) (hp : ∀ j w, j + 1 = i → ls[j]? = some w → w.1 ≠ 2) (hv : okv v)
    (h' : lv_has la' n ((i, cv G v) :: (alist G ls).filter (fun q => !(q.1 == i) && (!(q.1 == i + 1) && !(q.1 + 1 == i && q.2.category == 2))))) : Lok G n ((ls.set i v).set (i + 1) (9, 0)) la' := by
  refine ⟨h'.1, h'.2.1, by rw [List.length_set, List.length_set]; exact h.2.2.1, fun j w hj h9 => ?_⟩
  by_cases hj1 : j = i + 1
  · subst hj1
    rw [List.getElem?_set_self (by rw [List.length_set]; exact hi)] at hj
    cases hj
    exact absurd rfl h9
  · rw [List.getElem?_set_ne (Ne.symm hj1)] at hj
    by_cases hji : j = i
    · subst hji
      rw [List.getElem?_set_self (by omega)] at hj
      cases hj
      exact ⟨h'.2.2 _ (List.mem_cons_self ..), hv⟩
    · rw [List.getElem?_set_ne (Ne.symm hji)] at hj
      refine ⟨h'.2.2 (j, cv G w) (List.mem_cons_of_mem _ (List.mem_filter.mpr ⟨alist_mem.mpr ⟨w, hj, h9, rfl⟩, ?_⟩)), (h.2.2.2 _ _ hj h9).2⟩
      have h2 : ¬ (j + 1 = i ∧ w.1 = 2) := fun hh => hp j w hh.1 hj hh.2
      simp only [cat_cv]
      by_cases h3 : w.1 = 2
      · have : ¬ j + 1 = i := fun e => h2 ⟨e, h3⟩
        simp [hji, hj1, this]
      · simp [hji, hj1, h3]
def ldi (ls st : List AV) (i t : Nat) : Option (List AV × List AV) := match ls[i]? with
  | some v => if v.1 = t then some (ls, v :: st) else none
  | none => none
def sti (ls st : List AV) (i t : Nat) : Option (List AV × List AV) := match st with
  | v :: r => if v.1 = t then (match st1 ls i v with
    | some l => some (l, r)
    | none => none) else none
  | [] => none
def stl (ls st : List AV) (i : Nat) : Option (List AV × List AV) := match st with
  | v :: r => if v.1 = 2 then (match st2 ls i v with
    | some l => some (l, r)
    | none => none) else none
  | [] => none
def b32 (f : Int32 → Int32 → Int32) (x y : Int) : Int := (f (Int32.ofInt x) (Int32.ofInt y)).toInt
def cmpL (x y : Int) : Int := if x < y then -1 else if x = y then 0 else 1
/-- the stack and the locals behind an instruction that reads no more than them -/
def pu (i : Instr) (ls st : List AV) : Option (List AV × List AV) := match i with
  | .iconst n => some (ls, (0, n) :: st)
  | .bipush n => some (ls, (0, n) :: st)
  | .sipush n => some (ls, (0, n) :: st)
  | .lconst n => some (ls, (2, ((n : Nat) : Int)) :: st)
  | .aconst_null => some (ls, (1, 0) :: st)
  | .iload n => ldi ls st n 0
  | .iload_n n => ldi ls st n 0
  | .lload n => ldi ls st n 2
  | .lload_n n => ldi ls st n 2
  | .aload n => ldi ls st n 1
  | .aload_n n => ldi ls st n 1
  | .istore n => sti ls st n 0
  | .istore_n n => sti ls st n 0
  | .astore n => sti ls st n 1
  | .astore_n n => sti ls st n 1
  | .lstore n => stl ls st n
  | .lstore_n n => stl ls st n
  | .iinc n k => match ls[n]? with
    | some v => if v.1 = 0 then (match st1 ls n (0, wr (v.2 + k)) with
      | some l => some (l, st)
      | none => none) else none
    | none => none
  | .iadd => match st with
    | (0, y) :: (0, x) :: r => some (ls, (0, wr (x + y)) :: r)
    | _ => none
  | .isub => match st with
    | (0, y) :: (0, x) :: r => some (ls, (0, wr (x - y)) :: r)
    | _ => none
  | .imul => match st with
    | (0, y) :: (0, x) :: r => some (ls, (0, wr (x * y)) :: r)
    | _ => none
  | .ineg => match st with
    | (0, x) :: r => some (ls, (0, wr (-x)) :: r)
    | _ => none
  | .iand => match st with
    | (0, y) :: (0, x) :: r => some (ls, (0, b32 (fun a b => a &&& b) x y) :: r)
    | _ => none
  | .ior => match st with
    | (0, y) :: (0, x) :: r => some (ls, (0, b32 (fun a b => a ||| b) x y) :: r)
    | _ => none
  | .ishl => match st with
    | (0, y) :: (0, x) :: r => some (ls, (0, b32 (fun a b => a <<< (b &&& 31)) x y) :: r)
    | _ => none
  | .ishr => match st with
    | (0, y) :: (0, x) :: r => some (ls, (0, b32 (fun a b => a >>> (b &&& 31)) x y) :: r)
    | _ => none
  | .iushr => match st with
    | (0, y) :: (0, x) :: r => some (ls, (0, b32 (fun a b => (a.toUInt32 >>> (b.toUInt32 &&& Int32.toUInt32 31)).toInt32) x y) :: r)
    | _ => none
  | .i2c => match st with
    | (0, x) :: r => some (ls, (0, ((Int32.ofInt x).toUInt32 % 65536).toInt32.toInt) :: r)
    | _ => none
  | .i2b => match st with
    | (0, x) :: r => some (ls, (0, (Int32.ofInt x).toInt8.toInt32.toInt) :: r)
    | _ => none
  | .i2l => match st with
    | (0, x) :: r => some (ls, (2, x) :: r)
    | _ => none
  | .l2i => match st with
    | (2, x) :: r => some (ls, (0, wr x) :: r)
    | _ => none
  | .lmul => match st with
    | (2, y) :: (2, x) :: r => some (ls, (2, wrL (x * y)) :: r)
    | _ => none
  | .lneg => match st with
    | (2, x) :: r => some (ls, (2, wrL (-x)) :: r)
    | _ => none
  | .lcmp => match st with
    | (2, y) :: (2, x) :: r => some (ls, (0, cmpL x y) :: r)
    | _ => none
  | .dup => match st with
    | v :: r => if v.1 = 2 then none else some (ls, v :: v :: r)
    | _ => none
  | .pop => match st with
    | v :: r => if v.1 = 2 then none else some (ls, r)
    | _ => none
  | .dup_x1 => match st with
    | v :: w :: r => if v.1 = 2 then none else if w.1 = 2 then none else some (ls, v :: w :: v :: r)
    | _ => none
  | .dup2 => match st with
    | v :: w :: r => if v.1 = 2 then none else if w.1 = 2 then none else some (ls, v :: w :: v :: w :: r)
    | _ => none
  | _ => none
def ilen (i : Instr) : Nat := match i with
  | .bipush _ => 2
  | .sipush _ => 3
  | .iload _ => 2
  | .lload _ => 2
  | .aload _ => 2
  | .istore _ => 2
  | .astore _ => 2
  | .lstore _ => 2
  | .iinc _ _ => 3
  | _ => 1
theorem Sok.tl {v : AV} {st : List AV} (h : Sok (v :: st)) : Sok st := fun w hw => h w (List.mem_cons_of_mem _ hw)
theorem Sok.hd {v : AV} {st : List AV} (h : Sok (v :: st)) : okv v := (h v (List.mem_cons_self ..)).2
theorem Sok.h9 {v : AV} {st : List AV} (h : Sok (v :: st)) : v.1 ≠ 9 := (h v (List.mem_cons_self ..)).1
theorem Sok.cons {v : AV} {st : List AV} (h : Sok st) (h9 : v.1 ≠ 9) (hv : okv v) : Sok (v :: st) := fun w hw => by
  rcases List.mem_cons.mp hw with rfl | h1
  · exact ⟨h9, hv⟩
  · exact h w h1
theorem Sok.ci {x : Int} {st : List AV} (h : Sok st) (hv : in32 x) : Sok ((0, x) :: st) := h.cons (by simp) hv
theorem Sok.cl {x : Int} {st : List AV} (h : Sok st) (hv : in64 x) : Sok ((2, x) :: st) := h.cons (by simp) hv
theorem Sok.cr {x : Int} {st : List AV} (h : Sok st) (hv : -NC ≤ x) : Sok ((1, x) :: st) := h.cons (by simp) hv
theorem cat1 {G : GM} {v : AV} (h : v.1 ≠ 2) : (cv G v).category = 1 := by rw [cat_cv, if_neg h]
theorem ldi_spec {ls st ls' st' : List AV} {i t : Nat} (h : ldi ls st i t = some (ls', st')) : ∃ v, ls[i]? = some v ∧ v.1 = t ∧ ls' = ls ∧ st' = v :: st := by
  unfold ldi at h
  cases hv : ls[i]? with
  | none => rw [hv] at h; cases h
  | some v =>
    rw [hv] at h; dsimp only at h
    split at h
    · rename_i ht; cases h; exact ⟨v, rfl, ht, rfl, rfl⟩
    · cases h
theorem sti_spec {ls st ls' st' : List AV} {i t : Nat} (h : sti ls st i t = some (ls', st')) : ∃ v, st = v :: st' ∧ v.1 = t ∧ ls' = ls.set i v ∧ i < ls.length ∧ ∀ j w, j + 1 = i → ls[j]? = some w → w.1 ≠ 2 := by
  unfold sti at h
  cases st with
  | nil => cases h
  | cons v r =>
    dsimp only at h
    split at h
    · rename_i ht
      cases h1 : st1 ls i v with
      | none => rw [h1] at h; cases h
      | some l => rw [h1] at h; cases h; exact ⟨v, rfl, ht, (st1_spec h1).1, (st1_spec h1).2.1, (st1_spec h1).2.2⟩
    · cases h
theorem st2_spec {ls ls' : List AV} {i : Nat} {v : AV} (h : st2 ls i v = some ls') : ls' = (ls.set i v).set (i + 1) (9, 0) ∧ i + 1 < ls.length ∧ ∀ j w, j + 1 = i → ls[j]? = some w → w.1 ≠ 2 := by
  unfold st2 at h
  split at h
  · rename_i hl
    cases h1 : st1 ls i v with
    | none => rw [h1] at h; cases h
    | some l => rw [h1] at h; cases h; exact ⟨by rw [(st1_spec h1).1], hl, (st1_spec h1).2.2⟩
  · cases h
theorem stl_spec {ls st ls' st' : List AV} {i : Nat} (h : stl ls st i = some (ls', st')) : ∃ v, st = v :: st' ∧ v.1 = 2 ∧ ls' = (ls.set i v).set (i + 1) (9, 0) ∧ i + 1 < ls.length ∧ ∀ j w, j + 1 = i → ls[j]? = some w → w.1 ≠ 2 := by
  unfold stl at h
  cases st with
  | nil => cases h
  | cons v r =>
    dsimp only at h
    split at h
    · rename_i ht
      cases h1 : st2 ls i v with
      | none => rw [h1] at h; cases h
      | some l => rw [h1] at h; cases h; exact ⟨v, rfl, ht, st2_spec h1⟩
    · cases h
theorem cv_ref {G : GM} {v : AV} (h : v.1 = 1) : cv G v = rf G v.2 := by
  obtain ⟨t, x⟩ := v; cases h; rfl
theorem cv_int {G : GM} {v : AV} (h : v.1 = 0) : cv G v = .int (Int32.ofInt v.2) := by
  obtain ⟨t, x⟩ := v; cases h; rfl
theorem cv_long {G : GM} {v : AV} (h : v.1 = 2) : cv G v = .long (Int64.ofInt v.2) := by
  obtain ⟨t, x⟩ := v; cases h; rfl
theorem okv_int {v : AV} (h : v.1 = 0) (ho : okv v) : in32 v.2 := by
  obtain ⟨t, x⟩ := v; cases h; exact ho
theorem okv_ref {v : AV} (h : v.1 = 1) (ho : okv v) : -NC ≤ v.2 := by
  obtain ⟨t, x⟩ := v; cases h; exact ho
theorem of_mulL (x y : Int) : Int64.ofInt x * Int64.ofInt y = Int64.ofInt (wrL (x * y)) := by rw [of_wrL, Int64.ofInt_mul]
theorem of_negL (x : Int) : -Int64.ofInt x = Int64.ofInt (wrL (-x)) := by rw [of_wrL, Int64.ofInt_neg]
theorem i2l_of {x : Int} (h : in32 x) : (Int32.ofInt x).toInt64 = Int64.ofInt x := by
  apply Int64.toInt_inj.mp
  rw [Int32.toInt_toInt64, i32_toInt h.1 h.2, i64_toInt (by have := h.1; omega) (by have := h.2; omega)]
theorem l2i_of {x : Int} (h : in64 x) : (Int64.ofInt x).toInt32 = Int32.ofInt (wr x) := by
  rw [of_wr]
  apply Int32.toInt_inj.mp
  rw [Int64.toInt_toInt32, i64_toInt h.1 h.2, Int32.toInt_ofInt]
theorem cmpL_of {x y : Int} (hx : in64 x) (hy : in64 y) : lg_cmp (Int64.ofInt x) (Int64.ofInt y) = Int32.ofInt (cmpL x y) := by
  have h1 := i64_lt hx hy
  have h2 := i64_lt hy hx
  have h3 := i64_eq hx hy
  unfold lg_cmp cmpL
  by_cases a : x < y
  · have b : ¬ y < x := by omega
    have c : ¬ x = y := by omega
    simp [h1, h2, h3, a, b, c]
  · by_cases b : x = y
    · subst b; simp
    · have c : y < x := by omega
      simp [h1, h2, h3, a, b, c]
theorem cmpL_in (x y : Int) : in32 (cmpL x y) := by
  unfold cmpL; split
  · decide
  · split <;> decide
