/-! L1: numbers. Machine ints as integers in range. -/
def wr (x : Int) : Int := x.bmod 4294967296
def wrL (x : Int) : Int := x.bmod 18446744073709551616
theorem wr_id {x : Int} (h1 : -2147483648 ≤ x) (h2 : x < 2147483648) : wr x = x := by
  unfold wr; apply Int.bmod_eq_of_le <;> omega
theorem wr_in (x : Int) : -2147483648 ≤ wr x ∧ wr x < 2147483648 := by
  unfold wr
  have h1 := Int.le_bmod (x := x) (m := 4294967296) (by decide)
  have h2 := Int.bmod_lt (x := x) (m := 4294967296) (by decide)
  omega
theorem wrL_id {x : Int} (h1 : -9223372036854775808 ≤ x) (h2 : x < 9223372036854775808) : wrL x = x := by
  unfold wrL; apply Int.bmod_eq_of_le <;> omega
theorem wrL_in (x : Int) : -9223372036854775808 ≤ wrL x ∧ wrL x < 9223372036854775808 := by
  unfold wrL
  have h1 := Int.le_bmod (x := x) (m := 18446744073709551616) (by decide)
  have h2 := Int.bmod_lt (x := x) (m := 18446744073709551616) (by decide)
  omega
theorem of_wr (x : Int) : Int32.ofInt (wr x) = Int32.ofInt x := by
  apply Int32.toInt_inj.mp
  simp [wr]
theorem i32_toInt {x : Int} (h1 : -2147483648 ≤ x) (h2 : x < 2147483648) : (Int32.ofInt x).toInt = x := by
  rw [Int32.toInt_ofInt]
  exact wr_id h1 h2
theorem i64_toInt {x : Int} (h1 : -9223372036854775808 ≤ x) (h2 : x < 9223372036854775808) : (Int64.ofInt x).toInt = x := by
  rw [Int64.toInt_ofInt]
  exact wrL_id h1 h2
theorem of_wrL (x : Int) : Int64.ofInt (wrL x) = Int64.ofInt x := by
  apply Int64.toInt_inj.mp
  simp [wrL]
abbrev in32 (x : Int) : Prop := -2147483648 ≤ x ∧ x < 2147483648
abbrev in64 (x : Int) : Prop := -9223372036854775808 ≤ x ∧ x < 9223372036854775808
theorem in32_toInt (v : Int32) : in32 v.toInt := ⟨Int32.le_toInt v, Int32.toInt_lt v⟩
theorem in64_toInt (v : Int64) : in64 v.toInt := ⟨Int64.le_toInt v, Int64.toInt_lt v⟩
theorem i32_lt {x y : Int} (hx : in32 x) (hy : in32 y) : Int32.ofInt x < Int32.ofInt y ↔ x < y := by
  rw [Int32.lt_iff_toInt_lt, i32_toInt hx.1 hx.2, i32_toInt hy.1 hy.2]
theorem i32_le {x y : Int} (hx : in32 x) (hy : in32 y) : Int32.ofInt x ≤ Int32.ofInt y ↔ x ≤ y := by
  rw [Int32.le_iff_toInt_le, i32_toInt hx.1 hx.2, i32_toInt hy.1 hy.2]
theorem i32_eq {x y : Int} (hx : in32 x) (hy : in32 y) : Int32.ofInt x = Int32.ofInt y ↔ x = y := by
  rw [← Int32.toInt_inj, i32_toInt hx.1 hx.2, i32_toInt hy.1 hy.2]
theorem i64_lt {x y : Int} (hx : in64 x) (hy : in64 y) : Int64.ofInt x < Int64.ofInt y ↔ x < y := by
  rw [Int64.lt_iff_toInt_lt, i64_toInt hx.1 hx.2, i64_toInt hy.1 hy.2]
theorem i64_eq {x y : Int} (hx : in64 x) (hy : in64 y) : Int64.ofInt x = Int64.ofInt y ↔ x = y := by
  rw [← Int64.toInt_inj, i64_toInt hx.1 hx.2, i64_toInt hy.1 hy.2]
theorem i32_clamp {x : Int} (h0 : 0 ≤ x) (h2 : x < 2147483648) : (Int32.ofInt x).toNatClampNeg = x.toNat := by
  show (Int32.ofInt x).toInt.toNat = x.toNat
  rw [i32_toInt (by omega) h2]
theorem of_add (x y : Int) : Int32.ofInt x + Int32.ofInt y = Int32.ofInt (wr (x + y)) := by rw [of_wr, Int32.ofInt_add]
theorem of_sub (x y : Int) : Int32.ofInt x - Int32.ofInt y = Int32.ofInt (wr (x - y)) := by rw [of_wr, Int32.ofInt_sub]
theorem of_mul (x y : Int) : Int32.ofInt x * Int32.ofInt y = Int32.ofInt (wr (x * y)) := by rw [of_wr, Int32.ofInt_mul]
theorem of_neg (x : Int) : -Int32.ofInt x = Int32.ofInt (wr (-x)) := by rw [of_wr, Int32.ofInt_neg]
theorem ofI (v : Int32) : Int32.ofInt v.toInt = v := Int32.toInt_inj.mp (i32_toInt (in32_toInt v).1 (in32_toInt v).2)
theorem ofJ (v : Int64) : Int64.ofInt v.toInt = v := Int64.toInt_inj.mp (i64_toInt (in64_toInt v).1 (in64_toInt v).2)
/-! L1: values, memory, tables' types. Tags: 0 int, 1 reference, 2 long, 9 nothing known. -/
abbrev AV : Type := Nat × Int
abbrev SM : Type := Int → Int → Int
/-- launch, the law's start, class ids, slots of fields, array classes, old constants' addresses, what they hold -/
abbrev GM : Type := Launch × State × (Nat → ClassId) × (Nat → Nat → Nat) × (Nat → ClassId) × (Nat → Nat) × SM × (Int → Value)
def gl (G : GM) : Launch := G.1
def g0 (G : GM) : State := G.2.1
def gC (G : GM) : Nat → ClassId := G.2.2.1
def gI (G : GM) : Nat → Nat → Nat := G.2.2.2.1
def gA (G : GM) : Nat → ClassId := G.2.2.2.2.1
def gO (G : GM) : Nat → Nat := G.2.2.2.2.2.1
def gK (G : GM) : SM := G.2.2.2.2.2.2.1
/-- a reference of which nothing is known: tag 3 -/
def gF (G : GM) (j : Int) : Value := match G.2.2.2.2.2.2.2 j with
  | .ref a => .ref a
  | _ => .null
def gn (G : GM) : Nat := (g0 G).heap.size
/-- a cell's address -/
def ad (G : GM) (x : Int) : Nat := if x < 0 then gO G (-x).toNat else gn G + x.toNat - 1
def rf (G : GM) (x : Int) : Value := if x = 0 then .null else .ref (ad G x)
def cv (G : GM) (v : AV) : Value := match v.1 with
  | 0 => .int (Int32.ofInt v.2)
  | 2 => .long (Int64.ofInt v.2)
  | 3 => gF G v.2
  | _ => rf G v.2
/-- how many old constants there are -/
def NC : Int := 26
def okv (v : AV) : Prop := match v.1 with
  | 0 => in32 v.2
  | 2 => in64 v.2
  | 3 => True
  | _ => -NC ≤ v.2
def tg (ty : FieldType) : Nat := match ty with
  | .long => 2
  | .object _ => 1
  | .array _ => 1
  | _ => 0
/-- what a slot of a type may hold -/
def okT (ty : FieldType) (x : Int) : Prop := match ty with
  | .long => in64 x
  | .object _ => -NC ≤ x
  | .array _ => -NC ≤ x
  | .boolean => x = 0 ∨ x = 1
  | .byte => -128 ≤ x ∧ x ≤ 127
  | .char => 0 ≤ x ∧ x ≤ 65535
  | .short => -32768 ≤ x ∧ x ≤ 32767
  | .int => in32 x
  | _ => False
/-- what of it isn't told by the value's own kind -/
def okN (ty : FieldType) (x : Int) : Prop := match ty with
  | .boolean => x = 0 ∨ x = 1
  | .byte => -128 ≤ x ∧ x ≤ 127
  | .char => 0 ≤ x ∧ x ≤ 65535
  | .short => -32768 ≤ x ∧ x ≤ 32767
  | .float => False
  | .double => False
  | _ => True
theorem okv_T {ty : FieldType} {x : Int} (h : okT ty x) : okv (tg ty, x) := by
  unfold okT at h
  cases ty <;> simp only [tg, okv, NC] at * <;> first | exact h | omega | exact h.elim
theorem okT_N {ty : FieldType} {x : Int} (h : okv (tg ty, x)) (hn : okN ty x) : okT ty x := by
  unfold okT
  cases ty <;> simp only [tg, okv, okN] at * <;> first | exact h | exact hn | exact hn.elim
theorem fits_of (G : GM) {ty : FieldType} {x : Int} (h : okT ty x) : fits ty (cv G (tg ty, x)) = true := by
  cases ty with
  | boolean => rcases h with h | h <;> (rw [h]; rfl)
  | byte =>
    have h1 : in32 x := by obtain ⟨a, b⟩ := h; constructor <;> omega
    show ((-128 : Int32) ≤ Int32.ofInt x && Int32.ofInt x ≤ (127 : Int32)) = true
    have e1 : (-128 : Int32) = Int32.ofInt (-128) := by decide
    have e2 : (127 : Int32) = Int32.ofInt 127 := by decide
    simp only [Bool.and_eq_true, decide_eq_true_eq]
    rw [e1, e2, i32_le (by decide) h1, i32_le h1 (by decide)]
    exact h
  | char =>
    have h1 : in32 x := by obtain ⟨a, b⟩ := h; constructor <;> omega
    show ((0 : Int32) ≤ Int32.ofInt x && Int32.ofInt x ≤ (65535 : Int32)) = true
    have e1 : (0 : Int32) = Int32.ofInt 0 := by decide
    have e2 : (65535 : Int32) = Int32.ofInt 65535 := by decide
    simp only [Bool.and_eq_true, decide_eq_true_eq]
    rw [e1, e2, i32_le (by decide) h1, i32_le h1 (by decide)]
    exact h
  | short =>
    have h1 : in32 x := by obtain ⟨a, b⟩ := h; constructor <;> omega
    show ((-32768 : Int32) ≤ Int32.ofInt x && Int32.ofInt x ≤ (32767 : Int32)) = true
    have e1 : (-32768 : Int32) = Int32.ofInt (-32768) := by decide
    have e2 : (32767 : Int32) = Int32.ofInt 32767 := by decide
    simp only [Bool.and_eq_true, decide_eq_true_eq]
    rw [e1, e2, i32_le (by decide) h1, i32_le h1 (by decide)]
    exact h
  | int => rfl
  | long => rfl
  | float => exact h.elim
  | double => exact h.elim
  | object n =>
    show fits (.object n) (rf G x) = true
    unfold rf; split <;> rfl
  | array t =>
    show fits (.array t) (rf G x) = true
    unfold rf; split <;> rfl
