/-! L2: the bits that the JDK's members use -/
def bAnd (x y : Int) : Int := b32 (fun a b => a &&& b) x y
def bOr (x y : Int) : Int := b32 (fun a b => a ||| b) x y
def bShl (x y : Int) : Int := b32 (fun a b => a <<< (b &&& 31)) x y
def bShr (x y : Int) : Int := b32 (fun a b => a >>> (b &&& 31)) x y
def bUshr (x y : Int) : Int := b32 (fun a b => (a.toUInt32 >>> (b.toUInt32 &&& Int32.toUInt32 31)).toInt32) x y
def c16 (x : Int) : Int := ((Int32.ofInt x).toUInt32 % 65536).toInt32.toInt
def i8 (x : Int) : Int := (Int32.ofInt x).toInt8.toInt32.toInt
theorem bShr0 {x : Int} (h : in32 x) : bShr x 0 = x := by
  unfold bShr b32
  dsimp only
  have : (Int32.ofInt 0 &&& 31 : Int32) = 0 := by decide
  rw [this]
  have e : (Int32.ofInt x >>> (0 : Int32)) = Int32.ofInt x := by
    apply Int32.toBitVec_inj.mp
    simp
  rw [e, i32_toInt h.1 h.2]
theorem bShl0 {x : Int} (h : in32 x) : bShl x 0 = x := by
  unfold bShl b32
  dsimp only
  have : (Int32.ofInt 0 &&& 31 : Int32) = 0 := by decide
  rw [this]
  have e : (Int32.ofInt x <<< (0 : Int32)) = Int32.ofInt x := by
    apply Int32.toBitVec_inj.mp
    simp
  rw [e, i32_toInt h.1 h.2]
theorem bShr1 {x : Int} (h0 : 0 ≤ x) (h : x < 2147483648) : bShr x 1 = x / 2 := by
  unfold bShr b32
  dsimp only
  have : (Int32.ofInt 1 &&& 31 : Int32) = 1 := by decide
  rw [this]
  rw [← Int32.toInt_toBitVec, Int32.toBitVec_shiftRight]
  have e1 : ((1 : Int32).toBitVec.smod 32) = 1#32 := by decide
  rw [e1]
  rw [show (Int32.ofInt x).toBitVec.sshiftRight' 1#32 = (Int32.ofInt x).toBitVec.sshiftRight 1 from rfl, BitVec.toInt_sshiftRight, Int32.toInt_toBitVec, i32_toInt (by omega) h]
  rw [Int.shiftRight_eq_div_pow]; rfl
theorem bAnd255 {x : Int} (h0 : 0 ≤ x) (h : x ≤ 127) : bAnd x 255 = x := by
  obtain ⟨n, rfl⟩ := Int.eq_ofNat_of_zero_le h0
  have hn : n ≤ 127 := by omega
  unfold bAnd b32
  have : ∀ n : Nat, n ≤ 127 → (Int32.ofInt (n : Int) &&& Int32.ofInt 255).toInt = (n : Int) := by
    intro n hn
    have : ∀ k : Fin 128, (Int32.ofInt ((k : Nat) : Int) &&& Int32.ofInt 255).toInt = ((k : Nat) : Int) := by decide +kernel
    exact this ⟨n, by omega⟩
  exact this n hn
theorem c16_id {x : Int} (h0 : 0 ≤ x) (h : x ≤ 65535) : c16 x = x := by
  obtain ⟨n, rfl⟩ := Int.eq_ofNat_of_zero_le h0
  unfold c16
  have e : (Int32.ofInt (n : Int)).toUInt32 % 65536 = (Int32.ofInt (n : Int)).toUInt32 := by
    apply UInt32.toNat_inj.mp
    rw [UInt32.toNat_mod]
    have : (Int32.ofInt (n : Int)).toUInt32.toNat = n := by
      have h1 : (Int32.ofInt (n : Int)).toInt = n := i32_toInt (by omega) (by omega)
      have h2 : (Int32.ofInt (n : Int)).toInt = (Int32.ofInt (n : Int)).toUInt32.toBitVec.toInt := rfl
      rw [h2, BitVec.toInt_eq_toNat_cond] at h1
      have h3 : (Int32.ofInt (n : Int)).toUInt32.toBitVec.toNat = (Int32.ofInt (n : Int)).toUInt32.toNat := rfl
      split at h1 <;> omega
    rw [this]
    show n % 65536 = n
    omega
  rw [e]
  show (Int32.ofInt (n : Int)).toInt = n
  exact i32_toInt (by omega) (by omega)
theorem i8_id {x : Int} (h0 : -128 ≤ x) (h : x ≤ 127) : i8 x = x := by
  unfold i8
  rw [Int8.toInt_toInt32, Int32.toInt_toInt8, i32_toInt (by omega) (by omega)]
  apply Int.bmod_eq_of_le <;> omega
theorem c16_in (x : Int) : 0 ≤ c16 x ∧ c16 x ≤ 65535 := by
  unfold c16
  have h : ((Int32.ofInt x).toUInt32 % 65536).toNat < 65536 := by
    rw [UInt32.toNat_mod]; exact Nat.mod_lt _ (by decide)
  have h2 : (((Int32.ofInt x).toUInt32 % 65536).toInt32).toInt = ((Int32.ofInt x).toUInt32 % 65536).toBitVec.toInt := rfl
  have h3 : ((Int32.ofInt x).toUInt32 % 65536).toBitVec.toNat = ((Int32.ofInt x).toUInt32 % 65536).toNat := rfl
  rw [h2, BitVec.toInt_eq_toNat_cond]
  split <;> omega
theorem ite0 {C : Prop} [Decidable C] (q : (if C then (1 : Int) else 0) = 0) : ¬ C := fun c => by rw [if_pos c] at q; cases q
theorem ite1 {C : Prop} [Decidable C] (q : (if C then (1 : Int) else 0) ≠ 0) : C := by
  by_cases c : C
  · exact c
  · rw [if_neg c] at q; exact absurd rfl q
