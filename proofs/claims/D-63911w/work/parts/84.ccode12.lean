/-! L3, component: Reader.code -/
section CU
variable {s : List Int} {p : Int} {n dep : Nat}
theorem pC_V (h : 97 ≤ hdC s ∧ hdC s ≤ 122) : pC (n + 1) dep s p = .inr (((1, hdC s - 97, p), nil), s.tail, p + 1) := by
  cases s with
  | nil => exact absurd h.1 (by show ¬ (97 : Int) ≤ 0; decide)
  | cons c r => unfold pC; dsimp only; rw [if_pos (show isV c = true from isV_iff.mpr h)]; rfl
theorem pC_D (h : 48 ≤ hdC s ∧ hdC s ≤ 57) : pC (n + 1) dep s p = .inr (((2, hdC s - 48, p), nil), s.tail, p + 1) := by
  cases s with
  | nil => exact absurd h.1 (by show ¬ (48 : Int) ≤ 0; decide)
  | cons c r =>
    have h' : 48 ≤ c ∧ c ≤ 57 := h
    unfold pC; dsimp only; rw [if_neg (fun z => by have := isV_iff.mp z; omega), if_pos (isD_iff.mpr h')]; rfl
theorem pC_F (h : hdC s = 126) : pC (n + 1) dep s p = .inr (((10, 78, p), nil), s.tail, p + 1) := by
  cases s with
  | nil => exact absurd h (by show ¬ (0 : Int) = 126; decide)
  | cons c r =>
    have h' : c = 126 := h
    unfold pC; dsimp only; rw [if_neg (fun z => by have := isV_iff.mp z; omega), if_neg (fun z => by have := isD_iff.mp z; omega), if_pos h']; rfl
theorem pC_L0 (h : 65 ≤ hdC s ∧ hdC s ≤ 90) (h5 : ¬ (hdC s.tail = 40 ∧ dep < 12)) : pC (n + 1) dep s p = .inr (((5, hdC s - 65, p), nil), s.tail, p + 1) := by
  cases s with
  | nil => exact absurd h.1 (by show ¬ (65 : Int) ≤ 0; decide)
  | cons c r =>
    have h' : 65 ≤ c ∧ c ≤ 90 := h
    unfold pC; dsimp only; rw [if_neg (fun z => by have := isV_iff.mp z; omega), if_neg (fun z => by have := isD_iff.mp z; omega), if_neg (by omega), if_pos (isL_iff.mpr h')]
    cases r with
    | nil => rfl
    | cons x r' => dsimp only; rw [if_neg (show ¬ (x = 40 ∧ dep < 12) from h5)]; rfl
theorem pC_L1 (h : 65 ≤ hdC s ∧ hdC s ≤ 90) (h5 : hdC s.tail = 40 ∧ dep < 12) : pC (n + 1) dep s p = match pCs (pC n (dep + 1)) 7 0 s.tail.tail (p + 2) with
    | .inl e => .inl e
    | .inr (f, s'', p'') => .inr (((5, hdC s - 65, p), f), s'', p'') := by
  cases s with
  | nil => exact absurd h.1 (by show ¬ (65 : Int) ≤ 0; decide)
  | cons c r =>
    have h' : 65 ≤ c ∧ c ≤ 90 := h
    conv => lhs; unfold pC
    dsimp only; rw [if_neg (fun z => by have := isV_iff.mp z; omega), if_neg (fun z => by have := isD_iff.mp z; omega), if_neg (by omega), if_pos (isL_iff.mpr h')]
    cases r with
    | nil => exact absurd h5.1 (by show ¬ (0 : Int) = 40; decide)
    | cons x r' => dsimp only; rw [if_pos (show x = 40 ∧ dep < 12 from h5)]; rfl
theorem pC_O {c : Int} {r : List Int} (n1 : ¬ (97 ≤ c ∧ c ≤ 122)) (n2 : ¬ (48 ≤ c ∧ c ≤ 57)) (n3 : c ≠ 126) (n4 : ¬ (65 ≤ c ∧ c ≤ 90)) : pC (n + 1) dep (c :: r) p = if ¬ dep < 12 then .inl p else if c = 123 then mS (pC n (dep + 1)) p r (p + 1) else if c = 91 then tS (pC n (dep + 1)) p r (p + 1) else if c = 43 ∨ c = 45 then (match pC n (dep + 1) r (p + 1) with
        | .inl e => .inl e
        | .inr (a1, s1, p1) => match pC n (dep + 1) s1 p1 with
          | .inl e => .inl e
          | .inr (a2, s2, p2) => .inr (((if c = 43 then 6 else 7, 0, p), cons a1.1 a1.2 (cons a2.1 a2.2 nil)), s2, p2)) else .inl p := by
  conv => lhs; unfold pC
  dsimp only
  rw [if_neg (fun z => n1 (isV_iff.mp z)), if_neg (fun z => n2 (isD_iff.mp z)), if_neg n3, if_neg (fun z => n4 (isL_iff.mp z))]
  rfl
theorem pC_E (n1 : ¬ (97 ≤ hdC s ∧ hdC s ≤ 122)) (n2 : ¬ (48 ≤ hdC s ∧ hdC s ≤ 57)) (n3 : hdC s ≠ 126) (n4 : ¬ (65 ≤ hdC s ∧ hdC s ≤ 90)) (h : ¬ dep < 12 ∨ (hdC s ≠ 123 ∧ hdC s ≠ 91 ∧ hdC s ≠ 43 ∧ hdC s ≠ 45)) : pC (n + 1) dep s p = .inl p := by
  cases s with
  | nil => unfold pC; rfl
  | cons c r =>
    rw [pC_O (c := c) n1 n2 n3 n4]
    by_cases z : dep < 12
    · rw [if_neg (fun q => q z)]
      rcases h with h | h
      · exact absurd z h
      · rw [if_neg (show ¬ c = 123 from h.1), if_neg (show ¬ c = 91 from h.2.1), if_neg (show ¬ (c = 43 ∨ c = 45) from fun q => by rcases q with q | q; exact h.2.2.1 q; exact h.2.2.2 q)]
    · rw [if_pos z]
theorem pC_M (h : hdC s = 123) (hd : dep < 12) : pC (n + 1) dep s p = mS (pC n (dep + 1)) p s.tail (p + 1) := by
  cases s with
  | nil => exact absurd h (by show ¬ (0 : Int) = 123; decide)
  | cons c r =>
    have h' : c = 123 := h
    rw [pC_O (by omega) (by omega) (by omega) (by omega), if_neg (fun q => q hd), if_pos h']; rfl
theorem pC_T (h : hdC s = 91) (hd : dep < 12) : pC (n + 1) dep s p = tS (pC n (dep + 1)) p s.tail (p + 1) := by
  cases s with
  | nil => exact absurd h (by show ¬ (0 : Int) = 91; decide)
  | cons c r =>
    have h' : c = 91 := h
    rw [pC_O (by omega) (by omega) (by omega) (by omega), if_neg (fun q => q hd), if_neg (by omega), if_pos h']; rfl
/-- a sum or a difference, in the spec -/
def sS (pc : List Int → Int → RR (Lb × TF)) (t : Lb) (s : List Int) (p : Int) : RR (Lb × TF) := match pc s p with
  | .inl e => .inl e
  | .inr (a1, s1, p1) => match pc s1 p1 with
    | .inl e => .inl e
    | .inr (a2, s2, p2) => .inr ((t, cons a1.1 a1.2 (cons a2.1 a2.2 nil)), s2, p2)
theorem pC_S (h : hdC s = 43 ∨ hdC s = 45) (hd : dep < 12) : pC (n + 1) dep s p = sS (pC n (dep + 1)) (if hdC s = 43 then 6 else 7, 0, p) s.tail (p + 1) := by
  cases s with
  | nil =>
    have e0 : hdC [] = 0 := rfl
    rw [e0] at h
    exact absurd h (by decide)
  | cons c r =>
    have h' : c = 43 ∨ c = 45 := h
    rw [pC_O (by omega) (by omega) (by omega) (by omega), if_neg (fun q => q hd), if_neg (by omega), if_neg (by omega), if_pos h']; rfl
end CU
section CV
variable {m m1 : SM} {c n a L : Int} {G : GM} {d : Nat} {P : Nat → Int → SM → Prop}
theorem OutG.of {L' : Int} {r : RR (Lb × TF)} (g : Go 11 c n m m1) (hc : c ≤ 70) (hn : n ≤ 300) (hx : m a (-1) = 0) (h0 : m1 a (-3) = 0) (ha : m 0 0 ≤ a) (hl : L' = L + 1) (k : OutC m L' r (CdT (m 0 0)) P) : OutG m1 a L r (fun k v m' => Ok m1 m' ∧ (k = 0 → P 0 v m') ∧ (k ≠ 0 → P 1 v m')) := by
  cases r with
  | inl e => exact fun m' v g' e' t => ⟨g'.2.1, fun z => absurd z (by decide), fun _ => k m' v ((GoA.up g hx g' h0).le (by omega) (by omega)) e' t⟩
  | inr w =>
    obtain ⟨x, s', p'⟩ := w
    exact fun m' v g' R' T' => ⟨g'.2.1, fun _ => k m' v ((GoA.up g hx g' h0).le (by omega) (by omega)) R' (T'.mono ha), fun z => absurd rfl z⟩
theorem OutC.pre {α : Type} {r : RR α} {T : SM → Int → α → Prop} (g : Go 11 0 0 m m1) (k : OutC m L r T P) : OutC m1 L r T (fun k v m' => Ok m1 m' ∧ (k = 0 → P 0 v m') ∧ (k ≠ 0 → P 1 v m')) := by
  cases r with
  | inl e => exact fun m' v g' e' t => ⟨g'.2.1, fun z => absurd z (by decide), fun _ => k m' v ((g.trans g').le (by omega) (by omega)) e' t⟩
  | inr w =>
    obtain ⟨x, s', p'⟩ := w
    exact fun m' v g' R' T' => ⟨g'.2.1, fun _ => k m' v ((g.trans g').le (by omega) (by omega)) R' T', fun z => absurd rfl z⟩
end CV
