/-! L3, component: Walk.level, same -/
theorem zipF_fst : ∀ (f g : TF), lenF f = lenF g → (zipF f g).map (·.1) = kids f ∧ (zipF f g).map (·.2) = kids g
  | .leaf, .leaf, _ => ⟨rfl, rfl⟩
  | .leaf, .inner _ b _ e r, h => by
    have h : 0 = 1 + lenF r := h
    omega
  | .inner _ a _ c s, .leaf, h => by
    have h : 1 + lenF s = 0 := h
    omega
  | .inner _ a _ c s, .inner _ b _ e r, h => by
    have h : 1 + lenF s = 1 + lenF r := h
    obtain ⟨h1, h2⟩ := zipF_fst s r (by omega)
    exact ⟨by show (a, c) :: (zipF s r).map (·.1) = (a, c) :: kids s; rw [h1], by show (b, e) :: (zipF s r).map (·.2) = (b, e) :: kids r; rw [h2]⟩
def sortO (n : Nat) : Int := if n = 2 then -14 else if n = 3 then -16 else if n = 4 then -18 else if n = 5 then -19 else if n = 6 then -17 else -15
section WK6
variable {m m' : SM} {hs : List Int} {G : GM} {d : Nat} {P : Nat → Int → SM → Prop} {B : SM → Int → Prop} {l o w : Int}
theorem VH.sort {y : Int} {a : Lb} (h : VH m hs y a) : m y 0 = sortO a.1 ∧ 2 ≤ a.1 ∧ a.1 ≤ 7 := by
  obtain ⟨-, h | h | h | h | h | h⟩ := h
  · rw [h.1]; exact ⟨h.2.1, by omega, by omega⟩
  · rw [h.1]; exact ⟨h.2.2, by omega, by omega⟩
  · rw [h.1]; exact ⟨h.2.1, by omega, by omega⟩
  · rw [h.1]; exact ⟨h.2.1, by omega, by omega⟩
  · rw [h.1]; exact ⟨h.2.1, by omega, by omega⟩
  · rw [h.1]; exact ⟨h.2.2, by omega, by omega⟩
theorem sortO_inj {a b : Nat} (h1 : 2 ≤ a ∧ a ≤ 7) (h2 : 2 ≤ b ∧ b ≤ 7) (h : sortO a = sortO b) : a = b := by
  have ha : a = 2 ∨ a = 3 ∨ a = 4 ∨ a = 5 ∨ a = 6 ∨ a = 7 := by omega
  have hb : b = 2 ∨ b = 3 ∨ b = 4 ∨ b = 5 ∨ b = 6 ∨ b = 7 := by omega
  rcases ha with rfl | rfl | rfl | rfl | rfl | rfl <;> rcases hb with rfl | rfl | rfl | rfl | rfl | rfl <;> first | rfl | exact absurd h (by decide)
theorem q_level (hB : WA B) (hN : hs.Nodup) (K : KI m) (hd : 14 ≤ d) (hW : l ∈ WL) (hO : o ∈ WL) (hlo : l ≠ o) (hwl : w ∉ WL) (w0 : w ≠ 0) (hw : m w (-1) = 9) (hl : m w 0 = l) (ho : m w 1 = o) (R : Rw m) (hb : wb m) {y1 y2 : Int} {a b : Tr} (ha : a.1.1 ≠ 4) (V1 : VE (B m) m hs y1 a) (V2 : VE (B m) m hs y2 b) {t1 t2 : List Tr} (T1 : Td (B m) m hs l t1) (T2 : Td (B m) m hs o t2) (hlen : t1.length = t2.length) (hn : t1.length ≤ 6900)
    (k1 : lvl a b = true → ∀ m', Wk m m' → Td (B m') m' hs l (kids a.2 ++ t1) → Td (B m') m' hs o (kids b.2 ++ t2) → P 0 1 m') (k0 : lvl a b = false → ∀ m', Wk m m' → P 0 0 m') : WV G mX7_level 0 [(1, w), (1, y1), (1, y2)] [] m d P := by
  refine v_bs (fun B0 => ?_)
  have s1 := V1.2.1.sort
  have s2 := V2.2.1.sort
  have a6 := V1.2.2.1
  have b6 := V2.2.2.1
  have no : ¬ (a.1.1 = b.1.1 ∧ a.1.2.1 = b.1.2.1 ∧ lenF a.2 = lenF b.2) → lvl a b = false := fun h => by
    cases e : lvl a b
    · rfl
    · unfold lvl at e
      simp only [Bool.and_eq_true, decide_eq_true_eq] at e
      exact absurd ⟨e.1.1, e.1.2, e.2⟩ h
  -- the arguments are pushed
  have j70 : a.1.1 = b.1.1 → a.1.2.1 = b.1.2.1 → WV G mX7_level 70 [(1, w), (1, y1), (1, y2)] [] m d P := by
    intro e1 e2
    refine wX7_level_70 K (by omega) ⟨hw, ?_⟩
    rw [hl]
    refine q_push hB K (by omega) hW R hb T1 V1 (by omega) (fun m3 g3 e3 U1 => ⟨rfl, g3.1, ?_⟩)
    have K3 := g3.ki K
    have wl : w ≠ l := fun e => hwl (by rw [e]; exact hW)
    have wo : w ≠ o := fun e => hwl (by rw [e]; exact hO)
    have ew : m3 w = m w := e3 w wl w0
    have o0 := (WL.tag K hO).2
    rw [ew, ho]
    have V2' : VE (B m3) m3 hs y2 b := V2.fr (fun z hz ht => ⟨hB.wk K g3 hz, fun f => by rw [g3.2.1 z (fun e => by rw [e, B0.1] at ht; omega) (fun e => by have := (WL.tag K e).1; omega)]⟩)
    refine q_push hB K3 (by omega) hO (R.mono g3) (g3.cb hb) (Td.wk hB K g3 B0.1 (e3 o (Ne.symm hlo) o0) T2) V2' (by omega) (fun m7 g7 e7 U2 => ⟨rfl, g7.1, ?_⟩)
    have K7 := g7.ki K3
    have ew7 : m7 w = m w := by rw [e7 w wo w0, ew]
    have l0 := (WL.tag K hW).2
    have U1' := Td.wk hB K3 g7 (g3.z0 B0.1) (e7 l hlo l0) U1
    have q1 : m7 (m7 w 0) (-2) = lenF a.2 + t1.length := by rw [ew7, hl, U1'.1, List.length_append, kids_len]; omega
    have q2 : m7 (m7 w 1) (-2) = lenF b.2 + t2.length := by rw [ew7, ho, U2.1, List.length_append, kids_len]; omega
    refine ⟨by rw [ew7, hl]; exact (WL.tag K7 hW).1, by rw [ew7, ho]; exact (WL.tag K7 hO).1, fun q => k0 (no (fun z => q (by rw [q1, q2]; omega))) m7 (g3.trans g7), fun q => ?_⟩
    rw [q1, q2] at q
    refine k1 ?_ m7 (g3.trans g7) U1' U2
    unfold lvl
    simp only [Bool.and_eq_true, decide_eq_true_eq]
    exact ⟨⟨e1, e2⟩, by omega⟩
  have g0 : Wk m m := Wk.refl
  have j47 : a.1.1 = b.1.1 → (a.1.1 ≠ 5 → a.1.2.1 = b.1.2.1) → WV G mX7_level 47 [(1, w), (1, y1), (1, y2)] [] m d P := by
    intro e1 e2
    refine wX7_level_47 K (by omega) ⟨V1.1.2.1, fun q => j70 e1 (e2 (fun z => q (by rw [s1.1, z]; rfl))), fun q => ⟨V2.1.2.1, fun q2 => j70 e1 ?_, fun q2 => k0 (no (fun z => q2 ?_)) m g0⟩⟩
    · have h5 : a.1.1 = 5 := sortO_inj s1.2 (by decide) (by rw [← s1.1]; exact q)
      obtain ⟨-, h | h | h | h | h | h⟩ := V1.2.1
      · omega
      · omega
      · omega
      · obtain ⟨-, h' | h' | h' | h' | h' | h'⟩ := V2.2.1
        · omega
        · omega
        · omega
        · have := h.2.2; have := h'.2.2; omega
        · omega
        · omega
      · omega
      · omega
    · have h5 : a.1.1 = 5 := sortO_inj s1.2 (by decide) (by rw [← s1.1]; exact q)
      obtain ⟨-, h | h | h | h | h | h⟩ := V1.2.1
      · omega
      · omega
      · omega
      · obtain ⟨-, h' | h' | h' | h' | h' | h'⟩ := V2.2.1
        · omega
        · omega
        · omega
        · have := h.2.2; have := h'.2.2; omega
        · omega
        · omega
      · omega
      · omega
  have j26 : a.1.1 = b.1.1 → (a.1.1 ≠ 5 → a.1.1 ≠ 2 → a.1.2.1 = b.1.2.1) → WV G mX7_level 26 [(1, w), (1, y1), (1, y2)] [] m d P := by
    intro e1 e2
    have h2 : m y1 0 = -14 → a.1.1 = 2 := fun q => sortO_inj s1.2 (by decide) (by rw [← s1.1]; exact q)
    have hv : a.1.1 = 2 → m y1 1 = a.1.2.1 ∧ m y2 1 = b.1.2.1 := fun h2 => by
      obtain ⟨-, h | h | h | h | h | h⟩ := V1.2.1
      · obtain ⟨-, h' | h' | h' | h' | h' | h'⟩ := V2.2.1
        · exact ⟨h.2.2, h'.2.2⟩
        · omega
        · omega
        · omega
        · omega
        · omega
      · omega
      · omega
      · omega
      · omega
      · omega
    refine wX7_level_26 K (by omega) ⟨V1.1.2.1, fun q => j47 e1 (fun n5 => e2 n5 (fun z => q (by rw [s1.1, z]; rfl))), fun q => ⟨V2.1.2.1, fun q2 => k0 (no (fun z => q2 ?_)) m g0, fun q2 => j47 e1 (fun _ => ?_)⟩⟩
    · obtain ⟨v1, v2⟩ := hv (h2 q)
      rw [v1, v2]; exact z.2.1
    · obtain ⟨v1, v2⟩ := hv (h2 q)
      rw [v1, v2] at q2; exact q2
  refine wX7_level K (by omega) ⟨V1.1.2.1, V2.1.2.1, fun q => k0 (no (fun z => q (by rw [s1.1, s2.1, z.1]))) m g0, fun q => ?_⟩
  have e1 : a.1.1 = b.1.1 := sortO_inj s1.2 s2.2 (by rw [← s1.1, ← s2.1]; exact q)
  have idv : a.1.1 ≠ 5 → a.1.1 ≠ 2 → a.1.1 ≠ 6 → a.1.2.1 = b.1.2.1 := fun n5 n2 n6 => by
    obtain ⟨-, h | h | h | h | h | h⟩ := V1.2.1
    · omega
    · obtain ⟨-, h' | h' | h' | h' | h' | h'⟩ := V2.2.1 <;> omega
    · omega
    · omega
    · omega
    · obtain ⟨-, h' | h' | h' | h' | h' | h'⟩ := V2.2.1 <;> omega
  have rig : a.1.1 = 6 → (y1 = y2 ↔ a.1.2.1 = b.1.2.1) := fun h6 => by
    obtain ⟨-, h | h | h | h | h | h⟩ := V1.2.1
    · omega
    · omega
    · omega
    · omega
    · obtain ⟨-, h' | h' | h' | h' | h' | h'⟩ := V2.2.1
      · omega
      · omega
      · omega
      · omega
      · have i1 := h.2.2.2
        have i2 := h'.2.2.2
        constructor
        · intro e
          rw [← e] at i2
          have := nd_inj hs _ _ hN i1 i2
          have := h.2.2.1
          have := h'.2.2.1
          omega
        · intro e
          rw [e, i2] at i1
          exact (Option.some.inj i1).symm
      · omega
    · omega
  refine ⟨fun q2 => j26 e1 (fun n5 n2 => idv n5 n2 (fun z => q2 (by rw [s1.1, z]; rfl))), fun q2 => ?_⟩
  have h6 : a.1.1 = 6 := sortO_inj s1.2 (by decide) (by rw [← s1.1]; exact q2)
  exact ⟨fun q3 => k0 (no (fun z => q3 ((rig h6).mpr z.2.1))) m g0, fun q3 => j26 e1 (fun _ _ => (rig h6).mp q3)⟩
end WK6
