/-! L3, component: Walk.lies -/
theorem nd_inj : ∀ (l : List Int) (i j : Nat) {x : Int}, l.Nodup → l[i]? = some x → l[j]? = some x → i = j
  | [], i, j, x, _, h, _ => by cases h
  | y :: l, 0, 0, x, _, _, _ => rfl
  | y :: l, 0, j + 1, x, hn, h1, h2 => by
    have e : y = x := by simpa using h1
    have : x ∈ l := List.mem_of_getElem? (i := j) (by simpa using h2)
    exact absurd (by rw [e]; exact this) (List.nodup_cons.mp hn).1
  | y :: l, i + 1, 0, x, hn, h1, h2 => by
    have e : y = x := by simpa using h2
    have : x ∈ l := List.mem_of_getElem? (i := i) (by simpa using h1)
    exact absurd (by rw [e]; exact this) (List.nodup_cons.mp hn).1
  | y :: l, i + 1, j + 1, x, hn, h1, h2 => by
    rw [nd_inj l i j (List.nodup_cons.mp hn).2 (by simpa using h1) (by simpa using h2)]
def anyF (pb : Lb → Bool) : TF → Bool
  | .leaf => false
  | .inner _ a _ c s => pb a || anyF pb c || anyF pb s
def anyT (pb : Lb → Bool) (t : Tr) : Bool := pb t.1 || anyF pb t.2
def anyL (pb : Lb → Bool) : List Tr → Bool
  | [] => false
  | t :: l => anyT pb t || anyL pb l
theorem anyL_app (pb : Lb → Bool) : ∀ (l r : List Tr), anyL pb (l ++ r) = (anyL pb l || anyL pb r)
  | [], r => by show anyL pb r = (false || anyL pb r); simp
  | t :: l, r => by show (anyT pb t || anyL pb (l ++ r)) = (anyT pb t || anyL pb l || anyL pb r); rw [anyL_app pb l r, Bool.or_assoc]
theorem anyL_kids (pb : Lb → Bool) : ∀ (f : TF), anyL pb (kids f) = anyF pb f
  | .leaf => rfl
  | .inner _ a _ c s => by
    show ((pb a || anyF pb c) || anyL pb (kids s)) = (pb a || anyF pb c || anyF pb s)
    rw [anyL_kids pb s]
def isK (k : Int) (a : Lb) : Bool := decide (a.1 = 4) && decide (a.2.1 = k)
def isH (a : Lb) : Bool := decide (a.1 = 4)
theorem occF_any (k : Int) : ∀ (f : TF), occF k f = anyF (isK k) f
  | .leaf => rfl
  | .inner _ a _ c s => by
    show ((decide (a.1 = 4) && decide (a.2.1 = k)) || occF k c || occF k s) = (isK k a || anyF (isK k) c || anyF (isK k) s)
    rw [occF_any k c, occF_any k s]; rfl
theorem occT_any (k : Int) (t : Tr) : occT k t = anyT (isK k) t := by
  unfold occT anyT; rw [occF_any]; rfl
def b01 (b : Bool) : Int := if b = true then 1 else 0
section WK5
variable {m m' : SM} {hs : List Int} {G : GM} {d : Nat} {P : Nat → Int → SM → Prop} {B : SM → Int → Prop} {l w : Int} {A : Int → Prop}
/-- a cell's sort by its label -/
theorem VH.hole {y : Int} {a : Lb} (h : VH m hs y a) : m y 0 = -18 ↔ a.1 = 4 := by
  obtain ⟨-, h | h | h | h | h | h⟩ := h <;> constructor <;> intro q <;> first | exact h.2.1 | exact h.1 | omega
theorem VH.ik (hN : hs.Nodup) {y z k : Int} {a : Lb} (hk : 0 ≤ k) (hz : hs[k.toNat]? = some z) (hz0 : m z 0 = -18) (h : VH m hs y a) : y = z ↔ isK k a = true := by
  constructor
  · intro e
    have h4 : a.1 = 4 := h.hole.mp (by rw [e]; exact hz0)
    obtain ⟨-, h | h | h | h | h | h⟩ := h
    · omega
    · omega
    · have hy := h.2.2.2
      rw [e] at hy
      have : a.2.1.toNat = k.toNat := nd_inj hs _ _ hN hy hz
      unfold isK
      simp only [h4, decide_true, Bool.true_and, decide_eq_true_eq]
      have := h.2.2.1
      omega
    · omega
    · omega
    · omega
  · intro e
    unfold isK at e
    simp only [Bool.and_eq_true, decide_eq_true_eq] at e
    obtain ⟨-, h | h | h | h | h | h⟩ := h
    · omega
    · omega
    · have hy := h.2.2.2
      rw [e.2, hz] at hy
      exact (Option.some.inj hy).symm
    · omega
    · omega
    · omega
theorem q_ll (hB : WA B) (hd : 14 ≤ d) (hW : l ∈ WL) (hwl : w ∉ WL) (w0 : w ≠ 0) (pb : Lb → Bool) {z : Int} {m0 : SM} (hN : hs.Nodup) (hpb : (z = 0 ∧ pb = isH) ∨ (z ≠ 0 ∧ z ∉ WL ∧ m0 z 0 = -18 ∧ ∃ k, 0 ≤ k ∧ hs[k.toNat]? = some z ∧ pb = isK k)) {r : Bool} (k : ∀ m', Wk m0 m' → (∀ z, z ≠ l → z ≠ 0 → m' z = m0 z) → P 0 (b01 r) m') : ∀ (n : Nat) (f : Bool) (ts : List Tr) (m : SM), KI m → m w (-1) = 9 → m w 0 = l → Wk m0 m → (∀ z, z ≠ l → z ≠ 0 → m z = m0 z) → Rw m → wb m → nzL ts ≤ n → n ≤ 201 → (f || anyL pb ts) = r → ts.length + 6 * n ≤ 1300 → Td (B m) m hs l ts → WV G mX7_lies 7 [(1, w), (1, z), (9, 0), (0, b01 f), (9, 0)] [] m d P := by
  intro n
  induction n with
  | zero =>
    intro f ts m K hw hl g eg R hb hn hn2 hf hlen hT
    have : ts = [] := List.length_eq_zero_iff.mp (by have := nzL_len ts; omega)
    subst this
    refine wX7_lies_7 K (by omega) ⟨hw, by rw [hl]; exact (WL.tag K hW).1, fun q => ⟨by cases f; exact Or.inl rfl; exact Or.inr rfl, ?_⟩, fun q => absurd (by rw [hl, hT.1]; rfl) q⟩
    have : f = r := by rw [← hf]; show f = (f || false); simp
    rw [this]; exact k m g eg
  | succ n ih =>
    intro f ts m K hw hl g eg R hb hn hn2 hf hlen hT
    have f01 : b01 f = 0 ∨ b01 f = 1 := by cases f; exact Or.inl rfl; exact Or.inr rfl
    refine wX7_lies_7 K (by omega) ⟨hw, by rw [hl]; exact (WL.tag K hW).1, fun q => ⟨f01, ?_⟩, fun q => ⟨fun z => ⟨f01, ?_⟩, fun z1 => ?_⟩⟩
    · rw [hl, hT.1] at q
      have : ts = [] := List.length_eq_zero_iff.mp (by omega)
      subst this
      have : f = r := by rw [← hf]; show f = (f || false); simp
      rw [this]; exact k m g eg
    · have ft : f = true := by
        cases f
        · exact absurd rfl z
        · rfl
      have : f = r := by rw [← hf, ft]; rfl
      rw [this]; exact k m g eg
    · have ff : f = false := by
        cases f
        · rfl
        · exact absurd z1 (by decide)
      subst ff
      cases ts with
      | nil => exact absurd (by rw [hl, hT.1]; rfl) q
      | cons t ts =>
        rw [List.length_cons] at hlen
        have hn' : (1 + nzF t.2) + nzL ts ≤ n + 1 := hn
        rw [hl]
        refine q_pop hB K (by omega) hW hT (by omega) (fun m4 y g4 e4 T4 V4 => ⟨rfl, g4.1, ?_⟩)
        have K4 := g4.ki K
        have h6 := V4.2.2.1
        have wl : w ≠ l := fun e => hwl (by rw [e]; exact hW)
        have ew4 : m4 w = m w := e4 w wl w0
        have nxt : ∀ (v : Int), v = b01 (pb t.1) → WV G mX7_push 0 [(1, (m4 w 0)), (1, y), (9, 0), (9, 0), (9, 0), (9, 0)] [] m4 (d - 1) (fun k v9 m10 => k = 0 ∧ Ok m4 m10 ∧ (WV G mX7_lies 7 [(1, w), (1, z), (9, 0), (0, v), (9, 0)] [] m10 d P)) := by
          intro v hv
          rw [ew4, hl]
          refine q_push hB K4 (by omega) hW (R.mono g4) (g4.cb hb) T4 V4 (by omega) (fun m9 g9 e9 T9 => ⟨rfl, g9.1, ?_⟩)
          have ew : m9 w = m w := by rw [e9 w wl w0, ew4]
          rw [hv]
          refine ih (pb t.1) (kids t.2 ++ ts) m9 (g9.ki K4) (by rw [ew]; exact hw) (by rw [ew]; exact hl) (g.trans (g4.trans g9)) (fun z h1 h2 => by rw [e9 z h1 h2, e4 z h1 h2]; exact eg z h1 h2) ((R.mono g4).mono g9) (g9.cb (g4.cb hb)) ?_ (by omega) ?_ ?_ T9
          · rw [nzL_app, nzL_kids]; omega
          · rw [anyL_app, anyL_kids, ← Bool.or_assoc, ← hf]
            rfl
          · rw [List.length_append, kids_len]; omega
        refine ⟨fun hz => nxt _ ?_, fun hz => ⟨V4.1.2.1, nxt _ ?_⟩⟩
        · rcases hpb with hpb | ⟨-, hzW, hz0, i, hi, hzi, rfl⟩
          · exact absurd hpb.1 hz
          · have z4 : m4 z 0 = -18 := by rw [(g.trans g4).2.1 z hz hzW]; exact hz0
            have := V4.2.1.ik hN hi hzi z4
            by_cases c : y = z
            · rw [if_neg (fun q => q c), this.mp c]; rfl
            · rw [if_pos c]
              cases hc : isK i t.1
              · rfl
              · exact absurd (this.mpr hc) c
        · rcases hpb with ⟨-, rfl⟩ | hpb
          · have := V4.2.1.hole
            by_cases c : m4 y 0 = -18
            · rw [if_pos c]; unfold isH; rw [this.mp c]; rfl
            · rw [if_neg c]
              have c' : ¬ t.1.1 = 4 := fun q => c (this.mpr q)
              unfold isH
              rw [decide_eq_false c']; rfl
          · exact absurd hz hpb.1
theorem q_lies (hB : WA B) (K : KI m) (hd : 14 ≤ d) (hW : l ∈ WL) (hwl : w ∉ WL) (hw : m w (-1) = 9) (hl : m w 0 = l) {z x : Int} {t : Tr} (hsz : nzT t ≤ 200) (R : Rw m) (hb : wb m) (hV : VS (B m) m hs x t) (pb : Lb → Bool) (hN : hs.Nodup) (hpb : (z = 0 ∧ pb = isH) ∨ (z ≠ 0 ∧ z ∉ WL ∧ m z 0 = -18 ∧ ∃ k, 0 ≤ k ∧ hs[k.toNat]? = some z ∧ pb = isK k)) (k : ∀ m', Wk m m' → (∀ z, z ≠ l → z ≠ 0 → m' z = m z) → P 0 (b01 (anyT pb t)) m') : WV G mX7_lies 0 [(1, w), (1, z), (1, x), (9, 0), (9, 0)] [] m d P := by
  refine v_bs (fun B0 => ?_)
  have w0 : w ≠ 0 := fun e => by rw [e, B0.1] at hw; cases hw
  refine wX7_lies K (by omega) ⟨hw, q_wbegin hB K (by omega) hw hl hW hwl R hb hV (fun m3 g3 eg3 T3 => ⟨rfl, g3.1, ?_⟩)⟩
  have e3 : m3 w = m w := g3.2.1 w w0 hwl
  refine q_ll hB hd hW hwl w0 pb hN hpb k 200 false [t] m3 (g3.ki K) (by rw [e3]; exact hw) (by rw [e3]; exact hl) g3 eg3 (R.mono g3) (g3.cb hb) ?_ (by omega) ?_ (by simp) T3
  · show nzT t + 0 ≤ 200; omega
  · show (false || (anyT pb t || false)) = anyT pb t
    simp
end WK5
