/-! L3, component: Walk.nodes, lies -/
def nzL : List Tr → Nat
  | [] => 0
  | t :: l => nzT t + nzL l
theorem nzL_app : ∀ (l r : List Tr), nzL (l ++ r) = nzL l + nzL r
  | [], r => by show nzL r = 0 + nzL r; omega
  | t :: l, r => by show nzT t + nzL (l ++ r) = nzT t + nzL l + nzL r; rw [nzL_app l r]; omega
theorem nzL_kids : ∀ (f : TF), nzL (kids f) = nzF f
  | .leaf => rfl
  | .inner _ a _ c s => by
    show (1 + nzF c) + nzL (kids s) = 1 + nzF c + nzF s
    rw [nzL_kids s]
theorem nzL_len : ∀ (l : List Tr), l.length ≤ nzL l
  | [] => Nat.le_refl _
  | t :: l => by
    show l.length + 1 ≤ (1 + nzF t.2) + nzL l
    have := nzL_len l
    omega
section WK4
variable {m m' : SM} {hs : List Int} {G : GM} {d : Nat} {P : Nat → Int → SM → Prop} {B : SM → Int → Prop} {l w : Int}
theorem q_nl (hB : WA B) (hd : 14 ≤ d) (hW : l ∈ WL) (hwl : w ∉ WL) (w0 : w ≠ 0) {most : Int} (hm : 0 ≤ most ∧ most ≤ 200) {S : Nat} {m0 : SM} (k : ∀ m', Wk m0 m' → (∀ z, z ≠ l → z ≠ 0 → m' z = m0 z) → P 0 (if (S : Int) ≤ most then (S : Int) else most + 1) m') : ∀ (r : Nat) (n : Int) (ts : List Tr) (m : SM), KI m → m w (-1) = 9 → m w 0 = l → Wk m0 m → (∀ z, z ≠ l → z ≠ 0 → m z = m0 z) → Rw m → wb m → 0 ≤ n → n ≤ most + 1 → most + 1 - n = r → (n : Int) + nzL ts = S → ts.length ≤ 1 + 6 * n → Td (B m) m hs l ts → WV G mX7_nodes 7 [(1, w), (9, 0), (0, most), (0, n)] [] m d P := by
  intro r
  induction r with
  | zero =>
    intro n ts m K hw hl g eg R hb n0 n1 hr hS hlen hT
    refine wX7_nodes_7 K (by omega) ⟨hw, by rw [hl]; exact (WL.tag K hW).1, fun q => ?_, fun q => ⟨fun _ => ?_, fun z => by omega⟩⟩
    · rw [hl, hT.1] at q
      have : ts = [] := List.length_eq_zero_iff.mp (by omega)
      subst this
      have hS : n + ((0 : Nat) : Int) = S := hS
      have := k m g eg
      rw [if_neg (by omega), show most + 1 = n by omega] at this
      exact this
    · have hts : ts ≠ [] := fun e => q (by rw [hl, hT.1, e]; rfl)
      have : 0 < ts.length := List.length_pos_iff.mpr hts
      have := nzL_len ts
      have := k m g eg
      rw [if_neg (by omega), show most + 1 = n by omega] at this
      exact this
  | succ r ih =>
    intro n ts m K hw hl g eg R hb n0 n1 hr hS hlen hT
    refine wX7_nodes_7 K (by omega) ⟨hw, by rw [hl]; exact (WL.tag K hW).1, fun q => ?_, fun q => ⟨fun z => by omega, fun _ => ?_⟩⟩
    · rw [hl, hT.1] at q
      have : ts = [] := List.length_eq_zero_iff.mp (by omega)
      subst this
      have hS : n + ((0 : Nat) : Int) = S := hS
      have := k m g eg
      rw [if_pos (by omega), show (S : Int) = n by omega] at this
      exact this
    · cases ts with
      | nil => exact absurd (by rw [hl, hT.1]; rfl) q
      | cons t ts =>
        rw [List.length_cons] at hlen
        have hS' : n + ((1 + nzF t.2 + nzL ts : Nat) : Int) = S := hS
        rw [hl]
        refine q_pop hB K (by omega) hW hT (by omega) (fun m4 y g4 e4 T4 V4 => ⟨rfl, g4.1, ?_⟩)
        have K4 := g4.ki K
        have h6 := V4.2.2.1
        refine q_push hB K4 (by omega) hW (R.mono g4) (g4.cb hb) T4 V4 (by omega) (fun m9 g9 e9 T9 => ⟨rfl, g9.1, ?_⟩)
        have wl : w ≠ l := fun e => hwl (by rw [e]; exact hW)
        have ew : m9 w = m w := by rw [e9 w wl w0, e4 w wl w0]
        rw [wr_id (by omega) (by omega)]
        refine ih (n + 1) (kids t.2 ++ ts) m9 (g9.ki K4) (by rw [ew]; exact hw) (by rw [ew]; exact hl) (g.trans (g4.trans g9)) (fun z h1 h2 => by rw [e9 z h1 h2, e4 z h1 h2]; exact eg z h1 h2) ((R.mono g4).mono g9) (g9.cb (g4.cb hb)) (by omega) (by omega) (by omega) ?_ ?_ T9
        · rw [nzL_app, nzL_kids]; omega
        · rw [List.length_append, kids_len]; omega
theorem q_nodes (hB : WA B) (K : KI m) (hd : 14 ≤ d) (hW : l ∈ WL) (hwl : w ∉ WL) (hw : m w (-1) = 9) (hl : m w 0 = l) {most x : Int} (hm : 0 ≤ most ∧ most ≤ 200) {t : Tr} (R : Rw m) (hb : wb m) (hV : VS (B m) m hs x t) (k : ∀ m', Wk m m' → (∀ z, z ≠ l → z ≠ 0 → m' z = m z) → P 0 (if (nzT t : Int) ≤ most then (nzT t : Int) else most + 1) m') : WV G mX7_nodes 0 [(1, w), (1, x), (0, most), (9, 0)] [] m d P := by
  refine v_bs (fun B0 => ?_)
  have w0 : w ≠ 0 := fun e => by rw [e, B0.1] at hw; cases hw
  refine wX7_nodes K (by omega) ⟨hw, q_wbegin hB K (by omega) hw hl hW hwl R hb hV (fun m3 g3 eg3 T3 => ⟨rfl, g3.1, ?_⟩)⟩
  have e3 : m3 w = m w := g3.2.1 w w0 hwl
  refine q_nl hB hd hW hwl w0 hm k (most + 1).toNat 0 [t] m3 (g3.ki K) (by rw [e3]; exact hw) (by rw [e3]; exact hl) g3 eg3 (R.mono g3) (g3.cb hb) (by omega) (by omega) (by omega) ?_ (by simp) T3
  show (0 : Int) + ((nzT t + 0 : Nat) : Int) = nzT t
  omega
end WK4
