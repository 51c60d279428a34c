/-! L3, component: Walk.pair, same -/
section WK7
variable {m m' : SM} {hs : List Int} {G : GM} {d : Nat} {P : Nat → Int → SM → Prop} {B : SM → Int → Prop} {l o w : Int}
theorem q_pair (hB : WA B) (K : KI m) (hd : 13 ≤ d) (hW : l ∈ WL) (hO : o ∈ WL) (hlo : l ≠ o) (hwl : w ∉ WL) (hw : m w (-1) = 9) (hl : m w 0 = l) (ho : m w 1 = o) (R : Rw m) (hb : wb m) {x y : Int} {t1 t2 : Tr} (V1 : VS (B m) m hs x t1) (V2 : VS (B m) m hs y t2) (k : ∀ m', Wk m m' → (∀ z, z ≠ l → z ≠ o → z ≠ 0 → m' z = m z) → Td (B m') m' hs l [t1] → Td (B m') m' hs o [t2] → P 0 0 m') : WV G mX7_pair 0 [(1, w), (1, x), (1, y)] [] m d P := by
  refine v_bs (fun B0 => ?_)
  have w0 : w ≠ 0 := fun e => by rw [e, B0.1] at hw; cases hw
  have wl : w ≠ l := fun e => hwl (by rw [e]; exact hW)
  have wo : w ≠ o := fun e => hwl (by rw [e]; exact hO)
  refine wX7_pair K (by omega) ⟨hw, q_wbegin hB K (by omega) hw hl hW hwl R hb V1 (fun m3 g3 e3 T3 => ⟨rfl, g3.1, ?_⟩)⟩
  have K3 := g3.ki K
  have ew3 : m3 w = m w := e3 w wl w0
  have z3 := g3.z0 B0.1
  have tO := (WL.tag K3 hO).1
  have o0 := (WL.tag K3 hO).2
  have l0 := (WL.tag K3 hW).2
  rw [ew3, ho]
  refine ⟨tO, fun m7 A7 o7 => ?_⟩
  have g7 : Wk m3 m7 := Wk.lw K3 hO A7.1 (by rw [A7.2.1]; decide)
  have K7 := g7.ki K3
  have ew7 : m7 w = m w := by rw [A7.1.2.1 w wo w0, ew3]
  rw [ew7, ho]
  have Ro := ((R.mono g3).mono g7).ok (g7.cb (g3.cb hb))
  have V7 := (V2.wk B hB K g3 B0.1).wk B hB K3 g7 z3
  refine ⟨(WL.tag K7 hO).1, elOK.of V7.tag.1 (c := 10) (by decide) (by decide), by rw [A7.2.1]; decide, by omega, by rw [A7.2.1]; omega, fun m13 A13 o13 => ?_⟩
  have s13 : m13 o (-2) = 1 := by rw [A13.2.1, A7.2.1]; rfl
  have g13 : Wk m7 m13 := Wk.lw K7 hO A13.1 (by rw [s13]; decide)
  refine k m13 (g3.trans (g7.trans g13)) (fun z h1 h2 h3 => by rw [A13.1.2.1 z h2 h3, A7.1.2.1 z h2 h3, e3 z h1 h3]) ?_ ⟨s13, fun j t hj => ?_⟩
  · exact Td.wk hB K3 (g7.trans g13) z3 (by rw [A13.1.2.1 l hlo l0, A7.1.2.1 l hlo l0]) T3
  · cases j with
    | zero =>
      cases hj
      have : m13 o (([t2] : List Tr).length - 1 - ((0 : Nat) : Int)) = y := by
        show m13 o 0 = y
        rw [A13.2.2 0 (by decide), if_pos A7.2.1.symm]
      rw [this]
      exact V7.wk B hB K7 g13 (g7.z0 z3)
    | succ j => simp at hj
/-- both lists' tops are taken -/
theorem q_pop2 (hB : WA B) (K : KI m) (hd : 13 ≤ d) (hW : l ∈ WL) (hO : o ∈ WL) (hlo : l ≠ o) (hwl : w ∉ WL) (w0 : w ≠ 0) (ho : m w 1 = o) {a b : Tr} {t1 t2 : List Tr} (T1 : Td (B m) m hs l (a :: t1)) (T2 : Td (B m) m hs o (b :: t2)) (h1 : t1.length ≤ 7000) (h2 : t2.length ≤ 7000) {X : Int → Int → SM → Prop}
    (k : ∀ m' y1 y2, Wk m m' → (∀ z, z ≠ l → z ≠ o → z ≠ 0 → m' z = m z) → Td (B m') m' hs l t1 → Td (B m') m' hs o t2 → VE (B m') m' hs y1 a → VE (B m') m' hs y2 b → X y1 y2 m') : WV G mX7_pop 0 [(1, l)] [] m d (fun k v5 m6 => k = 0 ∧ Ok m m6 ∧ (WV G mX7_pop 0 [(1, (m6 w 1))] [] m6 d (fun k v9 m10 => k = 0 ∧ Ok m6 m10 ∧ X v5 v9 m10))) := by
  refine v_bs (fun B0 => ?_)
  have wl : w ≠ l := fun e => hwl (by rw [e]; exact hW)
  have o0 := (WL.tag K hO).2
  have l0 := (WL.tag K hW).2
  refine q_pop hB K hd hW T1 h1 (fun m6 y1 g6 e6 U1 V1 => ⟨rfl, g6.1, ?_⟩)
  have K6 := g6.ki K
  have z6 := g6.z0 B0.1
  rw [e6 w wl w0, ho]
  refine q_pop hB K6 hd hO (Td.wk hB K g6 B0.1 (e6 o (Ne.symm hlo) o0) T2) h2 (fun m10 y2 g10 e10 U2 V2 => ⟨rfl, g10.1, ?_⟩)
  refine k m10 y1 y2 (g6.trans g10) (fun z q1 q2 q3 => by rw [e10 z q2 q3, e6 z q1 q3]) (Td.wk hB K6 g10 z6 (e10 l hlo l0) U1) U2 ?_ V2
  exact V1.fr (fun z hz ht => ⟨hB.wk K6 g10 hz, fun f => by rw [g10.2.1 z (fun e => by rw [e, z6] at ht; omega) (fun e => by have := (WL.tag K6 e).1; omega)]⟩)
theorem q_sl (hB : WA B) (hN : hs.Nodup) (hd : 15 ≤ d) (hW : l ∈ WL) (hO : o ∈ WL) (hlo : l ≠ o) (hwl : w ∉ WL) (w0 : w ≠ 0) {m0 : SM} {v : Int} (kt : 0 ≤ v → ∀ m', Wk m0 m' → P 0 v m') (kf : v < 0 → ∀ m1 m', Wk m0 m1 → m' = al m1 18 0 6 → Ok m1 m' → P 1 (m1 0 0) m') : ∀ (f : Nat) (n : Int) (ps : List (Tr × Tr)) (m : SM), KI m → m w (-1) = 9 → m w 0 = l → m w 1 = o → Wk m0 m → Rw m → wb m → n + f = 1000 → 0 ≤ n → cmp f ps = v → ps.length ≤ 1 + 6 * n → Td (B m) m hs l (ps.map (·.1)) → Td (B m) m hs o (ps.map (·.2)) → WV G mX7_same 11 [(1, w), (9, 0), (9, 0), (0, 1), (0, n), (9, 0), (9, 0)] [] m d P := by
  intro f
  induction f with
  | zero =>
    intro n ps m K hw hl ho g R hb hf hn hv hlen T1 T2
    refine wX7_same_11 K (by omega) ⟨hw, by rw [hl]; exact (WL.tag K hW).1, fun q => ⟨Or.inr rfl, ?_⟩, fun q => ⟨fun z => absurd z (by decide), fun _ => ?_⟩⟩
    · rw [hl, T1.1, List.length_map] at q
      have : ps = [] := List.length_eq_zero_iff.mp (by omega)
      subst this
      have hv : (1 : Int) = v := hv
      rw [← hv] at kt; exact kt (by omega) m g
    · cases ps with
      | nil => exact absurd (by rw [hl, T1.1]; rfl) q
      | cons p r =>
        have hv : (-1 : Int) = v := hv
        rw [List.length_cons] at hlen
        rw [hl]
        refine q_pop2 hB K (by omega) hW hO hlo hwl w0 ho T1 T2 (by rw [List.length_map]; omega) (by rw [List.length_map]; omega) (fun m10 y1 y2 g10 e10 U1 U2 V1 V2 => ?_)
        have Ro := (R.mono g10).ok (g10.cb hb)
        exact ⟨fun _ => ⟨by omega, by omega, fun m15 e15 o15 => kf (by omega) m10 m15 (g.trans g10) e15 o15⟩, fun z => by omega⟩
  | succ f ih =>
    intro n ps m K hw hl ho g R hb hf hn hv hlen T1 T2
    refine wX7_same_11 K (by omega) ⟨hw, by rw [hl]; exact (WL.tag K hW).1, fun q => ⟨Or.inr rfl, ?_⟩, fun q => ⟨fun z => absurd z (by decide), fun _ => ?_⟩⟩
    · rw [hl, T1.1, List.length_map] at q
      have : ps = [] := List.length_eq_zero_iff.mp (by omega)
      subst this
      have hv : (1 : Int) = v := hv
      rw [← hv] at kt; exact kt (by omega) m g
    · cases ps with
      | nil => exact absurd (by rw [hl, T1.1]; rfl) q
      | cons p r =>
        obtain ⟨a, b⟩ := p
        have hv : (if a.1.1 = 4 ∨ b.1.1 = 4 then -1 else if lvl a b = true then cmp f (zipF a.2 b.2 ++ r) else 0) = v := hv
        rw [List.length_cons] at hlen
        rw [hl]
        refine q_pop2 hB K (by omega) hW hO hlo hwl w0 ho T1 T2 (by rw [List.length_map]; omega) (by rw [List.length_map]; omega) (fun m10 y1 y2 g10 e10 U1 U2 V1 V2 => ?_)
        have K10 := g10.ki K
        have Ro := (R.mono g10).ok (g10.cb hb)
        have wl : w ≠ l := fun e => hwl (by rw [e]; exact hW)
        have wo : w ≠ o := fun e => hwl (by rw [e]; exact hO)
        have ew : m10 w = m w := e10 w wl wo w0
        refine ⟨fun z => by omega, fun _ => ⟨V1.1.2.1, fun q1 => ⟨by omega, by omega, fun m15 e15 o15 => ?_⟩, fun q1 => ⟨V2.1.2.1, fun q2 => ?_, fun q2 => ⟨by omega, by omega, fun m15 e15 o15 => ?_⟩⟩⟩⟩
        · rw [if_pos (Or.inl (V1.2.1.hole.mp q1))] at hv
          exact kf (by omega) m10 m15 (g.trans g10) e15 o15
        · have na : a.1.1 ≠ 4 := fun z => q1 (V1.2.1.hole.mpr z)
          have nb : b.1.1 ≠ 4 := fun z => q2 (V2.2.1.hole.mpr z)
          rw [if_neg (fun z => by rcases z with z | z; exact na z; exact nb z)] at hv
          refine q_level hB hN K10 (by omega) hW hO hlo hwl w0 (by rw [ew]; exact hw) (by rw [ew]; exact hl) (by rw [ew]; exact ho) (R.mono g10) (g10.cb hb) na V1 V2 U1 U2 (by rw [List.length_map, List.length_map]) (by rw [List.length_map]; omega) (fun hl1 m24 g24 S1 S2 => ⟨rfl, g24.1, ?_⟩) (fun hl0 m24 g24 => ⟨rfl, g24.1, ?_⟩)
          · rw [if_pos hl1] at hv
            have e24 : m24 w = m w := by rw [g24.2.1 w w0 hwl, ew]
            rw [wr_id (by omega) (by omega)]
            have hlen2 : lenF a.2 = lenF b.2 := by
              unfold lvl at hl1
              simp only [Bool.and_eq_true, decide_eq_true_eq] at hl1
              exact hl1.2
            obtain ⟨zf, zs⟩ := zipF_fst a.2 b.2 hlen2
            have a6 : lenF a.2 ≤ 6 := V1.2.2.1
            refine ih (n + 1) (zipF a.2 b.2 ++ r) m24 (g24.ki K10) (by rw [e24]; exact hw) (by rw [e24]; exact hl) (by rw [e24]; exact ho) (g.trans (g10.trans g24)) ((R.mono g10).mono g24) (g24.cb (g10.cb hb)) (by omega) (by omega) hv ?_ (by rw [List.map_append, zf]; exact S1) (by rw [List.map_append, zs]; exact S2)
            have : (zipF a.2 b.2).length = lenF a.2 := by rw [← kids_len, ← zf, List.length_map]
            rw [List.length_append, this]; omega
          · rw [if_neg (by rw [hl0]; decide)] at hv
            have K24 := g24.ki K10
            have e24 : m24 w = m w := by rw [g24.2.1 w w0 hwl, ew]
            have gg := g.trans (g10.trans g24)
            refine wX7_same_11 K24 (by omega) ⟨by rw [e24]; exact hw, by rw [e24, hl]; exact (WL.tag K24 hW).1, fun _ => ⟨Or.inl rfl, ?_⟩, fun _ => ⟨fun _ => ⟨Or.inl rfl, ?_⟩, fun z => absurd rfl z⟩⟩
            · rw [← hv] at kt; exact kt (by omega) m24 gg
            · rw [← hv] at kt; exact kt (by omega) m24 gg
        · rw [if_pos (Or.inr (V2.2.1.hole.mp q2))] at hv
          exact kf (by omega) m10 m15 (g.trans g10) e15 o15
theorem q_same (hB : WA B) (hN : hs.Nodup) (K : KI m) (hd : 15 ≤ d) (hW : l ∈ WL) (hO : o ∈ WL) (hlo : l ≠ o) (hwl : w ∉ WL) (hw : m w (-1) = 9) (hl : m w 0 = l) (ho : m w 1 = o) (R : Rw m) (hb : wb m) {x y : Int} {t1 t2 : Tr} (V1 : VS (B m) m hs x t1) (V2 : VS (B m) m hs y t2) (kt : 0 ≤ cmp 1000 [(t1, t2)] → ∀ m', Wk m m' → P 0 (cmp 1000 [(t1, t2)]) m') (kf : cmp 1000 [(t1, t2)] < 0 → ∀ m1 m', Wk m m1 → m' = al m1 18 0 6 → Ok m1 m' → P 1 (m1 0 0) m') : WV G mX7_same 0 [(1, w), (1, x), (1, y), (9, 0), (9, 0), (9, 0), (9, 0)] [] m d P := by
  refine v_bs (fun B0 => ?_)
  have w0 : w ≠ 0 := fun e => by rw [e, B0.1] at hw; cases hw
  refine wX7_same K (by omega) ⟨hw, q_pair hB K (by omega) hW hO hlo hwl hw hl ho R hb V1 V2 (fun m3 g3 e3 T1 T2 => ⟨rfl, g3.1, ?_⟩)⟩
  have e3' : m3 w = m w := g3.2.1 w w0 hwl
  exact q_sl hB hN hd hW hO hlo hwl w0 kt kf 1000 0 [(t1, t2)] m3 (g3.ki K) (by rw [e3']; exact hw) (by rw [e3']; exact hl) (by rw [e3']; exact ho) g3 (R.mono g3) (g3.cb hb) (by omega) (by omega) rfl (by simp) T1 T2
end WK7
