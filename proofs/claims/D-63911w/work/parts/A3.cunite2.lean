/-! L3, component: Walk.unite, whole -/
section UN2
variable {m m0 : SM} {hs : List Int} {G : GM} {d : Nat} {P : Nat → Int → SM → Prop} {B : SM → Int → Prop} {l o w l2 w2 : Int}
theorem rsl_cons (k : Int) (o t : Tr) (δ : Dl) : rsl ((k, o) :: δ) t = rsl δ (subT k o t) := rfl
theorem q_ul (hB : WA B) (hN : hs.Nodup) (hd : 17 ≤ d) (hW : l ∈ WL) (hO : o ∈ WL) (h2W : l2 ∈ WL) (hlo : l ≠ o) (h2l : l ≠ l2) (h2o : o ≠ l2) (hwl : w ∉ WL) (hw2W : w2 ∉ WL) (w0 : w ≠ 0) : ∀ (f : Nat) (n : Int) (ps : List (Tr × Tr)) (m : SM), KI m → m 0 (-1) = 0 → (∀ z ∈ hs, m z (-1) = 11 ∧ z ≠ 0 ∧ z ∉ WL) → (m w (-1) = 9 ∧ m w 0 = l ∧ m w 1 = o) → (m w2 (-1) = 9 ∧ m w2 0 = l2) → Un hs m0 m → Rw m → wb m → n + f = 1000 → 0 ≤ n → ps.length ≤ 1 + 6 * n → Td (B m) m hs l (ps.map (·.1)) → Td (B m) m hs o (ps.map (·.2)) → OutU B hs m0 m (uni f ps) P → WV G mX7_unite 12 [(1, w), (1, w2), (9, 0), (9, 0), (0, 1), (0, n), (9, 0), (9, 0), (9, 0), (9, 0)] [] m d P := by
  intro f
  induction f with
  | zero =>
    intro n ps m K z0 hh hw hw2 g R hb hf hn hlen T1 T2 k
    refine wX7_unite_12 K (by omega) ⟨hw.1, by rw [hw.2.1]; exact (WL.tag K hW).1, fun q => ⟨Or.inr rfl, ?_⟩, fun q => ⟨fun z => absurd z (by decide), fun _ => ?_⟩⟩
    · rw [hw.2.1, T1.1, List.length_map] at q
      have : ps = [] := List.length_eq_zero_iff.mp (by omega)
      subst this
      exact k m g (fun x t h => h)
    · cases ps with
      | nil => exact absurd (by rw [hw.2.1, T1.1]; rfl) q
      | cons p r =>
        rw [List.length_cons] at hlen
        rw [hw.2.1]
        refine q_pop2 hB K (by omega) hW hO hlo hwl w0 hw.2.2 T1 T2 (by rw [List.length_map]; omega) (by rw [List.length_map]; omega) (fun m10 y1 y2 g10 e10 U1 U2 V1 V2 => ?_)
        have K10 := g10.ki K
        have ew : m10 w = m w := g10.2.1 w w0 hwl
        have fl : WV G mX7_unite 74 [(1, w), (1, w2), (9, 0), (9, 0), (9, 0), (0, n), (1, y1), (1, y2), (9, 0), (9, 0)] [] m10 d P :=
          wX7_unite_74 K10 (by omega) ⟨V1.1.2.1, fun z => absurd (by omega) z, fun _ => q_u0 K10 (by omega) hW (by rw [ew]; exact hw.1) (by rw [ew]; exact hw.2.1) (k m10 (g.trans g10.un))⟩
        exact ⟨fun _ => fl, fun _ => ⟨V1.1.2.1, fun _ => fl, fun _ => ⟨fun _ => fl, fun z => by omega⟩⟩⟩
  | succ f ih =>
    intro n ps m K z0 hh hw hw2 g R hb hf hn hlen T1 T2 k
    refine wX7_unite_12 K (by omega) ⟨hw.1, by rw [hw.2.1]; exact (WL.tag K hW).1, fun q => ⟨Or.inr rfl, ?_⟩, fun q => ⟨fun z => absurd z (by decide), fun _ => ?_⟩⟩
    · rw [hw.2.1, T1.1, List.length_map] at q
      have : ps = [] := List.length_eq_zero_iff.mp (by omega)
      subst this
      exact k m g (fun x t h => h)
    · cases ps with
      | nil => exact absurd (by rw [hw.2.1, T1.1]; rfl) q
      | cons p r =>
        obtain ⟨a, b⟩ := p
        rw [List.length_cons] at hlen
        rw [hw.2.1]
        refine q_pop2 hB K (by omega) hW hO hlo hwl w0 hw.2.2 T1 T2 (by rw [List.length_map]; omega) (by rw [List.length_map]; omega) (fun m10 y1 y2 g10 e10 U1 U2 V1 V2 => ?_)
        have K10 := g10.ki K
        have z10 := g10.z0 z0
        have ew : m10 w = m w := g10.2.1 w w0 hwl
        have w20 : w2 ≠ 0 := fun e => by have := hw2.1; rw [e, z0] at this; cases this
        have ew2 : m10 w2 = m w2 := g10.2.1 w2 w20 hw2W
        have hw' : m10 w (-1) = 9 ∧ m10 w 0 = l ∧ m10 w 1 = o := by rw [ew]; exact hw
        have hw2' : m10 w2 (-1) = 9 ∧ m10 w2 0 = l2 := by rw [ew2]; exact hw2
        have hh10 : ∀ z ∈ hs, m10 z (-1) = 11 ∧ z ≠ 0 ∧ z ∉ WL := fun z hz => by
          obtain ⟨q1, q2, q3⟩ := hh z hz
          exact ⟨by rw [g10.2.1 z q2 q3]; exact q1, q2, q3⟩
        have G10 := g.trans (g10.un (hs := hs))
        have R10 := R.mono g10
        have b10 := g10.cb hb
        -- from m on to m10
        have VV : ∀ x t, VS (B m) m hs x t → VS (B m10) m10 hs x t := fun x t h => h.wk B hB K g10 z0
        have s1 := V1.2.1.hole
        have s2 := V2.2.1.hole
        have l0 := (WL.tag K hW).2
        have o0 := (WL.tag K hO).2
        -- a hole is filled, the walk goes on
        have go : ∀ (hc oc i : Int) (t : Tr), 0 ≤ i → hs[i.toNat]? = some hc → m10 hc 0 = -18 → m10 hc 4 = 0 → VE (B m10) m10 hs oc t → (nzT t ≤ 200 ∧ occT i t = false → OutU B hs m0 m ((uni f (r.map (fun p => (subT i t p.1, subT i t p.2)))).map ((i, t) :: ·)) P) → (¬ (nzT t ≤ 200 ∧ occT i t = false) → ∀ m', Un hs m0 m' → P 0 0 m') → WV G mX7_nodes 0 [(1, w2), (1, oc), (0, 200), (9, 0)] [] m10 (d - 1) (fun k v4 m5 => k = 0 ∧ Ok m10 m5 ∧ (((200 : Int) < v4 → (WV G mX7_unite 12 [(1, w), (1, w2), (9, 0), (9, 0), (0, 0), (0, (wr (n + 1))), (9, 0), (9, 0), (9, 0), (9, 0)] [] m5 d P)) ∧ (v4 ≤ (200 : Int) → (WV G mX7_lies 0 [(1, w2), (1, hc), (1, oc), (9, 0), (9, 0)] [] m5 (d - 1) (fun k v10 m11 => k = 0 ∧ Ok m5 m11 ∧ ((((if v10 ≠ (0 : Int) then 0 else 1) : Int) = 0 → (WV G mX7_unite 12 [(1, w), (1, w2), (9, 0), (9, 0), (0, (if v10 ≠ (0 : Int) then 0 else 1)), (0, (wr (n + 1))), (9, 0), (9, 0), (9, 0), (9, 0)] [] m11 d P)) ∧ (((if v10 ≠ (0 : Int) then 0 else 1) : Int) ≠ 0 → (∀ m16, m16 = up m11 hc 4 oc → Ok m11 m16 → (WV G mX7_unite 12 [(1, w), (1, w2), (9, 0), (9, 0), (0, (if v10 ≠ (0 : Int) then 0 else 1)), (0, (wr (n + 1))), (9, 0), (9, 0), (9, 0), (9, 0)] [] m16 d P))))))))) := by
          intro hc oc i t hi hz hz0 hz4 V k1 k0
          have hm : hc ∈ hs := List.mem_of_getElem? hz
          obtain ⟨hct, hc0, hcW⟩ := hh10 hc hm
          refine q_uf hB hN (by omega) h2W hw2W hh10 K10 z10 hw2' R10 b10 hi hz hz0 hz4 V (Y := fun v m' => WV G mX7_unite 12 [(1, w), (1, w2), (9, 0), (9, 0), (0, v), (0, (wr (n + 1))), (9, 0), (9, 0), (9, 0), (9, 0)] [] m' d P) (X0 := fun m' => WV G mX7_unite 12 [(1, w), (1, w2), (9, 0), (9, 0), (0, 0), (0, (wr (n + 1))), (9, 0), (9, 0), (9, 0), (9, 0)] [] m' d P) (X1 := fun m' => WV G mX7_unite 12 [(1, w), (1, w2), (9, 0), (9, 0), (0, 1), (0, (wr (n + 1))), (9, 0), (9, 0), (9, 0), (9, 0)] [] m' d P) (fun _ h => h) (fun _ h => h) (fun hno m' g' e' => ?_) (fun h1 h2 m11 m16 g11 e11 e16 o16 VF => ?_)
          · have ew' : m' w = m w := by rw [g'.2.1 w w0 hwl, ew]
            exact q_u0 (g'.ki K10) (by omega) hW (by rw [ew']; exact hw.1) (by rw [ew']; exact hw.2.1) (k0 hno m' (G10.trans g'.un))
          · have K11 := g11.ki K10
            have K16 := o16.2.1 K11
            have u16 : Un hs m11 m16 := Un.fill hc0 hcW hm e16 o16
            have g16 := (G10.trans (g11.un (hs := hs))).trans u16
            have k2 := k1 ⟨h1, h2⟩
            have e16' : ∀ z, z ≠ hc → m16 z = m11 z := fun z hz => by funext ff; rw [e16, up_na _ hz]
            have wne : ∀ z, m10 z (-1) = 9 → z ≠ hc := fun z h e => by rw [e, hct] at h; cases h
            have ew16 : m16 w = m10 w := by rw [e16' w (wne w hw'.1), g11.2.1 w w0 hwl]
            have ew216 : m16 w2 = m10 w2 := by rw [e16' w2 (wne w2 hw2'.1), g11.2.1 w2 w20 hw2W]
            have lne : ∀ z ∈ WL, z ≠ hc := fun z hz e => hcW (by rw [← e]; exact hz)
            have el : m16 l = m10 l := by rw [e16' l (lne l hW), e11 l h2l l0]
            have eo : m16 o = m10 o := by rw [e16' o (lne o hO), e11 o h2o o0]
            have tr : ∀ x t', VS (B m10) m10 hs x t' → VS (B m16) m16 hs x (subT i t t') := fun x t' h => VF x t' (h.wk B hB K10 g11 z10)
            have td : ∀ q (ts : List Tr), m16 q = m10 q → Td (B m10) m10 hs q ts → Td (B m16) m16 hs q (ts.map (subT i t)) := by
              intro q ts eq T
              refine ⟨by rw [eq, List.length_map]; exact T.1, fun j x hx => ?_⟩
              rw [List.getElem?_map] at hx
              cases hj : ts[j]? with
              | none => rw [hj] at hx; cases hx
              | some y =>
                rw [hj] at hx
                have : subT i t y = x := by simpa using hx
                rw [← this, eq, List.length_map]
                exact tr _ _ (T.2 j y hj)
            have c16 := u16.2.2
            rw [wr_id (by omega) (by omega)]
            refine ih (n + 1) (r.map (fun p => (subT i t p.1, subT i t p.2))) m16 K16 (by rw [u16.2.2.2.2.2]; exact g11.z0 z10) (fun z hz => ?_) (by rw [ew16]; exact hw') (by rw [ew216]; exact hw2') g16 ?_ (u16.2.2.2.2.1 (g11.cb b10)) (by omega) (by omega) (by rw [List.length_map]; omega) ?_ ?_ ?_
            · obtain ⟨q1, q2, q3⟩ := hh10 z hz
              exact ⟨o16.tag (g11.1.tag q1 (by decide)) (by decide), q2, q3⟩
            · have := R10.mono g11
              exact ⟨by have := this.1; omega, by have := this.2; omega⟩
            · have := td l _ el U1
              rw [List.map_map] at this ⊢
              exact this
            · have := td o _ eo U2
              rw [List.map_map] at this ⊢
              exact this
            · revert k2
              cases uni f (r.map (fun p => (subT i t p.1, subT i t p.2))) with
              | none => exact fun k2 => k2
              | some δ => exact fun k2 m' g' S => k2 m' g' (fun x t' h => by rw [rsl_cons]; exact S x _ (tr x t' (VV x t' h)))
        -- what the spec says
        have kk : OutU B hs m0 m (if a.1.1 = 4 then
            (if b.1.1 = 4 ∧ b.1.2.1 = a.1.2.1 then uni f r
            else if nzT b ≤ 200 ∧ occT a.1.2.1 b = false then (uni f (r.map (fun p => (subT a.1.2.1 b p.1, subT a.1.2.1 b p.2)))).map ((a.1.2.1, b) :: ·)
            else none)
          else if b.1.1 = 4 then
            (if nzT a ≤ 200 ∧ occT b.1.2.1 a = false then (uni f (r.map (fun p => (subT b.1.2.1 a p.1, subT b.1.2.1 a p.2)))).map ((b.1.2.1, a) :: ·)
            else none)
          else if lvl a b = true then uni f (zipF a.2 b.2 ++ r)
          else none) P := k
        clear k
        have hol : ∀ {y : Int} {t : Tr}, VE (B m10) m10 hs y t → t.1.1 = 4 → 0 ≤ t.1.2.1 ∧ hs[t.1.2.1.toNat]? = some y ∧ m10 y 0 = -18 := by
          intro y t V h4
          obtain ⟨-, h | h | h | h | h | h⟩ := V.2.1
          · omega
          · omega
          · exact ⟨h.2.2.1, h.2.2.2, h.2.1⟩
          · omega
          · omega
          · omega
        -- two that are not the same hole
        have j74 : ¬ (a.1.1 = 4 ∧ b.1.1 = 4 ∧ b.1.2.1 = a.1.2.1) → WV G mX7_unite 74 [(1, w), (1, w2), (9, 0), (9, 0), (9, 0), (0, n), (1, y1), (1, y2), (9, 0), (9, 0)] [] m10 d P := by
          intro hns
          refine wX7_unite_74 K10 (by omega) ⟨V1.1.2.1, fun _ => ?_, fun z => by omega⟩
          by_cases ha : a.1.1 = 4
          · have q1 : m10 y1 0 = -18 := s1.mpr ha
            obtain ⟨i0, iz, -⟩ := hol V1 ha
            rw [if_pos ha, if_neg (fun z => hns ⟨ha, z⟩)] at kk
            simp only [if_pos q1]
            refine ⟨V1.1.2.1, fun _ => ⟨hw2'.1, go y1 y2 a.1.2.1 b i0 iz q1 V1.1.2.2 V2 (fun z => by rw [if_pos z] at kk; exact kk) (fun z => by rw [if_neg z] at kk; exact kk)⟩, fun z => absurd z (by decide)⟩
          · have q1 : ¬ m10 y1 0 = -18 := fun z => ha (s1.mp z)
            rw [if_neg ha] at kk
            simp only [if_neg q1]
            by_cases hb4 : b.1.1 = 4
            · have q2 : m10 y2 0 = -18 := s2.mpr hb4
              obtain ⟨i0, iz, -⟩ := hol V2 hb4
              rw [if_pos hb4] at kk
              simp only [if_pos q2]
              exact ⟨V2.1.2.1, fun _ => ⟨hw2'.1, go y2 y1 b.1.2.1 a i0 iz q2 V2.1.2.2 V1 (fun z => by rw [if_pos z] at kk; exact kk) (fun z => by rw [if_neg z] at kk; exact kk)⟩, fun z => absurd z (by decide)⟩
            · have q2 : ¬ m10 y2 0 = -18 := fun z => hb4 (s2.mp z)
              rw [if_neg hb4] at kk
              simp only [if_neg q2]
              refine ⟨V2.1.2.1, fun z => absurd rfl z, fun _ => ⟨hw'.1, ?_⟩⟩
              refine q_level hB hN K10 (by omega) hW hO hlo hwl w0 hw'.1 hw'.2.1 hw'.2.2 R10 b10 ha V1 V2 U1 U2 (by rw [List.length_map, List.length_map]) (by rw [List.length_map]; omega) (fun hl1 m26 g26 S1 S2 => ⟨rfl, g26.1, ?_⟩) (fun hl0 m26 g26 => ⟨rfl, g26.1, ?_⟩)
              · rw [if_pos hl1] at kk
                have e26 : m26 w = m10 w := g26.2.1 w w0 hwl
                have e262 : m26 w2 = m10 w2 := g26.2.1 w2 w20 hw2W
                have hlen2 : lenF a.2 = lenF b.2 := by
                  unfold lvl at hl1
                  simp only [Bool.and_eq_true, decide_eq_true_eq] at hl1
                  exact hl1.2
                obtain ⟨zf, zs⟩ := zipF_fst a.2 b.2 hlen2
                have a6 : lenF a.2 ≤ 6 := V1.2.2.1
                rw [wr_id (by omega) (by omega)]
                refine ih (n + 1) (zipF a.2 b.2 ++ r) m26 (g26.ki K10) (g26.z0 z10) (fun z hz => ?_) (by rw [e26]; exact hw') (by rw [e262]; exact hw2') (G10.trans g26.un) (R10.mono g26) (g26.cb b10) (by omega) (by omega) ?_ (by rw [List.map_append, zf]; exact S1) (by rw [List.map_append, zs]; exact S2) ?_
                · obtain ⟨q1, q2, q3⟩ := hh10 z hz
                  exact ⟨g26.1.tag q1 (by decide), q2, q3⟩
                · have : (zipF a.2 b.2).length = lenF a.2 := by rw [← kids_len, ← zf, List.length_map]
                  rw [List.length_append, this]; omega
                · revert kk
                  cases uni f (zipF a.2 b.2 ++ r) with
                  | none => exact fun kk => kk
                  | some δ => exact fun kk m' g' S => kk m' g' (fun x t' h => S x _ ((VV x t' h).wk B hB K10 g26 z10))
              · rw [if_neg (by rw [hl0]; decide)] at kk
                have e26 : m26 w = m10 w := g26.2.1 w w0 hwl
                exact q_u0 (g26.ki K10) (by omega) hW (by rw [e26]; exact hw'.1) (by rw [e26]; exact hw'.2.1) (kk m26 (G10.trans g26.un))
        refine ⟨fun q1 => j74 (fun z => q1 ?_), fun q1 => ⟨V1.1.2.1, fun q2 => j74 (fun z => q2 (s1.mpr z.1)), fun q2 => ⟨fun z => by omega, fun _ => ?_⟩⟩⟩
        · obtain ⟨-, i1, -⟩ := hol V1 z.1
          obtain ⟨-, i2, -⟩ := hol V2 z.2.1
          rw [z.2.2, i1] at i2
          exact Option.some.inj i2
        · have ha := s1.mp q2
          have hb4 : b.1.1 = 4 := s2.mp (by rw [← q1]; exact q2)
          obtain ⟨p1, i1, -⟩ := hol V1 ha
          obtain ⟨p2, i2, -⟩ := hol V2 hb4
          have hid : b.1.2.1 = a.1.2.1 := by
            rw [← q1] at i2
            have hq : a.1.2.1.toNat = b.1.2.1.toNat := nd_inj hs _ _ hN i1 i2
            have p1' : 0 ≤ a.1.2.1 := p1
            have p2' : 0 ≤ b.1.2.1 := p2
            omega
          rw [if_pos ha, if_pos ⟨hb4, hid⟩] at kk
          rw [wr_id (by omega) (by omega)]
          refine ih (n + 1) r m10 K10 z10 hh10 hw' hw2' G10 R10 b10 (by omega) (by omega) (by omega) U1 U2 ?_
          revert kk
          cases uni f r with
          | none => exact fun kk => kk
          | some δ => exact fun kk m' g' S => kk m' g' (fun x t' h => S x _ (VV x t' h))
theorem q_unite (hB : WA B) (hN : hs.Nodup) (K : KI m) (hd : 17 ≤ d) (hW : l ∈ WL) (hO : o ∈ WL) (h2W : l2 ∈ WL) (hlo : l ≠ o) (h2l : l ≠ l2) (h2o : o ≠ l2) (hwl : w ∉ WL) (hw2W : w2 ∉ WL) (hh : ∀ z ∈ hs, m z (-1) = 11 ∧ z ≠ 0 ∧ z ∉ WL) (hw : m w (-1) = 9 ∧ m w 0 = l ∧ m w 1 = o) (hw2 : m w2 (-1) = 9 ∧ m w2 0 = l2) (R : Rw m) (hb : wb m) {x y : Int} {t1 t2 : Tr} (V1 : VS (B m) m hs x t1) (V2 : VS (B m) m hs y t2) (k : OutU B hs m m (uni 1000 [(t1, t2)]) P) : WV G mX7_unite 0 [(1, w), (1, w2), (1, x), (1, y), (9, 0), (9, 0), (9, 0), (9, 0), (9, 0), (9, 0)] [] m d P := by
  refine v_bs (fun B0 => ?_)
  have w0 : w ≠ 0 := fun e => by have := hw.1; rw [e, B0.1] at this; cases this
  have w20 : w2 ≠ 0 := fun e => by have := hw2.1; rw [e, B0.1] at this; cases this
  refine wX7_unite K (by omega) ⟨hw.1, q_pair hB K (by omega) hW hO hlo hwl hw.1 hw.2.1 hw.2.2 R hb V1 V2 (fun m3 g3 e3 T1 T2 => ⟨rfl, g3.1, ?_⟩)⟩
  have e3' : m3 w = m w := g3.2.1 w w0 hwl
  have e32 : m3 w2 = m w2 := g3.2.1 w2 w20 hw2W
  refine q_ul hB hN hd hW hO h2W hlo h2l h2o hwl hw2W w0 1000 0 [(t1, t2)] m3 (g3.ki K) (g3.z0 B0.1) (fun z hz => ?_) (by rw [e3']; exact hw) (by rw [e32]; exact hw2) g3.un (R.mono g3) (g3.cb hb) (by omega) (by omega) (by simp) T1 T2 ?_
  · obtain ⟨q1, q2, q3⟩ := hh z hz
    exact ⟨g3.1.tag q1 (by decide), q2, q3⟩
  · revert k
    cases uni 1000 [(t1, t2)] with
    | none => exact fun k => k
    | some δ => exact fun k m' g' S => k m' g' (fun x t' h => S x _ (h.wk B hB K g3 B0.1))
end UN2
