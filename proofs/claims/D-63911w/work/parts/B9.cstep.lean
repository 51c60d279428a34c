/-! L3, component: Runner.reckon whole; Runner.step -/
section STs
variable {m m' : SM} {hs X : List Int} {G : GM} {d : Nat} {P : Nat → Int → SM → Prop} {k k1 a b c AL : Int} {Γ : Int → Mg} {o n d0 : Nat} {x sc : Int} {e : Env} {a0 : Lb}
theorem recS_eq {z z2 : Nat} {u u2 : Unit} {a1 a2 : Lb} {c1 c2 s : TF} : recS Γ n a0 (.inner z a1 u c1 (.inner z2 a2 u2 c2 s)) e o = match stepS Γ n (a1, c1) e o with
    | (o1, none) => (o1, none)
    | (o1, some x) => match stepS Γ n (a2, c2) e o1 with
      | (o2, none) => (o2, none)
      | (o2, some y) => recT Γ n a0 s e x y o2 := by
  rfl
theorem recT_le {s : TF} {t1 t2 : Tr} (ho : o ≤ 100) : o ≤ (recT Γ n a0 s e t1 t2 o).1 := by
  unfold recT
  cases reckS a0 t1 t2 with
  | none => exact Nat.le_refl _
  | some g =>
    cases g with
    | inl v => exact Nat.le_refl _
    | inr yes =>
      dsimp only
      cases s with
      | leaf => exact Nat.le_refl _
      | inner z3 a3 u3 c3 s =>
        cases s with
        | leaf => exact Nat.le_refl _
        | inner z4 a4 u4 c4 s =>
          dsimp only
          split
          · exact (stepS_le Γ n _ _ o ho).1
          · exact (stepS_le Γ n _ _ o ho).1
theorem q_reckonR (ih : QS G Γ n d0) (hd : d0 + 1 ≤ d) (hd0 : 20 ≤ d0) (hck : ckG Γ) (S : Sr Γ hs X k k1 a b c (o + 1) AL m) (hb : a + (100 - o) ≤ 16000 ∧ b + (100 - o) ≤ 16000 ∧ c + 6 * (100 - o) ≤ 96000) {cf : TF} (hop : a0.1 = 6 ∨ a0.1 = 7 ∨ a0.1 = 9) (hD : DvT m x (a0, cf)) (hckt : ckT Γ (a0, cf) = true) (hbt : bdT (e.map (·.1)) (a0, cf) = true) (hE : arE Γ e = true) (hS : ScR (BX X m) m hs e sc) (kk : OutN m hs X k k1 a b c o AL (recS Γ n a0 cf e (o + 1)) P) : WV G mX6_reckon 0 [(1, 22), (1, x), (1, sc), (0, 31 - (n : Int)), (9, 0), (9, 0), (9, 0)] [] m d P := by
  obtain ⟨C, ⟨e2, e3, hA0, hA1, ho⟩, hbud, hk, hN, hX, hG⟩ := id S
  have K := C.ki
  obtain ⟨hx, hF⟩ := hD
  have hx : DvH m x a0 := hx
  dsimp only at hF
  rw [if_neg (by omega), if_neg (by omega)] at hF
  have hck' : (ck5 Γ a0 cf && ckF Γ cf) = true := hckt
  rw [Bool.and_eq_true] at hck'
  have hsh : ((a0.1 = 6 ∨ a0.1 = 7) → lenF cf = 2) ∧ (a0.1 = 9 → lenF cf = 4) := by
    have q := hck'.1
    unfold ck5 shO at q
    rw [Bool.and_eq_true, Bool.and_eq_true, Bool.and_eq_true] at q
    refine ⟨fun h => ?_, fun h => ?_⟩
    · have q2 := q.2.1.2
      rcases h with h | h
      · rw [decide_eq_true h] at q2; simpa using q2
      · rw [decide_eq_true h] at q2; simpa using q2
    · have q3 := q.2.2
      rw [decide_eq_true h] at q3; simpa using q3
  have hbt' : (bd1 a0 (e.map (·.1)) && bdF cf (if a0.1 = 8 then 2 else 0) (e.map (·.1)) []) = true := hbt
  rw [if_neg (by omega), Bool.and_eq_true] at hbt'
  cases cf with
  | leaf =>
    have h1 : (a0.1 = 6 ∨ a0.1 = 7) → 0 = 2 := hsh.1
    have h2 : a0.1 = 9 → 0 = 4 := hsh.2
    omega
  | inner z a1 u c1 s =>
    cases s with
    | leaf =>
      have h1 : (a0.1 = 6 ∨ a0.1 = 7) → 1 + 0 = 2 := hsh.1
      have h2 : a0.1 = 9 → 1 + 0 = 4 := hsh.2
      omega
    | inner z2 a2 u2 c2 s =>
      have h1 : (a0.1 = 6 ∨ a0.1 = 7) → 1 + (1 + lenF s) = 2 := hsh.1
      have h2 : a0.1 = 9 → 1 + (1 + lenF s) = 4 := hsh.2
      obtain ⟨q1, q2, ⟨q3, q4, q5⟩⟩ := hF
      obtain ⟨k1', k2, -⟩ := ckF_in hck'.2
      obtain ⟨k3, k4, -⟩ := ckF_in k2
      have hb0 : (bd1 a1 (e.map (·.1)) && bdF c1 (if a1.1 = 8 then 2 else 0) (e.map (·.1)) [] && bdF (.inner z2 a2 u2 c2 s) 0 (e.map (·.1)) []) = true := hbt'.2
      rw [Bool.and_eq_true] at hb0
      have hb1 : (bd1 a2 (e.map (·.1)) && bdF c2 (if a2.1 = 8 then 2 else 0) (e.map (·.1)) [] && bdF s 0 (e.map (·.1)) []) = true := hb0.2
      rw [Bool.and_eq_true] at hb1
      have siz : ∀ (f : TF) {L j : Int}, DvF m f 0 L j → m L (-2) = j + lenF f := by
        intro f
        induction f with
        | leaf => intro L j hh; have hh : m L (-2) = j := hh; rw [hh]; show j = j + ((0 : Nat) : Int); omega
        | inner _ _ _ _ s _ ih2 => intro L j hh; rw [ih2 hh.2.2]; show j + 1 + (lenF s : Int) = j + ((1 + lenF s : Nat) : Int); omega
      have sz := siz s q5
      have hL := hx.2.2.2.1
      refine wX6_reckon K (by omega) ⟨hx.2.1, hL.1, by decide, by omega, Or.inr q1.2.1, ?_⟩
      rw [recS_eq] at kk
      have hle := stepS_le Γ n (a1, c1) e (o + 1) ho
      refine ih (a1, c1) (d - 1) m (m (m x 4) 0) sc e hs X k k1 a b c (o + 1) AL _ (by omega) S hS ⟨q1, q2⟩ k1' hE hb0.1 ?_
      revert kk hle
      cases stepS Γ n (a1, c1) e (o + 1) with
      | mk o1 w =>
        intro kk hle
        have l1 : o + 1 ≤ o1 := hle.1
        have l2 : o1 ≤ 100 := hle.2.1
        cases w with
        | none => exact fun m' v g' C' f2 f3 t' => ⟨g'.1, fun z => absurd z (by decide), fun _ => kk m' v g' (C'.le (by dsimp only; omega) (by dsimp only; omega) (by dsimp only; omega)) f2 f3 t'⟩
        | some t1 =>
          intro m7 v g7 C7 f2 f3 V7
          dsimp only at C7 f2 f3 kk
          have l3 : o + 1 + 1 ≤ o1 := hle.2.2 rfl
          have K7 := C7.ki
          refine ⟨g7.1, fun _ => ⟨V7.tag.1, q_seen K7 (by omega) V7 (fun y1 Vy => ⟨rfl, Ok.refl m7, ?_⟩)⟩, fun z => absurd rfl z⟩
          have F7 := g7.fd K C.pi
          have ex : ∀ f, m7 x f = m x f := fun f => F7.1 x f (Or.inr (Or.inr (Or.inl hx.2.1)))
          have eL : ∀ f, m7 (m x 4) f = m (m x 4) f := fun f => F7.1 _ f (Or.inl ⟨hL.1, by have := hL.2; omega⟩)
          have hX7 : ∀ z ∈ X, Lv m7 3 z ∧ m7 z (-1) = 16 := fun z hz => ⟨g7.2.2.1 z (hX z hz).1, g7.1.tag (hX z hz).2 (by decide)⟩
          have S7 : Sr Γ hs X k k1 (a + (o1 - (o + 1 : Nat))) (b + (o1 - (o + 1 : Nat)) - 1) (c + 6 * (o1 - (o + 1 : Nat))) o1 AL m7 := ⟨C7, ⟨f2, f3, hA0, hA1, l2⟩, ⟨by omega, by omega, by omega⟩, hk, hN, hX7, hG.fg K C.pi g7⟩
          refine ⟨by rw [ex, eL]; exact hL.1, by decide, by rw [ex, eL]; omega, by rw [ex, eL]; exact Or.inr (g7.1.tag q3.2.1 (by decide)), ?_⟩
          rw [ex, eL]
          have hle2 := stepS_le Γ n (a2, c2) e o1 l2
          refine ih (a2, c2) (d - 1) m7 (m (m x 4) 1) sc e hs X k k1 _ _ _ o1 AL _ (by omega) S7 (ScR.fg K g7 e hS) (show DvT m7 (m (m x 4) 1) (a2, c2) from DvT.fd F7 ⟨q3, q4⟩) k3 hE hb1.1 ?_
          revert kk hle2
          cases stepS Γ n (a2, c2) e o1 with
          | mk o2 w =>
            intro kk hle2
            have l4 : o1 ≤ o2 := hle2.1
            have l5 : o2 ≤ 100 := hle2.2.1
            cases w with
            | none => exact fun m' v g' C' f2 f3 t' => ⟨g'.1, fun z => absurd z (by decide), fun _ => kk m' v (g7.trans g') (C'.le (by dsimp only; omega) (by dsimp only; omega) (by dsimp only; omega)) f2 f3 t'⟩
            | some t2 =>
              intro m20 v2 g20 C20 f22 f23 V20
              dsimp only at C20 f22 f23 kk
              have l6 : o1 + 1 ≤ o2 := hle2.2.2 rfl
              have K20 := C20.ki
              refine ⟨g20.1, fun _ => ⟨V20.tag.1, q_seen K20 (by omega) V20 (fun y2 Vy2 => ⟨rfl, Ok.refl m20, ?_⟩)⟩, fun z => absurd rfl z⟩
              have G20 := g7.trans g20
              have F20 := G20.fd K C.pi
              have ex20 : ∀ f, m20 x f = m x f := fun f => F20.1 x f (Or.inr (Or.inr (Or.inl hx.2.1)))
              have hx20 : DvH m20 x a0 := hx.fd F20
              have Vy1 := Vy.fg K7 g20
              have hX20 : ∀ z ∈ X, Lv m20 3 z ∧ m20 z (-1) = 16 := fun z hz => ⟨G20.2.2.1 z (hX z hz).1, G20.1.tag (hX z hz).2 (by decide)⟩
              have C20' : CS k k1 (a + (o2 - o - 1)) (b + (o2 - o - 1) - 1) (c + 6 * (o2 - o - 1)) m20 := C20.le (by omega) (by omega) (by omega)
              have S20 : Sr Γ hs X k k1 (a + (o2 - o - 1)) (b + (o2 - o - 1) - 1) (c + 6 * (o2 - o - 1)) o2 AL m20 := ⟨C20', ⟨f22, f23, hA0, hA1, l5⟩, ⟨by omega, by omega, by omega⟩, hk, hN, hX20, hG.fg K C.pi G20⟩
              have hT20 : DvF m20 s 0 (m20 x 4) 2 := by
                rw [ex20]; exact DvF.fd F20 s 0 (fun q => nomatch q) (fun _ => ⟨hL.1, by have := hL.2; omega⟩) (fun q => absurd q (by decide)) q5
              have s1 := Vy1.2.1.sort
              have s2 := Vy2.2.1.sort
              have tl : ((a0.1 = 9 ∧ a0.2.1 = 61) ∨ (t1.1.1 = 2 ∧ t2.1.1 = 2)) → WV G mX6_reckon 85 [(1, 22), (1, x), (1, sc), (0, 31 - (n : Int)), (1, y1), (1, y2), (9, 0)] [] m20 d P := by
                intro hnum
                refine q_85 (a0 := a0) ih hd hd0 S20 (by omega) hx20 (by omega) hT20 k4 hE hb1.2 (ScR.fg K G20 e hS) Vy1 Vy2 hnum ?_
                have hle3 : o2 ≤ (recT Γ n a0 s e t1 t2 o2).1 := recT_le l5
                revert kk hle3
                cases recT Γ n a0 s e t1 t2 o2 with
                | mk o3 w =>
                  intro kk hle3
                  have hle3 : o2 ≤ o3 := hle3
                  cases w with
                  | none => exact fun m' v g' C' f2 f3 t' => kk m' v (G20.trans g') (C'.le (by dsimp only; omega) (by dsimp only; omega) (by dsimp only; omega)) f2 f3 t'
                  | some t => exact fun m' v g' C' f2 f3 V' => kk m' v (G20.trans g') (C'.le (by dsimp only; omega) (by dsimp only; omega) (by dsimp only; omega)) f2 f3 V'
              have bad : ¬ ((a0.1 = 9 ∧ a0.2.1 = 61) ∨ (t1.1.1 = 2 ∧ t2.1.1 = 2)) → WV G mX6_need 0 [(1, 22), (0, 0)] [] m20 (d - 1) (fun k v33 m34 => Ok m20 m34 ∧ (k = 0 → (WV G mX6_reckon 85 [(1, 22), (1, x), (1, sc), (0, 31 - (n : Int)), (1, y1), (1, y2), (9, 0)] [] m34 d P)) ∧ (k ≠ 0 → P 1 v33 m34)) := by
                intro hno
                have hr : recT Γ n a0 s e t1 t2 o2 = (o2, none) := by
                  unfold recT reckS
                  rw [if_neg (fun w => hno (Or.inl w)), if_neg (fun w => hno (Or.inr w))]
                rw [hr] at kk
                refine q_needF C20' hk (by omega) (fun m' v g' C' e' t' => ⟨g'.1, fun z => absurd z (by decide), fun _ => ?_⟩)
                exact kk m' v (G20.trans g') (C'.le (by dsimp only; omega) (by dsimp only; omega) (by dsimp only; omega)) (by rw [e']; exact f22) (by rw [e']; exact f23) t'
              have opx : m20 x 0 = -7 ↔ (a0.1 = 9 ∧ a0.2.1 = 61) := by
                have this : ((a0.1 = 1 ∧ m20 x 0 = -1 ∧ m20 x 2 = a0.2.1 + 97 ∧ 0 ≤ a0.2.1 ∧ a0.2.1 < 26) ∨ (a0.1 = 2 ∧ m20 x 0 = -2 ∧ NP m20 (m20 x 3) ∧ Lit m20 (m20 x 3) (-14) a0.2.1) ∨ (a0.1 = 5 ∧ m20 x 0 = -3 ∧ m20 x 2 = a0.2.1 + 65 ∧ 0 ≤ a0.2.1 ∧ a0.2.1 < 26) ∨ (a0.1 = 6 ∧ m20 x 0 = -4) ∨ (a0.1 = 7 ∧ m20 x 0 = -5) ∨ (a0.1 = 8 ∧ m20 x 0 = -6) ∨ (a0.1 = 9 ∧ a0.2.1 = 61 ∧ m20 x 0 = -7) ∨ (a0.1 = 9 ∧ a0.2.1 = 60 ∧ m20 x 0 = -8) ∨ (a0.1 = 10 ∧ m20 x 0 = -9)) := hx20.2.2.2.2.2
                constructor
                · intro h; rcases this with w | w | w | w | w | w | w | w | w <;> omega
                · intro h; rcases this with w | w | w | w | w | w | w | w | w <;> omega
              refine ⟨fun w => q_need1 K20 (by omega) (by decide) ⟨Ok.refl m20, fun _ => tl (Or.inl (opx.mp w)), fun z => absurd rfl z⟩, fun w => ⟨Vy1.1.2.1, fun w1 => bad (fun z => ?_), fun w1 => ⟨Vy2.1.2.1, ?_⟩⟩⟩
              · rcases z with z | z
                · exact w (opx.mpr z)
                · exact w1 (by rw [s1.1, z.1]; rfl)
              · have h21 : t1.1.1 = 2 := sortO_inj s1.2 (by decide) (by rw [← s1.1]; exact w1)
                by_cases w2 : m20 y2 0 = -14
                · have h22 : t2.1.1 = 2 := sortO_inj s2.2 (by decide) (by rw [← s2.1]; exact w2)
                  rw [if_pos w2]
                  exact q_need1 K20 (by omega) (by decide) ⟨Ok.refl m20, fun _ => tl (Or.inr ⟨h21, h22⟩), fun z => absurd rfl z⟩
                · rw [if_neg w2]
                  refine bad (fun z => ?_)
                  rcases z with z | z
                  · exact w (opx.mpr z)
                  · exact w2 (by rw [s2.1, z.2]; rfl)
/-- Runner.step -/
theorem q_stepS (hck : ckG Γ) (ih : n = 0 ∨ ∃ n', n = n' + 1 ∧ QS G Γ n' d0) (hd0 : 20 ≤ d0) (hn : n ≤ 30) : QS G Γ n (d0 + 2) := by
  intro nd d m x sc e hs X k k1 a b c o AL P hd S hS hD hckt hE hbt kk
  obtain ⟨C, ⟨e2, e3, hA0, hA1, ho⟩, hbud, hk, hN, hX, hG⟩ := id S
  have K := C.ki
  have P0 := C.pi
  obtain ⟨a0, cf⟩ := nd
  -- the count is full
  have fl : stepS Γ n (a0, cf) e o = (o, none) → WV G mX6_need 0 [(1, 22), (0, 0)] [] m (d - 1) (fun k v5 m6 => Ok m m6 ∧ (k = 0 → False) ∧ (k ≠ 0 → P 1 v5 m6)) := by
    intro hr
    rw [hr] at kk
    refine q_needF C hk (by omega) (fun m' v g' C' e' t' => ⟨g'.1, fun z => absurd z (by decide), fun _ => ?_⟩)
    exact kk m' v g' (C'.le (by dsimp only; omega) (by dsimp only; omega) (by dsimp only; omega)) (by rw [e']; exact e2) (by rw [e']; exact e3) t'
  refine wX6_step K (by omega) ⟨fun v => v = if 1 ≤ n ∧ o < 100 then 1 else 0, ⟨fun w => by rw [if_neg (by omega)], fun w => ⟨fun w2 => by rw [if_neg (by omega)], fun w2 => by rw [if_pos (by omega)]⟩⟩, fun v hv => ?_⟩
  by_cases hok : 1 ≤ n ∧ o < 100
  rotate_left
  · rw [if_neg hok] at hv
    rw [hv]
    have hr : stepS Γ n (a0, cf) e o = (o, none) := by
      cases n with
      | zero => unfold stepS; rfl
      | succ n => unfold stepS; rw [if_pos (by omega)]
    exact (fl hr).mono (fun k' v' m' h => ⟨h.1, fun z => absurd (h.2.1 z) (fun q => q), h.2.2⟩)
  rw [if_pos hok] at hv
  rw [hv]
  obtain ⟨n', rfl, ihq⟩ : ∃ n', n = n' + 1 ∧ QS G Γ n' d0 := by
    rcases ih with w | w
    · omega
    · exact w
  refine q_need1 K (by omega) (by decide) ⟨Ok.refl m, fun _ m8 e8 o8 m12 e12 o12 => ?_, fun z => absurd rfl z⟩
  rw [e2, wr_id (by omega) (by omega)] at e8
  obtain ⟨F8, hC8⟩ := Fg.up22 (hs := []) (tp := False) (k := k) (k1 := k1) (a := a) (b := b) (c := c) K P0 (by decide) e8 o8
  have C8 := hC8 C
  have f8 : m8 22 3 = AL + o := by rw [e8, up_nf _ (by decide)]; exact e3
  rw [f8, wr_id (by omega) (by omega)] at e12
  obtain ⟨F12, hC12⟩ := Fg.up22 (hs := []) (tp := False) (k := k) (k1 := k1) (a := a) (b := b) (c := c) C8.ki C8.pi (by decide) e12 o12
  have C12 := hC12 C8
  have G12 := F8.trans F12
  have K12 := C12.ki
  have g2 : m12 22 2 = ((o + 1 : Nat) : Int) := by rw [e12, up_nf _ (by decide), e8, up_self]; omega
  have g3 : m12 22 3 = AL + ((o + 1 : Nat) : Int) := by rw [e12, up_self]; omega
  have F := G12.fd K P0
  have hD12 := hD.fd F
  have hx12 : DvH m12 x a0 := hD12.1
  have hS12 := ScR.fg K G12 e hS
  have hX12 : ∀ z ∈ X, Lv m12 3 z ∧ m12 z (-1) = 16 := fun z hz => ⟨G12.2.2.1 z (hX z hz).1, G12.1.tag (hX z hz).2 (by decide)⟩
  have S12 : Sr Γ hs X k k1 a b c (o + 1) AL m12 := ⟨C12, ⟨g2, g3, hA0, hA1, by omega⟩, ⟨by omega, by omega, by omega⟩, hk, hN, hX12, hG.fg K P0 G12⟩
  -- what comes of a step that makes nothing
  have done : ∀ (t : Tr) (v : Int), stepS Γ (n' + 1) (a0, cf) e o = (o + 1, some t) → VS (BX X m12) m12 hs v t → P 0 v m12 := by
    intro t v hr hV
    rw [hr] at kk
    exact kk m12 v G12 (C12.le (by dsimp only; omega) (by dsimp only; omega) (by dsimp only; omega)) g2 g3 hV
  -- from a contract over m12 to one over m
  have pass : ∀ (r : Nat × Option Tr), stepS Γ (n' + 1) (a0, cf) e o = r → OutN m12 hs X k k1 a b c o AL r (fun k v18 m19 => Ok m12 m19 ∧ (k = 0 → (P 0 v18 m19)) ∧ (k ≠ 0 → P 1 v18 m19)) := by
    intro r hr
    rw [hr] at kk
    obtain ⟨o2, w⟩ := r
    cases w with
    | none => exact fun m' v g' C' f2 f3 t' => ⟨g'.1, fun z => absurd z (by decide), fun _ => kk m' v (G12.trans g') C' f2 f3 t'⟩
    | some t => exact fun m' v g' C' f2 f3 V' => ⟨g'.1, fun _ => kk m' v (G12.trans g') C' f2 f3 V', fun z => absurd rfl z⟩
  have hdep : wr (31 - ((n' + 1 : Nat) : Int) + 1) = 31 - (n' : Int) := by rw [wr_id (by omega) (by omega)]; omega
  have hunf : ¬ 100 ≤ o := by omega
  have rec_ : a0.1 = 6 ∨ a0.1 = 7 ∨ a0.1 = 9 → WV G mX6_reckon 0 [(1, 22), (1, x), (1, sc), (0, (wr (31 - ((n' + 1 : Nat) : Int) + 1))), (9, 0), (9, 0), (9, 0)] [] m12 (d - 1) (fun k v18 m19 => Ok m12 m19 ∧ (k = 0 → (P 0 v18 m19)) ∧ (k ≠ 0 → P 1 v18 m19)) := by
    intro hop
    rw [hdep]
    refine q_reckonR ihq (by omega) hd0 hck S12 ⟨by omega, by omega, by omega⟩ hop hD12 hckt hbt hE hS12 (pass _ ?_)
    unfold stepS recS
    rw [if_neg hunf, if_neg (by omega), if_neg (by omega), if_neg (by omega), if_neg (by omega), if_pos hop]
    rfl
  have ops := hx12.2.2.2.2.2
  have tg : m12 (m12 x 0) (-1) = 50 := by
    rcases ops with w | w | w | w | w | w | w | w | w
    · rw [w.2.1]; exact Kn1_t K12
    · rw [w.2.1]; exact Kn2_t K12
    · rw [w.2.1]; exact Kn3_t K12
    · rw [w.2]; exact Kn4_t K12
    · rw [w.2]; exact Kn5_t K12
    · rw [w.2]; exact Kn6_t K12
    · rw [w.2.2]; exact Kn7_t K12
    · rw [w.2.2]; exact Kn8_t K12
    · rw [w.2]; exact Kn9_t K12
  refine ⟨hx12.2.1, tg, ?_⟩
  rcases ops with ⟨w1, w2, w3, w4, w5⟩ | ⟨w1, w2, w3, w4⟩ | ⟨w1, w2, w3, w4, w5⟩ | ⟨w1, w2⟩ | ⟨w1, w2⟩ | ⟨w1, w2⟩ | ⟨w1, w1', w2⟩ | ⟨w1, w1', w2⟩ | ⟨w1, w2⟩
  · -- a name
    have oo : m12 (m12 x 0) 0 = 0 := by rw [w2]; exact Kn1_0 K12
    refine ⟨fun z => by omega, fun _ => ?_, fun z => by omega, fun z => by omega, fun z => by omega, fun z => by omega, fun z => by omega, fun z => by omega, fun z => by omega, fun z => by omega⟩
    rw [w3]
    have hbt' : (bd1 a0 (e.map (·.1)) && bdF cf (if a0.1 = 8 then 2 else 0) (e.map (·.1)) []) = true := hbt
    rw [Bool.and_eq_true] at hbt'
    have hmem : a0.2.1 ∈ e.map (·.1) := by
      have q := hbt'.1
      unfold bd1 at q
      rw [decide_eq_true w1] at q
      simpa using q
    obtain ⟨t, ht⟩ := getE_nm e a0.2.1 hmem
    refine wX6_find K12 (by omega) (q_findS K12 (by omega) e hS12 (fun v hv => ⟨rfl, Ok.refl m12, ?_⟩))
    rw [ht] at hv
    refine ⟨fun _ => ⟨hv.2.1, done t _ ?_ hv.2.2⟩, fun z => absurd z hv.1⟩
    unfold stepS
    rw [if_neg hunf, if_pos w1, ht]
  · -- a digit
    have oo : m12 (m12 x 0) 0 = 1 := by rw [w2]; exact Kn2_0 K12
    refine ⟨fun z => by omega, fun z => by omega, fun _ => done ((2, a0.2.1, 0), nil) _ ?_ ?_, fun z => by omega, fun z => by omega, fun z => by omega, fun z => by omega, fun z => by omega, fun z => by omega, fun z => by omega⟩
    · unfold stepS
      rw [if_neg hunf, if_neg (by omega), if_pos w1]
    · obtain ⟨l1, l2, l3, l4, l5⟩ := w4
      have hlv := w3.lv K12 C12.pi l1
      refine VE.vs ⟨⟨⟨C12.pi, hlv, fun z => ?_⟩, l1, l5⟩, ⟨rfl, Or.inl ⟨rfl, l2, l3⟩⟩, by show 0 ≤ 6; omega, l4⟩
      have := (hX12 _ z).2
      rw [l1] at this; cases this
  · -- a use
    have oo : m12 (m12 x 0) 0 = 2 := by rw [w2]; exact Kn3_0 K12
    refine ⟨fun z => by omega, fun z => by omega, fun z => by omega, fun _ => ?_, fun z => by omega, fun z => by omega, fun z => by omega, fun z => by omega, fun z => by omega, fun z => by omega⟩
    rw [hdep]
    have hck' : (ck5 Γ a0 cf && ckF Γ cf) = true := hckt
    rw [Bool.and_eq_true] at hck'
    have q5 : ((Γ a0.2.1).isSome = true ∧ lenF cf = arG Γ a0.2.1) ∧ lenF cf ≤ 6 := by
      have q := hck'.1
      unfold ck5 at q
      rw [Bool.and_eq_true, decide_eq_true w1] at q
      simpa using q.1
    have hbt' : (bd1 a0 (e.map (·.1)) && bdF cf (if a0.1 = 8 then 2 else 0) (e.map (·.1)) []) = true := hbt
    rw [if_neg (by omega), Bool.and_eq_true] at hbt'
    have hF12 := hD12.2
    dsimp only at hF12
    rw [if_neg (by omega), if_neg (by omega)] at hF12
    refine wX6_use K12 (by omega) ?_
    refine q_useL (o := o) (a := a) (b := b) (c := c) ihq (by omega) hd0 K12 C12.pi hX12 S12.2.2.2.2.2.2 hck hN ⟨hx12.1, hx12.2.1, w3, w4, w5, hx12.2.2.2.1⟩ ⟨hA0, hA1⟩ ⟨by omega, by omega, by omega⟩ hk q5.1.1 hE hS12 (stepS_ar hck) cf 0 (o + 1) m12 [] [] 0 hF12 hck'.2 hbt'.2 (Nat.le_refl _) (by omega) (Fg.refl C12.pi) (C12.le (by omega) (by omega) (by omega)) g2 g3 rfl rfl (by omega) (by omega) rfl (by simp) (fun q hq => by cases hq) (fun j q t h1 => by simp at h1) (fun t ht => by cases ht) (pass _ ?_)
    unfold stepS argK
    rw [if_neg hunf, if_neg (by omega), if_neg (by omega), if_pos w1]
    cases argS (fun t o => stepS Γ n' t e o) cf (o + 1) with
    | mk o1 w =>
      cases w with
      | none => rfl
      | some l => rfl
  · have oo : m12 (m12 x 0) 0 = 3 := by rw [w2]; exact Kn4_0 K12
    exact ⟨fun z => by omega, fun z => by omega, fun z => by omega, fun z => by omega, fun _ => rec_ (by omega), fun z => by omega, fun z => by omega, fun z => by omega, fun z => by omega, fun z => by omega⟩
  · have oo : m12 (m12 x 0) 0 = 4 := by rw [w2]; exact Kn5_0 K12
    exact ⟨fun z => by omega, fun z => by omega, fun z => by omega, fun z => by omega, fun z => by omega, fun _ => rec_ (by omega), fun z => by omega, fun z => by omega, fun z => by omega, fun z => by omega⟩
  · -- a match
    have oo : m12 (m12 x 0) 0 = 5 := by rw [w2]; exact Kn6_0 K12
    refine ⟨fun z => by omega, fun z => by omega, fun z => by omega, fun z => by omega, fun z => by omega, fun z => by omega, fun _ => ?_, fun z => by omega, fun z => by omega, fun z => by omega⟩
    rw [hdep]
    refine q_matchR ihq (by omega) hd0 hck S12 ⟨by omega, by omega, by omega⟩ w1 hD12 hckt hbt hE hS12 (pass _ ?_)
    unfold stepS matS
    rw [if_neg hunf, if_neg (by omega), if_neg (by omega), if_neg (by omega), if_pos w1]
    rfl
  · have oo : m12 (m12 x 0) 0 = 6 := by rw [w2]; exact Kn7_0 K12
    exact ⟨fun z => by omega, fun z => by omega, fun z => by omega, fun z => by omega, fun z => by omega, fun z => by omega, fun z => by omega, fun _ => rec_ (by omega), fun z => by omega, fun z => by omega⟩
  · have oo : m12 (m12 x 0) 0 = 7 := by rw [w2]; exact Kn8_0 K12
    exact ⟨fun z => by omega, fun z => by omega, fun z => by omega, fun z => by omega, fun z => by omega, fun z => by omega, fun z => by omega, fun z => by omega, fun _ => rec_ (by omega), fun z => by omega⟩
  · -- it fails
    have oo : m12 (m12 x 0) 0 = 8 := by rw [w2]; exact Kn9_0 K12
    refine ⟨fun z => by omega, fun z => by omega, fun z => by omega, fun z => by omega, fun z => by omega, fun z => by omega, fun z => by omega, fun z => by omega, fun z => by omega, fun _ => ?_⟩
    have hr : stepS Γ (n' + 1) (a0, cf) e o = (o + 1, none) := by
      unfold stepS
      rw [if_neg hunf, if_neg (by omega), if_neg (by omega), if_neg (by omega), if_neg (by omega), if_neg (by omega)]
    rw [hr] at kk
    refine q_needF C12 hk (by omega) (fun m' v g' C' e' t' => ⟨g'.1, fun z => absurd z (by decide), fun _ => ?_⟩)
    exact kk m' v (G12.trans g') (C'.le (by dsimp only; omega) (by dsimp only; omega) (by dsimp only; omega)) (by rw [e']; exact g2) (by rw [e']; exact g3) t'
theorem q_step (hck : ckG Γ) : ∀ (n : Nat), n ≤ 30 → QS G Γ n (2 * n + 22)
  | 0, h => q_stepS hck (Or.inl rfl) (d0 := 20) (by omega) h
  | n + 1, h => q_stepS hck (Or.inr ⟨n, rfl, q_step hck n (by omega)⟩) (by omega) h
end STs
