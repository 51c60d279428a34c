/-! L3, component: Runner.match, whole -/
section MR2
variable {m : SM} {hs X : List Int} {G : GM} {d : Nat} {P : Nat → Int → SM → Prop} {k k1 a b c AL : Int} {Γ : Int → Mg} {o n d0 : Nat} {x sc y : Int} {e : Env} {t : Tr} {a0 : Lb}
/-- the search ends badly -/
theorem q_63f (C : CS k k1 a b c m) (hk : k + 1 ≤ 400000 ∧ k1 + 6 ≤ 2500000) (hd : 13 ≤ d) (hx : DvH m x a0) {i dep : Int} (V : VE (BX X m) m hs y t) (hf : t.1.1 = 4 ∨ m (m x 5) (-2) ≤ i) (kk : ∀ m' v, Fg [] False m m' → CS (k + 1) (k1 + 6) a b c m' → m' 22 = m 22 → m' v (-1) = 18 → P 1 v m') : WV G mX6_match 63 [(1, 22), (1, x), (1, sc), (0, dep), (1, y), (0, i), (9, 0), (9, 0), (9, 0), (9, 0)] [] m d P := by
  have s := V.2.1.hole
  refine wX6_match_63 C.ki (by omega) ⟨V.1.2.1, fun q => q_needF C hk (by omega) (fun m' v g C' e' t' => ⟨g.1, fun z => absurd z (by decide), fun _ => kk m' v g C' e' t'⟩), fun q => ⟨hx.2.1, hx.2.2.2.2.1.1, ?_⟩⟩
  rw [if_pos (by rcases hf with w | w; exact absurd (s.mpr w) q; exact w)]
  exact q_needF C hk (by omega) (fun m' v g C' e' t' => ⟨g.1, fun z => absurd z (by decide), fun _ => kk m' v g C' e' t'⟩)
theorem q_mlp (ih : QS G Γ n d0) (hd : d0 + 1 ≤ d) (hd0 : 20 ≤ d0) (S : Sr Γ hs X k k1 a b c o AL m) (hc6 : c + 6 ≤ 96000) (hb6 : a + (100 - o) ≤ 16000 ∧ b + (100 - o) ≤ 16000 ∧ c + 6 + 6 * (100 - o) ≤ 96000) (hx : DvH m x a0) (V : VE (BX X m) m hs y t) (har : arT Γ t = true) (hE : arE Γ e = true) (hS : ScR (BX X m) m hs e sc) : ∀ (s : TF), lenF s ≤ 1000 → DvF m s 1 (m x 5) 0 → ckF Γ s = true → bdF s 1 (e.map (·.1)) [] = true → OutN m hs X k k1 a b (c + 6) o AL (matR Γ n s t e o) P → WV G mX6_match 25 [(1, 22), (1, x), (1, sc), (0, 31 - (n : Int)), (1, y), (0, 0), (9, 0), (9, 0), (9, 0), (9, 0)] [] m d P := by
  obtain ⟨C, ⟨e2, e3, hA0, hA1, ho⟩, hbud, hk, hN, hX, hG⟩ := id S
  have K := C.ki
  have s4 := V.2.1.hole
  have bad : ∀ (i : Int) (r : Nat × Option Tr), r = (o, none) → OutN m hs X k k1 a b (c + 6) o AL r P → ∀ m' v, Fg [] False m m' → CS (k + 1) (k1 + 6) a b c m' → m' 22 = m 22 → m' v (-1) = 18 → P 1 v m' := by
    intro i r hr kk m' v g C' e' t'
    subst hr
    exact kk m' v g (C'.le (by dsimp only; omega) (by dsimp only; omega) (by dsimp only; omega)) (by rw [e']; exact e2) (by rw [e']; exact e3) t'
  -- by the length
  have main : ∀ (N : Nat) (s : TF) (i : Nat), lenF s ≤ N → DvF m s 1 (m x 5) i → ckF Γ s = true → bdF s 1 (e.map (·.1)) [] = true → i + N ≤ 2000 → OutN m hs X k k1 a b (c + 6) o AL (matR Γ n s t e o) P → WV G mX6_match 25 [(1, 22), (1, x), (1, sc), (0, 31 - (n : Int)), (1, y), (0, (i : Int)), (9, 0), (9, 0), (9, 0), (9, 0)] [] m d P := by
    intro N
    induction N with
    | zero =>
      intro s i hN0 hT hcf hbd hi kk
      cases s with
      | inner z p u pc s => have hN0 : 1 + lenF s ≤ 0 := hN0; omega
      | leaf =>
        have hT : m (m x 5) (-2) = i := hT
        refine wX6_match_25 K (by omega) ⟨hx.2.1, hx.2.2.2.2.1.1, fun _ => q_63f C hk (by omega) hx V (Or.inr (by omega)) (bad i _ ?_ kk), fun z => by omega⟩
        unfold matR caseS; split <;> rfl
    | succ N ihN =>
      intro s i hN0 hT hcf hbd hi kk
      cases s with
      | leaf =>
        have hT : m (m x 5) (-2) = i := hT
        refine wX6_match_25 K (by omega) ⟨hx.2.1, hx.2.2.2.2.1.1, fun _ => q_63f C hk (by omega) hx V (Or.inr (by omega)) (bad i _ ?_ kk), fun z => by omega⟩
        unfold matR caseS; split <;> rfl
      | inner z p u pc s =>
        cases s with
        | leaf =>
          have hT : m (m x 5) (-2) = i := hT.2
          refine wX6_match_25 K (by omega) ⟨hx.2.1, hx.2.2.2.2.1.1, fun _ => q_63f C hk (by omega) hx V (Or.inr (by omega)) (bad i _ ?_ kk), fun z => by omega⟩
          unfold matR caseS; split <;> rfl
        | inner z2 ac u2 cc s =>
          have hN0 : 1 + (1 + lenF s) ≤ N + 1 := hN0
          obtain ⟨hP, hDc, hDk, hRest⟩ := hT
          have hRest' : DvF m s 1 (m x 5) ((i + 1 : Nat) : Int) := by
            rw [show ((i + 1 : Nat) : Int) = (i : Int) + 1 by omega]; exact hRest
          obtain ⟨j, hj, -⟩ := dvf_siz s (i + 1) hRest'
          obtain ⟨-, hc2, h13⟩ := ckF_in hcf
          obtain ⟨hckc, hc4, -⟩ := ckF_in hc2
          have hbd0 : (bd1 ac (nmsF pc ++ e.map (·.1)) && bdF cc (if ac.1 = 8 then 2 else 0) (nmsF pc ++ e.map (·.1)) [] && bdF s 1 (e.map (·.1)) []) = true := hbd
          rw [Bool.and_eq_true] at hbd0
          have hbdc : bdT (nmsF pc ++ e.map (·.1)) (ac, cc) = true := hbd0.1
          have t24 := hP.2.1
          refine v_bs (fun B => ?_)
          refine wX6_match_25 K (by omega) ⟨hx.2.1, hx.2.2.2.2.1.1, fun z => by omega, fun _ => ⟨by omega, by omega, Or.inr t24, t24, ?_⟩⟩
          refine q_fits K B.1 (by omega) hP V ⟨rfl, Ok.refl m, fun q => ?_, fun q => ?_⟩
          · -- it fits
            have hfit : fitC p t = true := by
              cases h : fitC p t
              · rw [h] at q; exact absurd rfl q
              · rfl
            by_cases h4 : t.1.1 = 4
            · refine q_63f C hk (by omega) hx V (Or.inl h4) (bad i _ ?_ kk)
              unfold matR; rw [if_pos h4]
            · have hr : matR Γ n (.inner z p u pc (.inner z2 ac u2 cc s)) t e o = stepS Γ n (ac, cc) (cBind pc (kids t.2) e) o := by
                unfold matR caseS
                rw [if_neg h4, if_pos hfit]
              rw [hr] at kk
              refine wX6_match_63 K (by omega) ⟨V.1.2.1, fun w => absurd (s4.mp w) h4, fun _ => ⟨hx.2.1, hx.2.2.2.2.1.1, ?_⟩⟩
              rw [if_neg (by omega)]
              refine q_need1 K (by omega) (by decide) ⟨Ok.refl m, fun _ => ⟨hx.2.2.2.2.1.1, by omega, by omega, Or.inr t24, t24, ?_⟩, fun w => absurd rfl w⟩
              -- what is bound
              have h13' : m (m (m x 5) i) 2 ≠ 0 → p.1 = 13 := fun w => by
                rcases hP.2.2.2.2.2 with ⟨q1, q2, q3, -⟩ | ⟨q1, q2, -, -, q3, -⟩ | h
                · exact absurd q3 w
                · exact absurd q3 w
                · exact h.1
              have hlf : m (m (m x 5) i) 2 = 0 → pc = .leaf := fun w => by
                rcases hP.2.2.2.2.2 with ⟨q1, q2, q3, q4⟩ | ⟨q1, q2, -, -, q3, q4⟩ | h
                · exact q4
                · exact q4
                · have := h.2.2.1; have := h.2.2.2.1; omega
              have fin : ∀ (f : TF) (r : Int), lenF pc = lenF f → lenF f ≤ 6 → (lenF pc = (kids f).length) → VSf (BX X m) m hs f r → cBind pc (kids f) e = cBind pc (kids t.2) e → WV G mX6_match 134 [(1, 22), (9, 0), (9, 0), (0, 31 - (n : Int)), (9, 0), (9, 0), (1, (m (m x 5) i)), (1, sc), (0, 0), (1, r)] [] m d P := by
                intro f r hlen h6 hlk hF heq
                refine q_mb (m0 := m) (nx := m (m (m x 5) i) 3) (k := k) (k1 := k1) (a := a) (b := b) (by omega) (fun z hz => (hX z hz).1) (fun m2 g2 K2 => ?_) pc f 0 m e sc r c C (Fg.refl C.pi) rfl (by omega) (by omega) hP.2.2.2.2.1.1 hP.2.2.2.2.1.2 hlen hF hS (fun m2 sc2 g2 C2 e22 S2 => ?_)
                · have F2 := g2.fd K C.pi
                  have e24 : ∀ f, m2 (m (m x 5) i) f = m (m (m x 5) i) f := fun f => F2.1 _ f (Or.inr (Or.inr (Or.inr (Or.inl t24))))
                  exact ⟨by rw [e24]; exact t24, e24 3, g2.1.tag hP.2.2.2.1 (by decide)⟩
                · have F2 := g2.fd K C.pi
                  have e24 : ∀ f, m2 (m (m x 5) i) f = m (m (m x 5) i) f := fun f => F2.1 _ f (Or.inr (Or.inr (Or.inr (Or.inl t24))))
                  rw [e24 4]
                  have hart : arF Γ t.2 = true := by
                    have := har
                    unfold arT at this
                    rw [Bool.and_eq_true] at this
                    exact this.2
                  refine ih (ac, cc) (d - 1) m2 (m (m (m x 5) i) 4) sc2 (cBind pc (kids t.2) e) hs X k k1 a b (c + 6) o AL _ (by omega) ⟨C2.le (by omega) (by omega) (by omega), ⟨by rw [e22]; exact e2, by rw [e22]; exact e3, hA0, hA1, ho⟩, ⟨by omega, by omega, by omega⟩, hk, hN, fun z hz => ⟨g2.2.2.1 z (hX z hz).1, g2.1.tag (hX z hz).2 (by decide)⟩, hG.fg K C.pi g2⟩ (by rw [← heq]; exact S2) (show DvT m2 (m (m (m x 5) i) 4) (ac, cc) from DvT.fd F2 ⟨hDc, hDk⟩) hckc (arE_bind pc _ e (arF_kids _ hart) hE) (by rw [← heq]; exact bdT_mono (fun z hz => cBind_nm pc (kids f) e hlk z (List.mem_append.mp hz)) hbdc) ?_
                  revert kk
                  cases stepS Γ n (ac, cc) (cBind pc (kids t.2) e) o with
                  | mk o2 w =>
                    intro kk
                    cases w with
                    | none => exact fun m' v g' C' f2 f3 t' => ⟨g'.1, fun z => absurd z (by decide), fun _ => kk m' v (g2.trans g') C' f2 f3 t'⟩
                    | some t => exact fun m' v g' C' f2 f3 V' => ⟨g'.1, fun _ => kk m' v (g2.trans g') C' f2 f3 V', fun z => absurd rfl z⟩
              refine ⟨fun v => v = if m (m (m x 5) i) 2 ≠ 0 then m y 3 else 0, ⟨fun w => by rw [if_pos w], fun w => by rw [if_neg (fun q => q w)]⟩, fun v hv => ?_⟩
              by_cases w : m (m (m x 5) i) 2 ≠ 0
              · rw [if_pos w] at hv
                rw [hv]
                have h13p := h13' w
                have hfit' : t.1.1 = 5 ∧ t.1.2.1 = p.2.1 := by
                  unfold fitC at hfit
                  rw [h13p] at hfit
                  simpa using hfit
                have hl : lenF t.2 = arG Γ t.1.2.1 := by
                  have := har
                  unfold arT at this
                  rw [Bool.and_eq_true, decide_eq_true hfit'.1] at this
                  simpa using this.1
                exact fin t.2 (m y 3) (by rw [(h13 h13p).1, hl, hfit'.2]) V.2.2.1 (by rw [kids_len, (h13 h13p).1, hl, hfit'.2]) V.2.2.2 rfl
              · rw [if_neg w] at hv
                rw [hv]
                have hpl := hlf (by omega)
                refine fin .leaf 0 (by rw [hpl]) (by show 0 ≤ 6; omega) (by rw [hpl]; rfl) rfl ?_
                rw [hpl]
                cases t.2 <;> rfl
          · have hfit : fitC p t = false := by
              cases h : fitC p t
              · rfl
              · rw [h] at q; exact absurd q (by decide)
            have hr : matR Γ n (.inner z p u pc (.inner z2 ac u2 cc s)) t e o = matR Γ n s t e o := by
              unfold matR
              conv => lhs; unfold caseS
              rw [if_neg (show ¬ fitC p t = true by rw [hfit]; decide)]
            rw [hr] at kk
            rw [wr_id (by omega) (by omega), show (i : Int) + 1 = ((i + 1 : Nat) : Int) by omega]
            exact ihN s (i + 1) (by omega) hRest' hc4 hbd0.2 (by omega) kk
  exact fun s hl hT hcf hbd kk => main (lenF s) s 0 (Nat.le_refl _) hT hcf hbd (by omega) kk
/-- Runner.match, behind the count of its own step -/
theorem q_matchR (ih : QS G Γ n d0) (hd : d0 + 1 ≤ d) (hd0 : 20 ≤ d0) (hck : ckG Γ) (S : Sr Γ hs X k k1 a b c (o + 1) AL m) (hb : a + (100 - o) ≤ 16000 ∧ b + (100 - o) ≤ 16000 ∧ c + 6 * (100 - o) ≤ 96000) {cf : TF} (h8 : a0.1 = 8) (hD : DvT m x (a0, cf)) (hckt : ckT Γ (a0, cf) = true) (hbt : bdT (e.map (·.1)) (a0, cf) = true) (hE : arE Γ e = true) (hS : ScR (BX X m) m hs e sc) (kk : OutN m hs X k k1 a b c o AL (matS Γ n cf e (o + 1)) P) : WV G mX6_match 0 [(1, 22), (1, x), (1, sc), (0, 31 - (n : Int)), (9, 0), (9, 0), (9, 0), (9, 0), (9, 0), (9, 0)] [] m d P := by
  obtain ⟨C, ⟨e2, e3, hA0, hA1, ho⟩, hbud, hk, hN, hX, hG⟩ := id S
  have K := C.ki
  obtain ⟨hx, hF⟩ := hD
  dsimp only at hF
  rw [if_pos h8, if_pos h8] at hF
  have hck' : (ck5 Γ a0 cf && ckF Γ cf) = true := hckt
  rw [Bool.and_eq_true] at hck'
  have hsh : 1 ≤ lenF cf ∧ lenF cf ≤ 11 := by
    have q := hck'.1
    unfold ck5 shO at q
    rw [Bool.and_eq_true, Bool.and_eq_true, Bool.and_eq_true, decide_eq_true h8] at q
    simpa using q.2.1.1
  cases cf with
  | leaf => have : 1 ≤ 0 := hsh.1; omega
  | inner z a1 u c1 s =>
    obtain ⟨q1, q2, q3, q4⟩ := hF
    obtain ⟨k3, k4, -⟩ := ckF_in hck'.2
    have hls : 1 + lenF s ≤ 11 := hsh.2
    have hbt' : (bd1 a0 (e.map (·.1)) && bdF (.inner z a1 u c1 s) (if a0.1 = 8 then 2 else 0) (e.map (·.1)) []) = true := hbt
    rw [if_pos h8, Bool.and_eq_true] at hbt'
    have hb2 : (bd1 a1 (e.map (·.1)) && bdF c1 (if a1.1 = 8 then 2 else 0) (e.map (·.1)) [] && bdF s 1 (e.map (·.1)) []) = true := hbt'.2
    rw [Bool.and_eq_true] at hb2
    refine wX6_match K (by omega) ⟨hx.2.1, hx.2.2.2.1.1, by decide, by omega, Or.inr q1.2.1, ?_⟩
    have kk : OutN m hs X k k1 a b c o AL (match stepS Γ n (a1, c1) e (o + 1) with
      | (o1, none) => (o1, none)
      | (o1, some v) => matR Γ n s v e o1) P := kk
    have har := stepS_ar hck n (a1, c1) e (o + 1)
    have hle := stepS_le Γ n (a1, c1) e (o + 1) ho
    refine ih (a1, c1) (d - 1) m (m (m x 4) 0) sc e hs X k k1 a b c (o + 1) AL _ (by omega) S hS ⟨q1, q3⟩ k3 hE hb2.1 ?_
    revert kk har hle
    cases stepS Γ n (a1, c1) e (o + 1) with
    | mk o1 w =>
      intro kk har hle
      have l1 : o + 1 ≤ o1 := hle.1
      have l2 : o1 ≤ 100 := hle.2.1
      cases w with
      | none => exact fun m' v g' C' f2 f3 t' => ⟨g'.1, fun z => absurd z (by decide), fun _ => kk m' v g' (C'.le (by dsimp only; omega) (by dsimp only; omega) (by dsimp only; omega)) f2 f3 t'⟩
      | some v0 =>
        intro m7 v g7 C7 f2 f3 V7
        dsimp only at C7 f2 f3 kk
        have l3 : o + 1 + 1 ≤ o1 := hle.2.2 rfl
        have K7 := C7.ki
        refine ⟨g7.1, fun _ => ⟨V7.tag.1, q_seen K7 (by omega) V7 (fun y Vy => ⟨rfl, Ok.refl m7, ?_⟩)⟩, fun z => absurd rfl z⟩
        have F7 := g7.fd K C.pi
        have hx7 := hx.fd F7
        have ex : ∀ f, m7 x f = m x f := fun f => F7.1 x f (Or.inr (Or.inr (Or.inl hx.2.1)))
        have h5b := hx.2.2.2.2.1
        have hT7 : DvF m7 s 1 (m7 x 5) 0 := by
          rw [ex]
          exact DvF.fd F7 s 1 (fun q => absurd q (by decide)) (fun _ => ⟨h5b.1, by have := h5b.2; omega⟩) (fun q => absurd q (by decide)) q4
        refine q_mlp ih hd hd0 ⟨C7, ⟨f2, f3, hA0, hA1, l2⟩, ⟨by omega, by omega, by omega⟩, hk, hN, fun z hz => ⟨g7.2.2.1 z (hX z hz).1, g7.1.tag (hX z hz).2 (by decide)⟩, hG.fg K C.pi g7⟩ (by omega) ⟨by omega, by omega, by omega⟩ hx7 Vy (har v0 k3 hE rfl) hE (ScR.fg K g7 e hS) s (by omega) hT7 k4 hb2.2 ?_
        have hle2 : o1 ≤ (matR Γ n s v0 e o1).1 := by
          unfold matR
          split
          · exact Nat.le_refl _
          · cases caseS s v0 with
            | none => exact Nat.le_refl _
            | some g => exact (stepS_le Γ n _ _ o1 l2).1
        revert kk hle2
        cases matR Γ n s v0 e o1 with
        | mk o2 w =>
          intro kk hle2
          have hle2 : o1 ≤ o2 := hle2
          cases w with
          | none => exact fun m' v g' C' f2 f3 t' => kk m' v (g7.trans g') (C'.le (by dsimp only; omega) (by dsimp only; omega) (by dsimp only; omega)) f2 f3 t'
          | some t => exact fun m' v g' C' f2 f3 V' => kk m' v (g7.trans g') (C'.le (by dsimp only; omega) (by dsimp only; omega) (by dsimp only; omega)) f2 f3 V'
end MR2
