/-! L3, component: Runner.use, whole -/
theorem arE_bind {Γ : Int → Mg} : ∀ (ns : TF) (vs : List Tr) (e : Env), (∀ t ∈ vs, arT Γ t = true) → arE Γ e = true → arE Γ (cBind ns vs e) = true
  | .leaf, vs, e, _, he => by cases vs <;> exact he
  | .inner _ a _ _ s, [], e, _, he => he
  | .inner _ a _ _ s, v :: vs, e, hv, he => by
    show arE Γ (cBind s vs ((a.2.1, v) :: e)) = true
    refine arE_bind s vs _ (fun t ht => hv t (List.mem_cons_of_mem _ ht)) ?_
    unfold arE at he ⊢
    rw [List.all_cons, hv v (List.mem_cons_self ..), he]; rfl
section US2
variable {m0 : SM} {hs X : List Int} {G : GM} {d : Nat} {P : Nat → Int → SM → Prop} {k k1 a b c AL : Int} {Γ : Int → Mg} {o n d0 : Nat} {x sc l : Int} {e : Env}
theorem q_useL (ih : QS G Γ n d0) (hd : d0 + 1 ≤ d) (hd0 : 20 ≤ d0) (K0 : KI m0) (P0 : PI m0 3) (hX : ∀ z ∈ X, Lv m0 3 z ∧ m0 z (-1) = 16) (hG : GRr m0 Γ) (hck : ckG Γ) (hN : hs.Nodup) (hx : 100 < x ∧ m0 x (-1) = 23 ∧ m0 x 2 = l + 65 ∧ 0 ≤ l ∧ l < 26 ∧ (m0 (m0 x 4) (-1) = 4 ∧ (m0 x 4 = 14 ∨ 100 < m0 x 4))) (hA : 0 ≤ AL ∧ AL ≤ 1000000000) (hbud : a + (100 - o) ≤ 16000 ∧ b + (100 - o) ≤ 16000 ∧ c + 6 * (100 - o) ≤ 96000) (hk : k + 1 ≤ 400000 ∧ k1 + 6 ≤ 2500000) (hsm : (Γ l).isSome = true) (hE : arE Γ e = true) (hS : ScR (BX X m0) m0 hs e sc) (hars : ∀ (n : Nat) (t : Tr) (e : Env) (o : Nat) (v : Tr), ckT Γ t = true → arE Γ e = true → (stepS Γ n t e o).2 = some v → arT Γ v = true) :
    ∀ (s : TF) (i oi : Nat) (m : SM) (ls : List (Int × Int)) (ts : List Tr) (r : Int), DvF m0 s 0 (m0 x 4) i → ckF Γ s = true → bdF s 0 (e.map (·.1)) [] = true → o + 1 ≤ oi → oi ≤ 100 → Fg [] False m0 m → CS k k1 (a + (oi - o - 1)) (b + (oi - o - 1)) (c + 6 * (oi - o - 1)) m → m 22 2 = oi → m 22 3 = AL + oi → ls.length = i → ts.length = i → i + lenF s ≤ 6 → i + lenF s = arG Γ l → Chn m ls r → (ls.map (·.1)).Nodup → (∀ q ∈ ls, Lv m 3 q.1 ∧ m q.1 (-1) = 16 ∧ ¬ Lv m0 3 q.1) → (∀ (j : Nat) q t, ls[j]? = some q → ts[j]? = some t → VS (BX (ls.map (·.1) ++ X) m) m hs q.2 t) → (∀ t ∈ ts, arT Γ t = true) → OutN m0 hs X k k1 a b c o AL (argK Γ n e l s ts oi) P → WV G mX6_use 15 [(1, 22), (1, x), (1, sc), (0, 31 - (n : Int)), (1, 3), (1, r), (0, (i : Int)), (9, 0), (9, 0), (9, 0)] [] m d P
  | .leaf, i, oi, m, ls, ts, r, hT, hcf, hbd, ho1, ho2, g, C, e2, e3, hi, hi2, h6, har, hC, hNd, hL, hV, hat, kk => by
    have K := C.ki
    have F := g.fd K0 P0
    have exx : ∀ f, m x f = m0 x f := fun f => F.1 x f (Or.inr (Or.inr (Or.inl hx.2.1)))
    have eL : ∀ f, m (m0 x 4) f = m0 (m0 x 4) f := fun f => F.1 _ f (Or.inl ⟨hx.2.2.2.2.2.1, by have := hx.2.2.2.2.2.2; omega⟩)
    have hT : m0 (m0 x 4) (-2) = i := hT
    have h6 : i + 0 ≤ 6 := h6
    have har : i + 0 = arG Γ l := har
    have hGm := hG.fg K0 P0 g
    have kk : OutN m0 hs X k k1 a b c o AL (useR Γ n l (ts ++ []) oi) P := kk
    rw [List.append_nil] at kk
    have bx : ∀ (M : SM) y, BX (ls.map (·.1) ++ X) M y → BX X M y := fun M y hy => ⟨hy.1, hy.2.1, fun z => hy.2.2 (List.mem_append_right _ z)⟩
    have hVX : ∀ (j : Nat) q t, ls[j]? = some q → ts[j]? = some t → VS (BX X m) m hs q.2 t := fun j q t h1 h2 => (hV j q t h1 h2).fr (fun z hz _ => ⟨bx m z hz, fun _ => rfl⟩)
    refine wX6_use_15 K (by omega) ⟨by rw [exx]; exact hx.2.1, by rw [exx, eL]; exact hx.2.2.2.2.2.1, fun _ => ?_, fun z => by rw [exx, eL] at z; omega⟩
    rw [exx, hx.2.2.1]
    refine q_progOf K (by omega) hGm hx.2.2.2.1 hx.2.2.2.2.1 (fun v hv => ⟨rfl, Ok.refl m, fun hv0 => ?_, fun hv0 => ?_⟩)
    · -- a program
      cases hg : Γ l with
      | none => rw [hg] at hv; exact absurd hv hv0
      | some q =>
        cases q with
        | inl q => rw [hg] at hv; exact absurd hv hv0
        | inr q =>
          obtain ⟨ns, bb⟩ := q
          rw [hg] at hv
          obtain ⟨-, hv7, v22, v13, vV, vR, vD⟩ := hv
          have hln : lenF ns = i := by unfold arG at har; rw [hg] at har; exact har.symm
          have hu : useR Γ n l ts oi = stepS Γ n bb (cBind ns ts []) oi := by unfold useR; rw [hg]
          rw [hu] at kk
          have hc1 := C.2.2.2.1
          refine q_ub (m0 := m) (x := v) (nx := m v 0) (X := X) (k := k) (k1 := k1) (a := a + (oi - o - 1)) (b := b + (oi - o - 1)) (by omega) (fun z hz => g.2.2.1 z (hX z hz).1) (fun m2 g2 K2 => ?_) ns 0 ls ts m [] 0 r (c + 6 * (oi - o - 1)) C (Fg.refl C.pi) rfl (by omega) (by omega) vV vR (by omega) (by omega) hC (fun q hq => (hL q hq).1) hVX rfl (fun m2 sc2 g2 C2 e22 S2 => ?_)
          · have F2 := g2.fd K C.pi
            have hGm2 := hGm.fg K C.pi g2
            have := hGm2 l hx.2.2.2.1 hx.2.2.2.2.1
            rw [hg] at this
            have e7 : m2 7 l = v := by
              rw [hv7]
              exact g2.2.2.2.1 7 l (Lv.of K C.pi (by rw [K7_t K]; decide) (by rw [K7_t K]; decide) (by rw [K7_t K]; decide) (by rw [K7_t K]; decide) (by decide)) (by decide) (by decide) (by decide) (fun e => by cases e.2) (fun e => e.2.2)
            have ev : ∀ f, m2 v f = m v f := by
              intro f
              refine g2.2.2.2.1 v f (Lv.of K C.pi (by omega) (by omega) (by omega) (by omega) ⟨?_, ?_, ?_, ?_⟩) (fun e => by have := (WL.tag K e).1; omega) (fun e => by rw [e, K22_t K] at v22; omega) (fun e => by rw [e, K26_t K] at v22; omega) (fun e => by cases e.2) (fun e => e.2.2)
              · intro e; rw [e, K3_t K] at v22; omega
              · intro e; rw [e, K4_t K] at v22; omega
              · intro e; rw [e, K5_t K] at v22; omega
              · intro e; rw [e, K6_t K] at v22; omega
            exact ⟨by rw [ev]; exact v22, ev 0, g2.1.tag v13 (by decide)⟩
          · have G2 := g.trans g2
            have K2 := C2.ki
            have hGm2 := hGm.fg K C.pi g2
            have hD2 := hGm2 l hx.2.2.2.1 hx.2.2.2.2.1
            rw [hg] at hD2
            have e7 : m2 7 l = v := by
              rw [hv7]
              exact g2.2.2.2.1 7 l (Lv.of K C.pi (by rw [K7_t K]; decide) (by rw [K7_t K]; decide) (by rw [K7_t K]; decide) (by rw [K7_t K]; decide) (by decide)) (by decide) (by decide) (by decide) (fun e => by cases e.2) (fun e => e.2.2)
            rw [e7] at hD2
            refine ih bb (d - 1) m2 (m2 v 1) sc2 (cBind ns ts []) hs X k k1 (a + (oi - o - 1)) (b + (oi - o - 1)) (c + 6 * (oi - o - 1) + ls.length) oi AL _ (by omega) ⟨C2, ⟨by rw [e22]; exact e2, by rw [e22]; exact e3, hA.1, hA.2, ho2⟩, ⟨by omega, by omega, by omega⟩, hk, hN, fun z hz => ⟨G2.2.2.1 z (hX z hz).1, G2.1.tag (hX z hz).2 (by decide)⟩, hGm2⟩ S2 hD2.2.2.2.2 (hck l ns bb hg).1 (arE_bind ns ts [] hat rfl) (bdT_mono (fun z hz => cBind_nm ns ts [] (by omega) z (Or.inl hz)) (hck l ns bb hg).2.2) ?_
            have hle := stepS_le Γ n bb (cBind ns ts []) oi ho2
            revert kk hle
            cases stepS Γ n bb (cBind ns ts []) oi with
            | mk o2 w =>
              intro kk hle
              have q1 : oi ≤ o2 := hle.1
              cases w with
              | none => exact fun m' v g' C' f2 f3 t' => ⟨g'.1, fun z => absurd z (by decide), fun _ => kk m' v (G2.trans g') (C'.le (by dsimp only; omega) (by dsimp only; omega) (by dsimp only; omega)) f2 f3 t'⟩
              | some t => exact fun m' v g' C' f2 f3 V' => ⟨g'.1, fun _ => kk m' v (G2.trans g') (C'.le (by dsimp only; omega) (by dsimp only; omega) (by dsimp only; omega)) f2 f3 V', fun z => absurd rfl z⟩
    · -- a constant
      have hu : useR Γ n l ts oi = if nzT ((5, l, 0), ofV ts) ≤ 200 then (oi, some ((5, l, 0), ofV ts)) else (oi, none) := by
        unfold useR
        cases hg : Γ l with
        | none => rfl
        | some q =>
          cases q with
          | inl q => rfl
          | inr q =>
            obtain ⟨ns, bb⟩ := q
            rw [hg] at hv
            exact absurd hv0 hv.1
      rw [hu] at kk
      have hc1 := C.2.2.2.1
      rw [exx, hx.2.2.1]
      refine ⟨K3_t K, q_made K (by omega) C.pi (by omega) C.rq (by omega) (fun m2 w g2 L2 nl w0 t2 f0 f2 f3 f4 => ⟨rfl, g2.1, ?_⟩)⟩
      have C2 := C.hp g2
      have K2 := C2.ki
      have G2 := g.trans (Fg.hp (hs := []) (tp := False) K g2)
      have nX : w ∉ X := fun z => nl (g.2.2.1 w (hX w z).1)
      have FR2 := FR.hp (Y := X) K g2
      have V2 : VS (BX X m2) m2 hs w ((5, l, 0), ofV ts) := by
        refine VE.vs ⟨⟨⟨g2.2.1, L2, nX⟩, t2, f4⟩, ⟨rfl, Or.inr (Or.inr (Or.inr (Or.inl ⟨rfl, f0, f2⟩)))⟩, ?_, ?_⟩
        · show lenF (ofV ts) ≤ 6
          rw [← pvF_ofV, pvF_len]
          show ts.length + 0 ≤ 6
          omega
        · show VSf (BX X m2) m2 hs (ofV ts) (m2 w 3)
          rw [f3, ← pvF_ofV]
          refine Chn.vsf ls ts (by omega) (fun q hq => ?_) (fun j q t h1 h2 => ?_) (Chn.ext ls (fun q hq => by funext f; exact (g2.2.2.1 _ (hL q hq).1).2 f) hC)
          · exact ⟨g2.2.1, (g2.2.2.1 _ (hL q hq).1).1, fun z => (hL q hq).2.2 (hX _ z).1⟩
          · exact (hVX j q t h1 h2).fR FR2
      have e22 : m2 22 = m 22 := by
        funext f
        exact (g2.2.2.1 22 (Lv.of K C.pi (by rw [K22_t K]; decide) (by rw [K22_t K]; decide) (by rw [K22_t K]; decide) (by rw [K22_t K]; decide) (by decide))).2 f
      refine v_bs (fun B2 => ?_)
      refine q_nodes (l := 24) BX.wa K2 (by omega) (by decide) (by decide) (K23_t K2) (K23_0 K2) (by decide) C2.rw C2.2.2.1 V2 (fun m3 g3 e3' => ⟨rfl, g3.1, ?_⟩)
      obtain ⟨C3, F3⟩ := C2.wk (hs := []) (tp := False) B2.1 g3
      have e223 : m3 22 = m 22 := by rw [g3.2.1 22 (by decide) (by decide), e22]
      have G3 := G2.trans F3
      have V3 := V2.fg K2 F3
      by_cases hz : nzT ((5, l, 0), ofV ts) ≤ 200
      · rw [if_pos hz] at kk
        rw [if_pos (by omega : (nzT ((5, l, 0), ofV ts) : Int) ≤ 200), if_neg (by omega)]
        refine q_need1 C3.ki (by omega) (by decide) ⟨Ok.refl m3, fun _ => ?_, fun z => absurd rfl z⟩
        exact kk m3 w G3 (C3.le (by dsimp only; omega) (by dsimp only; omega) (by dsimp only; omega)) (by rw [e223]; exact e2) (by rw [e223]; exact e3) V3
      · rw [if_neg hz] at kk
        rw [if_neg (by omega : ¬ (nzT ((5, l, 0), ofV ts) : Int) ≤ 200), if_pos (by omega)]
        refine q_needF C3 hk (by omega) (fun m4 v g4 C4 e4 t4 => ⟨g4.1, fun z => absurd z (by decide), fun _ => ?_⟩)
        exact kk m4 v (G3.trans g4) (C4.le (by dsimp only; omega) (by dsimp only; omega) (by dsimp only; omega)) (by rw [e4, e223]; exact e2) (by rw [e4, e223]; exact e3) t4
  | .inner z a0 u0 cc s, i, oi, m, ls, ts, r, hT, hcf, hbd, ho1, ho2, g, C, e2, e3, hi, hi2, h6, har, hC, hNd, hL, hV, hat, kk => by
    have K := C.ki
    have F := g.fd K0 P0
    have exx : ∀ f, m x f = m0 x f := fun f => F.1 x f (Or.inr (Or.inr (Or.inl hx.2.1)))
    have eL : ∀ f, m (m0 x 4) f = m0 (m0 x 4) f := fun f => F.1 _ f (Or.inl ⟨hx.2.2.2.2.2.1, by have := hx.2.2.2.2.2.2; omega⟩)
    have h6 : i + (1 + lenF s) ≤ 6 := h6
    have har : i + (1 + lenF s) = arG Γ l := har
    obtain ⟨t1, t2, t3⟩ := hT
    have hGm := hG.fg K0 P0 g
    have siz : ∀ (f : TF) {L j : Int}, DvF m0 f 0 L j → m0 L (-2) = j + lenF f := by
      intro f
      induction f with
      | leaf => intro L j hh; have hh : m0 L (-2) = j := hh; rw [hh]; show j = j + ((0 : Nat) : Int); omega
      | inner _ _ _ _ s _ ih2 => intro L j hh; rw [ih2 hh.2.2]; show j + 1 + (lenF s : Int) = j + ((1 + lenF s : Nat) : Int); omega
    have sL : m0 (m0 x 4) (-2) = i + 1 + lenF s := siz s t3
    have hcf' : (ck5 Γ a0 cc && (!decide (a0.1 = 13) || (decide (lenF cc = arG Γ a0.2.1) && decide (lenF cc ≤ 6))) && ckF Γ cc && ckF Γ s) = true := hcf
    rw [Bool.and_eq_true, Bool.and_eq_true, Bool.and_eq_true] at hcf'
    have hbd0 : (bd1 a0 (e.map (·.1)) && bdF cc (if a0.1 = 8 then 2 else 0) (e.map (·.1)) [] && bdF s 0 (e.map (·.1)) []) = true := hbd
    rw [Bool.and_eq_true] at hbd0
    have hbd' : bdT (e.map (·.1)) (a0, cc) = true := hbd0.1
    have hckn : ckT Γ (a0, cc) = true := by unfold ckT; rw [Bool.and_eq_true]; exact ⟨hcf'.1.1.1, hcf'.1.2⟩
    have hY : ∀ z ∈ ls.map (·.1) ++ X, Lv m 3 z ∧ m z (-1) = 16 := fun z hz => by
      rcases List.mem_append.mp hz with w | w
      · obtain ⟨e', he, q'⟩ := List.mem_map.mp w
        rw [← q']; exact ⟨(hL e' he).1, (hL e' he).2.1⟩
      · exact ⟨g.2.2.1 z (hX z w).1, g.1.tag (hX z w).2 (by decide)⟩
    refine wX6_use_15 K (by omega) ⟨by rw [exx]; exact hx.2.1, by rw [exx, eL]; exact hx.2.2.2.2.2.1, fun z => by rw [exx, eL] at z; omega, fun _ => ⟨by omega, by rw [exx, eL]; omega, ?_, ?_⟩⟩
    · rw [exx, eL]; exact Or.inr (g.1.tag t1.2.1 (by decide))
    rw [exx, eL]
    have hS' : ScR (BX (ls.map (·.1) ++ X) m) m hs e sc := by
      refine ScR.fr (fun z hz ht => ⟨⟨g.2.1, g.2.2.1 z hz.2.1, ?_⟩, ?_⟩) e hS
      · intro f
        exact g.2.2.2.1 z f hz.2.1 (fun e => by have := (WL.tag K0 e).1; omega) (fun e => by rw [e, K22_t K0] at ht; omega) (fun e => by rw [e, K26_t K0] at ht; omega) (fun e => by cases e.2) (fun e => e.2.2)
      · intro y
        rcases List.mem_append.mp y with w | w
        · obtain ⟨e', he, q'⟩ := List.mem_map.mp w
          exact (hL e' he).2.2 (by rw [q']; exact hz.2.1)
        · exact hz.2.2 w
    rw [argK_in] at kk
    refine ih (a0, cc) (d - 1) m (m0 (m0 x 4) i) sc e hs (ls.map (·.1) ++ X) k k1 _ _ _ oi AL _ (by omega) ⟨C, ⟨e2, e3, hA.1, hA.2, ho2⟩, ⟨by omega, by omega, by omega⟩, hk, hN, hY, hGm⟩ hS' (show DvT m (m0 (m0 x 4) i) (a0, cc) from DvT.fd F ⟨t1, t2⟩) hckn hE hbd' ?_
    have hle := stepS_le Γ n (a0, cc) e oi ho2
    have harv := hars n (a0, cc) e oi
    revert kk hle harv
    cases stepS Γ n (a0, cc) e oi with
    | mk o2 w =>
      intro kk hle harv
      have q1 : oi ≤ o2 := hle.1
      have q2 : o2 ≤ 100 := hle.2.1
      cases w with
      | none => exact fun m' v g' C' f2 f3 t' => ⟨g'.1, fun z => absurd z (by decide), fun _ => kk m' v (g.trans g') (C'.le (by dsimp only; omega) (by dsimp only; omega) (by dsimp only; omega)) f2 f3 t'⟩
      | some t =>
        intro m1 v g1 C1 f2 f3 V1
        dsimp only at C1 f2 f3
        have q3 : oi + 1 ≤ o2 := hle.2.2 rfl
        have K1 := C1.ki
        have c1u := C1.2.2.2.1
        refine ⟨g1.1, fun _ => ⟨K3_t K1, ?_⟩, fun z => absurd rfl z⟩
        have hLl : ∀ q ∈ ls, Lv m1 3 q.1 := fun q hq => g1.2.2.1 _ (hL q hq).1
        have lkeep : ∀ q ∈ ls, m1 q.1 = m q.1 := fun q hq => by
          funext f
          have t16 := (hL q hq).2.1
          exact g1.2.2.2.1 q.1 f (hL q hq).1 (fun e => by have := (WL.tag K e).1; omega) (fun e => by rw [e, K22_t K] at t16; omega) (fun e => by rw [e, K26_t K] at t16; omega) (fun e => by cases e.2) (fun e => e.2.2)
        have hC1 : Chn m1 ls r := Chn.ext ls lkeep hC
        refine q_append K1 (by omega) C1.pi (by omega) C1.rq hC1 hLl hNd (fun m2 r2 xk g2 hC2 xk0 nxk Lxk hN2 => ⟨rfl, g2.1, ?_⟩)
        have G1 := g.trans g1
        have lt16 : ∀ z ∈ ls.map (·.1), m1 z (-1) = 16 := fun z hz => by
          obtain ⟨e', he, q'⟩ := List.mem_map.mp hz
          rw [← q']; exact g1.1.tag (hL e' he).2.1 (by decide)
        have nlv : ∀ z ∈ ls.map (·.1), ¬ Lv m0 3 z := fun z hz => by
          obtain ⟨e', he, q'⟩ := List.mem_map.mp hz
          rw [← q']; exact (hL e' he).2.2
        have G2 := Fg.row K1 G1 g2 nlv
        have C2 := C1.hpe lt16 g2
        have F2 : FR (ls.map (·.1) ++ X) ((ls ++ [(xk, v)]).map (·.1) ++ X) m1 m2 := FR.hpe K1 g2 (fun z hz => List.mem_append_left _ hz) (fun z hz => by
          rw [List.map_append] at hz
          rcases List.mem_append.mp hz with w | w
          · rcases List.mem_append.mp w with w | w
            · exact Or.inl (List.mem_append_left _ w)
            · have : z = xk := by simpa using w
              rw [this]; exact Or.inr nxk
          · exact Or.inl (List.mem_append_right _ w))
        have e22 : ∀ f, m2 22 f = m1 22 f := fun f => (g2.2.2.1 22 (Lv.of K1 C1.pi (by rw [K22_t K1]; decide) (by rw [K22_t K1]; decide) (by rw [K22_t K1]; decide) (by rw [K22_t K1]; decide) (by decide))).2 (fun z => by have := lt16 22 z; rw [K22_t K1] at this; cases this) f
        rw [wr_id (by omega) (by omega), show (i : Int) + 1 = ((i + 1 : Nat) : Int) by omega]
        refine q_useL ih hd hd0 K0 P0 hX hG hck hN hx hA hbud hk hsm hE hS hars s (i + 1) o2 m2 (ls ++ [(xk, v)]) (ts ++ [t]) r2 (by rw [show ((i + 1 : Nat) : Int) = (i : Int) + 1 by omega]; exact t3) hcf'.2 hbd0.2 (by omega) q2 G2 (C2.le (by omega) (by omega) (by omega)) (by rw [e22]; exact f2) (by rw [e22]; exact f3) (by rw [List.length_append]; simp; omega) (by rw [List.length_append]; simp; omega) (by omega) (by omega) hC2 hN2 (fun e' he => ?_) (fun j e' t' h1 h2 => ?_) (fun t' ht' => ?_) kk
        · rcases List.mem_append.mp he with w | w
          · exact ⟨(g2.2.2.1 _ (hLl e' w)).1, g2.1.tag (g1.1.tag (hL e' w).2.1 (by decide)) (by decide), (hL e' w).2.2⟩
          · have : e' = (xk, v) := by simpa using w
            rw [this]
            refine ⟨Lxk, ?_, fun z => nxk (G1.2.2.1 _ z)⟩
            have : ∀ (l : List (Int × Int)) {c : Int}, Chn m2 (l ++ [(xk, v)]) c → m2 xk (-1) = 16 := by
              intro l
              induction l with
              | nil => intro c h; exact h.2.2.1
              | cons e l ih => intro c h; obtain ⟨e1, e2⟩ := e; exact ih h.2.2.2.2
            exact this ls hC2
        · by_cases y : j < i
          · rw [List.getElem?_append_left (by omega)] at h1 h2
            exact ((hV j e' t' h1 h2).fg K g1).fR F2
          · rw [List.getElem?_append_right (by omega)] at h1 h2
            have y0 : j = i := by
              by_cases w : j = i
              · exact w
              · rw [List.getElem?_eq_none (by simp; omega)] at h1; cases h1
            rw [show j - ls.length = 0 by omega] at h1
            rw [show j - ts.length = 0 by omega] at h2
            cases h1
            cases h2
            exact V1.fR F2
        · rcases List.mem_append.mp ht' with w | w
          · exact hat t' w
          · have : t' = t := by simpa using w
            rw [this]; exact harv t hckn hE rfl
end US2
