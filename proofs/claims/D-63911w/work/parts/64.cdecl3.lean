/-! L3, component: Reader.declaration, its parts -/
section CF
variable {m m' m'' m3 : SM} {a b c n : Int} {G : GM} {d : Nat} {P : Nat → Int → SM → Prop} {s : List Int} {p : Int}
def OutE (m : SM) (a b L : Int) (r : Int ⊕ (List Pa × Option (Lb × TF))) (P : Nat → Int → SM → Prop) : Prop := match r with
  | .inl e => ∀ m' v, GoA a (60 * L + 180) (250 * L + 750) m m' → m' 8 5 = e → m' v (-1) = 12 → P 1 v m'
  | .inr q => ∀ m' v, GoA a (60 * L + 120) (250 * L + 500) m m' → CoH m' b v q → P 0 v m'
theorem OutE.toD {L L' : Int} {r : Int ⊕ (List Pa × Option (Lb × TF))} (K : KI m) (ha : m a (-1) = 4) (hL : L ≤ L') (h : OutE m a b L' r P) : OutD m b L r P := by
  cases r with
  | inl e => exact fun m' v g e' t => h m' v ((GoA.of g K ha).le (by omega) (by omega)) e' t
  | inr q => exact fun m' v g hC => h m' v ((GoA.of g K ha).le (by omega) (by omega)) hC
theorem OutE.step {L L' : Int} {r : Int ⊕ (List Pa × Option (Lb × TF))} (h : OutE m a b L r P) (g : GoA a (60 * (L - L')) (250 * (L - L')) m m') : OutE m' a b L' r P := by
  cases r with
  | inl e => exact fun m2 v g2 e' t => h m2 v ((g.trans g2).le (by omega) (by omega)) e' t
  | inr q => exact fun m2 v g2 hC => h m2 v ((g.trans g2).le (by omega) (by omega)) hC
theorem PaF.mono {b' : Int} (hb : b' ≤ b) : ∀ (L : List Pa) {l i : Int}, PaF m b L l i → PaF m b' L l i
  | [], _, _, h => h
  | _ :: L, _, _, h => ⟨h.1.mono hb, PaF.mono hb L h.2⟩
theorem pParts_no {nn k : Nat} (h : hdC s ≠ 44) : pParts nn (k + 1) false s p = .inr ([], s, p) := by
  unfold pParts
  rw [if_neg (fun z => nomatch z)]
  cases s with
  | nil => rfl
  | cons c r => dsimp only; rw [if_neg (show ¬ c = 44 from h)]
theorem pParts_yes {nn k : Nat} (h : hdC s = 44) : pParts nn (k + 1) false s p = match pPart nn s.tail (p + 1) with
    | .inl e => .inl e
    | .inr (q, s', p') => match pParts nn k false s' p' with
      | .inl e => .inl e
      | .inr (l, s'', p'') => .inr (q :: l, s'', p'') := by
  cases s with
  | nil => exact absurd h (by show ¬ (0 : Int) = 44; decide)
  | cons c r =>
    conv => lhs; unfold pParts
    rw [if_neg (fun z => nomatch z)]
    dsimp only
    rw [if_pos (show c = 44 from h)]
    rfl
/-- the rest of a declaration, so many parts being there -/
def dRest (nn k : Nat) (ps : List Pa) (s : List Int) (p : Int) : RR (List Pa × Option (Lb × TF)) := match pParts nn k false s p with
  | .inl e => .inl e
  | .inr (l, s1, p1) => dTail nn (ps ++ l) s1 p1
theorem dRest_step {nn k : Nat} {ps : List Pa} {q : Pa} {s' : List Int} {p' : Int} (h : hdC s = 44) (he : pPart nn s.tail (p + 1) = .inr (q, s', p')) : dRest nn (k + 1) ps s p = dRest nn k (ps ++ [q]) s' p' := by
  unfold dRest
  rw [pParts_yes h, he]
  dsimp only
  cases pParts nn k false s' p' with
  | inl e => rfl
  | inr w =>
    obtain ⟨l, s1, p1⟩ := w
    dsimp only
    rw [List.append_assoc]; rfl
theorem PaF.snoc {v : Int} (K : KI m) (A : Radd m a v m') (gv : Go a c n m m') (hab : a < b) (h13 : a ≠ 13) {q : Pa} (hT : PaH m b v q) (ht : m a (-1) = 4) : ∀ (L : List Pa) {i : Int}, 0 ≤ i → PaF m b L a i → PaF m' b (L ++ [q]) a i
  | [], i, h0, h => by
    have hs : m a (-2) = i := h
    have ev : m' a i = v := by rw [A.2.2 i h0, if_pos hs.symm]
    show PaH m' b (m' a i) q ∧ m' a (-2) = i + 1
    rw [ev]
    exact ⟨hT.fr gv K hab h13, by rw [A.2.1, hs]⟩
  | x :: L, i, h0, h => by
    have hs := PaF.size _ h
    rw [List.length_cons] at hs
    have hi : m' a i = m a i := by rw [A.2.2 i h0, if_neg (by omega)]
    show PaH m' b (m' a i) x ∧ PaF m' b (L ++ [q]) a (i + 1)
    rw [hi]
    exact ⟨h.1.fr gv K hab h13, PaF.snoc K A gv hab h13 hT ht L (by omega) h.2⟩
/-- one more part -/
theorem q_onep {M18 : SM → Prop} {nn d0 d1 : Nat} (hT : QT G false nn 1 d0) (hTs : QTs G false nn 1 d1) (hd : d0 + 1 ≤ d) (hd' : d1 + 1 ≤ d) (hd0 : 20 ≤ d0) (hab : a < b) (h13a : a ≠ 13) {ps : List Pa} (hps : ps.length ≤ 5) (K : KI m) (h13 : m 13 (-2) = 0) (R : Rd m s p) (hh : m 8 6 = 0) (ht : m a (-1) = 4) (hF : PaF m b ps a 0) (hb : b ≤ m 0 0) (hB : Bd m (s.length + 2))
    (kf : ∀ e, pPart nn s p = .inl e → ∀ m' v, GoA a (60 * (s.length + 2) + 60) (250 * (s.length + 2) + 250) m m' → m' 8 5 = e → m' v (-1) = 12 → P 1 v m')
    (kt : ∀ q s' p', pPart nn s p = .inr (q, s', p') → ∀ m', GoA a (60 * (s.length + 2 - s'.length)) (250 * (s.length + 2 - s'.length)) m m' → KI m' → m' 13 (-2) = 0 → Rd m' s' p' → m' 8 6 = 0 → m' a (-1) = 4 → PaF m' b (ps ++ [q]) a 0 → M18 m') :
    WV G mX4_part 0 [(1, 8), (9, 0), (9, 0), (9, 0)] [] m d (fun k v14 m15 => Ok m m15 ∧ (k = 0 → ((elOK m15 v14) ∧ (m15 a (-2) < 100000) ∧ (m15 0 0 ≤ 1203200) ∧ (m15 0 1 + 2 * m15 a (-2) + 20 ≤ 5491882) ∧ (∀ m18, Radd m15 a v14 m18 → Ok m15 m18 → M18 m18))) ∧ (k ≠ 0 → P 1 v14 m15)) := by
  have hs := PaF.size _ hF
  refine q_part hT hTs hd hd' hd0 K h13 R hh hB ?_
  cases e : pPart nn s p with
  | inl x => exact fun m' v g e' t => ⟨g.2.1, fun z => absurd z (by decide), fun _ => kf x e m' v (GoA.of g K ht) e' t⟩
  | inr w =>
    obtain ⟨q, s', p'⟩ := w
    intro m' v g R' T'
    have K' := g.ki K
    have ea : ∀ f, m' a f = m a f := fun f => g.cell K (by omega) (fun e => by rw [e, K11_t K] at ht; cases ht)
    have hg := g.2.2
    have hB1 := hB.1
    have hB2 := hB.2
    refine ⟨g.2.1, fun _ => ⟨elOK.of T'.2.1 (c := 19) (by decide) (by decide), by rw [ea]; omega, by omega, by rw [ea]; omega, fun m18 A o18 => ?_⟩, fun z => absurd rfl z⟩
    have ht' : m' a (-1) = 4 := by rw [ea]; exact ht
    have gA := GoA.add A K' ht' (by rw [ea]; omega)
    have g18 := (GoA.of g K ht).trans gA
    have gv := gA.go
    have e18 : ∀ z f, z ≠ a → m' z (-1) ≠ 0 → m18 z f = m' z f := fun z f hz h0 => by rw [A.1.2.1 z hz (fun e => h0 (by rw [e]; exact A.1.1))]
    have n8 : (8 : Int) ≠ a := fun e => by rw [← e, K8_t K] at ht; cases ht
    have n9 : a ≠ 9 := fun e => by rw [e, K9_t K] at ht; cases ht
    have n11 : a ≠ 11 := fun e => by rw [e, K11_t K] at ht; cases ht
    refine kt q s' p' e m18 (g18.le (by omega) (by omega)) (o18.2.1 K') ?_ (R'.mv K' gv n9 ?_) ?_ (o18.tag ht' (by decide)) ?_
    · rw [gv.cell K' (by have := K13_t K'; omega) (Ne.symm h13a), g.cell K (by have := K13_t K; omega) (by decide)]; exact h13
    · rw [e18 8 5 n8 (by rw [K8_t K']; decide)]; exact R'.1
    · rw [e18 8 6 n8 (by rw [K8_t K']; decide), g.1 8 6 (by rw [K8_t K]; decide) (by decide) (by decide) (by omega)]; exact hh
    · exact PaF.snoc K' A gv hab h13a (T'.mono hb) ht' ps (by omega) (PaF.fq (g.fq K) ps ht hF)
theorem q_dl {nn d0 d1 : Nat} (hT : QT G false nn 1 d0) (hTs : QTs G false nn 1 d1) (hd : d0 + 2 ≤ d) (hd' : d1 + 2 ≤ d) (hd0 : 20 ≤ d0) (hab : a < b) (h13a : a ≠ 13) : ∀ (k : Nat) (ps : List Pa) (s : List Int) (p : Int) (m : SM), k + ps.length = 6 → 1 ≤ ps.length → KI m → m 13 (-2) = 0 → Rd m s p → m 8 6 = 0 → m a (-1) = 4 → PaF m b ps a 0 → m a (-3) ≤ 56 → b ≤ m 0 0 → m 0 0 + 60 * (s.length + k) + 216 ≤ 1203100 + m a (-3) → m 0 1 + 250 * (s.length + k) + 874 ≤ 5491000 + 4 * m a (-3) → OutE m a a (s.length + k) (pEnd (dRest nn k ps s p)) P → WV G mX4_declaration 26 [(1, 8), (1, a), (9, 0), (9, 0)] [] m d P
  | 0, ps, s, p, m, hk, h1, K, h13, R, hh, ht, hF, hcap, hb, hB1, hB2, k => by
    have hs := PaF.size _ hF
    unfold dRest pParts at k
    dsimp only at k
    rw [List.append_nil] at k
    exact wX4_declaration_26 K (by omega) ⟨ht, fun _ => q_d56 hT (by omega) hd0 K h13 R hh ⟨by omega, by omega⟩ ht (Int.le_refl a) (hF.mono (by omega)) (by omega) (k.toD K ht (by omega)), fun q => absurd q (by omega)⟩
  | k + 1, ps, s, p, m, hk, h1, K, h13, R, hh, ht, hF, hcap, hb, hB1, hB2, kk => by
    have hs := PaF.size _ hF
    refine wX4_declaration_26 K (by omega) ⟨ht, fun q => absurd q (by omega), fun _ => q_passes K (by omega) R (fun q1 m3 e3 o3 => ⟨rfl, o3, fun z => absurd z (by decide), fun _ => ?_⟩) (fun q1 => ⟨rfl, Ok.refl m, fun _ => ?_, fun z => absurd rfl z⟩)⟩
    · have g3 := Go.pl K e3 o3
      have K3 := g3.ki K
      obtain ⟨R3, l3, -⟩ := R.next K (by omega) g3 (by decide) (by rw [e3, up_self])
      have x3 : m3 0 = m 0 := by funext f; rw [e3, up_na _ (by decide)]
      have n8 : a ≠ 8 := fun e => by rw [e, K8_t K] at ht; cases ht
      have a3 : m3 a = m a := by funext f; rw [e3, up_na _ n8]
      have h13' : m3 13 (-2) = 0 := by rw [g3.cell K (by have := K13_t K; omega) (by decide)]; exact h13
      have hh' : m3 8 6 = 0 := by rw [g3.1 8 6 (by rw [K8_t K]; decide) (by decide) (by decide) (by omega)]; exact hh
      have gA3 := GoA.of g3 K ht
      refine q_onep hT hTs (by omega) (by omega) hd0 hab h13a (ps := ps) (by omega) K3 h13' R3 hh' (by rw [a3]; exact ht) (PaF.fq (g3.fq K) ps ht hF) (by rw [x3]; exact hb) ⟨by rw [x3]; omega, by rw [x3]; omega⟩ (fun e he m' v g e' t => ?_) (fun q s' p' he m' g K' h13' R' hh' ht' hF' => ?_)
      · unfold dRest at kk
        rw [pParts_yes q1, he] at kk
        exact kk m' v ((gA3.trans g).le (by omega) (by omega)) e' t
      · rw [dRest_step q1 he] at kk
        have g' := gA3.trans g
        have hg := g'.2.2
        refine q_dl hT hTs hd hd' hd0 hab h13a k (ps ++ [q]) s' p' m' (by rw [List.length_append, List.length_singleton]; omega) (by rw [List.length_append, List.length_singleton]; omega) K' h13' R' hh' ht' hF' (hg.2.2.1 hcap) (by omega) (by omega) (by omega) (kk.step (g'.le (by omega) (by omega)))
    · unfold dRest at kk
      rw [pParts_no q1] at kk
      dsimp only at kk
      rw [List.append_nil] at kk
      exact q_d56 hT (by omega) hd0 K h13 R hh ⟨by omega, by omega⟩ ht (Int.le_refl a) (hF.mono (by omega)) (by omega) (kk.toD K ht (by omega))
end CF
