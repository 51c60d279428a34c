/-! L3, component: contracts for programs -/
def OutC {α : Type} (m : SM) (L : Int) (r : RR α) (T : SM → Int → α → Prop) (P : Nat → Int → SM → Prop) : Prop := match r with
  | .inl e => ∀ m' v, Go 11 (130 * L + 130) (600 * L + 600) m m' → m' 8 5 = e → m' v (-1) = 12 → P 1 v m'
  | .inr (x, s', p') => ∀ m' v, Go 11 (130 * (L - s'.length)) (600 * (L - s'.length)) m m' → Rd m' s' p' → T m' v x → P 0 v m'
def BdC (m : SM) (L : Int) : Prop := m 0 0 + 130 * L + 200 ≤ 1203100 ∧ m 0 1 + 600 * L + 900 ≤ 5491000
def QC (G : GM) (n dep d0 : Nat) : Prop := ∀ (d : Nat) (m : SM) (s : List Int) (p : Int) (P : Nat → Int → SM → Prop), d0 ≤ d → KI m → m 14 (-2) = 0 → m 15 (-2) = 0 → Rd m s p → 7 ≤ m 11 (-3) → BdC m s.length → OutC m s.length (pC n dep s p) (CdT (m 0 0)) P → WV G mX4_code 0 [(1, 8), (0, (dep : Int)), (9, 0), (9, 0), (9, 0)] [] m d P
section CP3
variable {m m' : SM} {a b : Int} {G : GM} {P : Nat → Int → SM → Prop}
/-- one more code is read and put behind the list -/
theorem q_onec {M18 : SM → Prop} {nn dep d0 d : Nat} (hT : QC G nn dep d0) (hd : d0 ≤ d) (hab : a < b) (h14a : a ≠ 14) (h15a : a ≠ 15) {s : List Int} {p : Int} {cnt : Int} (hc0 : 0 ≤ cnt) (hc6 : cnt ≤ 5) (K : KI m) (h14 : m 14 (-2) = 0) (h15 : m 15 (-2) = 0) (R : Rd m s p) (h7 : 7 ≤ m 11 (-3)) (ht : m a (-1) = 4) (hs : m a (-2) = cnt) (hb : b ≤ m 0 0) (hB : BdC m s.length)
    (kf : ∀ e, pC nn dep s p = .inl e → ∀ m' v, GoA a (130 * s.length + 130) (600 * s.length + 600) m m' → m' 8 5 = e → m' v (-1) = 12 → P 1 v m')
    (kt : ∀ nd s' p', pC nn dep s p = .inr (nd, s', p') → ∀ m', GoA a (130 * (s.length - s'.length)) (600 * (s.length - s'.length)) m m' → KI m' → m' 14 (-2) = 0 → m' 15 (-2) = 0 → Rd m' s' p' → 7 ≤ m' 11 (-3) → m' a (-1) = 4 → m' a (-2) = cnt + 1 → (∀ j, 0 ≤ j → j < cnt → m' a j = m a j) → CdT b m' (m' a cnt) nd → M18 m') :
    WV G mX4_code 0 [(1, 8), (0, (dep : Int)), (9, 0), (9, 0), (9, 0)] [] m d (fun k v14 m15 => Ok m m15 ∧ (k = 0 → ((elOK m15 v14) ∧ (m15 a (-2) < 100000) ∧ (m15 0 0 ≤ 1203200) ∧ (m15 0 1 + 2 * m15 a (-2) + 20 ≤ 5491882) ∧ (∀ m18, Radd m15 a v14 m18 → Ok m15 m18 → M18 m18))) ∧ (k ≠ 0 → P 1 v14 m15)) := by
  refine hT d m s p _ hd K h14 h15 R h7 hB ?_
  cases e : pC nn dep s p with
  | inl x => exact fun m' v g e' t => ⟨g.2.1, fun z => absurd z (by decide), fun _ => kf x e m' v (GoA.of g K ht) e' t⟩
  | inr w =>
    obtain ⟨nd, s', p'⟩ := w
    intro m' v g R' T'
    have K' := g.ki K
    have ea : ∀ f, m' a f = m a f := fun f => g.cell K (by omega) (fun e => by rw [e, K11_t K] at ht; cases ht)
    have hg := g.2.2
    have hB1 := hB.1
    have hB2 := hB.2
    have w11 := g.2.2.2.2 (by rw [K11_t K]; decide)
    refine ⟨g.2.1, fun _ => ⟨elOK.of T'.1.2.1 (c := 22) (by decide) (by decide), by rw [ea]; omega, by omega, by rw [ea]; omega, fun m18 A o18 => ?_⟩, fun z => absurd rfl z⟩
    have ht' : m' a (-1) = 4 := by rw [ea]; exact ht
    have hs' : m' a (-2) = cnt := by rw [ea]; exact hs
    have gA := GoA.add A K' ht' (by omega)
    have g18 := (GoA.of g K ht).trans gA
    have gv := gA.go
    have ev : m18 a cnt = v := by rw [A.2.2 cnt hc0, if_pos hs'.symm]
    have e18 : ∀ z f, z ≠ a → m' z (-1) ≠ 0 → m18 z f = m' z f := fun z f hz h0 => by rw [A.1.2.1 z hz (fun e => h0 (by rw [e]; exact A.1.1))]
    have n8 : (8 : Int) ≠ a := fun e => by rw [← e, K8_t K] at ht; cases ht
    have n9 : a ≠ 9 := fun e => by rw [e, K9_t K] at ht; cases ht
    have w18 := gv.2.2.2.2 (by rw [K11_t K']; decide)
    refine kt nd s' p' e m18 (g18.le (by omega) (by omega)) (o18.2.1 K') ?_ ?_ (R'.mv K' gv n9 ?_) (by omega) (o18.tag ht' (by decide)) (by rw [A.2.1, hs']) (fun j j0 j1 => ?_) ?_
    · rw [gv.cell K' (by have := K14_t K'; omega) (Ne.symm h14a), g.cell K (by have := K14_t K; omega) (by decide)]; exact h14
    · rw [gv.cell K' (by have := K15_t K'; omega) (Ne.symm h15a), g.cell K (by have := K15_t K; omega) (by decide)]; exact h15
    · rw [e18 8 5 n8 (by rw [K8_t K']; decide)]; exact R'.1
    · rw [A.2.2 j j0, if_neg (by omega), ea]
    · rw [ev]
      exact (T'.mono hb).fa (gv.fa K') ht' hab h14a h15a
end CP3
