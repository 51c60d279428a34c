/-! L3, component: a declaration's parts -/
section CP1
variable {m m' : SM} {a b c n : Int} {G : GM} {d : Nat} {P : Nat → Int → SM → Prop} {s : List Int} {p : Int}
theorem q_i20 (K : KI m) (hd : 12 ≤ d) {x a1 a2 a3 a4 a5 : Int} (hx : x ≠ 0) (ht : m x (-1) = 20) (h1 : a1 = 0 ∨ a1 = 1) (h3 : 0 ≤ a3 ∧ a3 ≤ 65535) (k : ∀ m', (∀ z, z ≠ x → m' z = m z) → m' x (-1) = 20 → m' x 0 = a1 → m' x 1 = a2 → m' x 2 = a3 → m' x 3 = a4 → m' x 4 = a5 → Ok m m' → P 0 0 m') : WV G mX12_init 0 [(1, x), (0, a1), (0, a2), (0, a3), (1, a4), (1, a5)] [] m d P := by
  refine wX12_init K hd ⟨hx, ht, h1, fun m1 e1 o1 m2 e2 o2 => ⟨h3, fun m3 e3 o3 m4 e4 o4 m5 e5 o5 => ?_⟩⟩
  have E : ∀ z f, m5 z f = if z = x ∧ f = 4 then a5 else if z = x ∧ f = 3 then a4 else if z = x ∧ f = 2 then a3 else if z = x ∧ f = 1 then a2 else if z = x ∧ f = 0 then a1 else m z f := fun z f => by rw [e5, e4, e3, e2, e1]; rfl
  refine k m5 (fun z hz => ?_) ?_ ?_ ?_ ?_ ?_ ?_ (o1.trans (o2.trans (o3.trans (o4.trans o5))))
  · funext f; rw [E]; simp [hz]
  · rw [E]; simp [ht]
  all_goals (rw [E]; simp)
theorem q_ptyp {nn d0 : Nat} (hT : QT G false nn 1 d0) (hd : d0 ≤ d) (hd0 : 20 ≤ d0) (K : KI m) (h13 : m 13 (-2) = 0) (R : Rd m s p) (hh : m 8 6 = 0) (hB : Bd m (s.length + 1)) {a3 : Int} (h3 : 0 ≤ a3 ∧ a3 ≤ 65535)
    (kf : ∀ e, pT false nn 1 s p = .inl e → ∀ m' v, Go 11 (60 * s.length + 61) (250 * s.length + 255) m m' → m' 8 5 = e → m' v (-1) = 12 → P 1 v m')
    (kt : ∀ nd s' p', pT false nn 1 s p = .inr (nd, s', p') → ∀ m' x, Go 11 (60 * (s.length - s'.length) + 1) (250 * (s.length - s'.length) + 5) m m' → Rd m' s' p' → m 0 0 ≤ x → m' x (-1) = 20 → m' x 0 = 0 → m' x 2 = a3 → TmT (m 0 0) m' (m' x 3) nd → P 0 x m') :
    (m 0 0 ≤ 1203200) ∧ (m 0 1 + 5 ≤ 5491882) ∧ (Bs m → ∀ m15, m15 = al m 20 0 5 → Ok m m15 → (WV G mX4_term 0 [(1, 8), (0, 1), (9, 0), (9, 0)] [] m15 d (fun k v20 m21 => Ok m15 m21 ∧ (k = 0 → (((m 0 0) ≠ 0) ∧ (WV G mX12_init 0 [(1, (m 0 0)), (0, 0), (0, (m15 8 5)), (0, a3), (1, v20), (1, 13)] [] m21 d (fun k _ m26 => k = 0 ∧ Ok m21 m26 ∧ (P 0 (m 0 0) m26))))) ∧ (k ≠ 0 → P 1 v20 m21)))) := by
  have hB1 := hB.1
  have hB2 := hB.2
  refine ⟨by omega, by omega, fun B m15 e15 o15 => ?_⟩
  have g15 := Go.nw B (by decide) e15
  have K15 := g15.ki K
  have n0 : m (m 0 0) (-1) = 0 := B.2.2.1 _ (Int.le_refl _)
  have x0 : m 0 0 ≠ 0 := by have := B.2.1; omega
  have x15 : m15 0 0 = m 0 0 + 1 := by rw [e15]; unfold al; simp
  have y15 : m15 0 1 = m 0 1 + 5 := by rw [e15]; unfold al; simp
  have p15 : ∀ f, m15 8 f = m 8 f := fun f => by rw [e15, al_old B (by rw [K8_t K]; decide)]
  have h13' : m15 13 (-2) = 0 := by rw [g15.cell K (by have := K13_t K; omega) (by decide)]; exact h13
  have n13 : m 0 0 ≠ 13 := fun e => by rw [e, K13_t K] at n0; cases n0
  have n9 : m 0 0 ≠ 9 := fun e => by rw [e, K9_t K] at n0; cases n0
  have n8 : (8 : Int) ≠ m 0 0 := fun e => by rw [← e, K8_t K] at n0; cases n0
  refine hT d m15 s p _ hd K15 h13' (R.mv K g15 (by decide) (by rw [p15]; exact R.1)) (by rw [p15, hh]; rfl) ⟨by omega, by omega⟩ ?_
  cases e : pT false nn 1 s p with
  | inl x => exact fun m' v g e' t => ⟨g.2.1, fun z => absurd z (by decide), fun _ => kf x e m' v ((g15.trans g).le (by omega) (by omega)) e' t⟩
  | inr w =>
    obtain ⟨nd, s', p'⟩ := w
    intro m' v g R' T'
    have g' := g15.trans g
    have K' := g'.ki K
    have tx : m' (m 0 0) (-1) = 20 := g.2.1.tag (al_tag B e15) (by decide)
    refine ⟨g.2.1, fun _ => ⟨x0, q_i20 K' (by omega) x0 tx (Or.inl rfl) h3 (fun m'' e'' f9 f0 f1 f2 f3 f4 o'' => ⟨rfl, o'', ?_⟩)⟩, fun z => absurd rfl z⟩
    have gx : Go (m 0 0) 0 0 m' m'' := Go.one x0 (fun e => by rw [e, K11_t K] at n0; cases n0) e'' o''
    refine kt nd s' p' e m'' (m 0 0) ((g'.fr n0 x0 e'' o'').le (by omega) (by omega)) (R'.mv K' gx n9 (by rw [e'' 8 n8]; exact R'.1)) (Int.le_refl _) f9 f0 f2 ?_
    rw [f3]
    have hv := T'.1
    have e4 : m'' v 4 = m' v 4 := by rw [e'' v (by have := hv.1; omega)]
    refine ⟨(hv.fr gx K' (by omega) n13).mono (by omega), ?_⟩
    rw [e4]
    exact (TmF.fr gx K' (by omega) n13 nd.2 hv.2.2.2.1 (by have := hv.2.2.2.2.1; omega) T'.2).mono (by omega)
theorem TmF.size : ∀ (t : TF) {l i : Int}, TmF m b t l i → m l (-2) = i + lenF t
  | .leaf, l, i, h => by unfold TmF at h; rw [h]; unfold lenF; simp
  | .inner z t w cs s, l, i, h => by
    have := TmF.size s h.2.2
    have e : lenF (.inner z t w cs s) = 1 + lenF s := rfl
    rw [this, e]; omega
/-- one more term behind the list's last -/
theorem TmF.snoc {v : Int} (K : KI m) (A : Radd m a v m') (gv : Go a c n m m') (hab : a < b) (h13 : a ≠ 13) (nd : Lb × TF) (hT : TmT b m v nd) : ∀ (t : TF) {i : Int}, 0 ≤ i → TmF m b t a i → TmF m' b (apF t (cons nd.1 nd.2 nil)) a i
  | .leaf, i, h0, h => by
    have hs : m a (-2) = i := h
    have ev : m' a i = v := by rw [A.2.2 i h0, if_pos hs.symm]
    show TmH m' b (m' a i) nd.1 ∧ TmF m' b nd.2 (m' (m' a i) 4) 0 ∧ m' a (-2) = i + 1
    have hx := hT.1
    have e4 : m' v 4 = m v 4 := gv.cell K (by have := hx.2.1; omega) (by have := hx.1; omega)
    rw [ev, e4]
    exact ⟨hx.fr gv K hab h13, TmF.fr gv K hab h13 nd.2 hx.2.2.2.1 (by have := hx.2.2.2.2.1; omega) hT.2, by rw [A.2.1, hs]⟩
  | .inner _ t _ cs s, i, h0, h => by
    have hs := TmF.size _ h
    have hi : m' a i = m a i := by rw [A.2.2 i h0, if_neg (by unfold lenF at hs; omega)]
    obtain ⟨h1, h2, h3⟩ := h
    show TmH m' b (m' a i) t ∧ TmF m' b cs (m' (m' a i) 4) 0 ∧ TmF m' b (apF s (cons nd.1 nd.2 nil)) a (i + 1)
    have e4 : m' (m a i) 4 = m (m a i) 4 := gv.cell K (by have := h1.2.1; omega) (by have := h1.1; omega)
    rw [hi, e4]
    exact ⟨h1.fr gv K hab h13, TmF.fr gv K hab h13 cs h1.2.2.2.1 (by have := h1.2.2.2.2.1; omega) h2, TmF.snoc K A gv hab h13 nd hT s (by omega) h3⟩
end CP1
