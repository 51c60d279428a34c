/-! L3, component: frames for values under construction -/
def FR (Y Y' : List Int) (m m' : SM) : Prop := (∀ x, BX Y m x → BX Y' m' x ∧ ∀ f, m' x f = m x f) ∧ (∀ x, NP m x → NP m' x)
section CV2
variable {m m' m'' : SM} {hs X Y Y' Y'' : List Int} {h : Env} {G : GM} {d : Nat} {P : Nat → Int → SM → Prop} {k k1 a b c : Int}
theorem big_ne (x : Int) (h : x = 13 ∨ 100 < x) : x ∉ WL ∧ x ≠ 22 ∧ x ≠ 26 ∧ x ≠ 3 ∧ x ≠ 4 ∧ x ≠ 5 ∧ x ≠ 6 := by
  refine ⟨fun e => ?_, by omega, by omega, by omega, by omega, by omega, by omega⟩
  simp only [WL, List.mem_cons, List.not_mem_nil, or_false] at e
  omega
theorem FR.trans (g : FR Y Y' m m') (g' : FR Y' Y'' m' m'') : FR Y Y'' m m'' := ⟨fun x hx => ⟨(g'.1 x (g.1 x hx).1).1, fun f => by rw [(g'.1 x (g.1 x hx).1).2, (g.1 x hx).2]⟩, fun x hx => g'.2 x (g.2 x hx)⟩
theorem FR.hp (K : KI m) (g : Hp 3 a b c m m') : FR Y Y m m' := ⟨fun x hx => ⟨⟨g.2.1, (g.2.2.1 x hx.2.1).1, hx.2.2⟩, (g.2.2.1 x hx.2.1).2⟩, (Fg.hp (hs := []) (tp := False) K g).2.2.2.2⟩
theorem FR.hpe {E : List Int} (K : KI m) (g : HpE E 3 a b c m m') (hE : ∀ z ∈ E, z ∈ Y) (hY : ∀ z, z ∈ Y' → z ∈ Y ∨ ¬ Lv m 3 z) : FR Y Y' m m' := by
  obtain ⟨o, P', F, -, -, -, -, -, -, n⟩ := g
  have K' := o.2.1 K
  refine ⟨fun x hx => ⟨⟨P', (F x hx.2.1).1, fun z => ?_⟩, (F x hx.2.1).2 (fun z => hx.2.2 (hE x z))⟩, fun x hx => ⟨by rw [o.1 x hx.1]; exact hx.1, fun i i0 i1 => ?_⟩⟩
  · rcases hY x z with w | w
    · exact hx.2.2 w
    · exact w hx.2.1
  · have := n x hx.1 (by rw [K3_0 K]; exact hx.2) i i0
    rw [K3_0 K'] at this
    exact this i1
theorem VS.fR (g : FR Y Y' m m') {x : Int} {t : Tr} (hV : VS (BX Y m) m hs x t) : VS (BX Y' m') m' hs x t := hV.fr (fun z hz _ => g.1 z hz)
theorem NmR.fR (g : FR Y Y' m m') (e : Nm) {x : Int} (hV : NmR (BX Y m) m hs e x) : NmR (BX Y' m') m' hs e x := NmR.fr (fun z hz _ => g.1 z hz) e hV
theorem Tv.fR (K : KI m) (P0 : PI m 3) (hY : ∀ z ∈ Y, m z (-1) = 16) (g : FR Y Y' m m') (t : TF) {l i : Int} (hl : m l (-1) = 4) (hl' : l = 13 ∨ 100 < l) (hT : Tv (BX Y m) m hs h t l i) : Tv (BX Y' m') m' hs h t l i := by
  have nY : ∀ x, m x (-1) ≠ 16 → x ∉ Y := fun x hx z => hx (hY x z)
  refine Tv.fr (fun x f hx => ?_) (fun x hA hN => ⟨(g.1 x hA).1, g.2 x hN⟩) (fun x p o' hb ht ho hV => ?_) t hl hl' hT
  · rcases hx with ⟨q1, q2, q3⟩ | ⟨q1, q2⟩ | ⟨q1, q2, q3, q4⟩
    · exact (g.1 x ⟨P0, Lv.of K P0 (by omega) (by omega) (by omega) (by omega) (big_ne x (Or.inr q2)).2.2.2, nY x (by omega)⟩).2 f
    · exact (g.1 x ⟨P0, Lv.of K P0 (by omega) (by omega) (by omega) (by omega) (big_ne x q2).2.2.2, nY x (by omega)⟩).2 f
    · exact (g.1 x q2).2 f
  · rw [(g.1 x ⟨P0, Lv.of K P0 (by omega) (by omega) (by omega) (by omega) (big_ne x (Or.inr hb)).2.2.2, nY x (by omega)⟩).2 5]
    exact (hV o' ho).fR g
/-- a term's own cells stay -/
theorem TvH.cells (K : KI m) (P0 : PI m 3) (hY : ∀ z ∈ Y, m z (-1) = 16) (g : FR Y Y' m m') {x : Int} (hx : m x (-1) = 14 ∧ 100 < x ∨ m x (-1) = 4 ∧ (x = 13 ∨ 100 < x)) : ∀ f, m' x f = m x f := by
  have nY : ∀ x, m x (-1) ≠ 16 → x ∉ Y := fun x hx z => hx (hY x z)
  rcases hx with ⟨q1, q2⟩ | ⟨q1, q2⟩
  · exact (g.1 x ⟨P0, Lv.of K P0 (by omega) (by omega) (by omega) (by omega) (big_ne x (Or.inr q2)).2.2.2, nY x (by omega)⟩).2
  · exact (g.1 x ⟨P0, Lv.of K P0 (by omega) (by omega) (by omega) (by omega) (big_ne x q2).2.2.2, nY x (by omega)⟩).2
/-- values ahead of a forest -/
def pvF : List Tr → TF → TF
  | [], f => f
  | x :: l, f => cons x.1 x.2 (pvF l f)
theorem pvF_snoc {v : Tr} {f : TF} : ∀ (l : List Tr), pvF (l ++ [v]) f = pvF l (cons v.1 v.2 f)
  | [] => rfl
  | y :: l => by
    show cons y.1 y.2 (pvF (l ++ [v]) f) = _
    rw [pvF_snoc l]; rfl
theorem pvF_len : ∀ (l : List Tr) (f : TF), lenF (pvF l f) = l.length + lenF f
  | [], f => by show lenF f = 0 + lenF f; omega
  | y :: l, f => by
    show 1 + lenF (pvF l f) = (l.length + 1) + lenF f
    rw [pvF_len l f]; omega
/-- a row of links is a forest -/
theorem Chn.vsf {A : Int → Prop} : ∀ (ls : List (Int × Int)) (ts : List Tr) {r : Int}, ls.length = ts.length → (∀ e ∈ ls, A e.1) → (∀ (j : Nat) e t, ls[j]? = some e → ts[j]? = some t → VS A m hs e.2 t) → Chn m ls r → VSf A m hs (pvF ts nil) r
  | [], [], r, _, _, _, hC => hC
  | [], t :: ts, r, hl, _, _, _ => by simp at hl
  | e :: ls, [], r, hl, _, _, _ => by simp at hl
  | (q, v) :: ls, t :: ts, r, hl, hA, hV, hC => by
    obtain ⟨c1, c2, c3, c4, c5⟩ := hC
    subst c1
    obtain ⟨n, y, v1, v2, v3, v6, v4⟩ := hV 0 (r, v) t rfl rfl
    refine ⟨⟨c2, hA _ (List.mem_cons_self ..), c3⟩, ⟨n, y, by rw [c4]; exact v1, v3, v6, v4⟩, ?_⟩
    exact Chn.vsf ls ts (by simpa using hl) (fun e he => hA e (List.mem_cons_of_mem _ he)) (fun j e t' h1 h2 => hV (j + 1) e t' (by simpa using h1) (by simpa using h2)) c5
end CV2
