/-! L3, component: Walk.unite -/
/-- walks' lists are written, and holes are filled -/
def Un (hs : List Int) (m m' : SM) : Prop := Ok m m' ∧ (∀ z, z ≠ 0 → z ∉ WL → ∀ f, ¬ (f = 4 ∧ z ∈ hs) → m' z f = m z f) ∧ (m 0 0 ≤ m' 0 0 ∧ m' 0 0 + wc m ≤ m 0 0 + wc m') ∧ (m 0 1 ≤ m' 0 1 ∧ m' 0 1 + 4 * wc m ≤ m 0 1 + 4 * wc m') ∧ (wb m → wb m') ∧ m' 0 (-1) = m 0 (-1)
def OutU (B : SM → Int → Prop) (hs : List Int) (m0 m : SM) (r : Option Dl) (P : Nat → Int → SM → Prop) : Prop := match r with
  | none => ∀ m', Un hs m0 m' → P 0 0 m'
  | some δ => ∀ m', Un hs m0 m' → (∀ x t, VS (B m) m hs x t → VS (B m') m' hs x (rsl δ t)) → P 0 1 m'
section UNs
variable {m m' m'' m0 : SM} {hs : List Int} {G : GM} {d : Nat} {P : Nat → Int → SM → Prop} {B : SM → Int → Prop} {l o w l2 w2 : Int}
theorem Wk.un (h : Wk m m') : Un hs m m' := ⟨h.1, fun z h0 h1 f _ => by rw [h.2.1 z h0 h1], h.2.2⟩
theorem Un.trans (h1 : Un hs m m') (h2 : Un hs m' m'') : Un hs m m'' := by
  obtain ⟨o1, f1, r1, s1, b1, z1⟩ := h1
  obtain ⟨o2, f2, r2, s2, b2, z2⟩ := h2
  exact ⟨o1.trans o2, fun z h0 h f hf => by rw [f2 z h0 h f hf, f1 z h0 h f hf], by omega, by omega, fun h => b2 (b1 h), by rw [z2, z1]⟩
theorem Un.fill {z v : Int} (z0 : z ≠ 0) (zW : z ∉ WL) (hz : z ∈ hs) (e : m' = up m z 4 v) (oo : Ok m m') : Un hs m m' := by
  have ec : ∀ x ∈ WL, m' x = m x := fun x hx => by funext f; rw [e, up_na _ (fun q => zW (by rw [← q]; exact hx))]
  have cw : wc m' = wc m := by
    unfold wc
    rw [ec 24 (by decide), ec 25 (by decide), ec 28 (by decide), ec 29 (by decide), ec 31 (by decide), ec 32 (by decide)]
  have e0 : m' 0 = m 0 := by funext f; rw [e, up_na _ (Ne.symm z0)]
  refine ⟨oo, fun x h0 h1 f hf => ?_, by rw [e0, cw]; omega, by rw [e0, cw]; omega, fun h x hx => by rw [ec x hx]; exact h x hx, by rw [e0]⟩
  rw [e]
  by_cases q : x = z
  · subst q
    rw [up_nf _ (fun q => hf ⟨q, hz⟩)]
  · rw [up_na _ q]
/-- the loop's end after a failure -/
theorem q_u0 (K : KI m) (hd : 12 ≤ d) (hW : l ∈ WL) (hw : m w (-1) = 9) (hl : m w 0 = l) {n : Int} (k : P 0 0 m) : WV G mX7_unite 12 [(1, w), (1, w2), (9, 0), (9, 0), (0, 0), (0, n), (9, 0), (9, 0), (9, 0), (9, 0)] [] m d P :=
  wX7_unite_12 K hd ⟨hw, by rw [hl]; exact (WL.tag K hW).1, fun _ => ⟨Or.inl rfl, k⟩, fun _ => ⟨fun _ => ⟨Or.inl rfl, k⟩, fun z => absurd rfl z⟩⟩
theorem VE.wk (hB : WA B) (K : KI m) (g : Wk m m') (h0 : m 0 (-1) = 0) {y : Int} {t : Tr} (h : VE (B m) m hs y t) : VE (B m') m' hs y t :=
  h.fr (fun z hz ht => ⟨hB.wk K g hz, fun f => by rw [g.2.1 z (fun e => by rw [e, h0] at ht; omega) (fun e => by have := (WL.tag K e).1; omega)]⟩)
/-- a hole gets a value, if it may: behind the walk over the other -/
theorem q_uf (hB : WA B) (hN : hs.Nodup) (hd : 16 ≤ d) (h2W : l2 ∈ WL) (hw2W : w2 ∉ WL) (hh : ∀ z ∈ hs, m z (-1) = 11 ∧ z ≠ 0 ∧ z ∉ WL) (K : KI m) (B0 : m 0 (-1) = 0) (hw2 : m w2 (-1) = 9 ∧ m w2 0 = l2) (R : Rw m) (hb : wb m) {hc oc k : Int} {t : Tr} (hk : 0 ≤ k) (hz : hs[k.toNat]? = some hc) (hz0 : m hc 0 = -18) (hz4 : m hc 4 = 0) (V : VE (B m) m hs oc t) {X0 : SM → Prop} {X1 : SM → Prop} {Y : Int → SM → Prop} (hY0 : ∀ m', X0 m' → Y 0 m') (hY1 : ∀ m', X1 m' → Y 1 m')
    (k0 : ¬ (nzT t ≤ 200 ∧ occT k t = false) → ∀ m', Wk m m' → (∀ z, z ≠ l2 → z ≠ 0 → m' z = m z) → X0 m')
    (k1 : nzT t ≤ 200 → occT k t = false → ∀ m1 m', Wk m m1 → (∀ z, z ≠ l2 → z ≠ 0 → m1 z = m z) → m' = up m1 hc 4 oc → Ok m1 m' → (∀ x t', VS (B m1) m1 hs x t' → VS (B m') m' hs x (subT k t t')) → X1 m') :
    WV G mX7_nodes 0 [(1, w2), (1, oc), (0, 200), (9, 0)] [] m d (fun k v4 m5 => k = 0 ∧ Ok m m5 ∧ (((200 : Int) < v4 → Y 0 m5) ∧ (v4 ≤ (200 : Int) → (WV G mX7_lies 0 [(1, w2), (1, hc), (1, oc), (9, 0), (9, 0)] [] m5 d (fun k v10 m11 => k = 0 ∧ Ok m5 m11 ∧ ((((if v10 ≠ (0 : Int) then 0 else 1) : Int) = 0 → Y (if v10 ≠ (0 : Int) then 0 else 1) m11) ∧ (((if v10 ≠ (0 : Int) then 0 else 1) : Int) ≠ 0 → (∀ m16, m16 = up m11 hc 4 oc → Ok m11 m16 → Y (if v10 ≠ (0 : Int) then 0 else 1) m16)))))))) := by
  have hm : hc ∈ hs := List.mem_of_getElem? hz
  obtain ⟨ht, h0, hW⟩ := hh hc hm
  refine q_nodes hB K (by omega) h2W hw2W hw2.1 hw2.2 (by decide) R hb V.vs (fun m5 g5 e5 => ⟨rfl, g5.1, fun q => hY0 _ (k0 (fun z => ?_) m5 g5 e5), fun q => ?_⟩)
  · rw [if_pos (by omega)] at q; omega
  · have hsz : nzT t ≤ 200 := by
      by_cases z : (nzT t : Int) ≤ 200
      · omega
      · rw [if_neg z] at q; omega
    have K5 := g5.ki K
    have w20 : w2 ≠ 0 := fun e => by have := hw2.1; rw [e, B0] at this; cases this
    have ew : m5 w2 = m w2 := g5.2.1 w2 w20 hw2W
    have ehc : m5 hc = m hc := g5.2.1 hc h0 hW
    have V5 := V.wk hB K g5 B0
    refine q_lies hB K5 (by omega) h2W hw2W (by rw [ew]; exact hw2.1) (by rw [ew]; exact hw2.2) hsz (R.mono g5) (g5.cb hb) V5.vs (isK k) hN (Or.inr ⟨h0, hW, by rw [ehc]; exact hz0, k, hk, hz, rfl⟩) (fun m11 g11 e11 => ⟨rfl, g11.1, fun q1 => ?_, fun q1 m16 e16 o16 => ?_⟩)
    · have : anyT (isK k) t = true := by
        cases h : anyT (isK k) t
        · rw [h] at q1; exact absurd q1 (by decide)
        · rfl
      rw [this, show (if b01 true ≠ (0 : Int) then (0 : Int) else 1) = 0 from rfl]
      refine hY0 _ (k0 (fun z => ?_) m11 (g5.trans g11) (fun z h1 h2 => by rw [e11 z h1 h2, e5 z h1 h2]))
      rw [occT_any, this] at z
      exact absurd z.2 (by decide)
    · have : anyT (isK k) t = false := by
        cases h : anyT (isK k) t
        · rfl
        · rw [h] at q1; exact absurd rfl q1
      rw [this, show (if b01 false ≠ (0 : Int) then (0 : Int) else 1) = 1 from rfl]
      have ho : occT k t = false := by rw [occT_any]; exact this
      have K11 := g11.ki K5
      have e11c : m11 hc = m hc := by rw [g11.2.1 hc h0 hW, ehc]
      have V11 := V5.wk hB K5 g11 (g5.z0 B0)
      have oc0 : oc ≠ 0 := fun e => by have := V.1.2.1; rw [e, B0] at this; cases this
      refine hY1 _ (k1 hsz ho m11 m16 (g5.trans g11) (fun z h1 h2 => by rw [e11 z h1 h2, e5 z h1 h2]) e16 o16 (fun x t' hx => ?_))
      refine VS.fill hN hk hz (A := B m11) (fun z hzz => hB m11 m16 z K11 o16 (fun y y0 yW yt => ?_) hzz) e16 (by rw [e11c]; exact hz4) (by rw [e11c]; exact hz0) (by rw [e11c]; exact ht) oc0 V11 ho hx
      funext f
      rw [e16, up_na _ (fun q => by rw [q, e11c] at yt; exact yt ht)]
end UNs
