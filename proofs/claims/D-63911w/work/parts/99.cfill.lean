/-! L3, component: a hole gets its value -/
theorem lenF_sub (k : Int) (o : Tr) : ∀ (f : TF), lenF (subF k o f) = lenF f
  | .leaf => rfl
  | .inner _ a _ c s => by
    show 1 + lenF (subF k o s) = 1 + lenF s
    rw [lenF_sub k o s]
section FIL
variable {m m' : SM} {hs : List Int} {A A' : Int → Prop} {z v k : Int} {o : Tr}
theorem Sn.fill1 (hA : ∀ x, A x → A' x) (e : m' = up m z 4 v) (z4 : m z 4 = 0) : ∀ (n : Nat) {x y : Int}, y ≠ z → Sn A m n x y → Sn A' m' n x y
  | 0, x, y, hy, ⟨h0, h1, h2, h3⟩ => by
    subst h0
    have ex : ∀ f, m' x f = m x f := fun f => by rw [e, up_na _ hy]
    exact ⟨rfl, hA _ h1, by rw [ex]; exact h2, by rw [ex]; exact h3⟩
  | n + 1, x, y, hy, ⟨h1, h2, h3, h4, h5⟩ => by
    have xz : x ≠ z := fun q => h4 (by rw [q]; exact z4)
    have ex : ∀ f, m' x f = m x f := fun f => by rw [e, up_na _ xz]
    exact ⟨hA _ h1, by rw [ex]; exact h2, by rw [ex]; exact h3, by rw [ex]; exact h4, by rw [ex]; exact Sn.fill1 hA e z4 n hy h5⟩
theorem Sn.fill2 (hA : ∀ x, A x → A' x) (e : m' = up m z 4 v) (z4 : m z 4 = 0) (z0 : m z 0 = -18) (hv0 : v ≠ 0) (hvz : v ≠ z) (hv : A v ∧ m v (-1) = 11 ∧ m v 4 = 0) : ∀ (n : Nat) {x : Int}, Sn A m n x z → Sn A' m' (n + 1) x v
  | 0, x, ⟨h0, h1, h2, h3⟩ => by
    subst h0
    have ev : ∀ f, m' v f = m v f := fun f => by rw [e, up_na _ hvz]
    have e4 : m' x 4 = v := by rw [e, up_self]
    have et : m' x (-1) = m x (-1) := by rw [e, up_nf _ (by decide)]
    have e0 : m' x 0 = m x 0 := by rw [e, up_nf _ (by decide)]
    refine ⟨hA _ h1, by rw [et]; exact h2, by rw [e0]; exact z0, by rw [e4]; exact hv0, ?_⟩
    rw [e4]
    exact ⟨rfl, hA _ hv.1, by rw [ev]; exact hv.2.1, by rw [ev]; exact hv.2.2⟩
  | n + 1, x, ⟨h1, h2, h3, h4, h5⟩ => by
    have xz : x ≠ z := fun q => h4 (by rw [q]; exact z4)
    have ex : ∀ f, m' x f = m x f := fun f => by rw [e, up_na _ xz]
    exact ⟨hA _ h1, by rw [ex]; exact h2, by rw [ex]; exact h3, by rw [ex]; exact h4, by rw [ex]; exact Sn.fill2 hA e z4 z0 hv0 hvz hv n h5⟩
theorem VSf.fill1 (hN : hs.Nodup) (hk : 0 ≤ k) (hz : hs[k.toNat]? = some z) (hA : ∀ x, A x → A' x) (e : m' = up m z 4 v) (z4 : m z 4 = 0) (z0 : m z 0 = -18) (zt : m z (-1) = 11) : ∀ (t : TF) {c : Int}, occF k t = false → VSf A m hs t c → VSf A' m' hs t c
  | .leaf, _, _, h => h
  | .inner _ a _ kd s, c, ho, ⟨⟨h1, h2, h3⟩, ⟨n, y, q1, q2, q6, q3⟩, h4⟩ => by
    have ho' : (isK k a || occF k kd || occF k s) = false := ho
    rw [Bool.or_eq_false_iff, Bool.or_eq_false_iff] at ho'
    have cz : c ≠ z := fun q => by rw [q, zt] at h3; cases h3
    have ec : ∀ f, m' c f = m c f := fun f => by rw [e, up_na _ cz]
    have yz : y ≠ z := fun q => by rw [(q2.ik hN hk hz z0).mp q] at ho'; exact absurd ho'.1.1 (by decide)
    have ey : ∀ f, m' y f = m y f := fun f => by rw [e, up_na _ yz]
    exact ⟨⟨h1, hA _ h2, by rw [ec]; exact h3⟩, ⟨n, y, by rw [ec]; exact q1.fill1 hA e z4 n yz, q2.fr ey, q6, by rw [ey]; exact VSf.fill1 hN hk hz hA e z4 z0 zt kd ho'.1.2 q3⟩, by rw [ec]; exact VSf.fill1 hN hk hz hA e z4 z0 zt s ho'.2 h4⟩
theorem VSf.fill2 (hN : hs.Nodup) (hk : 0 ≤ k) (hz : hs[k.toNat]? = some z) (hA : ∀ x, A x → A' x) (e : m' = up m z 4 v) (z4 : m z 4 = 0) (z0 : m z 0 = -18) (zt : m z (-1) = 11) (hv0 : v ≠ 0) (hV : VE A m hs v o) (ho : occT k o = false) : ∀ (t : TF) {c : Int}, VSf A m hs t c → VSf A' m' hs (subF k o t) c
  | .leaf, _, h => h
  | .inner _ a _ kd s, c, ⟨⟨h1, h2, h3⟩, ⟨n, y, q1, q2, q6, q3⟩, h4⟩ => by
    have ho' : (isK k o.1 || occF k o.2) = false := ho
    rw [Bool.or_eq_false_iff] at ho'
    obtain ⟨va, vh, v6, vf⟩ := hV
    have vz : v ≠ z := fun q => by rw [(vh.ik hN hk hz z0).mp q] at ho'; exact absurd ho'.1 (by decide)
    have ev : ∀ f, m' v f = m v f := fun f => by rw [e, up_na _ vz]
    have cz : c ≠ z := fun q => by rw [q, zt] at h3; cases h3
    have ec : ∀ f, m' c f = m c f := fun f => by rw [e, up_na _ cz]
    have S := VSf.fill2 hN hk hz hA e z4 z0 zt hv0 ⟨va, vh, v6, vf⟩ ho s h4
    rw [← ec] at S
    by_cases q : isK k a = true
    · have yz := (q2.ik hN hk hz z0).mpr q
      subst yz
      have eN : subN k o a (subF k o kd) = o := by
        unfold subN
        unfold isK at q
        simp only [Bool.and_eq_true, decide_eq_true_eq] at q
        rw [if_pos q]
      show VSf A' m' hs (cons (subN k o a (subF k o kd)).1 (subN k o a (subF k o kd)).2 (subF k o s)) c
      rw [eN]
      exact ⟨⟨h1, hA _ h2, by rw [ec]; exact h3⟩, ⟨n + 1, v, by rw [ec]; exact q1.fill2 hA e z4 z0 hv0 vz va n, vh.fr ev, v6, by rw [ev]; exact VSf.fill1 hN hk hz hA e z4 z0 zt o.2 ho'.2 vf⟩, S⟩
    · have yz : y ≠ z := fun w => q ((q2.ik hN hk hz z0).mp w)
      have ey : ∀ f, m' y f = m y f := fun f => by rw [e, up_na _ yz]
      have eN : subN k o a (subF k o kd) = (a, subF k o kd) := by
        unfold subN
        rw [if_neg (fun w => q (by unfold isK; simp only [Bool.and_eq_true, decide_eq_true_eq]; exact w))]
      show VSf A' m' hs (cons (subN k o a (subF k o kd)).1 (subN k o a (subF k o kd)).2 (subF k o s)) c
      rw [eN]
      exact ⟨⟨h1, hA _ h2, by rw [ec]; exact h3⟩, ⟨n, y, by rw [ec]; exact q1.fill1 hA e z4 n yz, q2.fr ey, by rw [lenF_sub]; exact q6, by rw [ey]; exact VSf.fill2 hN hk hz hA e z4 z0 zt hv0 ⟨va, vh, v6, vf⟩ ho kd q3⟩, S⟩
theorem VS.fill (hN : hs.Nodup) (hk : 0 ≤ k) (hz : hs[k.toNat]? = some z) (hA : ∀ x, A x → A' x) (e : m' = up m z 4 v) (z4 : m z 4 = 0) (z0 : m z 0 = -18) (zt : m z (-1) = 11) (hv0 : v ≠ 0) (hV : VE A m hs v o) (ho : occT k o = false) {x : Int} {t : Tr} (h : VS A m hs x t) : VS A' m' hs x (subT k o t) := by
  obtain ⟨n, y, h1, h2, h3, h6, h4⟩ := h
  have ho' : (isK k o.1 || occF k o.2) = false := ho
  rw [Bool.or_eq_false_iff] at ho'
  obtain ⟨va, vh, v6, vf⟩ := id hV
  have vz : v ≠ z := fun q => by rw [(vh.ik hN hk hz z0).mp q] at ho'; exact absurd ho'.1 (by decide)
  have ev : ∀ f, m' v f = m v f := fun f => by rw [e, up_na _ vz]
  by_cases q : isK k t.1 = true
  · have yz := (h3.ik hN hk hz z0).mpr q
    subst yz
    have eN : subT k o t = o := by
      unfold subT subN
      unfold isK at q
      simp only [Bool.and_eq_true, decide_eq_true_eq] at q
      rw [if_pos q]
    rw [eN]
    exact VS.of (h1.fill2 hA e z4 z0 hv0 vz va n) (vh.fr ev) v6 (by rw [ev]; exact VSf.fill1 hN hk hz hA e z4 z0 zt o.2 ho'.2 vf)
  · have yz : y ≠ z := fun w => q ((h3.ik hN hk hz z0).mp w)
    have ey : ∀ f, m' y f = m y f := fun f => by rw [e, up_na _ yz]
    have eN : subT k o t = (t.1, subF k o t.2) := by
      unfold subT subN
      rw [if_neg (fun w => q (by unfold isK; simp only [Bool.and_eq_true, decide_eq_true_eq]; exact w))]
    rw [eN]
    exact VS.of (h1.fill1 hA e z4 n yz) (h3.fr ey) (by show lenF (subF k o t.2) ≤ 6; rw [lenF_sub]; exact h6) (by rw [ey]; exact VSf.fill2 hN hk hz hA e z4 z0 zt hv0 hV ho t.2 h4)
end FIL
