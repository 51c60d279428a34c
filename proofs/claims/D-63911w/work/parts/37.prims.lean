/-! L2: the JDK's members as rows over the view -/
theorem elOK_back {h : SM} {v : Int} (hv : elOK (vw h) v) : elOK h v := hv.imp id (fun ⟨c, q1, q2⟩ => ⟨c, vw_tag q1 (by omega), q2⟩)
theorem elOK.of {m : SM} {v t : Int} {c : Nat} (ht : m v (-1) = t) (hc : (c : Int) + 1 = t) (hm : (4, c) ∈ asL) : elOK m v := Or.inr ⟨c, by rw [hc]; exact ht, hm⟩
section PJ
variable {G : GM} {M : Mt} {d j pc idx nx : Nat} {ls st : List AV} {m : SM} {P : Nat → Int → SM → Prop} {x i v : Int}
theorem vj_size (hm : (mtI M)[j]? = some (pc, .invokevirtual idx, 3)) (hcl : (mtN M).cls = clsS (mtO M)) (hT : mT (mtO M) idx = some (2, mJ2_size, 4, 0)) (hnx : pc + 3 = nx) (ht : m x (-1) = 4) (hd : 10 ≤ d) (hst : st.length ≤ 15)
    (w : WV G M nx ls ((0, m x (-2)) :: st) m d P) : WV G M pc ls ((1, x) :: st) m d P := by
  intro h hG hv
  have ht' : h x (-1) = 4 := vw_tag (by rw [hv]; exact ht) (by decide)
  refine r_callV (as := []) hm hcl hT rfl rfl (by show 1 + 2 * st.length ≤ 50; omega) (Nat.le_of_ble_eq_true rfl) (by omega) ht' (kk0 (st' := fun v => (0, v) :: st) hnx (fun _ => rfl)) ?_
  refine c_size ht' ⟨rfl, ?_⟩ (by omega)
  rw [← (vw_al ht').2.1, hv]; exact w h hG hv
theorem vj_isEmpty (hm : (mtI M)[j]? = some (pc, .invokevirtual idx, 3)) (hcl : (mtN M).cls = clsS (mtO M)) (hT : mT (mtO M) idx = some (2, mJ2_isEmpty, 4, 0)) (hnx : pc + 3 = nx) (ht : m x (-1) = 4) (hd : 10 ≤ d) (hst : st.length ≤ 15)
    (w : WV G M nx ls ((0, if m x (-2) = 0 then 1 else 0) :: st) m d P) : WV G M pc ls ((1, x) :: st) m d P := by
  intro h hG hv
  have ht' : h x (-1) = 4 := vw_tag (by rw [hv]; exact ht) (by decide)
  refine r_callV (as := []) hm hcl hT rfl rfl (by show 1 + 2 * st.length ≤ 50; omega) (Nat.le_of_ble_eq_true rfl) (by omega) ht' (kk0 (st' := fun v => (0, v) :: st) hnx (fun _ => rfl)) ?_
  refine c_isEmpty ht' ⟨rfl, ?_⟩ (by omega)
  rw [← (vw_al ht').2.1, hv]; exact w h hG hv
theorem vj_get (hm : (mtI M)[j]? = some (pc, .invokevirtual idx, 3)) (hcl : (mtN M).cls = clsS (mtO M)) (hT : mT (mtO M) idx = some (2, mJ2_get, 4, 1)) (hnx : pc + 3 = nx) (ht : m x (-1) = 4) (hd : 10 ≤ d) (hst : st.length ≤ 15) (h0 : 0 ≤ i) (h1 : i < m x (-2))
    (w : WV G M nx ls ((1, m x i) :: st) m d P) : WV G M pc ls ((0, i) :: (1, x) :: st) m d P := by
  intro h hG hv
  have ht' : h x (-1) = 4 := vw_tag (by rw [hv]; exact ht) (by decide)
  obtain ⟨-, e2, -, e4, -⟩ := vw_al ht'
  rw [hv] at e2 e4
  refine r_callV (as := [(0, i)]) hm hcl hT rfl rfl (by show 2 + 2 * st.length ≤ 50; omega) (Nat.le_of_ble_eq_true rfl) (by omega) ht' (kk0 (st' := fun v => (1, v) :: st) hnx (fun _ => rfl)) ?_
  refine c_get hG ht' h0 (by omega) (by omega) ⟨rfl, ?_⟩
  rw [← e4 i h0 (by omega)]; exact w h hG hv
theorem vj_set (hm : (mtI M)[j]? = some (pc, .invokevirtual idx, 3)) (hcl : (mtN M).cls = clsS (mtO M)) (hT : mT (mtO M) idx = some (2, mJ2_set, 4, 2)) (hnx : pc + 3 = nx) (ht : m x (-1) = 4) (hd : 10 ≤ d) (hst : st.length ≤ 15) (h0 : 0 ≤ i) (h1 : i < m x (-2)) (hv0 : elOK m v)
    (w : ∀ m', Rset m x i v m' → WV G M nx ls ((1, m x i) :: st) m' d P) : WV G M pc ls ((1, v) :: (0, i) :: (1, x) :: st) m d P := by
  intro h hG hv
  have ht' : h x (-1) = 4 := vw_tag (by rw [hv]; exact ht) (by decide)
  obtain ⟨-, e2, -, e4, -⟩ := vw_al ht'
  rw [hv] at e2 e4
  refine r_callV (as := [(0, i), (1, v)]) hm hcl hT rfl rfl (by show 4 + 2 * st.length ≤ 50; omega) (Nat.le_of_ble_eq_true rfl) (by omega) ht' (kk0 (st' := fun v => (1, v) :: st) hnx (fun _ => rfl)) ?_
  refine c_set hG ht' h0 (by omega) (elOK_back (by rw [hv]; exact hv0)) (by omega) (fun h' g r => ⟨rfl, ?_⟩)
  rw [hv] at r
  rw [← e4 i h0 (by omega)]; exact w _ r h' g rfl
theorem vj_add (hm : (mtI M)[j]? = some (pc, .invokevirtual idx, 3)) (hcl : (mtN M).cls = clsS (mtO M)) (hT : mT (mtO M) idx = some (2, mJ2_add, 4, 1)) (hnx : pc + 3 = nx) (ht : m x (-1) = 4) (hd : 10 ≤ d) (hst : st.length ≤ 15) (hv0 : elOK m v) (hsz : m x (-2) < 100000) (hlc : m 0 0 ≤ 1203200) (hls : m 0 1 + 2 * m x (-2) + 20 ≤ 5491882)
    (w : ∀ m', Radd m x v m' → WV G M nx ls ((0, 1) :: st) m' d P) : WV G M pc ls ((1, v) :: (1, x) :: st) m d P := by
  intro h hG hv
  have ht' : h x (-1) = 4 := vw_tag (by rw [hv]; exact ht) (by decide)
  obtain ⟨-, e2, -, e4, -⟩ := vw_al ht'
  have e0 : ∀ f, m 0 f = h 0 f := fun f => by rw [← hv]; exact vw_0 hG.1 f
  rw [hv] at e2 e4
  rw [e0, e2] at hls
  rw [e0] at hlc
  refine r_callV (as := [(1, v)]) hm hcl hT rfl rfl (by show 2 + 2 * st.length ≤ 50; omega) (Nat.le_of_ble_eq_true rfl) (by omega) ht' (kk0 (st' := fun v => (0, v) :: st) hnx (fun _ => rfl)) ?_
  refine c_add hG ht' (elOK_back (by rw [hv]; exact hv0)) (by omega) hlc hls (by omega) (fun h' g r => ⟨rfl, ?_⟩)
  rw [hv] at r
  exact w _ r h' g rfl
theorem vj_remove (hm : (mtI M)[j]? = some (pc, .invokevirtual idx, 3)) (hcl : (mtN M).cls = clsS (mtO M)) (hT : mT (mtO M) idx = some (2, mJ2_remove, 4, 1)) (hnx : pc + 3 = nx) (ht : m x (-1) = 4) (hd : 10 ≤ d) (hst : st.length ≤ 15) (h0 : 0 ≤ i) (h1 : i = m x (-2) - 1)
    (w : ∀ m', Rrem m x m' → WV G M nx ls ((1, m x i) :: st) m' d P) : WV G M pc ls ((0, i) :: (1, x) :: st) m d P := by
  intro h hG hv
  have ht' : h x (-1) = 4 := vw_tag (by rw [hv]; exact ht) (by decide)
  obtain ⟨-, e2, -, e4, -⟩ := vw_al ht'
  rw [hv] at e2 e4
  obtain ⟨-, -, -, a4, -, -, a7⟩ := hG.2.1 x ht'
  refine r_callV (as := [(0, i)]) hm hcl hT rfl rfl (by show 4 + 2 * st.length ≤ 50; omega) (Nat.le_of_ble_eq_true rfl) (by omega) ht' (kk0 (st' := fun v => (1, v) :: st) hnx (fun _ => rfl)) ?_
  refine c_remove hG ht' h0 (by omega) (by omega) (by omega) (fun h' g r => ⟨rfl, ?_⟩)
  rw [hv] at r
  rw [← e4 i h0 (by omega)]; exact w _ r h' g rfl
theorem vj_clear (hm : (mtI M)[j]? = some (pc, .invokevirtual idx, 3)) (hcl : (mtN M).cls = clsS (mtO M)) (hT : mT (mtO M) idx = some (2, mJ2_clear, 4, 0)) (hnx : pc + 3 = nx) (ht : m x (-1) = 4) (hd : 10 ≤ d) (hst : st.length ≤ 15)
    (w : ∀ m', Rclr m x 0 m' → WV G M nx ls st m' d P) : WV G M pc ls ((1, x) :: st) m d P := by
  intro h hG hv
  have ht' : h x (-1) = 4 := vw_tag (by rw [hv]; exact ht) (by decide)
  refine r_callV (as := []) hm hcl hT rfl rfl (by show 4 + 2 * st.length ≤ 50; omega) (Nat.le_of_ble_eq_true rfl) (by omega) ht' (kk0 (st' := fun v => st) hnx (fun _ => rfl)) ?_
  refine c_clear hG ht' (by omega) (fun h' g r => ⟨rfl, ?_⟩)
  rw [hv] at r
  exact w _ r h' g rfl
theorem vj_sblen (hm : (mtI M)[j]? = some (pc, .invokevirtual idx, 3)) (hcl : (mtN M).cls = clsS (mtO M)) (hT : mT (mtO M) idx = some (2, mJ4_length, 6, 0)) (hnx : pc + 3 = nx) (ht : m x (-1) = 6) (hd : 10 ≤ d) (hst : st.length ≤ 15)
    (w : WV G M nx ls ((0, m x (-2)) :: st) m d P) : WV G M pc ls ((1, x) :: st) m d P := by
  intro h hG hv
  have ht' : h x (-1) = 6 := vw_tag (by rw [hv]; exact ht) (by decide)
  refine r_callV (as := []) hm hcl hT rfl rfl (by show 1 + 2 * st.length ≤ 50; omega) (Nat.le_of_ble_eq_true rfl) (by omega) ht' (kk0 (st' := fun v => (0, v) :: st) hnx (fun _ => rfl)) ?_
  refine c_sbl ht' (by omega) ⟨rfl, ?_⟩
  rw [← (vw_sb ht').2.1, hv]; exact w h hG hv
theorem vj_sbat (hm : (mtI M)[j]? = some (pc, .invokevirtual idx, 3)) (hcl : (mtN M).cls = clsS (mtO M)) (hT : mT (mtO M) idx = some (2, mJ4_charAt, 6, 1)) (hnx : pc + 3 = nx) (ht : m x (-1) = 6) (hd : 10 ≤ d) (hst : st.length ≤ 15) (h0 : 0 ≤ i) (h1 : i < m x (-2))
    (w : WV G M nx ls ((0, m x i) :: st) m d P) : WV G M pc ls ((0, i) :: (1, x) :: st) m d P := by
  intro h hG hv
  have ht' : h x (-1) = 6 := vw_tag (by rw [hv]; exact ht) (by decide)
  obtain ⟨-, e2, -, e4, -⟩ := vw_sb ht'
  rw [hv] at e2 e4
  refine r_callV (as := [(0, i)]) hm hcl hT rfl rfl (by show 2 + 2 * st.length ≤ 50; omega) (Nat.le_of_ble_eq_true rfl) (by omega) ht' (kk0 (st' := fun v => (0, v) :: st) hnx (fun _ => rfl)) ?_
  refine c_sbat hG ht' h0 (by omega) (by omega) ⟨rfl, ?_⟩
  rw [← e4 i h0 (by omega)]; exact w h hG hv
theorem vj_sbset (hm : (mtI M)[j]? = some (pc, .invokevirtual idx, 3)) (hcl : (mtN M).cls = clsS (mtO M)) (hT : mT (mtO M) idx = some (2, mJ4_setLength, 6, 1)) (hnx : pc + 3 = nx) (ht : m x (-1) = 6) (hd : 10 ≤ d) (hst : st.length ≤ 15) (h0 : 0 ≤ i) (h1 : i ≤ m x (-2))
    (w : ∀ m', Rclr m x i m' → WV G M nx ls st m' d P) : WV G M pc ls ((0, i) :: (1, x) :: st) m d P := by
  intro h hG hv
  have ht' : h x (-1) = 6 := vw_tag (by rw [hv]; exact ht) (by decide)
  obtain ⟨-, e2, -, e4, -⟩ := vw_sb ht'
  rw [hv] at e2 e4
  refine r_callV (as := [(0, i)]) hm hcl hT rfl rfl (by show 2 + 2 * st.length ≤ 50; omega) (Nat.le_of_ble_eq_true rfl) (by omega) ht' (kk0 (st' := fun v => st) hnx (fun _ => rfl)) ?_
  refine c_sbset hG ht' h0 (by omega) (by omega) (fun h' g r => ⟨rfl, ?_⟩)
  rw [hv] at r
  exact w _ r h' g rfl
theorem vj_sbaddC (hm : (mtI M)[j]? = some (pc, .invokevirtual idx, 3)) (hcl : (mtN M).cls = clsS (mtO M)) (hT : mT (mtO M) idx = some (2, mJ4_append, 6, 1)) (hnx : pc + 3 = nx) (ht : m x (-1) = 6) (hd : 10 ≤ d) (hst : st.length ≤ 15) (hv0 : 0 ≤ v) (hv1 : v ≤ 127) (hsz : m x (-2) < 100000) (hlc : m 0 0 ≤ 1203200) (hls : m 0 1 + 2 * m x (-2) + 50 ≤ 5491882)
    (w : ∀ m', Radd m x v m' → WV G M nx ls ((1, x) :: st) m' d P) : WV G M pc ls ((0, v) :: (1, x) :: st) m d P := by
  intro h hG hv
  have ht' : h x (-1) = 6 := vw_tag (by rw [hv]; exact ht) (by decide)
  obtain ⟨-, e2, -, e4, -⟩ := vw_sb ht'
  have e0 : ∀ f, m 0 f = h 0 f := fun f => by rw [← hv]; exact vw_0 hG.1 f
  rw [hv] at e2 e4
  rw [e0, e2] at hls
  rw [e0] at hlc
  refine r_callV (as := [(0, v)]) hm hcl hT rfl rfl (by show 2 + 2 * st.length ≤ 50; omega) (Nat.le_of_ble_eq_true rfl) (by omega) ht' (kk0 (st' := fun v => (1, v) :: st) hnx (fun _ => rfl)) ?_
  refine c_sbaddC hG ht' hv0 hv1 (by omega) hlc (by omega) (by omega) (fun h' g r => ⟨rfl, ?_⟩)
  rw [hv] at r
  exact w _ r h' g rfl
theorem vj_sbaddI (hm : (mtI M)[j]? = some (pc, .invokevirtual idx, 3)) (hcl : (mtN M).cls = clsS (mtO M)) (hT : mT (mtO M) idx = some (2, mJ4_append_3, 6, 1)) (hnx : pc + 3 = nx) (ht : m x (-1) = 6) (hd : 10 ≤ d) (hst : st.length ≤ 15) (hv0 : in32 v) (hsz : m x (-2) < 100000) (hlc : m 0 0 ≤ 1203200) (hls : m 0 1 + 2 * m x (-2) + 70 ≤ 5491882)
    (w : ∀ m', Rapp m x (decI v) m' → WV G M nx ls ((1, x) :: st) m' d P) : WV G M pc ls ((0, v) :: (1, x) :: st) m d P := by
  intro h hG hv
  have ht' : h x (-1) = 6 := vw_tag (by rw [hv]; exact ht) (by decide)
  obtain ⟨-, e2, -, e4, -⟩ := vw_sb ht'
  have e0 : ∀ f, m 0 f = h 0 f := fun f => by rw [← hv]; exact vw_0 hG.1 f
  rw [hv] at e2 e4
  rw [e0, e2] at hls
  rw [e0] at hlc
  refine r_callV (as := [(0, v)]) hm hcl hT rfl rfl (by show 2 + 2 * st.length ≤ 50; omega) (Nat.le_of_ble_eq_true rfl) (by omega) ht' (kk0 (st' := fun v => (1, v) :: st) hnx (fun _ => rfl)) ?_
  refine c_sbaddI hG ht' hv0 (by omega) hlc (by omega) (by omega) (fun h' g r => ⟨rfl, ?_⟩)
  rw [hv] at r
  exact w _ r h' g rfl
theorem vj_sbaddS (hm : (mtI M)[j]? = some (pc, .invokevirtual idx, 3)) (hcl : (mtN M).cls = clsS (mtO M)) (hT : mT (mtO M) idx = some (2, mJ4_append_2, 6, 1)) (hnx : pc + 3 = nx) (ht : m x (-1) = 6) (hd : 10 ≤ d) (hst : st.length ≤ 15) (hs : m v (-1) = 13) (hsz : m x (-2) < 50000) (hsl : m v (-2) < 50000) (hlc : m 0 0 ≤ 1203200) (hls : m 0 1 + 2 * m x (-2) + 2 * m v (-2) + 60 ≤ 5491882)
    (w : ∀ m', Rapp m x (txtM m v) m' → WV G M nx ls ((1, x) :: st) m' d P) : WV G M pc ls ((1, v) :: (1, x) :: st) m d P := by
  intro h hG hv
  have ht' : h x (-1) = 6 := vw_tag (by rw [hv]; exact ht) (by decide)
  have hs' : h v (-1) = 13 := vw_tag (by rw [hv]; exact hs) (by decide)
  obtain ⟨-, e2, -, e4, -⟩ := vw_sb ht'
  obtain ⟨-, f2, -⟩ := vw_st hs'
  have e0 : ∀ f, m 0 f = h 0 f := fun f => by rw [← hv]; exact vw_0 hG.1 f
  rw [hv] at e2 e4 f2
  rw [e0, e2, f2] at hls
  rw [e0] at hlc
  refine r_callV (as := [(1, v)]) hm hcl hT rfl rfl (by show 2 + 2 * st.length ≤ 50; omega) (Nat.le_of_ble_eq_true rfl) (by omega) ht' (kk0 (st' := fun v => (1, v) :: st) hnx (fun _ => rfl)) ?_
  refine c_sbaddS hG ht' hs' (by omega) (by omega) hlc (by omega) (by omega) (fun h' g r => ⟨rfl, ?_⟩)
  rw [hv] at r
  exact w _ r h' g rfl
theorem vj_sbstr (hm : (mtI M)[j]? = some (pc, .invokevirtual idx, 3)) (hcl : (mtN M).cls = clsS (mtO M)) (hT : mT (mtO M) idx = some (2, mJ4_toString, 6, 0)) (hnx : pc + 3 = nx) (ht : m x (-1) = 6) (hd : 10 ≤ d) (hst : st.length ≤ 15) (hlt : m x (-2) < m x (-3)) (hlc : m 0 0 + 1 ≤ 1203200) (hls : m 0 1 + m x (-2) + 10 ≤ 5491882)
    (w : ∀ v m', Rstr m x v m' → WV G M nx ls ((1, v) :: st) m' d P) : WV G M pc ls ((1, x) :: st) m d P := by
  intro h hG hv
  have ht' : h x (-1) = 6 := vw_tag (by rw [hv]; exact ht) (by decide)
  obtain ⟨-, e2, e3, e4, -⟩ := vw_sb ht'
  have e0 : ∀ f, m 0 f = h 0 f := fun f => by rw [← hv]; exact vw_0 hG.1 f
  rw [hv] at e2 e3 e4
  rw [e0, e2] at hls
  rw [e0] at hlc
  refine r_callV (as := []) hm hcl hT rfl rfl (by show 1 + 2 * st.length ≤ 50; omega) (Nat.le_of_ble_eq_true rfl) (by omega) ht' (kk0 (st' := fun v => (1, v) :: st) hnx (fun _ => rfl)) ?_
  refine c_sbstr hG ht' (by omega) hlc hls (by omega) (fun h' g r => ⟨rfl, ?_⟩)
  rw [hv] at r
  exact w _ _ r h' g rfl
theorem vj_stlen (hm : (mtI M)[j]? = some (pc, .invokevirtual idx, 3)) (hcl : (mtN M).cls = clsS (mtO M)) (hT : mT (mtO M) idx = some (2, mJ5_length, 13, 0)) (hnx : pc + 3 = nx) (ht : m x (-1) = 13) (hd : 10 ≤ d) (hst : st.length ≤ 15)
    (w : WV G M nx ls ((0, m x (-2)) :: st) m d P) : WV G M pc ls ((1, x) :: st) m d P := by
  intro h hG hv
  have ht' : h x (-1) = 13 := vw_tag (by rw [hv]; exact ht) (by decide)
  refine r_callV (as := []) hm hcl hT rfl rfl (by show 1 + 2 * st.length ≤ 50; omega) (Nat.le_of_ble_eq_true rfl) (by omega) ht' (kk0 (st' := fun v => (0, v) :: st) hnx (fun _ => rfl)) ?_
  refine c_stl hG ht' (by omega) ⟨rfl, ?_⟩
  rw [← (vw_st ht').2.1, hv]; exact w h hG hv
theorem vj_stat (hm : (mtI M)[j]? = some (pc, .invokevirtual idx, 3)) (hcl : (mtN M).cls = clsS (mtO M)) (hT : mT (mtO M) idx = some (2, mJ5_charAt, 13, 1)) (hnx : pc + 3 = nx) (ht : m x (-1) = 13) (hd : 10 ≤ d) (hst : st.length ≤ 15) (h0 : 0 ≤ i) (h1 : i < m x (-2))
    (w : WV G M nx ls ((0, m x i) :: st) m d P) : WV G M pc ls ((0, i) :: (1, x) :: st) m d P := by
  intro h hG hv
  have ht' : h x (-1) = 13 := vw_tag (by rw [hv]; exact ht) (by decide)
  obtain ⟨-, e2, e4, -⟩ := vw_st ht'
  rw [hv] at e2 e4
  refine r_callV (as := [(0, i)]) hm hcl hT rfl rfl (by show 2 + 2 * st.length ≤ 50; omega) (Nat.le_of_ble_eq_true rfl) (by omega) ht' (kk0 (st' := fun v => (0, v) :: st) hnx (fun _ => rfl)) ?_
  refine c_stat hG ht' h0 (by omega) (by omega) ⟨rfl, ?_⟩
  rw [← e4 i h0 (by omega)]; exact w h hG hv
theorem vj_newAL {ic : Nat} (hm : (mtI M)[j]? = some (pc, .new idx, 3)) (hm1 : (mtI M)[j + 1]? = some (pc + 3, .dup, 1)) (hm2 : (mtI M)[j + 2]? = some (pc + 4, .invokespecial ic, 3)) (hcl : (mtN M).cls = clsS (mtO M)) (hT : cT (mtO M) idx = some 3) (hI : mT (mtO M) ic = some (1, mJ2_init, 0, 0)) (hnx : pc + 7 = nx) (hlc : m 0 0 + 2 ≤ 1203200) (hls : m 0 1 + 20 ≤ 5491882) (hd : 10 ≤ d) (hst : st.length ≤ 15)
    (w : ∀ m', NAL m m' → WV G M nx ls ((1, m 0 0) :: st) m' d P) : WV G M pc ls st m d P := by
  intro h hG hv
  have e0 : ∀ f, m 0 f = h 0 f := fun f => by rw [← hv]; exact vw_0 hG.1 f
  rw [e0] at hlc hls
  have b2 := hG.1.2.1
  refine r_new (c := 3) (N := 3) hm hcl hT rfl rfl rfl (by omega) (by omega) (fun h1 e1 => ?_)
  refine s_pure (List.mem_of_getElem? hm1) rfl (ls' := ls) (st' := (1, h 0 0) :: (1, h 0 0) :: st) rfl (okc_hn rfl) ?_
  refine r_callI (as := []) (st := (1, h 0 0) :: st) hm2 hcl hI rfl rfl (by show 1 + 2 * (st.length + 1) ≤ 50; omega) (Nat.le_of_ble_eq_true rfl) (by omega) (by omega) (kk0 (st' := fun v => (1, h 0 0) :: st) (by omega : pc + 4 + 3 = nx) (fun _ => rfl)) ?_
  refine c_newAL hG (by omega) (fun h' g r => ⟨rfl, ?_⟩) e1
  have := w (vw h') ⟨by rw [← hv]; exact vw_Bs hG.1, by rw [r, hv]⟩ h' g rfl
  rw [e0] at this
  exact this
theorem vj_newSB {ic : Nat} (hm : (mtI M)[j]? = some (pc, .new idx, 3)) (hm1 : (mtI M)[j + 1]? = some (pc + 3, .dup, 1)) (hm2 : (mtI M)[j + 2]? = some (pc + 4, .invokespecial ic, 3)) (hcl : (mtN M).cls = clsS (mtO M)) (hT : cT (mtO M) idx = some 5) (hI : mT (mtO M) ic = some (1, mJ4_init, 0, 0)) (hnx : pc + 7 = nx) (hlc : m 0 0 + 2 ≤ 1203200) (hls : m 0 1 + 20 ≤ 5491882) (hd : 10 ≤ d) (hst : st.length ≤ 15)
    (w : ∀ m', NSB m m' → WV G M nx ls ((1, m 0 0) :: st) m' d P) : WV G M pc ls st m d P := by
  intro h hG hv
  have e0 : ∀ f, m 0 f = h 0 f := fun f => by rw [← hv]; exact vw_0 hG.1 f
  rw [e0] at hlc hls
  have b2 := hG.1.2.1
  refine r_new (c := 5) (N := 4) hm hcl hT rfl rfl rfl (by omega) (by omega) (fun h1 e1 => ?_)
  refine s_pure (List.mem_of_getElem? hm1) rfl (ls' := ls) (st' := (1, h 0 0) :: (1, h 0 0) :: st) rfl (okc_hn rfl) ?_
  refine r_callI (as := []) (st := (1, h 0 0) :: st) hm2 hcl hI rfl rfl (by show 1 + 2 * (st.length + 1) ≤ 50; omega) (Nat.le_of_ble_eq_true rfl) (by omega) (by omega) (kk0 (st' := fun v => (1, h 0 0) :: st) (by omega : pc + 4 + 3 = nx) (fun _ => rfl)) ?_
  refine c_newSB hG hlc hls (by omega) (fun h' g r => ⟨rfl, ?_⟩) e1
  rw [hv] at r
  have := w (vw h') r h' g rfl
  rw [e0] at this
  exact this
theorem vj_rec (hm : (mtI M)[j]? = some (pc, .invokespecial idx, 3)) (hcl : (mtN M).cls = clsS (mtO M)) (hT : mT (mtO M) idx = some (1, mJ19_init, 0, 0)) (hnx : pc + 3 = nx) (hx : x ≠ 0) (hd : 10 ≤ d) (hst : st.length ≤ 15) (w : WV G M nx ls st m d P) : WV G M pc ls ((1, x) :: st) m d P := by
  intro h hG hv
  refine r_callI (as := []) hm hcl hT rfl rfl (by show 1 + 2 * st.length ≤ 50; omega) (Nat.le_of_ble_eq_true rfl) (by omega) hx (kk0 (st' := fun v => st) hnx (fun _ => rfl)) ?_
  refine r_run 0 1 (pc' := 1) (ls' := [(1, x)]) (st' := [(1, x)]) rfl ?_
  refine r_obj (j := 1) rfl rfl rfl rfl hx (by omega) (by simp) ?_
  exact r_vret (j := 2) rfl rfl ⟨rfl, w h hG hv⟩
theorem vj_ord {jj : Nat} {t : Int} (hm : (mtI M)[j]? = some (pc, .invokevirtual idx, 3)) (hcl : (mtN M).cls = clsS (mtO M)) (hT : mT (mtO M) idx = some (3, mJ7_ordinal, t, 0)) (hnx : pc + 3 = nx) (hjt : (50 : Int) + (jj : Nat) = t) (hj : jj < 3) (ht : m x (-1) = t) (hd : 10 ≤ d) (hst : st.length ≤ 15)
    (w : WV G M nx ls ((0, m x 0) :: st) m d P) : WV G M pc ls ((1, x) :: st) m d P := by
  intro h hG hv
  have ht' : h x (-1) = t := vw_tag (by rw [hv]; exact ht) (by omega)
  have e : m x 0 = h x 0 := by rw [← hv, vw_plain (by rw [ht']; unfold plT; omega)]
  rw [e] at w
  refine r_callU (as := []) hm hcl hT rfl rfl (by show 1 + 2 * st.length ≤ 50; omega) (Nat.le_of_ble_eq_true rfl) (by omega) ht' (kk0 (st' := fun v => (0, v) :: st) hnx (fun _ => rfl)) ?_
  refine r_run 0 1 (pc' := 1) (ls' := [(1, x)]) (st' := [(1, x)]) rfl ?_
  refine r_geto (jj := jj) (j := 1) rfl rfl hj hjt rfl ht' ?_
  exact r_iret (j := 2) rfl rfl rfl trivial ⟨rfl, w h hG hv⟩
/-- the empty text -/
theorem v_e0 (w : m (-23) (-1) = 13 → m (-23) (-2) = 0 → WV G M pc ls st m d P) : WV G M pc ls st m d P := by
  intro h hG hv
  obtain ⟨-, -, -, ⟨d1, d2⟩, ⟨d3, d4⟩, -⟩ := hG.2.2.2.2.2
  obtain ⟨e1, e2, -⟩ := vw_st d1
  rw [hv] at e1 e2
  exact w e1 (by rw [e2, d2, d4]) h hG hv
/-- what a builder, a text or a list holds is in range -/
theorem v_sz (w : (∀ x, m x (-1) = 4 ∨ m x (-1) = 6 ∨ m x (-1) = 13 → 0 ≤ m x (-2) ∧ m x (-2) < 1000000) ∧ (∀ x, m x (-1) = 4 ∨ m x (-1) = 6 → m x (-2) ≤ m x (-3)) → WV G M pc ls st m d P) : WV G M pc ls st m d P := by
  intro h hG hv
  refine w ⟨fun x hx => ?_, fun x hx => ?_⟩ h hG hv
  · rw [← hv] at hx ⊢
    rcases hx with q | q | q
    · have q' := vw_tag q (by decide)
      obtain ⟨-, -, a3, a4, -, -, a7⟩ := hG.2.1 x q'
      rw [(vw_al q').2.1]; omega
    · have q' := vw_tag q (by decide)
      obtain ⟨-, -, -, a3, a4, -, a7⟩ := hG.2.2.1 x q'
      rw [(vw_sb q').2.1]; omega
    · have q' := vw_tag q (by decide)
      obtain ⟨-, -, -, a4, -, a7⟩ := hG.2.2.2.1 x q'
      rw [(vw_st q').2.1]; omega
  · rw [← hv] at hx ⊢
    rcases hx with q | q
    · have q' := vw_tag q (by decide)
      obtain ⟨-, -, a3, a4, -, -, a7⟩ := hG.2.1 x q'
      rw [(vw_al q').2.1, (vw_al q').2.2.1]; omega
    · have q' := vw_tag q (by decide)
      obtain ⟨-, -, -, a3, a4, -, a7⟩ := hG.2.2.1 x q'
      rw [(vw_sb q').2.1, (vw_sb q').2.2.1]; omega
end PJ
