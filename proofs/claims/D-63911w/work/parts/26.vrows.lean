/-! L2: the rows over the view -/
def plC (c : Nat) : Bool := !(Nat.beq c 3) && (!(Nat.beq c 5) && !(Nat.beq c 12))
theorem plC_t {c : Nat} (hc : plC c = true) (h25 : c < 25) : plT ((c : Int) + 1) := by
  unfold plC at hc
  simp only [Bool.and_eq_true, Bool.not_eq_true'] at hc
  obtain ⟨h1, h2, h3⟩ := hc
  have h1 : c ≠ 3 := fun e => by rw [e] at h1; cases h1
  have h2 : c ≠ 5 := fun e => by rw [e] at h2; cases h2
  have h3 : c ≠ 12 := fun e => by rw [e] at h3; cases h3
  unfold plT; omega
/-- what of the memory's kinds is known -/
def Ty (m : SM) : Prop := (∀ (x : Int) (c f : Nat) (r : KC), clsL[c]? = some r → plC c = true → m x (-1) = (c : Int) + 1 → f < r.2.2.1 → okT (r.2.2.2.1 f) (m x f)) ∧ (∀ (x i : Int) (t : Nat) (ty : FieldType), arrT t = some ty → t ≠ 2 → t ≠ 4 → m x (-1) = 100 + (t : Int) → 0 ≤ i → i < m x (-2) → okT ty (m x i))
section VR
variable {G : GM} {M : Mt} {d j pc idx nx tgt : Nat} {ls st : List AV} {m : SM} {P : Nat → Int → SM → Prop} {off x y : Int}
theorem v_run (j n : Nat) {pc' : Nat} {ls' st' : List AV} (hp : puR (((mtI M).drop j).take n) pc ls st = some (pc', ls', st')) (w : WV G M pc' ls' st' m d P) : WV G M pc ls st m d P := fun h hG hv => r_run j n hp (w h hG hv)
theorem v_drp (bs : List Bool) (w : WV G M pc (drp bs ls) st m d P) : WV G M pc ls st m d P := fun h hG hv => r_drp bs (w h hG hv)
theorem v_bs (w : Bs m → WV G M pc ls st m d P) : WV G M pc ls st m d P := fun h hG hv => w (by rw [← hv]; exact vw_Bs hG.1) h hG hv
theorem v_ty (w : Ty m → WV G M pc ls st m d P) : WV G M pc ls st m d P := by
  intro h hG hv p e R s mm args below meth c H locs la C hR h1 h2 h3 h4 h5
  refine w ⟨fun x c f r hr hc ht hf => ?_, fun x i t ty ha h2 h4 ht hi hl => ?_⟩ h hG hv p e R s mm args below meth c H locs la C hR h1 h2 h3 h4 h5
  · have h25 := clsL_len hr
    rw [← hv] at ht ⊢
    have ht' := vw_tag ht (by omega)
    obtain ⟨-, cell, -, -, -, -, q⟩ := hR.obj C.gx hr ht'
    rw [vw_plain (by rw [ht']; exact plC_t hc h25)]
    exact (q f hf).2
  · rw [← hv] at ht hl ⊢
    have ht' := vw_tag ht (by omega)
    obtain ⟨-, cell, -, -, -, -, q5, -, q⟩ := hR.arr C.gx ha ht'
    have hp : plT (h x (-1)) := by
      rw [ht']
      rcases arrT_cases ha with ⟨rfl, -⟩ | ⟨rfl, -⟩ | ⟨rfl, -⟩ | ⟨rfl, -⟩ | ⟨rfl, -⟩ <;> first | omega | (unfold plT; omega)
    rw [vw_plain hp] at hl ⊢
    obtain ⟨k, rfl⟩ := Int.eq_ofNat_of_zero_le hi
    exact (q k (by omega)).2
theorem v_ifeq (hm : (mtI M)[j]? = some (pc, .ifCond .eq off, 3)) (ht : (pc : Int) + off = (tgt : Int)) (hnx : pc + 3 = nx) (wt : x = 0 → WV G M tgt ls st m d P) (wf : x ≠ 0 → WV G M nx ls st m d P) : WV G M pc ls ((0, x) :: st) m d P := fun h hG hv => r_ifeq hm ht hnx (fun q => wt q h hG hv) (fun q => wf q h hG hv)
theorem v_ifne (hm : (mtI M)[j]? = some (pc, .ifCond .ne off, 3)) (ht : (pc : Int) + off = (tgt : Int)) (hnx : pc + 3 = nx) (wt : x ≠ 0 → WV G M tgt ls st m d P) (wf : x = 0 → WV G M nx ls st m d P) : WV G M pc ls ((0, x) :: st) m d P := fun h hG hv => r_ifne hm ht hnx (fun q => wt q h hG hv) (fun q => wf q h hG hv)
theorem v_iflt (hm : (mtI M)[j]? = some (pc, .ifCond .lt off, 3)) (ht : (pc : Int) + off = (tgt : Int)) (hnx : pc + 3 = nx) (wt : x < 0 → WV G M tgt ls st m d P) (wf : 0 ≤ x → WV G M nx ls st m d P) : WV G M pc ls ((0, x) :: st) m d P := fun h hG hv => r_iflt hm ht hnx (fun q => wt q h hG hv) (fun q => wf q h hG hv)
theorem v_ifge (hm : (mtI M)[j]? = some (pc, .ifCond .ge off, 3)) (ht : (pc : Int) + off = (tgt : Int)) (hnx : pc + 3 = nx) (wt : 0 ≤ x → WV G M tgt ls st m d P) (wf : x < 0 → WV G M nx ls st m d P) : WV G M pc ls ((0, x) :: st) m d P := fun h hG hv => r_ifge hm ht hnx (fun q => wt q h hG hv) (fun q => wf q h hG hv)
theorem v_ifgt (hm : (mtI M)[j]? = some (pc, .ifCond .gt off, 3)) (ht : (pc : Int) + off = (tgt : Int)) (hnx : pc + 3 = nx) (wt : 0 < x → WV G M tgt ls st m d P) (wf : x ≤ 0 → WV G M nx ls st m d P) : WV G M pc ls ((0, x) :: st) m d P := fun h hG hv => r_ifgt hm ht hnx (fun q => wt q h hG hv) (fun q => wf q h hG hv)
theorem v_ifle (hm : (mtI M)[j]? = some (pc, .ifCond .le off, 3)) (ht : (pc : Int) + off = (tgt : Int)) (hnx : pc + 3 = nx) (wt : x ≤ 0 → WV G M tgt ls st m d P) (wf : 0 < x → WV G M nx ls st m d P) : WV G M pc ls ((0, x) :: st) m d P := fun h hG hv => r_ifle hm ht hnx (fun q => wt q h hG hv) (fun q => wf q h hG hv)
theorem v_icmpeq (hm : (mtI M)[j]? = some (pc, .if_icmp .eq off, 3)) (ht : (pc : Int) + off = (tgt : Int)) (hnx : pc + 3 = nx) (wt : x = y → WV G M tgt ls st m d P) (wf : x ≠ y → WV G M nx ls st m d P) : WV G M pc ls ((0, y) :: (0, x) :: st) m d P := fun h hG hv => r_icmpeq hm ht hnx (fun q => wt q h hG hv) (fun q => wf q h hG hv)
theorem v_icmpne (hm : (mtI M)[j]? = some (pc, .if_icmp .ne off, 3)) (ht : (pc : Int) + off = (tgt : Int)) (hnx : pc + 3 = nx) (wt : x ≠ y → WV G M tgt ls st m d P) (wf : x = y → WV G M nx ls st m d P) : WV G M pc ls ((0, y) :: (0, x) :: st) m d P := fun h hG hv => r_icmpne hm ht hnx (fun q => wt q h hG hv) (fun q => wf q h hG hv)
theorem v_icmplt (hm : (mtI M)[j]? = some (pc, .if_icmp .lt off, 3)) (ht : (pc : Int) + off = (tgt : Int)) (hnx : pc + 3 = nx) (wt : x < y → WV G M tgt ls st m d P) (wf : y ≤ x → WV G M nx ls st m d P) : WV G M pc ls ((0, y) :: (0, x) :: st) m d P := fun h hG hv => r_icmplt hm ht hnx (fun q => wt q h hG hv) (fun q => wf q h hG hv)
theorem v_icmpge (hm : (mtI M)[j]? = some (pc, .if_icmp .ge off, 3)) (ht : (pc : Int) + off = (tgt : Int)) (hnx : pc + 3 = nx) (wt : y ≤ x → WV G M tgt ls st m d P) (wf : x < y → WV G M nx ls st m d P) : WV G M pc ls ((0, y) :: (0, x) :: st) m d P := fun h hG hv => r_icmpge hm ht hnx (fun q => wt q h hG hv) (fun q => wf q h hG hv)
theorem v_icmpgt (hm : (mtI M)[j]? = some (pc, .if_icmp .gt off, 3)) (ht : (pc : Int) + off = (tgt : Int)) (hnx : pc + 3 = nx) (wt : y < x → WV G M tgt ls st m d P) (wf : x ≤ y → WV G M nx ls st m d P) : WV G M pc ls ((0, y) :: (0, x) :: st) m d P := fun h hG hv => r_icmpgt hm ht hnx (fun q => wt q h hG hv) (fun q => wf q h hG hv)
theorem v_icmple (hm : (mtI M)[j]? = some (pc, .if_icmp .le off, 3)) (ht : (pc : Int) + off = (tgt : Int)) (hnx : pc + 3 = nx) (wt : x ≤ y → WV G M tgt ls st m d P) (wf : y < x → WV G M nx ls st m d P) : WV G M pc ls ((0, y) :: (0, x) :: st) m d P := fun h hG hv => r_icmple hm ht hnx (fun q => wt q h hG hv) (fun q => wf q h hG hv)
theorem v_aeq (hm : (mtI M)[j]? = some (pc, .if_acmp .eq off, 3)) (ht : (pc : Int) + off = (tgt : Int)) (hnx : pc + 3 = nx) (wt : x = y → WV G M tgt ls st m d P) (wf : x ≠ y → WV G M nx ls st m d P) : WV G M pc ls ((1, y) :: (1, x) :: st) m d P := fun h hG hv => r_aeq hm ht hnx (fun q => wt q h hG hv) (fun q => wf q h hG hv)
theorem v_ane (hm : (mtI M)[j]? = some (pc, .if_acmp .ne off, 3)) (ht : (pc : Int) + off = (tgt : Int)) (hnx : pc + 3 = nx) (wt : x ≠ y → WV G M tgt ls st m d P) (wf : x = y → WV G M nx ls st m d P) : WV G M pc ls ((1, y) :: (1, x) :: st) m d P := fun h hG hv => r_ane hm ht hnx (fun q => wt q h hG hv) (fun q => wf q h hG hv)
theorem v_null (hm : (mtI M)[j]? = some (pc, .ifnull off, 3)) (ht : (pc : Int) + off = (tgt : Int)) (hnx : pc + 3 = nx) (wt : x = 0 → WV G M tgt ls st m d P) (wf : x ≠ 0 → WV G M nx ls st m d P) : WV G M pc ls ((1, x) :: st) m d P := fun h hG hv => r_null hm ht hnx (fun q => wt q h hG hv) (fun q => wf q h hG hv)
theorem v_nonnull (hm : (mtI M)[j]? = some (pc, .ifnonnull off, 3)) (ht : (pc : Int) + off = (tgt : Int)) (hnx : pc + 3 = nx) (wt : x ≠ 0 → WV G M tgt ls st m d P) (wf : x = 0 → WV G M nx ls st m d P) : WV G M pc ls ((1, x) :: st) m d P := fun h hG hv => r_nonnull hm ht hnx (fun q => wt q h hG hv) (fun q => wf q h hG hv)
theorem v_goto (hm : (mtI M)[j]? = some (pc, .goto off, 3)) (ht : (pc : Int) + off = (tgt : Int)) (w : WV G M tgt ls st m d P) : WV G M pc ls st m d P := fun h hG hv => r_goto hm ht (w h hG hv)
theorem v_tsw {df lo hi : Int} {offs : Array Int} {len tdf : Nat} {tg : List Nat} (hm : (mtI M)[j]? = some (pc, .tableswitch df lo hi offs, len)) (hdf : (pc : Int) + df = (tdf : Int)) (htg : offs.toList.map (fun o => (pc : Int) + o) = tg.map (fun n : Nat => (n : Int))) (hlh : hi - lo + 1 = (tg.length : Int))
    (wo : x < lo ∨ hi < x → WV G M tdf ls st m d P) (wi : ∀ k : Nat, ∀ n, tg[k]? = some n → x = lo + k → WV G M n ls st m d P) : WV G M pc ls ((0, x) :: st) m d P := fun h hG hv => r_tsw hm hdf htg hlh (fun q => wo q h hG hv) (fun k n h1 h2 => wi k n h1 h2 h hG hv)
theorem v_lsw {df a oa b ob : Int} {len ta tb tdf : Nat} (hm : (mtI M)[j]? = some (pc, .lookupswitch df #[(a, oa), (b, ob)], len)) (hab : a < b) (h1 : (pc : Int) + oa = (ta : Int)) (h2 : (pc : Int) + ob = (tb : Int)) (h3 : (pc : Int) + df = (tdf : Int))
    (wa : x = a → WV G M ta ls st m d P) (wb : x = b → WV G M tb ls st m d P) (wd : x ≠ a → x ≠ b → WV G M tdf ls st m d P) : WV G M pc ls ((0, x) :: st) m d P := fun h hG hv => r_lsw hm hab h1 h2 h3 (fun q => wa q h hG hv) (fun q => wb q h hG hv) (fun q q' => wd q q' h hG hv)
theorem v_getf {c f g : Nat} {t F : Int} (hm : (mtI M)[j]? = some (pc, .getfield idx, 3)) (hcl : (mtN M).cls = clsS (mtO M)) (hT : fT (mtO M) idx = some (c, f)) (hpl : plC c = true) (hg : tgF c f = g) (hc : ((c : Nat) : Int) + 1 = t) (hF : ((f : Nat) : Int) = F) (hnx : pc + 3 = nx) (ht : m x (-1) = t)
    (w : WV G M nx ls ((g, m x F) :: st) m d P) : WV G M pc ls ((1, x) :: st) m d P := by
  intro h hG hv
  obtain ⟨r, -, hr, -⟩ := fT_ok hT
  have h25 := clsL_len hr
  have ht' : h x (-1) = t := vw_tag (by rw [hv]; exact ht) (by omega)
  have e : m x F = h x F := by rw [← hv, vw_plain (by rw [ht', ← hc]; exact plC_t hpl h25)]
  rw [e] at w
  exact r_getf hm hcl hT hg hc hF hnx ht' (w h hG hv)
theorem v_putf {c f g : Nat} {t F : Int} (hm : (mtI M)[j]? = some (pc, .putfield idx, 3)) (hcl : (mtN M).cls = clsS (mtO M)) (hT : fT (mtO M) idx = some (c, f)) (hpl : plC c = true) (hp : pkF M c f = true) (hg : tgF c f = g) (hc : ((c : Nat) : Int) + 1 = t) (hF : ((f : Nat) : Int) = F) (hnx : pc + 3 = nx) (ht : m x (-1) = t) (hn : okN (tyF c f) y)
    (w : ∀ m', m' = up m x F y → WV G M nx ls st m' d P) : WV G M pc ls ((g, y) :: (1, x) :: st) m d P := by
  intro h hG hv
  obtain ⟨r, -, hr, -⟩ := fT_ok hT
  have h25 := clsL_len hr
  have ht' : h x (-1) = t := vw_tag (by rw [hv]; exact ht) (by omega)
  have hplt : plT (h x (-1)) := by rw [ht', ← hc]; exact plC_t hpl h25
  obtain ⟨g1, g2⟩ := GI_up (F := F) (y := y) hG hplt (by omega)
  have hx : 0 < x := by
    rcases Int.lt_trichotomy x 0 with q | q | q
    · have := hG.1.2.2.2 x q (by omega) (by omega)
      exact absurd this hplt.2.2.2.1
    · rw [q, hG.1.1] at ht'; omega
    · exact q
  refine r_putf hm hcl hT hp hg hc hF hnx hx ht' hn (fun h' e => ?_)
  rw [e]
  exact w _ rfl _ g1 (by rw [g2, hv])
theorem v_new {c : Nat} {t N : Int} (hm : (mtI M)[j]? = some (pc, .new idx, 3)) (hcl : (mtN M).cls = clsS (mtO M)) (hT : cT (mtO M) idx = some c) (hpl : plC c = true) (hc : ((c : Nat) : Int) + 1 = t) (hN : ((szF c : Nat) : Int) = N) (hnx : pc + 3 = nx) (hlc : m 0 0 ≤ 1203200) (hls : m 0 1 + N ≤ 5491882)
    (w : Bs m → ∀ m', m' = al m t 0 N → WV G M nx ls ((1, m 0 0) :: st) m' d P) : WV G M pc ls st m d P := by
  intro h hG hv
  obtain ⟨r, hr, -⟩ := cT_ok hT
  have h25 := clsL_len hr
  obtain ⟨g1, g2⟩ := GI_al (t := t) (l := 0) (n := N) hG (by rw [← hc]; exact plC_t hpl h25)
  have e0 : ∀ f, m 0 f = h 0 f := fun f => by rw [← hv]; exact vw_0 hG.1 f
  rw [e0] at hlc hls
  refine r_new hm hcl hT hc hN hnx hlc hls (fun h' e => ?_)
  rw [e]
  have := w (by rw [← hv]; exact vw_Bs hG.1) _ rfl _ g1 (by rw [g2, hv])
  rw [e0] at this
  exact this
theorem v_newI {n : Int} (hm : (mtI M)[j]? = some (pc, .newarray .int, 2)) (hnx : pc + 2 = nx) (hn : 0 ≤ n) (hlc : m 0 0 ≤ 1203200) (hls : m 0 1 + n ≤ 5491882)
    (w : Bs m → ∀ m', m' = al m 101 n n → WV G M nx ls ((1, m 0 0) :: st) m' d P) : WV G M pc ls ((0, n) :: st) m d P := by
  intro h hG hv
  obtain ⟨g1, g2⟩ := GI_al (t := 101) (l := n) (n := n) hG (by unfold plT; omega)
  have e0 : ∀ f, m 0 f = h 0 f := fun f => by rw [← hv]; exact vw_0 hG.1 f
  rw [e0] at hlc hls
  refine r_newI hm hnx hn hlc hls (fun h' e => ?_)
  rw [e]
  have := w (by rw [← hv]; exact vw_Bs hG.1) _ rfl _ g1 (by rw [g2, hv])
  rw [e0] at this
  exact this
theorem v_newL {n : Int} (hm : (mtI M)[j]? = some (pc, .newarray .long, 2)) (hnx : pc + 2 = nx) (hn : 0 ≤ n) (hlc : m 0 0 ≤ 1203200) (hls : m 0 1 + n ≤ 5491882)
    (w : Bs m → ∀ m', m' = al m 103 n n → WV G M nx ls ((1, m 0 0) :: st) m' d P) : WV G M pc ls ((0, n) :: st) m d P := by
  intro h hG hv
  obtain ⟨g1, g2⟩ := GI_al (t := 103) (l := n) (n := n) hG (by unfold plT; omega)
  have e0 : ∀ f, m 0 f = h 0 f := fun f => by rw [← hv]; exact vw_0 hG.1 f
  rw [e0] at hlc hls
  refine r_newL hm hnx hn hlc hls (fun h' e => ?_)
  rw [e]
  have := w (by rw [← hv]; exact vw_Bs hG.1) _ rfl _ g1 (by rw [g2, hv])
  rw [e0] at this
  exact this
theorem v_anew {n : Int} (hm : (mtI M)[j]? = some (pc, .anewarray idx, 3)) (hcl : (mtN M).cls = clsS (mtO M)) (hA : aT (mtO M) idx = some (5, 0)) (hnx : pc + 3 = nx) (hn : 0 ≤ n) (hlc : m 0 0 ≤ 1203200) (hls : m 0 1 + n ≤ 5491882)
    (w : Bs m → ∀ m', m' = al m 105 n n → WV G M nx ls ((1, m 0 0) :: st) m' d P) : WV G M pc ls ((0, n) :: st) m d P := by
  intro h hG hv
  obtain ⟨g1, g2⟩ := GI_al (t := 105) (l := n) (n := n) hG (by unfold plT; omega)
  have e0 : ∀ f, m 0 f = h 0 f := fun f => by rw [← hv]; exact vw_0 hG.1 f
  rw [e0] at hlc hls
  refine r_anew hm hcl hA rfl hnx hn hlc hls (fun h' e => ?_)
  rw [e]
  have := w (by rw [← hv]; exact vw_Bs hG.1) _ rfl _ g1 (by rw [g2, hv])
  rw [e0] at this
  exact this
def plA (t : Nat) : Bool := Nat.beq t 1 || (Nat.beq t 3 || Nat.beq t 5)
theorem plA_t {t : Nat} (h : plA t = true) : plT (100 + (t : Int)) ∧ (t = 1 ∨ t = 3 ∨ t = 5) := by
  unfold plA at h
  simp only [Bool.or_eq_true] at h
  have : t = 1 ∨ t = 3 ∨ t = 5 := by
    rcases h with h | h | h
    · exact Or.inl (Nat.eq_of_beq_eq_true h)
    · exact Or.inr (Or.inl (Nat.eq_of_beq_eq_true h))
    · exact Or.inr (Or.inr (Nat.eq_of_beq_eq_true h))
  refine ⟨?_, this⟩
  rcases this with rfl | rfl | rfl <;> (unfold plT; omega)
theorem v_alen {t : Nat} {T : Int} (hm : (mtI M)[j]? = some (pc, .arraylength, 1)) (hpl : plA t = true) (hT : (100 : Int) + (t : Nat) = T) (hnx : pc + 1 = nx) (ht : m x (-1) = T)
    (w : WV G M nx ls ((0, m x (-2)) :: st) m d P) : WV G M pc ls ((1, x) :: st) m d P := by
  intro h hG hv
  obtain ⟨hp, h135⟩ := plA_t hpl
  have ht' : h x (-1) = T := vw_tag (by rw [hv]; exact ht) (by omega)
  have e : m x (-2) = h x (-2) := by rw [← hv, vw_plain (by rw [ht', ← hT]; exact hp)]
  rw [e] at w
  exact r_alen hm (by rcases h135 with rfl | rfl | rfl <;> rfl) hT hnx ht' (w h hG hv)
theorem v_ald {t g : Nat} {ty : FieldType} {T i : Int} (hm : (mtI M)[j]? = some (pc, ldOp t, 1)) (hpl : plA t = true) (ha : arrT t = some ty) (hg : tg ty = g) (hT : (100 : Int) + (t : Nat) = T) (hnx : pc + 1 = nx) (ht : m x (-1) = T) (hi : 0 ≤ i) (hl : i < m x (-2))
    (w : WV G M nx ls ((g, m x i) :: st) m d P) : WV G M pc ls ((0, i) :: (1, x) :: st) m d P := by
  intro h hG hv
  obtain ⟨hp, h135⟩ := plA_t hpl
  have ht' : h x (-1) = T := vw_tag (by rw [hv]; exact ht) (by omega)
  have e : ∀ f, m x f = h x f := fun f => by rw [← hv, vw_plain (by rw [ht', ← hT]; exact hp)]
  rw [e] at w hl
  exact r_ald hm ha hg hT hnx ht' hi hl (w h hG hv)
theorem pos_arr {h : SM} {x : Int} (B : Bs h) (hx : x ≠ 0) (h0 : ¬ x < 0) : 0 < x := by omega
theorem v_ast {t g : Nat} {ty : FieldType} {T i : Int} (hm : (mtI M)[j]? = some (pc, stOp t, 1)) (hpl : plA t = true) (ha : arrT t = some ty) (hg : tg ty = g) (hT : (100 : Int) + (t : Nat) = T) (hnx : pc + 1 = nx) (hp4 : t < 4) (hx0 : 0 < x) (ht : m x (-1) = T) (hi : 0 ≤ i) (hl : i < m x (-2)) (hn : okN ty y)
    (w : ∀ m', m' = up m x i y → WV G M nx ls st m' d P) : WV G M pc ls ((g, y) :: (0, i) :: (1, x) :: st) m d P := by
  intro h hG hv
  obtain ⟨hp, h135⟩ := plA_t hpl
  have ht' : h x (-1) = T := vw_tag (by rw [hv]; exact ht) (by omega)
  have hplt : plT (h x (-1)) := by rw [ht', ← hT]; exact hp
  have e : m x (-2) = h x (-2) := by rw [← hv, vw_plain hplt]
  rw [e] at hl
  obtain ⟨g1, g2⟩ := GI_up (F := i) (y := y) hG hplt hi
  refine r_ast hm ha hg hT hnx hp4 hx0 ht' hi hl hn (fun h' e => ?_)
  rw [e]
  exact w _ rfl _ g1 (by rw [g2, hv])
theorem v_astM {i : Int} (hm : (mtI M)[j]? = some (pc, .aastore, 1)) (hnx : pc + 1 = nx) (hx0 : 0 < x) (ht : m x (-1) = 105) (hi : 0 ≤ i) (hl : i < m x (-2)) (hv0 : y = 0 ∨ m y (-1) = 21 ∨ m y (-1) = 22)
    (w : ∀ m', m' = up m x i y → WV G M nx ls st m' d P) : WV G M pc ls ((1, y) :: (0, i) :: (1, x) :: st) m d P := by
  intro h hG hv
  have ht' : h x (-1) = 105 := vw_tag (by rw [hv]; exact ht) (by omega)
  have hplt : plT (h x (-1)) := by rw [ht']; unfold plT; omega
  have e : m x (-2) = h x (-2) := by rw [← hv, vw_plain hplt]
  rw [e] at hl
  obtain ⟨g1, g2⟩ := GI_up (F := i) (y := y) hG hplt hi
  refine r_astA (t := 5) hm rfl rfl rfl hnx hx0 ht' hi hl ?_ (fun h' e => ?_)
  · rcases hv0 with q | q | q
    · exact Or.inl q
    · exact Or.inr ⟨20, vw_tag (by rw [hv]; exact q) (by omega), by decide⟩
    · exact Or.inr ⟨21, vw_tag (by rw [hv]; exact q) (by omega), by decide⟩
  · rw [e]
    exact w _ rfl _ g1 (by rw [g2, hv])
theorem v_idiv (hm : (mtI M)[j]? = some (pc, .idiv, 1)) (hnx : pc + 1 = nx) (hy : y ≠ 0) (w : WV G M nx ls ((0, wr (x.tdiv y)) :: st) m d P) : WV G M pc ls ((0, y) :: (0, x) :: st) m d P := fun h hG hv => r_idiv hm hnx hy (w h hG hv)
theorem v_irem (hm : (mtI M)[j]? = some (pc, .irem, 1)) (hnx : pc + 1 = nx) (hy : y ≠ 0) (w : WV G M nx ls ((0, wr (x - wr (wr (x.tdiv y) * y))) :: st) m d P) : WV G M pc ls ((0, y) :: (0, x) :: st) m d P := fun h hG hv => r_irem hm hnx hy (w h hG hv)
theorem v_ldiv (hm : (mtI M)[j]? = some (pc, .ldiv, 1)) (hnx : pc + 1 = nx) (hy : y ≠ 0) (w : WV G M nx ls ((2, wrL (x.tdiv y)) :: st) m d P) : WV G M pc ls ((2, y) :: (2, x) :: st) m d P := fun h hG hv => r_ldiv hm hnx hy (w h hG hv)
theorem v_lrem (hm : (mtI M)[j]? = some (pc, .lrem, 1)) (hnx : pc + 1 = nx) (hy : y ≠ 0) (w : WV G M nx ls ((2, wrL (x - wrL (wrL (x.tdiv y) * y))) :: st) m d P) : WV G M pc ls ((2, y) :: (2, x) :: st) m d P := fun h hG hv => r_lrem hm hnx hy (w h hG hv)
theorem v_gets {g : Nat} {v : Int} (hm : (mtI M)[j]? = some (pc, .getstatic idx, 3)) (hcl : (mtN M).cls = clsS (mtO M)) (hT : sT (mtO M) idx = some (g, v)) (hnx : pc + 3 = nx) (w : WV G M nx ls ((g, v) :: st) m d P) : WV G M pc ls st m d P := fun h hG hv => r_gets hm hcl hT hnx (w h hG hv)
theorem v_ldc {g : Nat} {v : Int} (hm : (mtI M)[j]? = some (pc, .ldc idx, 2)) (hcl : (mtN M).cls = clsS (mtO M)) (hT : kT (mtO M) idx = some (g, v)) (hg : g ≠ 2) (hnx : pc + 2 = nx) (w : WV G M nx ls ((g, v) :: st) m d P) : WV G M pc ls st m d P := fun h hG hv => r_ldc hm hcl hT hg hnx (w h hG hv)
theorem v_ldc2 {v : Int} (hm : (mtI M)[j]? = some (pc, .ldc2_w idx, 3)) (hcl : (mtN M).cls = clsS (mtO M)) (hT : kT (mtO M) idx = some (2, v)) (hnx : pc + 3 = nx) (w : WV G M nx ls ((2, v) :: st) m d P) : WV G M pc ls st m d P := fun h hG hv => r_ldc2 hm hcl hT hnx (w h hG hv)
theorem v_cast {c : Nat} {t : Int} (hm : (mtI M)[j]? = some (pc, .checkcast idx, 3)) (hcl : (mtN M).cls = clsS (mtO M)) (hT : cT (mtO M) idx = some c) (hc : ((c : Nat) : Int) + 1 = t) (hnx : pc + 3 = nx) (hx : x = 0 ∨ m x (-1) = t) (w : WV G M nx ls ((1, x) :: st) m d P) : WV G M pc ls ((1, x) :: st) m d P := by
  intro h hG hv
  refine r_cast hm hcl hT hc hnx ?_ (w h hG hv)
  rcases hx with q | q
  · exact Or.inl q
  · exact Or.inr (vw_tag (by rw [hv]; exact q) (by omega))
theorem v_inst {c o : Nat} {t t' : Int} (hm : (mtI M)[j]? = some (pc, .instanceof idx, 3)) (hcl : (mtN M).cls = clsS (mtO M)) (hT : cT (mtO M) idx = some c) (hc : ((c : Nat) : Int) + 1 = t) (ho : (o, c) ∈ noC) (hc' : ((o : Nat) : Int) + 1 = t') (hnx : pc + 3 = nx) (hx : x = 0 ∨ m x (-1) = t ∨ m x (-1) = t')
    (w : WV G M nx ls ((0, if m x (-1) = t then 1 else 0) :: st) m d P) : WV G M pc ls ((1, x) :: st) m d P := by
  intro h hG hv
  have back : ∀ k : Int, k ≠ 0 → m x (-1) = k → h x (-1) = k := fun k hk q => vw_tag (by rw [hv]; exact q) hk
  refine r_inst hm hcl hT hc ho hc' hnx ?_ ?_
  · rcases hx with q | q | q
    · exact Or.inl q
    · exact Or.inr (Or.inl (back _ (by omega) q))
    · exact Or.inr (Or.inr (back _ (by omega) q))
  · have e : (if m x (-1) = t then (1 : Int) else 0) = if h x (-1) = t then 1 else 0 := by
      by_cases q : m x (-1) = t
      · rw [if_pos q, if_pos (back _ (by omega) q)]
      · rw [if_neg q, if_neg]
        intro q'
        rcases hx with z | z | z
        · rw [z, hG.1.1] at q'; omega
        · exact q z
        · have := back _ (by omega) z
          exact q (by rw [z]; omega)
    rw [e] at w
    exact w h hG hv
theorem v_vret (hm : (mtI M)[j]? = some (pc, .return_, 1)) (hr : mtR M = none) (w : P 0 0 m) : WV G M pc ls [] m d P := fun h hG hv => r_vret hm hr ⟨hG, by rw [hv]; exact w⟩
theorem v_iret {ty : FieldType} (hm : (mtI M)[j]? = some (pc, .ireturn, 1)) (hr : mtR M = some ty) (ht : tg ty = 0) (hn : okN ty x) (w : P 0 x m) : WV G M pc ls [(0, x)] m d P := fun h hG hv => r_iret hm hr ht hn ⟨hG, by rw [hv]; exact w⟩
theorem v_aret {ty : FieldType} (hm : (mtI M)[j]? = some (pc, .areturn, 1)) (hr : mtR M = some ty) (ht : tg ty = 1) (w : P 0 x m) : WV G M pc ls [(1, x)] m d P := fun h hG hv => r_aret hm hr ht ⟨hG, by rw [hv]; exact w⟩
theorem v_obj {n : Nat} {M' : Mt} {t : Int} (hm : (mtI M)[j]? = some (pc, .invokespecial idx, 3)) (hcl : (mtN M).cls = clsS (mtO M)) (hT : mT (mtO M) idx = some (6, M', t, n)) (hnx : pc + 3 = nx) (hx : x ≠ 0) (hd : 0 < d) (hst : st.length ≤ 20) (w : WV G M nx ls st m d P) : WV G M pc ls ((1, x) :: st) m d P := fun h hG hv => r_obj hm hcl hT hnx hx hd hst (w h hG hv)
theorem v_throw {c ic j1 j2 j3 : Nat} {t : Int} (hm0 : (mtI M)[j]? = some (pc, .new idx, 3)) (hm1 : (mtI M)[j1]? = some (pc + 3, .dup, 1)) (hm2 : (mtI M)[j2]? = some (pc + 4, .invokespecial ic, 3)) (hm3 : (mtI M)[j3]? = some (pc + 7, .athrow, 1)) (hcl : (mtN M).cls = clsS (mtO M)) (hT : cT (mtO M) idx = some c) (hE : eT (mtO M) ic = some c) (hc : c ∈ excs) (hpl : plC c = true) (ht : ((c : Nat) : Int) + 1 = t)
    (hcov : (mtH M).filter (covP (pc + 7)) = []) (hd : 6 ≤ d) (hst : st.length ≤ 20) (hlc : m 0 0 ≤ 1203200) (hls : m 0 1 + 6 ≤ 5491882) (w : Bs m → ∀ m', m' = al m t 0 6 → P 1 (m 0 0) m') : WV G M pc ls st m d P := by
  intro h hG hv
  obtain ⟨r, hr, -⟩ := cT_ok hT
  have h25 := clsL_len hr
  obtain ⟨g1, g2⟩ := GI_al (t := t) (l := 0) (n := 6) hG (by rw [← ht]; exact plC_t hpl h25)
  have e0 : ∀ f, m 0 f = h 0 f := fun f => by rw [← hv]; exact vw_0 hG.1 f
  have B : Bs m := by rw [← hv]; exact vw_Bs hG.1
  rw [e0] at hlc hls
  refine r_throw hm0 hm1 hm2 hm3 hcl hT hE hc ht hcov hd hst hlc hls (fun h' e => ?_)
  rw [e]
  have := w B _ rfl
  rw [e0] at this
  exact ⟨g1, by rw [g2, hv]; exact this⟩
end VR
section VC
variable {G : GM} {M M' : Mt} {d j pc idx nx n : Nat} {ls st as ls0 : List AV} {m : SM} {P Q : Nat → Int → SM → Prop} {t : Int}
/-- what a callee must come to, over the view -/
def Kv (G : GM) (M M' : Mt) (pc len : Nat) (ls st : List AV) (d : Nat) (P : Nat → Int → SM → Prop) (k : Nat) (v : Int) (m' : SM) : Prop := ∀ h', GI h' → vw h' = m' → Kc G M M' (cT (mtO M)) pc len ls st d (PV P) k v h'
theorem Kv.of (w : WV G M' 0 ls0 [] m d Q) {len e : Nat} (hK : ∀ k v m', Q k v m' → Kv G M M' pc len ls st e P k v m') {h : SM} (hG : GI h) (hv : vw h = m) : WP G M' 0 ls0 [] h d (Kc G M M' (cT (mtO M)) pc len ls st e (PV P)) :=
  (w h hG hv).mono fun k v h' q => hK k v _ q.2 h' q.1 rfl
theorem kv0 {len : Nat} {st' : Int → List AV} (hnx : pc + len = nx) (hR : ∀ v, pshR (mtR M') v st = st' v) : ∀ k v m', (k = 0 ∧ WV G M nx ls (st' v) m' d P) → Kv G M M' pc len ls st d P k v m' :=
  fun k v m' q h' hG hv => kk0 hnx hR k v h' ⟨q.1, q.2 h' hG hv⟩
theorem kvt {len : Nat} {st' : Int → List AV} (hnx : pc + len = nx) (hR : ∀ v, pshR (mtR M') v st = st' v) (hc : (mtH M).filter (covP pc) = []) : ∀ k v m', ((k = 0 → WV G M nx ls (st' v) m' d P) ∧ (k ≠ 0 → P 1 v m')) → Kv G M M' pc len ls st d P k v m' :=
  fun k v m' q h' hG hv => kkt hnx hR hc k v h' ⟨fun z => q.1 z h' hG hv, fun z => ⟨hG, by rw [hv]; exact q.2 z⟩⟩
theorem kvh {len a b hp ct c : Nat} {st' : Int → List AV} (hnx : pc + len = nx) (hR : ∀ v, pshR (mtR M') v st = st' v) (hc : (mtH M).filter (covP pc) = [(a, b, hp, ct)]) (hct : cT (mtO M) ct = some c) (ht : ((c : Nat) : Int) + 1 = t) :
    ∀ k v m', ((k = 0 → WV G M nx ls (st' v) m' d P) ∧ (k ≠ 0 → m' v (-1) = t ∧ WV G M hp ls [(1, v)] m' d P)) → Kv G M M' pc len ls st d P k v m' :=
  fun k v m' q h' hG hv => kkh hnx hR hc hct ht k v h' ⟨fun z => q.1 z h' hG hv, fun z => ⟨vw_tag (by rw [hv]; exact (q.2 z).1) (by omega), (q.2 z).2 h' hG hv⟩⟩
theorem kv2 {len a b hp ct c a2 b2 hp2 ct2 c2 : Nat} {t2 : Int} {st' : Int → List AV} (hnx : pc + len = nx) (hR : ∀ v, pshR (mtR M') v st = st' v) (hc : (mtH M).filter (covP pc) = [(a, b, hp, ct), (a2, b2, hp2, ct2)]) (hct : cT (mtO M) ct = some c) (hct2 : cT (mtO M) ct2 = some c2) (hno : (c2, c) ∈ noC) (ht : ((c : Nat) : Int) + 1 = t) (ht2 : ((c2 : Nat) : Int) + 1 = t2) (hne : t2 ≠ t) :
    ∀ k v m', ((k = 0 → WV G M nx ls (st' v) m' d P) ∧ (k ≠ 0 → (m' v (-1) = t ∧ WV G M hp ls [(1, v)] m' d P) ∨ (m' v (-1) = t2 ∧ WV G M hp2 ls [(1, v)] m' d P))) → Kv G M M' pc len ls st d P k v m' :=
  fun k v m' q h' hG hv => kk2 hnx hR hc hct hct2 hno ht ht2 hne k v h' ⟨fun z => q.1 z h' hG hv, fun z => (q.2 z).elim (fun e => Or.inl ⟨vw_tag (by rw [hv]; exact e.1) (by omega), e.2 h' hG hv⟩) (fun e => Or.inr ⟨vw_tag (by rw [hv]; exact e.1) (by omega), e.2 h' hG hv⟩)⟩
theorem v_callS (hm : (mtI M)[j]? = some (pc, .invokestatic idx, 3)) (hcl : (mtN M).cls = clsS (mtO M)) (hT : mT (mtO M) idx = some (0, M', t, n)) (has : as.length = n) (hL : entL as (mtL M') = ls0) (hfit : mtL M' + 2 * st.length ≤ 50) (hent : (ent as).length ≤ mtL M') (hd : 0 < d)
    (hK : ∀ k v m', Q k v m' → Kv G M M' pc 3 ls st d P k v m') (w : WV G M' 0 ls0 [] m (d - 1) Q) : WV G M pc ls (as.reverse ++ st) m d P := fun h hG hv =>
  r_callS hm hcl hT has hL hfit hent hd (fun _ _ _ q => q) (Kv.of w hK hG hv)
theorem v_callI {x : Int} (hm : (mtI M)[j]? = some (pc, .invokespecial idx, 3)) (hcl : (mtN M).cls = clsS (mtO M)) (hT : mT (mtO M) idx = some (1, M', t, n)) (has : as.length = n) (hL : entL ((1, x) :: as) (mtL M') = ls0) (hfit : mtL M' + 2 * st.length ≤ 50) (hent : (ent ((1, x) :: as)).length ≤ mtL M') (hd : 0 < d) (hx : x ≠ 0)
    (hK : ∀ k v m', Q k v m' → Kv G M M' pc 3 ls st d P k v m') (w : WV G M' 0 ls0 [] m (d - 1) Q) : WV G M pc ls (as.reverse ++ (1, x) :: st) m d P := fun h hG hv =>
  r_callI hm hcl hT has hL hfit hent hd hx (fun _ _ _ q => q) (Kv.of w hK hG hv)
theorem v_callV {x : Int} (hm : (mtI M)[j]? = some (pc, .invokevirtual idx, 3)) (hcl : (mtN M).cls = clsS (mtO M)) (hT : mT (mtO M) idx = some (2, M', t, n)) (has : as.length = n) (hL : entL ((1, x) :: as) (mtL M') = ls0) (hfit : mtL M' + 2 * st.length ≤ 50) (hent : (ent ((1, x) :: as)).length ≤ mtL M') (hd : 0 < d) (h0 : t ≠ 0) (ht : m x (-1) = t)
    (hK : ∀ k v m', Q k v m' → Kv G M M' pc 3 ls st d P k v m') (w : WV G M' 0 ls0 [] m (d - 1) Q) : WV G M pc ls (as.reverse ++ (1, x) :: st) m d P := fun h hG hv =>
  r_callV hm hcl hT has hL hfit hent hd (vw_tag (by rw [hv]; exact ht) h0) (fun _ _ _ q => q) (Kv.of w hK hG hv)
theorem v_callF {M2 : Mt} {x : Int} {cnt : Nat} {Q2 : Nat → Int → SM → Prop} {ls2 : List AV} (hm : (mtI M)[j]? = some (pc, .invokeinterface idx cnt, 5)) (hcl : (mtN M).cls = clsS (mtO M)) (hT : iT (mtO M) idx = some (M', M2)) (hL : entL [(1, x)] (mtL M') = ls0) (hL2 : entL [(1, x)] (mtL M2) = ls2) (hfit : mtL M' + 2 * st.length ≤ 50) (hfit2 : mtL M2 + 2 * st.length ≤ 50) (hent : 1 ≤ mtL M') (hent2 : 1 ≤ mtL M2) (hd : 0 < d) (hx : m x (-1) = 21 ∨ m x (-1) = 22)
    (hK : ∀ k v m', Q k v m' → Kv G M M' pc 5 ls st d P k v m') (hK2 : ∀ k v m', Q2 k v m' → Kv G M M2 pc 5 ls st d P k v m')
    (w : m x (-1) = 21 → WV G M' 0 ls0 [] m (d - 1) Q) (w2 : m x (-1) = 22 → WV G M2 0 ls2 [] m (d - 1) Q2) : WV G M pc ls ((1, x) :: st) m d P := fun h hG hv => by
  have back : ∀ k : Int, k ≠ 0 → m x (-1) = k → h x (-1) = k := fun k hk q => vw_tag (by rw [hv]; exact q) hk
  have fwd : ∀ k : Int, k ≠ 104 → k ≠ 102 → h x (-1) = k → m x (-1) = k := fun k h1 h2 q => by rw [← hv, vw_tag' (by omega) (by omega)]; exact q
  exact r_callF hm hcl hT hL hL2 hfit hfit2 hent hent2 hd (hx.imp (back _ (by decide)) (back _ (by decide))) (fun _ _ _ q => q) (fun _ _ _ q => q) (fun q => Kv.of (w (fwd _ (by decide) (by decide) q)) hK hG hv) (fun q => Kv.of (w2 (fwd _ (by decide) (by decide) q)) hK2 hG hv)
end VC
