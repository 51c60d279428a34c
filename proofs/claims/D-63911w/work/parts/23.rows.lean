/-! L1: the rows once more, by the tables: what is asked is mostly 'rfl' -/
def okc (i : Instr) : Bool := match i with
  | .iconst n => decide (-32768 ≤ n) && decide (n ≤ 32767)
  | .bipush n => decide (-128 ≤ n) && decide (n ≤ 127)
  | .sipush n => decide (-32768 ≤ n) && decide (n ≤ 32767)
  | _ => true
theorem okc_hn {i : Instr} (h : okc i = true) : ∀ n, (i = .iconst n ∨ i = .bipush n ∨ i = .sipush n) → (-32768 ≤ n ∧ n ≤ 32767) ∧ (i = .bipush n → -128 ≤ n ∧ n ≤ 127) := by
  intro n hn
  rcases hn with rfl | rfl | rfl <;> simp only [okc, Bool.and_eq_true, decide_eq_true_eq] at h
  · exact ⟨h, fun q => by cases q⟩
  · exact ⟨by omega, fun _ => h⟩
  · exact ⟨h, fun q => by cases q⟩
/-- a run of instructions that touch locals and stack alone -/
def puR : List (Nat × Instr × Nat) → Nat → List AV → List AV → Option (Nat × List AV × List AV)
  | [], pc, ls, st => some (pc, ls, st)
  | e :: r, pc, ls, st => match Nat.beq e.1 pc && (Nat.beq e.2.2 (ilen e.2.1) && okc e.2.1) with
    | true => (match pu e.2.1 ls st with
      | some q => puR r (pc + e.2.2) q.1 q.2
      | none => none)
    | false => none
theorem puR_ok {G : GM} {M : Mt} {d : Nat} {h : SM} {P : Nat → Int → SM → Prop} : ∀ (l : List (Nat × Instr × Nat)) {pc pc' : Nat} {ls st ls' st' : List AV}, (∀ e ∈ l, e ∈ mtI M) → puR l pc ls st = some (pc', ls', st') → WP G M pc' ls' st' h d P → WP G M pc ls st h d P
  | [], pc, pc', ls, st, ls', st', _, hp, w => by cases hp; exact w
  | e :: r, pc, pc', ls, st, ls', st', hm, hp, w => by
    unfold puR at hp
    cases hb : (Nat.beq e.1 pc && (Nat.beq e.2.2 (ilen e.2.1) && okc e.2.1)) with
    | false => rw [hb] at hp; cases hp
    | true =>
      rw [hb] at hp
      dsimp only at hp
      simp only [Bool.and_eq_true] at hb
      obtain ⟨h1, h2, h3⟩ := hb
      have h1 := Nat.eq_of_beq_eq_true h1
      have h2 := Nat.eq_of_beq_eq_true h2
      cases hq : pu e.2.1 ls st with
      | none => rw [hq] at hp; cases hp
      | some q =>
        rw [hq] at hp
        dsimp only at hp
        have w' := puR_ok r (fun x hx => hm x (List.mem_cons_of_mem _ hx)) hp w
        have he := hm e (List.mem_cons_self ..)
        subst h1
        exact s_pure (i := e.2.1) (len := e.2.2) he h2 hq (okc_hn h3) w'
def tgF (c f : Nat) : Nat := match clsL[c]? with
  | some r => tg (r.2.2.2.1 f)
  | none => 9
def tyF (c f : Nat) : FieldType := match clsL[c]? with
  | some r => r.2.2.2.1 f
  | none => .float
def szF (c : Nat) : Nat := match clsL[c]? with
  | some r => r.2.2.2.2
  | none => 0
/-- may the field be written here? (final: only by its own class's constructor) -/
def pkF (M : Mt) (c f : Nat) : Bool := match clsL[c]? with
  | some r => !(r.2.1 f).2.2.2 || (decide ((mtN M).name = "<init>") && decide ((r.2.1 f).1 = (mtN M).cls))
  | none => false
/-- a value's range by its type, as it is asked of what is stored -/
def rgF (ty : FieldType) (v : Int) : Prop := match ty with
  | .boolean => v = 0 ∨ v = 1
  | .byte => -128 ≤ v ∧ v ≤ 127
  | .char => 0 ≤ v ∧ v ≤ 65535
  | _ => True
theorem rgF_okN {ty : FieldType} {v : Int} (h : rgF ty v) (hk : ty ≠ .short) (hf : ty ≠ .float) (hd : ty ≠ .double) : okN ty v := by
  cases ty <;> first | exact h | trivial | exact absurd rfl hk | exact absurd rfl hf | exact absurd rfl hd
section RW
variable {G : GM} {M : Mt} {d j pc idx : Nat} {ls st : List AV} {h : SM} {P : Nat → Int → SM → Prop}
theorem r_run (j n : Nat) {pc' : Nat} {ls' st' : List AV} (hp : puR (((mtI M).drop j).take n) pc ls st = some (pc', ls', st')) (w : WP G M pc' ls' st' h d P) : WP G M pc ls st h d P :=
  puR_ok _ (fun e he => List.mem_of_mem_drop (List.mem_of_mem_take he)) hp w
/-- locals that are of no more use are forgotten -/
def drp : List Bool → List AV → List AV
  | b :: bs, v :: vs => (match b with
    | true => v
    | false => (9, 0)) :: drp bs vs
  | _, vs => vs
theorem drp_get : ∀ (bs : List Bool) (vs : List AV) (i : Nat) (v : AV), (drp bs vs)[i]? = some v → v.1 ≠ 9 → vs[i]? = some v
  | [], vs, i, v, h, _ => by unfold drp at h; exact h
  | b :: bs, [], i, v, h, _ => by unfold drp at h; exact h
  | b :: bs, w :: vs, 0, v, h, h9 => by
    unfold drp at h
    cases b with
    | true => exact h
    | false => cases h; exact absurd rfl h9
  | b :: bs, w :: vs, i + 1, v, h, h9 => by
    unfold drp at h
    exact drp_get bs vs i v h h9
theorem drp_len : ∀ (bs : List Bool) (vs : List AV), (drp bs vs).length = vs.length
  | [], vs => rfl
  | b :: bs, [] => rfl
  | b :: bs, w :: vs => by unfold drp; rw [List.length_cons, drp_len bs vs, List.length_cons]
theorem r_drp (bs : List Bool) (w : WP G M pc (drp bs ls) st h d P) : WP G M pc ls st h d P := by
  intro p e R s m args below meth c H locs la C hR h1 h2 h3 h4 h5
  exact w p e R s m args below meth c H locs la C hR h1 h2 h3 ⟨h4.1, h4.2.1, by rw [drp_len]; exact h4.2.2.1, fun i v hv h9 => h4.2.2.2 i v (drp_get bs ls i v hv h9) h9⟩ h5
theorem r_if {c : ClassFile.Cond} {off : Int} {tgt nx : Nat} {x : Int} (hm : (mtI M)[j]? = some (pc, .ifCond c off, 3)) (ht : (pc : Int) + off = (tgt : Int)) (hnx : pc + 3 = nx)
    (wt : cnd c x 0 → WP G M tgt ls st h d P) (wf : ¬ cnd c x 0 → WP G M nx ls st h d P) : WP G M pc ls ((0, x) :: st) h d P := by
  subst hnx; exact s_if (List.mem_of_getElem? hm) ht wt wf
theorem r_icmp {c : ClassFile.Cond} {off : Int} {tgt nx : Nat} {x y : Int} (hm : (mtI M)[j]? = some (pc, .if_icmp c off, 3)) (ht : (pc : Int) + off = (tgt : Int)) (hnx : pc + 3 = nx)
    (wt : cnd c x y → WP G M tgt ls st h d P) (wf : ¬ cnd c x y → WP G M nx ls st h d P) : WP G M pc ls ((0, y) :: (0, x) :: st) h d P := by
  subst hnx; exact s_icmp (List.mem_of_getElem? hm) ht wt wf
theorem r_aeq {off : Int} {tgt nx : Nat} {x y : Int} (hm : (mtI M)[j]? = some (pc, .if_acmp .eq off, 3)) (ht : (pc : Int) + off = (tgt : Int)) (hnx : pc + 3 = nx)
    (wt : x = y → WP G M tgt ls st h d P) (wf : ¬ x = y → WP G M nx ls st h d P) : WP G M pc ls ((1, y) :: (1, x) :: st) h d P := by
  subst hnx; exact s_acmp (c := .eq) (List.mem_of_getElem? hm) ht wt wf
theorem r_ane {off : Int} {tgt nx : Nat} {x y : Int} (hm : (mtI M)[j]? = some (pc, .if_acmp .ne off, 3)) (ht : (pc : Int) + off = (tgt : Int)) (hnx : pc + 3 = nx)
    (wt : ¬ x = y → WP G M tgt ls st h d P) (wf : x = y → WP G M nx ls st h d P) : WP G M pc ls ((1, y) :: (1, x) :: st) h d P := by
  subst hnx; exact s_acmp (c := .ne) (List.mem_of_getElem? hm) ht wt (fun q => wf (Classical.not_not.mp q))
theorem r_null {off : Int} {tgt nx : Nat} {x : Int} (hm : (mtI M)[j]? = some (pc, .ifnull off, 3)) (ht : (pc : Int) + off = (tgt : Int)) (hnx : pc + 3 = nx)
    (wt : x = 0 → WP G M tgt ls st h d P) (wf : ¬ x = 0 → WP G M nx ls st h d P) : WP G M pc ls ((1, x) :: st) h d P := by
  subst hnx; exact s_null (List.mem_of_getElem? hm) ht wt wf
theorem r_nonnull {off : Int} {tgt nx : Nat} {x : Int} (hm : (mtI M)[j]? = some (pc, .ifnonnull off, 3)) (ht : (pc : Int) + off = (tgt : Int)) (hnx : pc + 3 = nx)
    (wt : ¬ x = 0 → WP G M tgt ls st h d P) (wf : x = 0 → WP G M nx ls st h d P) : WP G M pc ls ((1, x) :: st) h d P := by
  subst hnx; exact s_nonnull (List.mem_of_getElem? hm) ht wt wf
theorem r_goto {off : Int} {tgt : Nat} (hm : (mtI M)[j]? = some (pc, .goto off, 3)) (ht : (pc : Int) + off = (tgt : Int)) (w : WP G M tgt ls st h d P) : WP G M pc ls st h d P :=
  s_goto (List.mem_of_getElem? hm) ht w
/-- a tableswitch: in the table, or out of it -/
theorem r_tsw {df lo hi : Int} {offs : Array Int} {len tdf : Nat} {tg : List Nat} {x : Int} (hm : (mtI M)[j]? = some (pc, .tableswitch df lo hi offs, len)) (hdf : (pc : Int) + df = (tdf : Int)) (htg : offs.toList.map (fun o => (pc : Int) + o) = tg.map (fun n : Nat => (n : Int))) (hlh : hi - lo + 1 = (tg.length : Int))
    (wo : x < lo ∨ hi < x → WP G M tdf ls st h d P) (wi : ∀ k : Nat, ∀ n, tg[k]? = some n → x = lo + k → WP G M n ls st h d P) : WP G M pc ls ((0, x) :: st) h d P := by
  have key : ∀ (k : Nat) (off : Int), offs[k]? = some off → ∃ n : Nat, tg[k]? = some n ∧ (pc : Int) + off = (n : Int) := by
    intro k off ho
    have h1 : (offs.toList.map (fun o => (pc : Int) + o))[k]? = some ((pc : Int) + off) := by rw [List.getElem?_map, Array.getElem?_toList, ho]; rfl
    rw [htg, List.getElem?_map] at h1
    cases hk : tg[k]? with
    | none => rw [hk] at h1; cases h1
    | some n => rw [hk] at h1; exact ⟨n, rfl, (Option.some.inj h1).symm⟩
  have hlen : offs.size = tg.length := by
    have := congrArg List.length htg
    simpa using this
  refine s_tsw (List.mem_of_getElem? hm) (fun off h1 h2 => ?_) (fun hr => ?_)
  · by_cases hr : x < lo ∨ hi < x
    · rw [h1 hr]; exact ⟨tdf, hdf, wo hr⟩
    · obtain ⟨n, e1, e2⟩ := key _ _ (h2 hr)
      exact ⟨n, e2, wi (x - lo).toNat n e1 (by omega)⟩
  · refine ⟨offs[(x - lo).toNat]'(by omega), Array.getElem?_eq_getElem _⟩
theorem r_lsw {df a oa b ob : Int} {len ta tb tdf : Nat} {x : Int} (hm : (mtI M)[j]? = some (pc, .lookupswitch df #[(a, oa), (b, ob)], len)) (hab : a < b) (h1 : (pc : Int) + oa = (ta : Int)) (h2 : (pc : Int) + ob = (tb : Int)) (h3 : (pc : Int) + df = (tdf : Int))
    (wa : x = a → WP G M ta ls st h d P) (wb : x = b → WP G M tb ls st h d P) (wd : x ≠ a → x ≠ b → WP G M tdf ls st h d P) : WP G M pc ls ((0, x) :: st) h d P := by
  have hp : (#[(a, oa), (b, ob)].toList.zip (#[(a, oa), (b, ob)].toList.drop 1)).all (fun (q, next) => q.1 < next.1) = true := by simpa using hab
  by_cases ea : x = a
  · refine s_lsw (off := oa) (tgt := ta) (List.mem_of_getElem? hm) hp ?_ h1 (wa ea)
    simp [Op.lookupswitch.offset, ea]
  · by_cases eb : x = b
    · refine s_lsw (off := ob) (tgt := tb) (List.mem_of_getElem? hm) hp ?_ h2 (wb eb)
      subst eb
      simp [Op.lookupswitch.offset, ea, Ne.symm ea]
    · refine s_lsw (off := df) (tgt := tdf) (List.mem_of_getElem? hm) hp ?_ h3 (wd ea eb)
      simp [Op.lookupswitch.offset, ea, eb, Ne.symm ea, Ne.symm eb]
theorem r_getf {c f g nx : Nat} {t F x : Int} (hm : (mtI M)[j]? = some (pc, .getfield idx, 3)) (hcl : (mtN M).cls = clsS (mtO M)) (hT : fT (mtO M) idx = some (c, f)) (hg : tgF c f = g) (hc : ((c : Nat) : Int) + 1 = t) (hF : ((f : Nat) : Int) = F) (hnx : pc + 3 = nx) (ht : h x (-1) = t)
    (w : WP G M nx ls ((g, h x F) :: st) h d P) : WP G M pc ls ((1, x) :: st) h d P := by
  subst hg hc hF hnx
  have hO := fT_ok hT
  rw [← hcl] at hO
  obtain ⟨r, ref, e1, -⟩ := id hO
  refine s_getf (c := c) (f := f) (List.mem_of_getElem? hm) hO e1 ht ?_
  have : tgF c f = tg (r.2.2.2.1 f) := by unfold tgF; rw [e1]
  rw [this] at w; exact w
theorem r_putf {c f g nx : Nat} {t F x y : Int} (hm : (mtI M)[j]? = some (pc, .putfield idx, 3)) (hcl : (mtN M).cls = clsS (mtO M)) (hT : fT (mtO M) idx = some (c, f)) (hp : pkF M c f = true) (hg : tgF c f = g) (hc : ((c : Nat) : Int) + 1 = t) (hF : ((f : Nat) : Int) = F) (hnx : pc + 3 = nx) (hx : 0 < x) (ht : h x (-1) = t) (hn : okN (tyF c f) y)
    (w : ∀ h', h' = up h x F y → WP G M nx ls st h' d P) : WP G M pc ls ((g, y) :: (1, x) :: st) h d P := by
  subst hc hF hnx
  have hO := fT_ok hT
  rw [← hcl] at hO
  obtain ⟨r, ref, e1, -⟩ := id hO
  have e2 : tgF c f = tg (r.2.2.2.1 f) := by unfold tgF; rw [e1]
  have e3 : tyF c f = r.2.2.2.1 f := by unfold tyF; rw [e1]
  refine s_putf (c := c) (f := f) (v := (g, y)) (List.mem_of_getElem? hm) hO e1 ?_ hx ht (by rw [← hg]; exact e2) (by rw [← e3]; exact hn) (w _ rfl)
  unfold pkF at hp
  rw [e1] at hp
  simp only [Bool.or_eq_true, Bool.not_eq_true', Bool.and_eq_true, decide_eq_true_eq] at hp
  unfold putOK
  cases hb : (r.2.1 f).2.2.2 with
  | false => exact Or.inl rfl
  | true =>
    rw [hb] at hp
    rcases hp with hp | hp
    · cases hp
    · exact Or.inr ⟨rfl, hp⟩
theorem r_new {c nx : Nat} {t N : Int} (hm : (mtI M)[j]? = some (pc, .new idx, 3)) (hcl : (mtN M).cls = clsS (mtO M)) (hT : cT (mtO M) idx = some c) (hc : ((c : Nat) : Int) + 1 = t) (hN : ((szF c : Nat) : Int) = N) (hnx : pc + 3 = nx) (hlc : h 0 0 ≤ 1203200) (hls : h 0 1 + N ≤ 5491882)
    (w : ∀ h', h' = al h t 0 N → WP G M nx ls ((1, h 0 0) :: st) h' d P) : WP G M pc ls st h d P := by
  subst hc hN hnx
  have hK := cT_made hT
  rw [← hcl] at hK
  obtain ⟨r, e1, -⟩ := id hK
  have e2 : szF c = r.2.2.2.2 := by unfold szF; rw [e1]
  rw [e2] at hls w
  exact s_new (c := c) (List.mem_of_getElem? hm) hK e1 hlc hls (w _ rfl)
theorem r_newI {nx : Nat} {n : Int} (hm : (mtI M)[j]? = some (pc, .newarray .int, 2)) (hnx : pc + 2 = nx) (hn : 0 ≤ n) (hlc : h 0 0 ≤ 1203200) (hls : h 0 1 + n ≤ 5491882)
    (w : ∀ h', h' = al h 101 n n → WP G M nx ls ((1, h 0 0) :: st) h' d P) : WP G M pc ls ((0, n) :: st) h d P := by
  subst hnx; exact s_newa (t := 1) (ty := .int) (List.mem_of_getElem? hm) rfl rfl (fun _ q => by cases q) w_aint hn hlc hls (w _ rfl)
theorem r_newB {nx : Nat} {n : Int} (hm : (mtI M)[j]? = some (pc, .newarray .byte, 2)) (hnx : pc + 2 = nx) (hn : 0 ≤ n) (hlc : h 0 0 ≤ 1203200) (hls : h 0 1 + n ≤ 5491882)
    (w : ∀ h', h' = al h 102 n n → WP G M nx ls ((1, h 0 0) :: st) h' d P) : WP G M pc ls ((0, n) :: st) h d P := by
  subst hnx; exact s_newa (t := 2) (ty := .byte) (List.mem_of_getElem? hm) rfl rfl (fun _ q => by cases q) w_abyte hn hlc hls (w _ rfl)
theorem r_newL {nx : Nat} {n : Int} (hm : (mtI M)[j]? = some (pc, .newarray .long, 2)) (hnx : pc + 2 = nx) (hn : 0 ≤ n) (hlc : h 0 0 ≤ 1203200) (hls : h 0 1 + n ≤ 5491882)
    (w : ∀ h', h' = al h 103 n n → WP G M nx ls ((1, h 0 0) :: st) h' d P) : WP G M pc ls ((0, n) :: st) h d P := by
  subst hnx; exact s_newa (t := 3) (ty := .long) (List.mem_of_getElem? hm) rfl rfl (fun _ q => by cases q) w_along hn hlc hls (w _ rfl)
theorem r_anew {t nx : Nat} {T n : Int} (hm : (mtI M)[j]? = some (pc, .anewarray idx, 3)) (hcl : (mtN M).cls = clsS (mtO M)) (hA : aT (mtO M) idx = some (t, 0)) (hT : (100 : Int) + (t : Nat) = T) (hnx : pc + 3 = nx) (hn : 0 ≤ n) (hlc : h 0 0 ≤ 1203200) (hls : h 0 1 + n ≤ 5491882)
    (w : ∀ h', h' = al h T n n → WP G M nx ls ((1, h 0 0) :: st) h' d P) : WP G M pc ls ((0, n) :: st) h d P := by
  subst hT hnx
  have hO := aT_ok hA
  rw [← hcl] at hO
  rcases hO with ⟨-, E, e1, e2, e3⟩ | ⟨h0, -⟩
  · exact s_anew (t := t) (List.mem_of_getElem? hm) e1 e2 e3 hn hlc hls (w _ rfl)
  · cases h0
theorem r_alen {t nx : Nat} {T x : Int} (hm : (mtI M)[j]? = some (pc, .arraylength, 1)) (ha : (arrT t).isSome = true) (hT : (100 : Int) + (t : Nat) = T) (hnx : pc + 1 = nx) (ht : h x (-1) = T)
    (w : WP G M nx ls ((0, h x (-2)) :: st) h d P) : WP G M pc ls ((1, x) :: st) h d P := by
  subst hT hnx
  obtain ⟨ty, e⟩ := Option.isSome_iff_exists.mp ha
  exact s_alen (t := t) (List.mem_of_getElem? hm) e ht w
theorem r_ald {t g nx : Nat} {ty : FieldType} {T x i : Int} (hm : (mtI M)[j]? = some (pc, ldOp t, 1)) (ha : arrT t = some ty) (hg : tg ty = g) (hT : (100 : Int) + (t : Nat) = T) (hnx : pc + 1 = nx) (ht : h x (-1) = T) (hi : 0 ≤ i) (hl : i < h x (-2))
    (w : WP G M nx ls ((g, h x i) :: st) h d P) : WP G M pc ls ((0, i) :: (1, x) :: st) h d P := by
  subst hT hnx hg
  exact s_ald (t := t) (List.mem_of_getElem? hm) ha ht hi hl w
theorem r_ast {t g nx : Nat} {ty : FieldType} {T x i y : Int} (hm : (mtI M)[j]? = some (pc, stOp t, 1)) (ha : arrT t = some ty) (hg : tg ty = g) (hT : (100 : Int) + (t : Nat) = T) (hnx : pc + 1 = nx) (hp : t < 4) (hx0 : 0 < x) (ht : h x (-1) = T) (hi : 0 ≤ i) (hl : i < h x (-2)) (hn : okN ty y)
    (w : ∀ h', h' = up h x i y → WP G M nx ls st h' d P) : WP G M pc ls ((g, y) :: (0, i) :: (1, x) :: st) h d P := by
  subst hT hnx hg
  refine s_ast (t := t) (v := (tg ty, y)) (List.mem_of_getElem? hm) ha hx0 ht hi hl rfl hn (fun E hE => ?_) (w _ rfl)
  subst hE
  rcases arrT_cases ha with ⟨rfl, q⟩ | ⟨rfl, q⟩ | ⟨rfl, q⟩ | ⟨rfl, -⟩ | ⟨rfl, -⟩ <;> first | cases q | omega
theorem r_astA {t nx : Nat} {E : String} {T x i y : Int} (hm : (mtI M)[j]? = some (pc, .aastore, 1)) (ha : arrT t = some (.object E)) (hop : stOp t = .aastore) (hT : (100 : Int) + (t : Nat) = T) (hnx : pc + 1 = nx) (hx0 : 0 < x) (ht : h x (-1) = T) (hi : 0 ≤ i) (hl : i < h x (-2))
    (hv : y = 0 ∨ ∃ c : Nat, h y (-1) = (c : Int) + 1 ∧ (t, c) ∈ asL)
    (w : ∀ h', h' = up h x i y → WP G M nx ls st h' d P) : WP G M pc ls ((1, y) :: (0, i) :: (1, x) :: st) h d P := by
  subst hT hnx
  refine s_ast (t := t) (v := (1, y)) (by rw [hop]; exact List.mem_of_getElem? hm) ha hx0 ht hi hl rfl trivial (fun E' hE => ?_) (w _ rfl)
  rcases hv with hv | ⟨c, h1, h2⟩
  · exact Or.inl hv
  · exact Or.inr ⟨c, h1, asL_ok _ h2⟩
theorem r_idiv {nx : Nat} {x y : Int} (hm : (mtI M)[j]? = some (pc, .idiv, 1)) (hnx : pc + 1 = nx) (hy : y ≠ 0) (w : WP G M nx ls ((0, wr (x.tdiv y)) :: st) h d P) : WP G M pc ls ((0, y) :: (0, x) :: st) h d P := by
  subst hnx; exact s_idiv (List.mem_of_getElem? hm) hy w
theorem r_irem {nx : Nat} {x y : Int} (hm : (mtI M)[j]? = some (pc, .irem, 1)) (hnx : pc + 1 = nx) (hy : y ≠ 0) (w : WP G M nx ls ((0, wr (x - wr (wr (x.tdiv y) * y))) :: st) h d P) : WP G M pc ls ((0, y) :: (0, x) :: st) h d P := by
  subst hnx; exact s_irem (List.mem_of_getElem? hm) hy w
theorem r_ldiv {nx : Nat} {x y : Int} (hm : (mtI M)[j]? = some (pc, .ldiv, 1)) (hnx : pc + 1 = nx) (hy : y ≠ 0) (w : WP G M nx ls ((2, wrL (x.tdiv y)) :: st) h d P) : WP G M pc ls ((2, y) :: (2, x) :: st) h d P := by
  subst hnx; exact s_ldiv (List.mem_of_getElem? hm) hy w
theorem r_lrem {nx : Nat} {x y : Int} (hm : (mtI M)[j]? = some (pc, .lrem, 1)) (hnx : pc + 1 = nx) (hy : y ≠ 0) (w : WP G M nx ls ((2, wrL (x - wrL (wrL (x.tdiv y) * y))) :: st) h d P) : WP G M pc ls ((2, y) :: (2, x) :: st) h d P := by
  subst hnx; exact s_lrem (List.mem_of_getElem? hm) hy w
theorem r_gets {g nx : Nat} {v : Int} (hm : (mtI M)[j]? = some (pc, .getstatic idx, 3)) (hcl : (mtN M).cls = clsS (mtO M)) (hT : sT (mtO M) idx = some (g, v)) (hnx : pc + 3 = nx) (w : WP G M nx ls ((g, v) :: st) h d P) : WP G M pc ls st h d P := by
  subst hnx
  have hO := sT_ok hT
  rw [← hcl] at hO
  exact s_gets (v := (g, v)) (List.mem_of_getElem? hm) hO.1 hO.2 w
theorem r_ldc {g nx : Nat} {v : Int} (hm : (mtI M)[j]? = some (pc, .ldc idx, 2)) (hcl : (mtN M).cls = clsS (mtO M)) (hT : kT (mtO M) idx = some (g, v)) (hg : g ≠ 2) (hnx : pc + 2 = nx) (w : WP G M nx ls ((g, v) :: st) h d P) : WP G M pc ls st h d P := by
  subst hnx
  have hO := kT_ok hT
  rw [← hcl] at hO
  have hm := List.mem_of_getElem? hm
  rcases hO with ⟨h1, h2, h3⟩ | ⟨h1, -⟩ | ⟨h1, h2⟩ | ⟨h1, h2, h3⟩
  · dsimp only at h1 h2 h3; subst h1; exact s_ldci hm h2 h3 w
  · exact absurd h1 hg
  · cases h1; exact s_ldcm hm h2 w
  · cases h1; subst h3; exact s_ldcs hm h2 w
theorem r_ldc2 {nx : Nat} {v : Int} (hm : (mtI M)[j]? = some (pc, .ldc2_w idx, 3)) (hcl : (mtN M).cls = clsS (mtO M)) (hT : kT (mtO M) idx = some (2, v)) (hnx : pc + 3 = nx) (w : WP G M nx ls ((2, v) :: st) h d P) : WP G M pc ls st h d P := by
  subst hnx
  have hO := kT_ok hT
  rw [← hcl] at hO
  have hm := List.mem_of_getElem? hm
  rcases hO with ⟨h1, -⟩ | ⟨h1, h2, h3⟩ | ⟨h1, h2⟩ | ⟨h1, h2, h3⟩
  · cases h1
  · exact s_ldcl hm h2 h3 w
  · cases h1
  · cases h1
theorem r_cast {c nx : Nat} {t x : Int} (hm : (mtI M)[j]? = some (pc, .checkcast idx, 3)) (hcl : (mtN M).cls = clsS (mtO M)) (hT : cT (mtO M) idx = some c) (hc : ((c : Nat) : Int) + 1 = t) (hnx : pc + 3 = nx) (hx : x = 0 ∨ h x (-1) = t) (w : WP G M nx ls ((1, x) :: st) h d P) : WP G M pc ls ((1, x) :: st) h d P := by
  subst hc hnx
  have hO := cT_ok hT
  rw [← hcl] at hO
  exact s_cast (List.mem_of_getElem? hm) hO hx w
theorem r_castA {t nx : Nat} {T x : Int} (hm : (mtI M)[j]? = some (pc, .checkcast idx, 3)) (hcl : (mtN M).cls = clsS (mtO M)) (hA : aT (mtO M) idx = some (t, 1)) (hT : (100 : Int) + (t : Nat) = T) (hnx : pc + 3 = nx) (hx0 : 0 < x) (ht : h x (-1) = T) (w : WP G M nx ls ((1, x) :: st) h d P) : WP G M pc ls ((1, x) :: st) h d P := by
  subst hT hnx
  have hO := aT_ok hA
  rw [← hcl] at hO
  rcases hO with ⟨h0, -⟩ | ⟨-, nm, ty, e1, e2, e3⟩
  · cases h0
  · exact s_castA (List.mem_of_getElem? hm) e3 e1 e2 hx0 ht w
theorem r_inst {c o nx : Nat} {t t' x : Int} (hm : (mtI M)[j]? = some (pc, .instanceof idx, 3)) (hcl : (mtN M).cls = clsS (mtO M)) (hT : cT (mtO M) idx = some c) (hc : ((c : Nat) : Int) + 1 = t) (ho : (o, c) ∈ noC) (hc' : ((o : Nat) : Int) + 1 = t') (hnx : pc + 3 = nx) (hx : x = 0 ∨ h x (-1) = t ∨ h x (-1) = t')
    (w : WP G M nx ls ((0, if h x (-1) = t then 1 else 0) :: st) h d P) : WP G M pc ls ((1, x) :: st) h d P := by
  subst hc hc' hnx
  have hO := cT_ok hT
  rw [← hcl] at hO
  refine s_inst (List.mem_of_getElem? hm) hO ?_ w
  rcases hx with hx | hx | hx
  · exact Or.inl hx
  · exact Or.inr (Or.inl hx)
  · exact Or.inr (Or.inr ⟨_, ho, hx, rfl⟩)
theorem r_vret (hm : (mtI M)[j]? = some (pc, .return_, 1)) (hr : mtR M = none) (w : P 0 0 h) : WP G M pc ls [] h d P := s_vret (List.mem_of_getElem? hm) hr w
theorem r_iret {ty : FieldType} {x : Int} (hm : (mtI M)[j]? = some (pc, .ireturn, 1)) (hr : mtR M = some ty) (ht : tg ty = 0) (hn : okN ty x) (w : P 0 x h) : WP G M pc ls [(0, x)] h d P := s_iret (List.mem_of_getElem? hm) hr ht hn w
theorem r_aret {ty : FieldType} {x : Int} (hm : (mtI M)[j]? = some (pc, .areturn, 1)) (hr : mtR M = some ty) (ht : tg ty = 1) (w : P 0 x h) : WP G M pc ls [(1, x)] h d P := s_aret (List.mem_of_getElem? hm) hr ht w
theorem r_obj {nx n : Nat} {M' : Mt} {t x : Int} (hm : (mtI M)[j]? = some (pc, .invokespecial idx, 3)) (hcl : (mtN M).cls = clsS (mtO M)) (hT : mT (mtO M) idx = some (6, M', t, n)) (hnx : pc + 3 = nx) (hx : x ≠ 0) (hd : 0 < d) (hst : st.length ≤ 20) (w : WP G M nx ls st h d P) : WP G M pc ls ((1, x) :: st) h d P := by
  subst hnx
  have hO := (mT_ok hT).2
  rw [← hcl] at hO
  exact s_obj (List.mem_of_getElem? hm) hO w_oi w_oc hx hd hst w
theorem r_copy {nx n t : Nat} {M' : Mt} {T u : Int} {ty : FieldType} {src sp dst dp c : Int} (hm : (mtI M)[j]? = some (pc, .invokestatic idx, 3)) (hcl : (mtN M).cls = clsS (mtO M)) (hT : mT (mtO M) idx = some (7, M', u, n)) (hnx : pc + 3 = nx) (hd : 0 < d) (hst : st.length ≤ 20) (ha : arrT t = some ty) (hTT : (100 : Int) + (t : Nat) = T)
    (hx0 : 0 < dst) (ht1 : h src (-1) = T) (ht2 : h dst (-1) = T) (hsp : 0 ≤ sp) (hdp : 0 ≤ dp) (hn : 0 ≤ c) (hb1 : sp + c ≤ h src (-2)) (hb2 : dp + c ≤ h dst (-2)) (hel : t = 4 ∨ t = 5 → ∀ i, sp ≤ i → i < sp + c → h src i = 0 ∨ ∃ k : Nat, h (h src i) (-1) = (k : Int) + 1 ∧ (t, k) ∈ asL)
    (w : ∀ h', h' = cpM h src sp dst dp c → WP G M nx ls st h' d P) : WP G M pc ls ((0, c) :: (0, dp) :: (1, dst) :: (0, sp) :: (1, src) :: st) h d P := by
  subst hnx hTT
  have hO := (mT_ok hT).2
  rw [← hcl] at hO
  refine s_copy (t := t) (List.mem_of_getElem? hm) hO ha hx0 ht1 ht2 hsp hdp hn hb1 hb2 (fun E hE i h1 h2 => ?_) hd hst (w _ rfl)
  have h45 : t = 4 ∨ t = 5 := by
    subst hE
    rcases arrT_cases ha with ⟨rfl, q⟩ | ⟨rfl, q⟩ | ⟨rfl, q⟩ | ⟨rfl, -⟩ | ⟨rfl, -⟩ <;> first | cases q | omega
  rcases hel h45 i h1 h2 with q | ⟨k, q1, q2⟩
  · exact Or.inl q
  · exact Or.inr ⟨k, q1, asL_ok _ q2⟩
theorem r_getC {nx n : Nat} {M' : Mt} {t x : Int} (hm : (mtI M)[j]? = some (pc, .invokevirtual idx, 3)) (hcl : (mtN M).cls = clsS (mtO M)) (hT : mT (mtO M) idx = some (8, M', t, n)) (hnx : pc + 3 = nx) (hd : 0 < d) (hst : st.length ≤ 20) (hx0 : 0 < x) (ht : h x (-1) = 104) (w : WP G M nx ls ((1, -26) :: st) h d P) : WP G M pc ls ((1, x) :: st) h d P := by
  subst hnx
  have hO := (mT_ok hT).2
  rw [← hcl] at hO
  exact s_getC (List.mem_of_getElem? hm) hO hx0 ht hd hst w
theorem r_max {nx n : Nat} {M' : Mt} {t x y : Int} (hm : (mtI M)[j]? = some (pc, .invokestatic idx, 3)) (hcl : (mtN M).cls = clsS (mtO M)) (hT : mT (mtO M) idx = some (9, M', t, n)) (hnx : pc + 3 = nx) (hd : 0 < d) (hst : st.length ≤ 20) (w : WP G M nx ls ((0, if x < y then y else x) :: st) h d P) : WP G M pc ls ((0, y) :: (0, x) :: st) h d P := by
  subst hnx
  have hO := (mT_ok hT).2
  rw [← hcl] at hO
  exact s_max (List.mem_of_getElem? hm) hO hd hst w
theorem r_min {nx n : Nat} {M' : Mt} {t x y : Int} (hm : (mtI M)[j]? = some (pc, .invokestatic idx, 3)) (hcl : (mtN M).cls = clsS (mtO M)) (hT : mT (mtO M) idx = some (10, M', t, n)) (hnx : pc + 3 = nx) (hd : 0 < d) (hst : st.length ≤ 20) (w : WP G M nx ls ((0, if y < x then y else x) :: st) h d P) : WP G M pc ls ((0, y) :: (0, x) :: st) h d P := by
  subst hnx
  have hO := (mT_ok hT).2
  rw [← hcl] at hO
  exact s_min (List.mem_of_getElem? hm) hO hd hst w
theorem r_geto {jj nx : Nat} {t x : Int} (hm : (mtI M)[j]? = some (pc, .getfield 7, 3)) (hcl : (mtN M).cls = "java/lang/Enum") (hj : jj < 3) (hT : (50 : Int) + (jj : Nat) = t) (hnx : pc + 3 = nx) (ht : h x (-1) = t) (w : WP G M nx ls ((0, h x 0) :: st) h d P) : WP G M pc ls ((1, x) :: st) h d P := by
  subst hnx hT
  exact s_geto (j := jj) (List.mem_of_getElem? hm) (by rw [hcl]; exact w_en) hj ht w
/-- throw new X() -/
theorem r_throw {c ic j1 j2 j3 : Nat} {t : Int} (hm0 : (mtI M)[j]? = some (pc, .new idx, 3)) (hm1 : (mtI M)[j1]? = some (pc + 3, .dup, 1)) (hm2 : (mtI M)[j2]? = some (pc + 4, .invokespecial ic, 3)) (hm3 : (mtI M)[j3]? = some (pc + 7, .athrow, 1)) (hcl : (mtN M).cls = clsS (mtO M)) (hT : cT (mtO M) idx = some c) (hE : eT (mtO M) ic = some c) (hc : c ∈ excs) (ht : ((c : Nat) : Int) + 1 = t)
    (hcov : (mtH M).filter (covP (pc + 7)) = []) (hd : 6 ≤ d) (hst : st.length ≤ 20) (hlc : h 0 0 ≤ 1203200) (hls : h 0 1 + 6 ≤ 5491882) (w : ∀ h', h' = al h t 0 6 → P 1 (h 0 0) h') : WP G M pc ls st h d P := by
  subst ht
  have hK := cT_made hT
  rw [← hcl] at hK
  obtain ⟨r, e1, e2⟩ := eT_ok hE
  rw [← hcl] at e2
  exact s_thrown (c := c) hc (List.mem_of_getElem? hm0) (List.mem_of_getElem? hm1) (List.mem_of_getElem? hm2) (List.mem_of_getElem? hm3) hK e1 e2 hcov hlc hls hd hst (w _ rfl)
end RW
/-! the calls -/
section RC
variable {G : GM} {M M' : Mt} {d j pc idx nx n : Nat} {ls st as ls0 : List AV} {h : SM} {P Q : Nat → Int → SM → Prop} {t : Int}
theorem xcf (hcl : (mtN M).cls = clsS (mtO M)) : ∀ i c, cT (mtO M) i = some c → XOK (mtN M).cls i c := fun i c hc => by
  have := cT_ok hc; rw [hcl]; exact this
theorem kk0 {len : Nat} {st' : Int → List AV} (hnx : pc + len = nx) (hR : ∀ v, pshR (mtR M') v st = st' v) : ∀ k v h', (k = 0 ∧ WP G M nx ls (st' v) h' d P) → Kc G M M' (cT (mtO M)) pc len ls st d P k v h' := by
  rintro k v h' ⟨h0, w⟩
  subst hnx
  exact ⟨fun _ => by rw [hR]; exact w, fun q => absurd h0 q⟩
theorem kkt {len : Nat} {st' : Int → List AV} (hnx : pc + len = nx) (hR : ∀ v, pshR (mtR M') v st = st' v) (hc : (mtH M).filter (covP pc) = []) : ∀ k v h', ((k = 0 → WP G M nx ls (st' v) h' d P) ∧ (k ≠ 0 → P 1 v h')) → Kc G M M' (cT (mtO M)) pc len ls st d P k v h' := by
  rintro k v h' ⟨w0, w1⟩
  subst hnx
  refine ⟨fun q => by rw [hR]; exact w0 q, fun q => ?_⟩
  unfold thr
  rw [hc]
  exact w1 q
theorem kkh {len a b hp ct c : Nat} {st' : Int → List AV} (hnx : pc + len = nx) (hR : ∀ v, pshR (mtR M') v st = st' v) (hc : (mtH M).filter (covP pc) = [(a, b, hp, ct)]) (hct : cT (mtO M) ct = some c) (ht : ((c : Nat) : Int) + 1 = t) :
    ∀ k v h', ((k = 0 → WP G M nx ls (st' v) h' d P) ∧ (k ≠ 0 → h' v (-1) = t ∧ WP G M hp ls [(1, v)] h' d P)) → Kc G M M' (cT (mtO M)) pc len ls st d P k v h' := by
  rintro k v h' ⟨w0, w1⟩
  subst hnx ht
  refine ⟨fun q => by rw [hR]; exact w0 q, fun q => ?_⟩
  obtain ⟨e1, e2⟩ := w1 q
  unfold thr
  rw [hc]
  show hch G M _ ls h' d P v [(a, b, hp, ct)]
  unfold hch
  rw [hct]
  exact ⟨fun _ => e2, fun q => absurd e1 q⟩
theorem kk2 {len a b hp ct c a2 b2 hp2 ct2 c2 : Nat} {t2 : Int} {st' : Int → List AV} (hnx : pc + len = nx) (hR : ∀ v, pshR (mtR M') v st = st' v) (hc : (mtH M).filter (covP pc) = [(a, b, hp, ct), (a2, b2, hp2, ct2)]) (hct : cT (mtO M) ct = some c) (hct2 : cT (mtO M) ct2 = some c2) (hno : (c2, c) ∈ noC) (ht : ((c : Nat) : Int) + 1 = t) (ht2 : ((c2 : Nat) : Int) + 1 = t2) (hne : t2 ≠ t) :
    ∀ k v h', ((k = 0 → WP G M nx ls (st' v) h' d P) ∧ (k ≠ 0 → (h' v (-1) = t ∧ WP G M hp ls [(1, v)] h' d P) ∨ (h' v (-1) = t2 ∧ WP G M hp2 ls [(1, v)] h' d P))) → Kc G M M' (cT (mtO M)) pc len ls st d P k v h' := by
  rintro k v h' ⟨w0, w1⟩
  subst hnx ht ht2
  refine ⟨fun q => by rw [hR]; exact w0 q, fun q => ?_⟩
  unfold thr
  rw [hc]
  show hch G M _ ls h' d P v [(a, b, hp, ct), (a2, b2, hp2, ct2)]
  unfold hch
  rw [hct]
  dsimp only
  rcases w1 q with ⟨e1, e2⟩ | ⟨e1, e2⟩
  · exact ⟨fun _ => e2, fun q => absurd e1 q⟩
  · refine ⟨fun q => absurd (e1.symm.trans q) hne, fun _ => ⟨⟨_, hno, e1, rfl⟩, ?_⟩⟩
    unfold hch
    rw [hct2]
    exact ⟨fun _ => e2, fun q => absurd e1 q⟩
theorem r_callS (hm : (mtI M)[j]? = some (pc, .invokestatic idx, 3)) (hcl : (mtN M).cls = clsS (mtO M)) (hT : mT (mtO M) idx = some (0, M', t, n)) (has : as.length = n) (hL : entL as (mtL M') = ls0) (hfit : mtL M' + 2 * st.length ≤ 50) (hent : (ent as).length ≤ mtL M') (hd : 0 < d)
    (hK : ∀ k v h', Q k v h' → Kc G M M' (cT (mtO M)) pc 3 ls st d P k v h') (w : WP G M' 0 ls0 [] h (d - 1) Q) : WP G M pc ls (as.reverse ++ st) h d P := by
  subst hL has
  have hO := mT_ok hT
  rw [← hcl] at hO
  exact s_callS (List.mem_of_getElem? hm) hO.2 (xcf hcl) (hO.1 (by show (0 : Nat) ≤ 4; decide)) hd hfit hent (w.mono hK)
theorem r_callI {x : Int} (hm : (mtI M)[j]? = some (pc, .invokespecial idx, 3)) (hcl : (mtN M).cls = clsS (mtO M)) (hT : mT (mtO M) idx = some (1, M', t, n)) (has : as.length = n) (hL : entL ((1, x) :: as) (mtL M') = ls0) (hfit : mtL M' + 2 * st.length ≤ 50) (hent : (ent ((1, x) :: as)).length ≤ mtL M') (hd : 0 < d) (hx : x ≠ 0)
    (hK : ∀ k v h', Q k v h' → Kc G M M' (cT (mtO M)) pc 3 ls st d P k v h') (w : WP G M' 0 ls0 [] h (d - 1) Q) : WP G M pc ls (as.reverse ++ (1, x) :: st) h d P := by
  subst hL has
  have hO := mT_ok hT
  rw [← hcl] at hO
  exact s_callI (List.mem_of_getElem? hm) hO.2 (xcf hcl) (hO.1 (by show (1 : Nat) ≤ 4; decide)) hd hfit hent hx (w.mono hK)
theorem r_callV {x : Int} (hm : (mtI M)[j]? = some (pc, .invokevirtual idx, 3)) (hcl : (mtN M).cls = clsS (mtO M)) (hT : mT (mtO M) idx = some (2, M', t, n)) (has : as.length = n) (hL : entL ((1, x) :: as) (mtL M') = ls0) (hfit : mtL M' + 2 * st.length ≤ 50) (hent : (ent ((1, x) :: as)).length ≤ mtL M') (hd : 0 < d) (ht : h x (-1) = t)
    (hK : ∀ k v h', Q k v h' → Kc G M M' (cT (mtO M)) pc 3 ls st d P k v h') (w : WP G M' 0 ls0 [] h (d - 1) Q) : WP G M pc ls (as.reverse ++ (1, x) :: st) h d P := by
  subst hL has
  have hO := mT_ok hT
  rw [← hcl] at hO
  obtain ⟨C, h1, h2, h3⟩ := hO.2
  exact s_callV (List.mem_of_getElem? hm) h1 (xcf hcl) (hO.1 (by show (2 : Nat) ≤ 4; decide)) hd hfit hent (h2.recv ht) h3 (w.mono hK)
theorem r_callU {x : Int} (hm : (mtI M)[j]? = some (pc, .invokevirtual idx, 3)) (hcl : (mtN M).cls = clsS (mtO M)) (hT : mT (mtO M) idx = some (3, M', t, n)) (has : as.length = n) (hL : entL ((1, x) :: as) (mtL M') = ls0) (hfit : mtL M' + 2 * st.length ≤ 50) (hent : (ent ((1, x) :: as)).length ≤ mtL M') (hd : 0 < d) (ht : h x (-1) = t)
    (hK : ∀ k v h', Q k v h' → Kc G M M' (cT (mtO M)) pc 3 ls st d P k v h') (w : WP G M' 0 ls0 [] h (d - 1) Q) : WP G M pc ls (as.reverse ++ (1, x) :: st) h d P := by
  subst hL has
  have hO := mT_ok hT
  rw [← hcl] at hO
  obtain ⟨y, owner, C, h1, h2⟩ := hO.2
  exact s_callU (List.mem_of_getElem? hm) h1 (xcf hcl) (hO.1 (by show (3 : Nat) ≤ 4; decide)) hd hfit hent (h2.recv ht) (w.mono hK)
theorem r_callP {x : Int} (hm : (mtI M)[j]? = some (pc, .invokespecial idx, 3)) (hcl : (mtN M).cls = clsS (mtO M)) (hT : mT (mtO M) idx = some (4, M', t, n)) (has : as.length = n) (hL : entL ((1, x) :: as) (mtL M') = ls0) (hfit : mtL M' + 2 * st.length ≤ 50) (hent : (ent ((1, x) :: as)).length ≤ mtL M') (hd : 0 < d) (ht : h x (-1) = t)
    (hK : ∀ k v h', Q k v h' → Kc G M M' (cT (mtO M)) pc 3 ls st d P k v h') (w : WP G M' 0 ls0 [] h (d - 1) Q) : WP G M pc ls (as.reverse ++ (1, x) :: st) h d P := by
  subst hL has
  have hO := mT_ok hT
  rw [← hcl] at hO
  obtain ⟨C, h1, h2⟩ := hO.2
  exact s_callP (List.mem_of_getElem? hm) h1 (xcf hcl) (hO.1 (by show (4 : Nat) ≤ 4; decide)) hd hfit hent (h2.recv ht) (w.mono hK)
/-- through the interface Meaning: a Constant's or a Program's -/
theorem r_callF {M2 : Mt} {x : Int} {cnt : Nat} {Q2 : Nat → Int → SM → Prop} {ls2 : List AV} (hm : (mtI M)[j]? = some (pc, .invokeinterface idx cnt, 5)) (hcl : (mtN M).cls = clsS (mtO M)) (hT : iT (mtO M) idx = some (M', M2)) (hL : entL [(1, x)] (mtL M') = ls0) (hL2 : entL [(1, x)] (mtL M2) = ls2) (hfit : mtL M' + 2 * st.length ≤ 50) (hfit2 : mtL M2 + 2 * st.length ≤ 50) (hent : 1 ≤ mtL M') (hent2 : 1 ≤ mtL M2) (hd : 0 < d) (hx : h x (-1) = 21 ∨ h x (-1) = 22)
    (hK : ∀ k v h', Q k v h' → Kc G M M' (cT (mtO M)) pc 5 ls st d P k v h') (hK2 : ∀ k v h', Q2 k v h' → Kc G M M2 (cT (mtO M)) pc 5 ls st d P k v h')
    (w : h x (-1) = 21 → WP G M' 0 ls0 [] h (d - 1) Q) (w2 : h x (-1) = 22 → WP G M2 0 ls2 [] h (d - 1) Q2) : WP G M pc ls ((1, x) :: st) h d P := by
  subst hL hL2
  have hO := iT_ok hT
  rw [← hcl] at hO
  obtain ⟨⟨y, h1, h2⟩, y2, h3, h4⟩ := hO
  rcases hx with hx | hx
  · exact s_callF (as := []) (C := "ConditionedProofs$Constant") (List.mem_of_getElem? hm) h1 (xcf hcl) h2 hd hfit hent (Or.inl ⟨20, _, rfl, rfl, hx⟩) ((w hx).mono hK)
  · exact s_callF (as := []) (C := "ConditionedProofs$Program") (List.mem_of_getElem? hm) h3 (xcf hcl) h4 hd hfit2 hent2 (Or.inl ⟨21, _, rfl, rfl, hx⟩) ((w2 hx).mono hK2)
end RC
