/-! L1: instructions on objects and arrays -/
theorem narrow_of (G : GM) {ty : FieldType} {x : Int} (h : okT ty x) : narrow ty (cv G (tg ty, x)) = cv G (tg ty, x) := by
  cases ty with
  | boolean => rcases h with h | h <;> (rw [h]; rfl)
  | byte =>
    obtain ⟨h1, h2⟩ := h
    show Value.int (Int32.ofInt x).toInt8.toInt32 = Value.int (Int32.ofInt x)
    congr 1
    apply Int32.toInt_inj.mp
    rw [Int8.toInt_toInt32, Int32.toInt_toInt8, i32_toInt (by omega) (by omega)]
    apply Int.bmod_eq_of_le <;> omega
  | short =>
    obtain ⟨h1, h2⟩ := h
    show Value.int (Int32.ofInt x).toInt16.toInt32 = Value.int (Int32.ofInt x)
    congr 1
    apply Int32.toInt_inj.mp
    rw [Int16.toInt_toInt32, Int32.toInt_toInt16, i32_toInt (by omega) (by omega)]
    apply Int.bmod_eq_of_le <;> omega
  | char =>
    obtain ⟨h1, h2⟩ := h
    show Value.int (Int32.ofInt x).toUInt32.toUInt16.toUInt32.toInt32 = Value.int (Int32.ofInt x)
    obtain ⟨n, rfl⟩ := Int.eq_ofNat_of_zero_le h1
    have hn : n < 65536 := by omega
    congr 1
    rw [show Int32.ofInt (n : Int) = (UInt32.ofNat n).toInt32 by apply Int32.toBitVec_inj.mp; rfl]
    rw [show ((UInt32.ofNat n).toInt32).toUInt32 = UInt32.ofNat n from rfl]
    congr 1
    apply UInt32.toNat_inj.mp
    simp
    omega
  | int => rfl
  | long => rfl
  | float => exact h.elim
  | double => exact h.elim
  | object n => show narrow (.object n) (rf G x) = rf G x; unfold rf; split <;> rfl
  | array t => show narrow (.array t) (rf G x) = rf G x; unfold rf; split <;> rfl
def noFl (ty : FieldType) : Bool := match ty with
  | .float => false
  | .double => false
  | _ => true
theorem okT_0 {ty : FieldType} (h : noFl ty = true) : okT ty 0 := by
  cases ty <;> first | (cases h; done) | (unfold okT NC; first | omega | (constructor <;> omega))
theorem dflt_0 (G : GM) {ty : FieldType} (h : noFl ty = true) : defaultValue ty = cv G (tg ty, 0) := by
  cases ty <;> first | (cases h; done) | rfl
set_option maxRecDepth 100000 in
theorem clsL_nf : ∀ r ∈ clsL, ∀ f, f < r.2.2.1 → noFl (r.2.2.2.1 f) = true := by decide +kernel
theorem arrT_nf {t : Nat} {ty : FieldType} (h : arrT t = some ty) : noFl ty = true := by
  unfold arrT at h
  split at h <;> first | (cases h; rfl) | (cases h; done)
section WD
variable {G : GM} {M : Mt} {d : Nat} {p : Program} {R : Room} {s : State} {m : MethodId} {meth : Method} {c : Code} {args : Array Value}
theorem Cx.word (C : Cx G M d p R s m meth c) {w : Cond} (h : w ∈ lw_all) : w.before args s = true := by
  obtain ⟨A, hA⟩ := C.gx.1
  exact word_at C.warm (good_of_word (List.mem_filter.mp h).2) (hA w (lw_all_tbl h))
theorem Cx.words' (C : Cx G M d p R s m meth c) : ∀ w ∈ lw_all, w.before args s = true := fun _ h => C.word h
theorem Cx.nestF (C : Cx G M d p R s m meth c) {a b n dd hh : String} {i : Nat} (h : Cond.fieldLinkNest a i b n dd hh ∈ lw_tbl) : (Cond.fieldLinkNest a i b n dd hh).before args s = true := by
  obtain ⟨A, hA⟩ := C.gx.1
  exact (va_Nw.warmF C.warm (va_Nw.of rfl (hA _ h))).use rfl
theorem Cx.nestM (C : Cx G M d p R s m meth c) {a hh : String} {y : MethodName} {i : Nat} (h : Cond.methodLinkNest a i y hh ∈ lw_tbl) : (Cond.methodLinkNest a i y hh).before args s = true := by
  obtain ⟨A, hA⟩ := C.gx.1
  exact (va_Nw.warmM C.warm (va_Nw.of rfl (hA _ h))).use rfl
theorem Cx.cast (C : Cx G M d p R s m meth c) {a b : String} (h : Cond.castable a b ∈ lw_tbl) : va_Nw (.castable a b) s := by
  obtain ⟨A, hA⟩ := C.gx.1
  exact va_Nw.warmC C.warm (va_Nw.of rfl (hA _ h))
theorem Cx.over (C : Cx G M d p R s m meth c) {b : String} (h : Cond.arrayOver (.object b) ∈ lw_tbl) : (Cond.arrayOver (.object b)).before args s = true := by
  obtain ⟨A, hA⟩ := C.gx.1
  exact va_AO.use (va_AO.moved C.warm.alike (va_AO.of (hA _ h)))
theorem Cx.kn (C : Cx G M d p R s m meth c) {k : Nat} {r : KC} (h : clsL[k]? = some r) : u_Kn s r.1 r.2.1 r.2.2.1 (gC G k) (gI G k) := u_Kn_moved C.warm.alike (C.gx.2.1 k r h)
theorem Cx.apart (C : Cx G M d p R s m meth c) {k : Nat} {r : KC} (h : clsL[k]? = some r) : ∀ a b, a < r.2.2.1 → b < r.2.2.1 → a ≠ b → gI G k a ≠ gI G k b := by
  intro x y hx hy hne
  obtain ⟨o1, o2, o3⟩ := clsL_ok r (List.mem_of_getElem? h)
  obtain ⟨hS, -⟩ := C.kn h
  obtain ⟨_, _, _, fa, hia, ea⟩ := hS x hx
  obtain ⟨_, _, _, fb, hib, eb⟩ := hS y hy
  rw [← ea, ← eb]
  refine u_apart (args := #[]) (u_lays C.words' o3 hx) (u_lays C.words' o3 hy) hia hib ?_
  rw [(State.fieldFound?_type hia (o2 x hx)).1, (State.fieldFound?_type hib (o2 y hy)).1]
  exact o1 x hx y hy hne
end WD
/-- a field's site: the class own, the entry idx: field f of class c -/
def FOK (own : String) (idx c f : Nat) : Prop := ∃ (r : KC) (ref : String), clsL[c]? = some r ∧ f < r.2.2.1 ∧
  (Cond.fieldLink own idx ref (r.2.1 f).2.1 (r.2.1 f).2.2.1 ∈ lw_all ∨ ∃ host, Cond.fieldLinkNest own idx ref (r.2.1 f).2.1 (r.2.1 f).2.2.1 host ∈ lw_tbl) ∧
  (ref = (r.2.1 f).1 ∨ Cond.sameField ref (r.2.1 f).1 (r.2.1 f).2.1 (r.2.1 f).2.2.1 ∈ lw_all)
section HR
variable {G : GM} {M : Mt} {d pc idx : Nat} {ls st : List AV} {h : SM} {P : Nat → Int → SM → Prop}
theorem s_getf {x : Int} {c f : Nat} {r : KC} (hm : (pc, .getfield idx, 3) ∈ mtI M) (hF : FOK (mtN M).cls idx c f) (hr : clsL[c]? = some r) (ht : h x (-1) = (c : Int) + 1)
    (w : WP G M (pc + 3) ls ((tg (r.2.2.2.1 f), h x f) :: st) h d P) : WP G M pc ls ((1, x) :: st) h d P := by
  intro p e R s m args below meth cd H locs la C hR h1 h2 h3 h4 h5
  obtain ⟨r', ref, e1, hf, hlk, hsm⟩ := hF
  cases hr.symm.trans e1
  obtain ⟨h0, cell, q1, q2, q3, q4, q5⟩ := hR.obj C.gx hr ht
  obtain ⟨o1, o2, o3⟩ := clsL_ok r (List.mem_of_getElem? hr)
  obtain ⟨hS, hfc, kC, hkC, hkind⟩ := C.kn hr
  obtain ⟨cf, kf, fi, fd, hi, hsl⟩ := hS f hf
  have hst := (u_facts (args := args) hfc hkC (u_lays C.words' o3 hf) hi).1
  have hi' : s.fieldFound? ref (r.2.1 f).2.1 (r.2.1 f).2.2.1 = some (cf, kf, fi, fd) := by
    rcases hsm with hsm | hsm
    · rw [hsm]; exact hi
    · exact u_same (args := args) (C.word hsm) _ hi
  have hdg := C.ok (pc, .getfield idx, 3) hm
  have kk := w p e R s m args below meth cd H locs la C hR h1 h2 h3 h4 (h5.tl.cons (by cases (r.2.2.2.1 f) <;> simp [tg]) (okv_T (q5 f hf).2))
  rw [List.map_cons, cv_ref rfl, rf_pos h0]
  rcases hlk with hlk | ⟨host, hlk⟩
  · exact W.getf C.exec C.bytes C.own (C.word hlk) hi' hst q1 q2 (by rw [hsl]; exact (q5 f hf).1) rfl rfl hdg kk
  · exact va_Wgetf C.exec C.bytes C.own (C.nestF hlk) hi' hst q1 q2 (by rw [hsl]; exact (q5 f hf).1) rfl rfl hdg kk
/-- may this method write the field? -/
def putOK (M : Mt) (r : KC) (f : Nat) : Prop := (r.2.1 f).2.2.2 = false ∨ ((r.2.1 f).2.2.2 = true ∧ (mtN M).name = "<init>" ∧ (r.2.1 f).1 = (mtN M).cls)
theorem s_putf {x : Int} {v : AV} {c f : Nat} {r : KC} (hm : (pc, .putfield idx, 3) ∈ mtI M) (hF : FOK (mtN M).cls idx c f) (hr : clsL[c]? = some r) (hp : putOK M r f) (hx : 0 < x) (ht : h x (-1) = (c : Int) + 1) (htv : v.1 = tg (r.2.2.2.1 f)) (hn : okN (r.2.2.2.1 f) v.2)
    (w : WP G M (pc + 3) ls st (up h x f v.2) d P) : WP G M pc ls (v :: (1, x) :: st) h d P := by
  intro p e R s m args below meth cd H locs la C hR h1 h2 h3 h4 h5
  obtain ⟨r', ref, e1, hf, hlk, hsm⟩ := hF
  cases hr.symm.trans e1
  obtain ⟨hx2, cell, q1, q5⟩ := hR.new hx (by omega)
  obtain ⟨-, cell', q1', -, -, q4, q6⟩ := hR.obj C.gx hr ht
  cases q1.symm.trans q1'
  obtain ⟨o1, o2, o3⟩ := clsL_ok r (List.mem_of_getElem? hr)
  obtain ⟨hS, hfc, kC, hkC, hkind⟩ := C.kn hr
  obtain ⟨cf, kf, fi, fd, hi, hsl⟩ := hS f hf
  have hst := (u_facts (args := args) hfc hkC (u_lays C.words' o3 hf) hi).1
  have hi' : s.fieldFound? ref (r.2.1 f).2.1 (r.2.1 f).2.2.1 = some (cf, kf, fi, fd) := by
    rcases hsm with hsm | hsm
    · rw [hsm]; exact hi
    · exact u_same (args := args) (C.word hsm) _ hi
  have hdg := C.ok (pc, .putfield idx, 3) hm
  have hve : v = (tg (r.2.2.2.1 f), v.2) := by rw [← htv]
  have hoT : okT (r.2.2.2.1 f) v.2 := okT_N (by rw [← hve]; exact h5.hd) hn
  have hcv : cv G v = cv G (tg (r.2.2.2.1 f), v.2) := by rw [← hve]
  have hlt : fd.slot < cell.slots.size := by rw [hsl]; exact (Array.getElem?_eq_some_iff.mp (q6 f hf).1).1
  have hlay : (u_lay r.1 r.2.1 f).before args s = true := C.word (o3 _ (u_in_lay hf))
  rw [List.map_cons, List.map_cons, hcv, show cv G ((1, x) : AV) = .ref (ad G x) from rf_pos (by omega)]
  have kk : ∀ H' : Heap, H'[ad G x]? = some (cell.setSlot fd.slot (cv G (tg (r.2.2.2.1 f), v.2))) → H'.size = H.size → (∀ q, q ≠ ad G x → H'[q]? = H[q]?) →
      W p (gl G) e R s m args below meth cd H' (locs ++ [⟨ad G x, fd.slot⟩]) (H.size - s.heap.size) (sumS H (gn G) - sumS s.heap (gn G)) (QP G (mtR M) P s below) (F0 m (pc + 3) la (st.map (cv G))) := by
    intro H' e1 e2 e3
    rw [hsl] at e1
    have hN := q5.field hr ht hf (C.apart hr) hoT
    have hR' := hR.set hx hx2 (by omega) q1 e1 e2 e3 Array.size_setIfInBounds hN
    have hS' : sumS H' (gn G) = sumS H (gn G) := sumS_eq fun q => by
      by_cases hq : q = ad G x
      · rw [hq, q1, e1]; simp [Cell.setSlot]
      · rw [e3 q hq]
    have := w p e R s m args below meth cd H' (locs ++ [⟨ad G x, fd.slot⟩]) la C hR' (by omega) (by omega) (fun q hq => by
      rcases List.mem_append.mp hq with hq | hq
      · exact h3 q hq
      · rw [List.mem_singleton.mp hq]; show gn G ≤ ad G x; rw [ad_pos hx]; omega) h4 h5.tl.tl
    rw [e2, hS'] at this
    exact this
  rcases hp with hp | ⟨hp1, hp2, hp3⟩
  · unfold u_lay at hlay
    rw [if_neg (by rw [hp]; decide)] at hlay
    have h6 := u_store hfc hkC hkind hlay hi (o2 f hf) (narrow_of G hoT) (fits_of G hoT)
    rcases hlk with hlk | ⟨host, hlk⟩
    · exact W.putK C.exec C.bytes (f := fd) ⟨C.own, C.word hlk, ⟨_, _, _, hi'⟩, hst⟩ (by rw [q4]; exact h6) q1 q5.2.1 hlt rfl rfl hdg kk
    · exact va_WputK C.exec C.bytes (f := fd) C.own (C.nestF hlk) hi' hst (by rw [q4]; exact h6) q1 q5.2.1 hlt rfl rfl hdg kk
  · unfold u_lay at hlay
    rw [if_pos hp1] at hlay
    have hcf : m.cls = cf := by
      obtain ⟨_, _, c', _, _, _, -, -, hf', -, -, -, hown2, -⟩ := Cond.laysFinal_spec hlay
      have e1 : c' = cf := by have := hi.symm.trans hf'; simp at this; exact this.1.symm
      rw [hp3] at hown2
      rw [← e1]; exact Option.some.inj (C.own.symm.trans hown2)
    have h6 := u_fits (args := args) hfc hkC hkind (Or.inr hlay) hi (o2 f hf) (narrow_of G hoT) (fits_of G hoT)
    rcases hlk with hlk | ⟨host, hlk⟩
    · exact W.putFinK C.exec C.bytes C.own (C.word hlk) hi' hst hcf (by rw [C.name]; exact hp2) (by rw [q4]; exact h6) q1 q5.2.1 hlt rfl rfl hdg kk
    · refine va_Wputf C.exec C.bytes C.own (C.nestF hlk) hi' hst (Or.inr ⟨hcf, by rw [C.name]; exact hp2⟩) q1 (by rw [q5.2.1]; exact fun h => by cases h) hlt h6.1 (by rw [q5.2.1, q4]; exact h6.2) rfl rfl hdg ?_
      exact kk _ (by rw [Array.getElem?_setIfInBounds_self, if_pos (Array.getElem?_eq_some_iff.mp q1).1]) Array.size_setIfInBounds (fun q hq => by rw [Array.getElem?_setIfInBounds_ne (Ne.symm hq)])
end HR
