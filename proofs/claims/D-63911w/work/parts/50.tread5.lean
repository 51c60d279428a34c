/-! L3, twin: reading, takeCoded, take and read -/
section TU
variable {m m' : SM} {b pb p u c : Int} {S : List Itm} {N : List Nd} {nm : Int} {gv : List Int} {pt : List Pt5} {G : GM} {d : Nat} {P : Nat → Int → SM → Prop}
theorem c_tCode (K : KI m) (hd : 17 ≤ d) {w a q : Int} (h : RS m b pb S N nm gv pt) (hk : sOK b pb p u ((w, a, q) :: S, N, nm, gv, pt)) (hS : S.length ≤ 380) (hp0 : 0 ≤ p) (hp1 : p ≤ 75) (hu : u ≤ 100) (hc0 : 0 ≤ c) (hc1 : c ≤ 200) (hw : 209 ≤ w) (k : Rz m b pb (tCode b w a q c p (S, N, nm, gv, pt)) P) : WV G mX10_takeCoded 0 [(1, 41), (0, w), (0, a), (0, q), (0, c), (0, p)] [] m d P := by
  have ht := hk.top
  have hN : (N.length : Int) ≤ p := hk.2.1
  have hcN := hk.2.2.2.1
  have h6 := h.2.2.2.2.2.1
  unfold tCode at k
  dsimp only at k
  refine wX10_takeCoded K (by omega) ⟨fun hw2 => ?_, fun hw2 => ?_, fun hw2 => ?_, fun hw2 => ?_, fun hw2 => ?_, fun hw2 => ?_, fun hw2 => ?_, fun hw2 => ?_, fun hw2 => ?_, fun hw2 => ?_⟩
  · have hw3 : w = 218 := by unfold mid2 bot2 at ht; omega
    subst hw3
    simp only [reduceIte, Int.reduceEq] at k
    unfold mid2 bot2 at ht
    rw [wr_id (by omega) (by omega)]
    refine ⟨fun q1 => ?_, fun q1 => ?_⟩
    · rw [if_neg q1] at k
      refine c_push K (by omega) h (by omega) (fun m1 r1 f1 o1 => ⟨rfl, o1, fun m2 e2 o2 => ?_⟩)
      obtain ⟨r2, f2⟩ := r1.named e2
      exact c_bTerm (o2.2.1 (o1.2.1 K)) (by omega) r2 (by simp; omega) (by omega) hc0 hc1 (by omega) (by omega) ((k.step f1 o1).step f2 o2).bool
    · rw [if_pos q1] at k
      exact k m Fr.refl (Ok.refl m)
  · subst hw2
    simp only [reduceIte, Int.reduceEq] at k
    unfold mid2 bot2 at ht
    obtain ⟨hSe, hb⟩ := ht.resolve_left (by omega)
    have hb : a = gv.length ∧ gv.length ≤ 4 := by omega
    have g74 : ¬ (c = 61 ∧ 0 < a) → WV G mX10_takeCoded 74 [(1, 41), (9, 0), (0, a), (9, 0), (0, c), (9, 0)] [] m d P := by
      intro n1
      rw [if_neg n1] at k
      refine wX10_takeCoded_74 K (by omega) ⟨fun q1 => ?_, fun q1 => ⟨fun q2 => ⟨by omega, by omega, fun m1 e1 o1 m2 e2 o2 => ?_⟩, fun q2 => ?_⟩⟩
      · rw [if_neg (fun z => q1 (isV_iff.mp z.1))] at k
        exact k m Fr.refl (Ok.refl m)
      · rw [if_pos ⟨isV_iff.mpr q1, q2⟩] at k
        rw [wr_id (by omega) (by omega), hb.1] at e1
        rw [wr_id (by omega) (by omega)] at e2
        obtain ⟨r2, f2⟩ := c_gv h e1 e2
        rw [wr_id (by omega) (by omega)]
        refine c_push (o2.2.1 (o1.2.1 K)) (by omega) r2 (by omega) (fun m3 r3 f3 o3 => ⟨rfl, o3, ?_⟩)
        exact k m3 r3 (f2.trans f3) (o1.trans (o2.trans o3))
      · rw [if_neg (fun z => z.2 q2)] at k
        exact k m Fr.refl (Ok.refl m)
    refine ⟨fun q1 => g74 (fun z => q1 z.1), fun q1 => ⟨fun q2 => g74 (by omega), fun q2 => ?_⟩⟩
    rw [if_pos ⟨q1, q2⟩] at k
    exact c_push K (by omega) h (by omega) (fun m2 r2 f2 o2 => ⟨rfl, o2, k m2 r2 f2 o2⟩)
  · subst hw2
    simp only [reduceIte, Int.reduceEq] at k
    unfold mid2 bot2 at ht
    exact c_bCode K (by omega) h (by omega) (by omega) hc0 hc1 (by omega) (by omega) k.bool
  · subst hw2
    simp only [reduceIte, Int.reduceEq] at k
    unfold mid2 bot2 at ht
    have ha : b ≤ a ∧ a < b + N.length := by omega
    obtain ⟨e, he, hi⟩ := nd_at N ha.1 ha.2
    rw [setC_at he] at k
    refine ⟨by omega, by omega, fun m1 e1 o1 => ?_⟩
    have e1' : m1 = up m 56 (b + ((a - b).toNat : Int)) 1 := by rw [e1, hi, show b + (a - b) = a by omega]
    obtain ⟨r1, f1⟩ := c_cnt h he e1'
    have K1 := o1.2.1 K
    refine c_push K1 (by omega) r1 (by omega) (fun m2 r2 f2 o2 => ⟨rfl, o2, ?_⟩)
    rw [wr_id (by omega) (by omega)]
    refine c_push (o2.2.1 K1) (by omega) r2 (by simp; omega) (fun m3 r3 f3 o3 => ⟨rfl, o3, ?_⟩)
    exact k m3 r3 (f1.trans (f2.trans f3)) (o1.trans (o2.trans o3))
  · subst hw2
    simp only [reduceIte, Int.reduceEq] at k
    unfold mid2 bot2 at ht
    have ha : b ≤ a ∧ a < b + N.length := by omega
    obtain ⟨e, he, hi⟩ := nd_at N ha.1 ha.2
    have hv := (h.2.1.2.2 _ e he).2.2.1
    rw [hi, show b + (a - b) = a by omega] at hv
    have hb := hcN e (List.mem_of_getElem? he)
    rw [setC_at he, cntA_at he] at k
    refine ⟨fun q1 => ⟨by omega, by omega, fun q2 => ⟨by omega, by omega, by omega, by omega, fun m1 e1 o1 => ?_⟩, fun q2 => ?_⟩, fun q1 => ?_⟩
    · rw [if_neg q1, if_neg (by rw [← hv]; exact q2)] at k
      rw [hv, wr_id (by omega) (by omega)] at e1
      have e1' : m1 = up m 56 (b + ((a - b).toNat : Int)) (e.2.2.1 + 1) := by rw [e1, hi, show b + (a - b) = a by omega]
      obtain ⟨r1, f1⟩ := c_cnt h he e1'
      have K1 := o1.2.1 K
      refine c_push K1 (by omega) r1 (by omega) (fun m2 r2 f2 o2 => ⟨rfl, o2, ?_⟩)
      rw [wr_id (by omega) (by omega)]
      exact c_bCode (o2.2.1 K1) (by omega) r2 (by simp; omega) (by rw [List.length_set]; omega) hc0 hc1 (by omega) (by omega) ((k.step f1 o1).step f2 o2).bool
    · rw [if_neg q1, if_pos (by rw [← hv]; exact q2)] at k
      exact k m Fr.refl (Ok.refl m)
    · rw [if_pos q1] at k
      exact k m h Fr.refl (Ok.refl m)
  · subst hw2
    simp only [reduceIte, Int.reduceEq] at k
    unfold mid2 bot2 at ht
    have ha : b ≤ a ∧ a < b + N.length := by omega
    obtain ⟨e, he, hi⟩ := nd_at N ha.1 ha.2
    have hv := (h.2.1.2.2 _ e he).2.2.1
    rw [hi, show b + (a - b) = a by omega] at hv
    have hb := hcN e (List.mem_of_getElem? he)
    rw [setC_at he, cntA_at he] at k
    refine ⟨fun q1 => ⟨fun q2 => ?_, fun q2 => ⟨by omega, by omega, fun q3 => ⟨by omega, by omega, by omega, by omega, fun m1 e1 o1 => ?_⟩, fun q3 => ?_⟩⟩, fun q1 => ⟨by omega, by omega, fun q2 => ?_, fun q2 => ?_⟩⟩
    · rw [if_neg q1, if_neg (fun z => q2 z.1)] at k
      exact k m Fr.refl (Ok.refl m)
    · rw [if_neg q1, if_pos ⟨q2, by rw [← hv]; exact q3⟩] at k
      rw [hv, wr_id (by omega) (by omega)] at e1
      have e1' : m1 = up m 56 (b + ((a - b).toNat : Int)) (e.2.2.1 + 1) := by rw [e1, hi, show b + (a - b) = a by omega]
      obtain ⟨r1, f1⟩ := c_cnt h he e1'
      have K1 := o1.2.1 K
      refine c_push K1 (by omega) r1 (by omega) (fun m2 r2 f2 o2 => ⟨rfl, o2, ?_⟩)
      have K2 := o2.2.1 K1
      rw [wr_id (by omega) (by omega)]
      refine c_push K2 (by omega) r2 (by simp; omega) (fun m3 r3 f3 o3 => ⟨rfl, o3, ?_⟩)
      have K3 := o3.2.1 K2
      refine c_push K3 (by omega) r3 (by simp; omega) (fun m4 r4 f4 o4 => ⟨rfl, o4, ?_⟩)
      have K4 := o4.2.1 K3
      refine c_push K4 (by omega) r4 (by simp; omega) (fun m5 r5 f5 o5 => ⟨rfl, o5, ?_⟩)
      exact k m5 r5 (f1.trans (f2.trans (f3.trans (f4.trans f5)))) (o1.trans (o2.trans (o3.trans (o4.trans o5))))
    · rw [if_neg q1, if_neg (fun z => z.2 (by rw [← hv]; exact q3))] at k
      exact k m Fr.refl (Ok.refl m)
    · rw [if_pos q1, if_neg (by rw [← hv]; omega)] at k
      exact k m Fr.refl (Ok.refl m)
    · rw [if_pos q1, if_pos (by rw [← hv]; omega)] at k
      exact k m h Fr.refl (Ok.refl m)
  · subst hw2
    simp only [reduceIte, Int.reduceEq] at k
    exact c_bPat K (by omega) h (by omega) (by omega) hc0 hc1 k.bool
  · subst hw2
    simp only [reduceIte, Int.reduceEq] at k
    exact c_push K (by omega) h (by omega) (fun m2 r2 f2 o2 => ⟨rfl, o2, k m2 r2 f2 o2⟩)
  · subst hw2
    simp only [reduceIte, Int.reduceEq] at k
    unfold mid2 bot2 at ht
    have ha : b ≤ a ∧ a < b + N.length := by omega
    obtain ⟨e, he, hi⟩ := nd_at N ha.1 ha.2
    have hv := (h.2.1.2.2 _ e he).2.2.1
    rw [hi, show b + (a - b) = a by omega] at hv
    have hb := hcN e (List.mem_of_getElem? he)
    have he' : (N ++ [((14 : Int), c - 97, (0 : Int), p)])[(a - b).toNat]? = some e := by rw [List.getElem?_append_left (by omega)]; exact he
    rw [setC_at he', cntA_at he] at k
    refine ⟨fun q1 => ⟨fun q2 => ?_, fun q2 => ⟨by omega, by omega, fun q3 => ?_, fun q3 => ?_⟩⟩, fun q1 => ⟨by omega, by omega, fun q2 => ?_, fun q2 => ?_⟩⟩
    · rw [if_neg q1, if_neg (fun z => q2 (isV_iff.mp z.1))] at k
      exact k m Fr.refl (Ok.refl m)
    · rw [if_neg q1, if_pos ⟨isV_iff.mpr q2, by rw [← hv]; exact q3⟩] at k
      rw [wr_id (by omega) (by omega)]
      refine c_node K (by omega) h (by omega) (fun m1 r1 f1 o1 => ⟨rfl, o1, by omega, by omega, by omega, by omega, fun m2 e2 o2 => ?_⟩)
      have K1 := o1.2.1 K
      have hv' := (r1.2.1.2.2 _ e he').2.2.1
      rw [hi, show b + (a - b) = a by omega] at hv'
      rw [hv', wr_id (by omega) (by omega)] at e2
      have e2' : m2 = up m1 56 (b + ((a - b).toNat : Int)) (e.2.2.1 + 1) := by rw [e2, hi, show b + (a - b) = a by omega]
      obtain ⟨r2, f2⟩ := c_cnt r1 he' e2'
      have K2 := o2.2.1 K1
      refine c_push K2 (by omega) r2 (by omega) (fun m3 r3 f3 o3 => ⟨rfl, o3, ?_⟩)
      exact k m3 r3 (f1.trans (f2.trans f3)) (o1.trans (o2.trans o3))
    · rw [if_neg q1, if_neg (fun z => z.2 (by rw [← hv]; exact q3))] at k
      exact k m Fr.refl (Ok.refl m)
    · rw [if_pos q1, if_neg (by rw [← hv]; omega)] at k
      exact k m Fr.refl (Ok.refl m)
    · rw [if_pos q1, if_pos (by rw [← hv]; omega)] at k
      exact k m h Fr.refl (Ok.refl m)
  · subst hw2
    simp only [reduceIte, Int.reduceEq] at k
    unfold mid2 bot2 at ht
    have ha : b ≤ a ∧ a < b + N.length := by omega
    obtain ⟨e, he, hi⟩ := nd_at N ha.1 ha.2
    have e2 : tCode.setV N (a - b).toNat c = N.set (a - b).toNat (e.1, c, e.2.2.1, e.2.2.2) := by unfold tCode.setV; rw [he]
    rw [e2] at k
    refine ⟨by omega, by omega, fun m1 e1 o1 => ?_⟩
    have e1' : m1 = up m 55 (b + ((a - b).toNat : Int)) c := by rw [e1, hi, show b + (a - b) = a by omega]
    obtain ⟨r1, f1⟩ := c_val h he e1'
    refine ⟨fun q1 => ?_, fun q1 => ⟨fun q2 => ?_, fun q2 => ?_⟩⟩
    · rw [if_pos (Or.inl q1)] at k
      exact k m1 r1 f1 o1
    · rw [if_neg (by omega)] at k
      exact k m1 f1 o1
    · rw [if_pos (Or.inr q2)] at k
      exact k m1 r1 f1 o1
/-- the topmost item is taken away -/
theorem RS.down {e : Itm} (h : RS m b pb (e :: S) N nm gv pt) (e1 : m' = up m 41 29 S.length) : RS m' b pb S N nm gv pt ∧ Fr (rdC b pb) m m' := by
  have E : ∀ z f, m' z f = if z = 41 ∧ f = 29 then (S.length : Int) else m z f := fun z f => by rw [e1]; rfl
  refine ⟨h.stack (by rw [E, if_pos ⟨rfl, rfl⟩]) (stk_congr S (fun i _ _ => by simp only [E]; simp) h.1.2.2.2.2) (fun z f hz => by rw [E, if_neg (by omega)]), frU (by unfold rdC; omega) e1⟩
theorem c_take (hd : 18 ≤ d) (hp0 : 0 ≤ p) (hp1 : p ≤ 75) (hu : u ≤ 100) (hc0 : 0 ≤ c) (hc1 : c ≤ 200) : ∀ (S : List Itm) {m : SM} (_ : KI m) (_ : RS m b pb S N nm gv pt) (_ : sOK b pb p u (S, N, nm, gv, pt)) (_ : S.length ≤ 380) (_ : Rz m b pb (tk b pb c p S (N, nm, gv, pt)) P), WV G mX10_take 0 [(1, 41), (0, c), (0, p), (9, 0), (9, 0), (9, 0), (9, 0)] [] m d P
  | [], m, K, h, hk, hS, k => by
    have h0 : m 41 29 = 0 := h.1.1
    refine wX10_take K (by omega) ⟨fun _ => ?_, fun q => absurd q (by omega)⟩
    unfold tk at k
    exact k m Fr.refl (Ok.refl m)
  | (w, a, q) :: S, m, K, h, hk, hS, k => by
    have h0 : m 41 29 = ((S.length + 1 : Nat) : Int) := h.1.1
    rw [List.length_cons] at hS
    have ht := hk.top
    refine wX10_take K (by omega) ⟨fun q => absurd q (by omega), fun _ m1 e1 o1 => ?_⟩
    rw [h0, wr_id (by omega) (by omega), show ((S.length + 1 : Nat) : Int) - 1 = S.length by omega] at e1
    obtain ⟨r1, f1⟩ := h.down e1
    have K1 := o1.2.1 K
    have n1 : m1 41 29 = S.length := r1.1.1
    have a64 : m1 64 S.length = w := by rw [e1, up_na _ (by decide)]; exact h.1.2.1
    have a65 : m1 65 S.length = a := by rw [e1, up_na _ (by decide)]; exact h.1.2.2.1
    have a66 : m1 66 S.length = q := by rw [e1, up_na _ (by decide)]; exact h.1.2.2.2.1
    rw [n1, a64, a65, a66]
    unfold tk at k
    have j104 : goesOn w q c = true → WV G mX10_take 104 [(1, 41), (0, c), (0, p), (0, w), (0, a), (0, q), (9, 0)] [] m1 d P := by
      intro g
      rw [if_pos g] at k
      exact wX10_take_104 K1 (by omega) (c_take hd hp0 hp1 hu hc0 hc1 S K1 r1 hk.pop (by omega) (k.step f1 o1))
    have j108 : ¬ goesOn w q c = true → WV G mX10_take 108 [(1, 41), (0, c), (0, p), (0, w), (0, a), (0, q), (9, 0)] [] m1 d P := by
      intro g
      rw [if_neg g] at k
      refine wX10_take_108 K1 (by omega) ⟨fun q1 => ⟨fun q2 => ?_, fun q2 => ?_⟩, fun q1 => ⟨fun q2 => ?_, fun q2 => ?_⟩⟩
      · rw [if_neg (by omega), if_neg (by omega)] at k
        exact c_tCode K1 (by omega) r1 hk (by omega) hp0 hp1 hu hc0 hc1 q2 (k.step f1 o1).bool
      · rw [if_neg (by omega), if_pos q2] at k
        exact c_tDecl K1 (by omega) r1 hk (by omega) hp0 hp1 hu hc0 hc1 ⟨q1, q2⟩ (k.step f1 o1).bool
      · rw [if_pos q1, if_neg q2] at k
        exact k m1 f1 o1
      · rw [if_pos q1, if_pos q2] at k
        exact k m1 r1 f1 o1
    have j91 : ¬ (w = 201 ∧ (c ≠ 40 ∨ q / 2 = 8)) → ¬ (w = 211 ∧ (c ≠ 40 ∨ q = 12)) → WV G mX10_take 91 [(1, 41), (0, c), (0, p), (0, w), (0, a), (0, q), (9, 0)] [] m1 d P := by
      intro g1 g2
      refine wX10_take_91 K1 (by omega) ⟨fun q1 => j108 ?_, fun q1 => ⟨fun q2 => j108 ?_, fun q2 => j104 ?_⟩⟩
      · unfold goesOn; simp; omega
      · unfold goesOn; simp; omega
      · unfold goesOn; simp; omega
    have j71 : ¬ (w = 201 ∧ (c ≠ 40 ∨ q / 2 = 8)) → WV G mX10_take 71 [(1, 41), (0, c), (0, p), (0, w), (0, a), (0, q), (9, 0)] [] m1 d P := by
      intro g1
      refine wX10_take_71 K1 (by omega) ⟨fun q1 => j91 g1 (by omega), fun q1 => ⟨fun q2 => j104 ?_, fun q2 => ⟨fun q3 => j104 ?_, fun q3 => j91 g1 (by omega)⟩⟩⟩
      · unfold goesOn; simp; omega
      · unfold goesOn; simp; omega
    refine ⟨by omega, by omega, by omega, by omega, by omega, by omega, fun q1 => j71 (by omega), fun q1 => ⟨fun q2 => j104 ?_, fun q2 => ?_⟩⟩
    · unfold goesOn; simp; omega
    · have hq : 0 ≤ q ∧ q ≤ 1000 := by unfold mid2 bot2 at ht; omega
      rw [Int.tdiv_eq_ediv_of_nonneg hq.1, wr_id (by omega) (by omega)]
      refine ⟨fun q3 => j104 ?_, fun q3 => j71 (by omega)⟩
      unfold goesOn; simp; omega
end TU
