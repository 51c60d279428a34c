/-! L3, twin: reading, read -/
theorem tk_ok {b pb p u c : Int} {N : List Nd} {nm : Int} {gv : List Int} {pt : List Pt5} {st : RSt} (hp : 0 ≤ p) : ∀ (S : List Itm), sOK b pb p u (S, N, nm, gv, pt) → tk b pb c p S (N, nm, gv, pt) = some st → sOK b pb (p + 1) (u + 1) st
  | [], _, e => by unfold tk at e; cases e
  | (w, a, q) :: S, h, e => by
    unfold tk at e
    by_cases g : goesOn w q c = true
    · rw [if_pos g] at e
      exact tk_ok hp S h.pop e
    · rw [if_neg g] at e
      by_cases g1 : w < 200
      · rw [if_pos g1] at e
        by_cases g2 : c = w
        · rw [if_pos g2] at e
          cases e
          exact h.pop.next.more
        · rw [if_neg g2] at e
          cases e
      · rw [if_neg g1] at e
        by_cases g2 : w < 209
        · rw [if_pos g2] at e
          exact tDecl_ok h ⟨by omega, g2⟩ hp e
        · rw [if_neg g2] at e
          exact tCode_ok h (by omega) hp e
theorem stk_mid {m : SM} {e : Itm} {B : List Itm} : ∀ (T : List Itm), stk m (T ++ e :: B) → m 64 B.length = e.1 ∧ m 65 B.length = e.2.1
  | [], h => ⟨h.1, h.2.1⟩
  | _ :: T, h => stk_mid T h.2.2.2
section TV
variable {b pb : Int} {G : GM} {d : Nat} {P : Nat → Int → SM → Prop}
theorem c_rd80 (hd : 12 ≤ d) {m : SM} (K : KI m) {N : List Nd} {nm : Int} {gv : List Int} {pt : List Pt5} {n : Int} : ∀ (l : Nat) (T B : List Itm), T.length = l → RS m b pb (T ++ B) N nm gv pt → (T ++ B).length ≤ 390 → (k1 : (T ++ B).all may = true → P 0 (-1) m) → (k0 : ¬ (T ++ B).all may = true → P 0 n m) → WV G mX10_read 80 [(1, 41), (9, 0), (9, 0), (9, 0), (0, n), (0, if B.all may = true then 1 else 0), (0, (B.length : Int)), (9, 0)] [] m d P
  | 0, T, B, hl, h, hS, k1, k0 => by
    have hT : T = [] := List.eq_nil_of_length_eq_zero hl
    subst hT
    rw [List.nil_append] at *
    have h0 : m 41 29 = B.length := h.1.1
    refine wX10_read_80 K hd ⟨fun _ => ⟨fun q => ?_, fun q => ?_⟩, fun q => absurd q (by omega)⟩
    · refine k0 (fun z => ?_)
      rw [if_pos z] at q
      exact absurd q (by decide)
    · by_cases z : B.all may = true
      · exact k1 z
      · rw [if_neg z] at q
        exact absurd rfl q
  | l + 1, T, B, hl, h, hS, k1, k0 => by
    rcases List.eq_nil_or_concat T with hT | ⟨T', e, hT⟩
    · subst hT; cases hl
    · rw [List.concat_eq_append] at hT
      subst hT
      have hl' : T'.length = l := by simpa using hl
      have eq : T' ++ [e] ++ B = T' ++ e :: B := by simp
      rw [eq] at h hS k1 k0
      have h0 : m 41 29 = (T' ++ e :: B).length := h.1.1
      obtain ⟨a64, a65⟩ := stk_mid T' h.1.2
      have hB : (B.length : Int) < (T' ++ e :: B).length := by simp; omega
      refine wX10_read_80 K hd ⟨fun q => absurd q (by omega), fun _ => ⟨by omega, by omega, fun v => v = if may e = true then 1 else 0, ?_, fun v hv => ?_⟩⟩
      · rw [a64, a65]
        have one : may e = true → (1 : Int) = if may e = true then 1 else 0 := fun z => by rw [if_pos z]
        have nul : ¬ may e = true → (0 : Int) = if may e = true then 1 else 0 := fun z => by rw [if_neg z]
        refine ⟨fun q1 => one (by unfold may; simp; omega), fun q1 => ⟨by omega, by omega, fun q2 => one (by unfold may; simp; omega), fun q2 => ⟨by omega, by omega, fun q3 => one (by unfold may; simp; omega), fun q3 => ⟨by omega, by omega, fun q4 => nul (by unfold may; simp; omega), fun q4 => ⟨by omega, by omega, fun q5 => nul (by unfold may; simp; omega), fun q5 => one (by unfold may; simp; omega)⟩⟩⟩⟩⟩
      · have ih := c_rd80 hd K l T' (e :: B) hl' h hS k1 k0
        rw [wr_id (by omega) (by omega)]
        have ef : (if (if B.all may = true then (1 : Int) else 0) = 0 then (0 : Int) else if v = 0 then 0 else 1) = if (e :: B).all may = true then 1 else 0 := by
          rw [hv, List.all_cons]
          cases may e <;> cases B.all may <;> simp
        rw [ef, show (B.length : Int) + 1 = ((e :: B).length : Int) by simp]
        exact ih
def Rr (m : SM) (b pb : Int) (r : Int ⊕ (List Nd × Int × List Int × List Pt5)) (P : Nat → Int → SM → Prop) : Prop := match r with
  | .inl p => ∀ m', Fr (rdC b pb) m m' → Ok m m' → P 0 p m'
  | .inr (N, nm, gv, pt) => ∀ m' S', RS m' b pb S' N nm gv pt → Fr (rdC b pb) m m' → Ok m m' → P 0 (-1) m'
theorem Rr.step {m m' : SM} {r : Int ⊕ (List Nd × Int × List Int × List Pt5)} (h : Rr m b pb r P) (f : Fr (rdC b pb) m m') (ok : Ok m m') : Rr m' b pb r P := by
  cases r with
  | inl p => exact fun m2 f2 o2 => h m2 (f.trans f2) (ok.trans o2)
  | inr st =>
    obtain ⟨N, nm, gv, pt⟩ := st
    exact fun m2 S' r f2 o2 => h m2 S' r (f.trans f2) (ok.trans o2)
/-- the text lies in table 42 -/
def txt (m : SM) (i : Int) (s : List Int) : Prop := ∀ (j : Nat) (c : Int), s[j]? = some c → m 42 (i + j) = c ∧ 0 ≤ c ∧ c ≤ 200
theorem c_rd42 (hd : 19 ≤ d) {n : Int} {r : Int ⊕ (List Nd × Int × List Int × List Pt5)} : ∀ (s : List Int) {m : SM} {i : Int} {S : List Itm} {N : List Nd} {nm : Int} {gv : List Int} {pt : List Pt5}, KI m → RS m b pb S N nm gv pt → sOK b pb i (i + 1) (S, N, nm, gv, pt) → 0 ≤ i → i + s.length ≤ 75 → n = i + s.length → txt m i s → mrun b pb s i (S, N, nm, gv, pt) = some r → Rr m b pb r P → WV G mX10_read 42 [(1, 41), (9, 0), (9, 0), (9, 0), (0, n), (0, i), (9, 0), (9, 0)] [] m d P
  | [], m, i, S, N, nm, gv, pt, K, h, hk, hi, hn, en, ht, e, k => by
    unfold mrun at e
    dsimp only at e
    split at e
    · cases e
    · rename_i hl
      refine wX10_read_42 K (by omega) ⟨fun _ => ?_, fun q => absurd q (by rw [en]; simp)⟩
      have en' : n = i := by rw [en]; simp
      rw [en']
      have g := c_rd80 (G := G) (P := P) (n := i) (d := d) (by omega) K S.length S [] rfl (by rw [List.append_nil]; exact h) (by rw [List.append_nil]; omega) (fun q => ?_) (fun q => ?_)
      · exact g
      · rw [List.append_nil] at q
        rw [if_pos q] at e
        cases e
        exact k m S h Fr.refl (Ok.refl m)
      · rw [List.append_nil] at q
        rw [if_neg q] at e
        cases e
        exact k m Fr.refl (Ok.refl m)
  | c :: s, m, i, S, N, nm, gv, pt, K, h, hk, hi, hn, en, ht, e, k => by
    unfold mrun at e
    dsimp only at e
    rw [List.length_cons] at hn en
    split at e
    · cases e
    · rename_i hl
      obtain ⟨hc, hc0, hc1⟩ := ht 0 c rfl
      rw [show i + ((0 : Nat) : Int) = i by omega] at hc
      refine wX10_read_42 K (by omega) ⟨fun q => absurd q (by omega), fun _ => ⟨by omega, by omega, ?_⟩⟩
      rw [hc]
      refine c_take (by omega) hi (by omega) (u := i + 1) (by omega) hc0 hc1 S K h hk (by omega) ?_
      cases et : tk b pb c i S (N, nm, gv, pt) with
      | none =>
        rw [et] at e
        cases e
        exact fun m' f o => ⟨rfl, o, fun q => absurd rfl q, fun _ => k m' f o⟩
      | some st =>
        rw [et] at e
        have g := tk_ok hi S hk et
        obtain ⟨S', N', nm', gv', pt'⟩ := st
        refine fun m' r' f o => ⟨rfl, o, fun _ => ?_, fun q => absurd q (by decide)⟩
        rw [wr_id (by omega) (by omega)]
        refine c_rd42 hd s (o.2.1 K) r' g (by omega) (by omega) (by rw [en]; omega) (fun j x hj => ?_) e (k.step f o)
        obtain ⟨t1, t2⟩ := ht (j + 1) x (by simpa using hj)
        refine ⟨?_, t2⟩
        rw [f 42 _ (by unfold rdC; omega), ← t1]
        congr 1
        omega
/-- reading: what the machine says -/
theorem c_read (hd : 19 ≤ d) {m : SM} (K : KI m) {w a q : Int} {s : List Int} {r : Int ⊕ (List Nd × Int × List Int × List Pt5)} (hb : 0 ≤ m 41 16 ∧ m 41 16 ≤ 2600) (hpb : 0 ≤ m 41 23 ∧ m 41 23 ≤ 170) (hit : mid2 0 0 0 0 0 w a q ∨ bot2 0 0 w a) (hn : m 41 1 = s.length) (hl : s.length ≤ 75) (ht : txt m 0 s) (e : mrun (m 41 16) (m 41 23) s 0 ([(w, a, q)], [], m 41 34, [], []) = some r)
    (k : ∀ m0, m0 41 1 = 0 → m0 41 20 = m 41 16 → (∀ z f, ¬ (z = 41 ∧ (f = 1 ∨ f = 20)) → ¬ rdC (m 41 16) (m 41 23) z f → m0 z f = m z f) → Ok m m0 → Rr m0 (m 41 16) (m 41 23) r P) : WV G mX10_read 0 [(1, 41), (0, w), (0, a), (0, q), (9, 0), (9, 0), (9, 0), (9, 0)] [] m d P := by
  refine wX10_read K (by omega) (fun m1 e1 o1 m2 e2 o2 m3 e3 o3 m4 e4 o4 => ?_)
  have a2 : m2 41 23 = m 41 23 := by rw [e2, e1]; rfl
  have a3 : m3 41 16 = m 41 16 := by rw [e3, e2, e1]; rfl
  rw [a2] at e3
  rw [a3] at e4
  have E : ∀ z f, m4 z f = if z = 41 ∧ f = 20 then m 41 16 else if z = 41 ∧ f = 33 then m 41 23 else if z = 41 ∧ f = 29 then 0 else if z = 41 ∧ f = 1 then 0 else m z f := fun z f => by rw [e4, e3, e2, e1]; rfl
  have o4' := o1.trans (o2.trans (o3.trans o4))
  have r4 : RS m4 (m 41 16) (m 41 23) [] [] (m 41 34) [] [] := by
    refine ⟨⟨by rw [E]; simp, trivial⟩, ⟨by rw [E]; simp, by rw [E]; simp, fun i x hx => ?_⟩, by rw [E]; simp, fun i x hx => ?_, ⟨by rw [E]; simp, by rw [E]; simp, fun i x hx => ?_⟩, hb, hpb⟩ <;> simp at hx
  refine c_push (o4'.2.1 K) (by omega) r4 (by simp) (fun m5 r5 f5 o5 => ⟨rfl, o5, ?_⟩)
  refine c_rd42 hd s (o5.2.1 (o4'.2.1 K)) r5 ⟨?_, by simp, by omega, fun x hx => by simp at hx, by simp, fun x hx => by simp at hx⟩ (by omega) (by omega) (by rw [hn]; omega) (fun j x hj => ?_) e ((k m4 (by rw [E]; simp) (by rw [E]; simp) (fun z f h1 h2 => ?_) o4').step f5 o5)
  · rcases hit with h | h
    · left
      refine ⟨?_, trivial⟩
      unfold mid2 at h ⊢
      simp only [List.length_nil]
      omega
    · exact Or.inr ⟨rfl, h⟩
  · obtain ⟨t1, t2⟩ := ht j x hj
    refine ⟨?_, t2⟩
    rw [f5 42 _ (by unfold rdC; omega), E, if_neg (by omega), if_neg (by omega), if_neg (by omega), if_neg (by omega)]
    exact t1
  · have h2' : ¬ (z = 41 ∧ (f = 29 ∨ f = 33)) := fun g => h2 (by unfold rdC; omega)
    rw [E, if_neg (by omega), if_neg (by omega), if_neg (by omega), if_neg (by omega)]
end TV
