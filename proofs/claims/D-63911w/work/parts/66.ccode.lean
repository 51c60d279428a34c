/-! L3, component: programs, the small steps -/
section CH
variable {m m' : SM} {G : GM} {d : Nat} {P : Nat → Int → SM → Prop} {s : List Int} {p : Int}
theorem q_isCode (K : KI m) (hd : 15 ≤ d) (R : Rd m s p) (k : P 0 (if isCd s = true then 1 else 0) m) : WV G mX4_isCode 0 [(1, 8)] [] m d P := by
  have h0 := R.hd0
  have e : isCd s = true ↔ (97 ≤ hdC s ∧ hdC s ≤ 122) ∨ (65 ≤ hdC s ∧ hdC s ≤ 90) ∨ (48 ≤ hdC s ∧ hdC s ≤ 57) ∨ hdC s = 43 ∨ hdC s = 45 ∨ hdC s = 123 ∨ hdC s = 91 ∨ hdC s = 126 := by
    cases s with
    | nil =>
      refine ⟨fun z => (nomatch z), fun z => ?_⟩
      have e0 : hdC [] = 0 := rfl
      rw [e0] at z
      omega
    | cons c r => unfold isCd hdC isV isL isD; simp [or_assoc]
  have yes : isCd s = true → P 0 1 m := fun z => by rw [if_pos z] at k; exact k
  have no : ¬ isCd s = true → P 0 0 m := fun z => by rw [if_neg z] at k; exact k
  have on : ∀ {A : Prop} [Decidable A], (if A then (1 : Int) else 0) ≠ 0 → A := fun {A} _ z => by
    by_cases y : A
    · exact y
    · rw [if_neg y] at z; exact absurd rfl z
  have off : ∀ {A : Prop} [Decidable A], (if A then (1 : Int) else 0) = 0 → ¬ A := fun {A} _ z y => by
    rw [if_pos y] at z; exact absurd z (by decide)
  refine wX4_isCode K (by omega) (q_isNext K (by omega) R ⟨rfl, Ok.refl m, fun q1 => yes (e.mpr (Or.inl (on q1))), fun q1 => q_isNext K (by omega) R ⟨rfl, Ok.refl m, fun q2 => yes (e.mpr (Or.inr (Or.inl (on q2)))), fun q2 => q_isNext K (by omega) R ⟨rfl, Ok.refl m, fun q3 => yes (e.mpr (Or.inr (Or.inr (Or.inl (on q3))))), fun q3 => q_peek K (by omega) R ⟨rfl, Ok.refl m, fun q4 => yes (e.mpr (by omega)), fun q4 => q_peek K (by omega) R ⟨rfl, Ok.refl m, fun q5 => yes (e.mpr (by omega)), fun q5 => q_peek K (by omega) R ⟨rfl, Ok.refl m, fun q6 => yes (e.mpr (by omega)), fun q6 => q_peek K (by omega) R ⟨rfl, Ok.refl m, fun q7 => yes (e.mpr (by omega)), fun q7 => q_peek K (by omega) R ⟨rfl, Ok.refl m, fun q8 => no (fun z => ?_), fun q8 => yes (e.mpr (by omega))⟩⟩⟩⟩⟩⟩⟩⟩)
  have n1 := off q1
  have n2 := off q2
  have n3 := off q3
  have z' := e.mp z
  omega
/-- Code's constructor -/
theorem q_i23 (K : KI m) (hd : 12 ≤ d) {x a1 a2 a3 a4 a5 a6 : Int} (hx : x ≠ 0) (ht : m x (-1) = 23) (h3 : 0 ≤ a3 ∧ a3 ≤ 65535) (k : ∀ m', (∀ z, z ≠ x → m' z = m z) → m' x (-1) = 23 → m' x 0 = a1 → m' x 1 = a2 → m' x 2 = a3 → m' x 3 = a4 → m' x 4 = a5 → m' x 5 = a6 → Ok m m' → P 0 0 m') : WV G mX18_init 0 [(1, x), (1, a1), (0, a2), (0, a3), (1, a4), (1, a5), (1, a6)] [] m d P := by
  refine wX18_init K hd ⟨hx, ht, fun m1 e1 o1 m2 e2 o2 => ⟨h3, fun m3 e3 o3 m4 e4 o4 m5 e5 o5 m6 e6 o6 => ?_⟩⟩
  have E : ∀ z f, m6 z f = if z = x ∧ f = 5 then a6 else if z = x ∧ f = 4 then a5 else if z = x ∧ f = 3 then a4 else if z = x ∧ f = 2 then a3 else if z = x ∧ f = 1 then a2 else if z = x ∧ f = 0 then a1 else m z f := fun z f => by rw [e6, e5, e4, e3, e2, e1]; rfl
  refine k m6 (fun z hz => ?_) ?_ ?_ ?_ ?_ ?_ ?_ ?_ (o1.trans (o2.trans (o3.trans (o4.trans (o5.trans o6)))))
  · funext f; rw [E]; simp [hz]
  · rw [E]; simp [ht]
  all_goals (rw [E]; simp)
/-- a leaf's Code -/
theorem q_leaf (K : KI m) (hd : 14 ≤ d) (hb : m 0 0 ≤ 1203200 ∧ m 0 1 + 6 ≤ 5491882) {a1 a2 a3 a4 : Int} (h3 : 0 ≤ a3 ∧ a3 ≤ 65535) (k : ∀ m' x, Go 11 1 6 m m' → (∀ z, z ≠ x → z ≠ 0 → m' z = m z) → x = m 0 0 → m' x (-1) = 23 → m' x 0 = a1 → m' x 1 = a2 → m' x 2 = a3 → m' x 3 = a4 → m' x 4 = 14 → m' x 5 = 15 → P 0 x m') : WV G mX4_leaf 0 [(1, 8), (1, a1), (0, a2), (0, a3), (1, a4)] [] m d P := by
  refine wX4_leaf K (by omega) ⟨hb.1, hb.2, fun B m3 e3 o3 => ?_⟩
  have x0 : m 0 0 ≠ 0 := by have := B.2.1; omega
  have n0 : m (m 0 0) (-1) = 0 := B.2.2.1 _ (Int.le_refl _)
  have g3 := Go.nw B (by decide) e3
  refine ⟨x0, q_i23 (g3.ki K) (by omega) x0 (al_tag B e3) h3 (fun m' e' f9 f0 f1 f2 f3 f4 f5 o' => ⟨rfl, o', ?_⟩)⟩
  refine k m' (m 0 0) (g3.fr n0 x0 e' o') (fun z hz hz0 => ?_) rfl f9 f0 f1 f2 f3 f4 f5
  rw [e' z hz, e3]
  funext f
  unfold al
  rw [if_neg hz0, if_neg hz]
end CH
