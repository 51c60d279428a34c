/-! L1 tables: constant pools (made by gen_cp.py) -/
def lk {α : Type} (n : Nat) : List (Nat × α) → Option α
  | [] => none
  | e :: r => match Nat.beq e.1 n with
    | true => some e.2
    | false => lk n r
theorem lk_mem {α : Type} {n : Nat} {v : α} : ∀ {l : List (Nat × α)}, lk n l = some v → (n, v) ∈ l
  | [], h => by cases h
  | e :: r, h => by
    unfold lk at h
    cases hb : Nat.beq e.1 n with
    | true => rw [hb] at h; cases h; have := Nat.eq_of_beq_eq_true hb; subst this; exact List.mem_cons_self ..
    | false => rw [hb] at h; exact List.mem_cons_of_mem _ (lk_mem h)
def fT_0 : List (Nat × (Nat × Nat)) := [(17, (10, 0)), (20, (10, 1)), (30, (10, 3)), (34, (15, 0)), (50, (15, 1)), (53, (10, 2)), (70, (0, 0)), (77, (0, 1)), (84, (0, 2)), (93, (0, 3)), (102, (0, 4)), (107, (0, 5)), (114, (0, 7)), (118, (4, 0)), (132, (4, 5)), (145, (1, 1)), (169, (1, 0)), (179, (9, 7)), (188, (21, 0)), (197, (21, 1)), (204, (0, 6)), (207, (7, 1)), (229, (7, 3)), (232, (9, 6)), (276, (6, 0))]
def fT_1 : List (Nat × (Nat × Nat)) := [(7, (23, 0)), (13, (23, 1)), (17, (23, 2)), (21, (23, 3)), (25, (23, 4)), (41, (10, 1)), (47, (10, 2))]
def fT_2 : List (Nat × (Nat × Nat)) := [(10, (9, 2)), (16, (9, 3)), (22, (9, 4)), (26, (9, 5)), (29, (9, 0)), (33, (9, 1)), (43, (10, 0)), (49, (9, 7)), (66, (13, 0)), (78, (13, 3)), (81, (13, 5)), (84, (13, 2)), (96, (13, 4)), (105, (1, 0)), (132, (13, 1)), (151, (9, 6)), (155, (20, 3)), (162, (20, 0)), (199, (20, 1)), (203, (20, 2)), (218, (21, 0))]
def fT_3 : List (Nat × (Nat × Nat)) := [(7, (22, 0)), (13, (22, 1)), (17, (22, 2)), (21, (22, 3)), (25, (22, 4)), (29, (22, 5))]
def fT_4 : List (Nat × (Nat × Nat)) := [(7, (20, 0)), (13, (20, 1)), (17, (20, 2)), (27, (20, 3))]
def fT_5 : List (Nat × (Nat × Nat)) := [(10, (2, 0)), (16, (2, 1)), (19, (2, 2)), (22, (2, 3)), (26, (2, 4)), (29, (2, 5)), (47, (10, 0)), (51, (10, 1)), (54, (10, 3)), (58, (10, 4)), (71, (10, 2)), (78, (15, 0)), (81, (15, 1)), (87, (16, 0)), (90, (16, 1)), (91, (16, 2))]
def fT_7 : List (Nat × (Nat × Nat)) := [(7, (18, 0)), (13, (18, 1)), (17, (18, 2)), (20, (18, 3))]
def fT_8 : List (Nat × (Nat × Nat)) := [(7, (19, 0)), (13, (19, 1)), (17, (19, 2)), (21, (19, 3)), (25, (19, 4))]
def fT_9 : List (Nat × (Nat × Nat)) := [(7, (21, 0)), (13, (21, 1))]
def fT_10 : List (Nat × (Nat × Nat)) := [(12, (4, 0)), (18, (4, 1)), (24, (4, 2)), (28, (4, 3)), (31, (4, 4)), (34, (4, 5)), (38, (4, 6)), (74, (10, 0)), (81, (10, 1))]
def fT_11 : List (Nat × (Nat × Nat)) := [(12, (7, 1)), (18, (7, 0)), (22, (16, 0)), (28, (16, 2)), (35, (7, 2)), (43, (21, 1)), (53, (7, 3)), (56, (22, 0)), (68, (22, 2)), (75, (22, 3)), (79, (16, 1)), (91, (1, 0)), (97, (22, 4)), (128, (21, 0)), (138, (15, 0)), (145, (15, 1)), (155, (22, 5)), (177, (10, 3)), (196, (10, 1)), (226, (22, 1)), (237, (9, 0))]
def fT_13 : List (Nat × (Nat × Nat)) := [(10, (1, 0)), (18, (1, 1))]
def fT_14 : List (Nat × (Nat × Nat)) := [(7, (13, 0)), (13, (13, 1)), (17, (13, 2)), (21, (13, 3)), (25, (13, 4))]
def fT_15 : List (Nat × (Nat × Nat)) := [(7, (10, 4)), (13, (10, 0))]
def fT_16 : List (Nat × (Nat × Nat)) := [(12, (8, 0)), (18, (8, 1)), (35, (10, 3)), (39, (15, 0)), (49, (15, 1)), (88, (10, 0)), (97, (10, 1)), (104, (10, 2)), (126, (10, 4))]
def fT_17 : List (Nat × (Nat × Nat)) := [(12, (6, 0)), (18, (6, 1)), (24, (6, 2)), (72, (10, 0)), (81, (10, 1)), (88, (10, 2)), (92, (10, 3))]
def fT_19 : List (Nat × (Nat × Nat)) := [(7, (24, 2)), (13, (24, 4)), (16, (24, 5)), (19, (24, 6)), (22, (24, 7)), (25, (24, 8)), (28, (24, 9)), (31, (24, 10)), (34, (24, 11)), (37, (24, 12)), (40, (24, 13)), (43, (24, 15)), (46, (24, 17)), (49, (24, 18)), (52, (24, 19)), (55, (24, 21)), (58, (24, 22)), (61, (24, 24)), (64, (24, 25)), (67, (24, 26)), (70, (24, 27)), (73, (24, 28)), (76, (24, 30)), (79, (24, 31)), (82, (24, 32)), (85, (24, 36)), (88, (24, 37)), (91, (24, 38)), (94, (24, 39)), (97, (24, 41)), (100, (24, 43)), (103, (24, 45)), (106, (24, 46)), (109, (24, 47)), (112, (24, 48)), (115, (24, 49)), (118, (24, 50)), (121, (24, 51)), (124, (24, 52)), (127, (24, 53)), (130, (24, 54)), (133, (24, 55)), (136, (24, 56)), (139, (24, 57)), (142, (24, 65)), (145, (24, 66)), (148, (24, 67)), (151, (24, 68)), (154, (24, 69)), (157, (24, 71)), (160, (24, 72)), (163, (24, 73)), (166, (24, 76)), (169, (24, 77)), (172, (24, 78)), (175, (24, 83)), (178, (24, 84)), (181, (24, 85)), (184, (24, 0)), (188, (24, 1)), (191, (24, 29)), (194, (24, 16)), (197, (24, 20)), (222, (24, 33)), (243, (24, 34)), (253, (24, 23)), (259, (24, 35)), (262, (24, 40)), (265, (24, 42)), (284, (24, 44)), (302, (24, 75)), (305, (24, 74)), (314, (24, 3)), (317, (24, 70)), (320, (24, 61)), (323, (24, 62)), (326, (24, 63)), (329, (24, 60)), (332, (24, 64)), (367, (24, 59)), (373, (24, 58)), (422, (24, 14)), (444, (24, 79)), (447, (24, 80)), (453, (24, 81)), (456, (24, 82))]
def fT_20 : List (Nat × (Nat × Nat)) := [(15, (5, 0)), (22, (5, 1)), (73, (5, 2)), (79, (5, 3))]
def fT_24 : List (Nat × (Nat × Nat)) := [(9, (12, 0)), (15, (12, 1)), (1048, (5, 2))]
def fT_28 : List (Nat × (Nat × Nat)) := [(7, (3, 0))]
def fT_29 : List (Nat × (Nat × Nat)) := [(9, (3, 1)), (48, (3, 2)), (63, (3, 0))]
def fT (o n : Nat) : Option ((Nat × Nat)) := match o with
  | 0 => lk n fT_0
  | 1 => lk n fT_1
  | 2 => lk n fT_2
  | 3 => lk n fT_3
  | 4 => lk n fT_4
  | 5 => lk n fT_5
  | 7 => lk n fT_7
  | 8 => lk n fT_8
  | 9 => lk n fT_9
  | 10 => lk n fT_10
  | 11 => lk n fT_11
  | 13 => lk n fT_13
  | 14 => lk n fT_14
  | 15 => lk n fT_15
  | 16 => lk n fT_16
  | 17 => lk n fT_17
  | 19 => lk n fT_19
  | 20 => lk n fT_20
  | 24 => lk n fT_24
  | 28 => lk n fT_28
  | 29 => lk n fT_29
  | _ => none
set_option maxRecDepth 100000 in
theorem fT_0_ok : ∀ q ∈ fT_0, FOK (clsS 0) q.1 q.2.1 q.2.2 := by
  refine List.forall_mem_cons.mpr ⟨⟨(RX9, TX9, 5, tyX9, 5), "ConditionedProofs$Value", rfl, by decide, Or.inr ⟨"ConditionedProofs", (lw_at lw_m2 20 rfl)⟩, Or.inl rfl⟩, ?_⟩
  refine List.forall_mem_cons.mpr ⟨⟨(RX9, TX9, 5, tyX9, 5), "ConditionedProofs$Value", rfl, by decide, Or.inr ⟨"ConditionedProofs", (lw_at lw_m2 27 rfl)⟩, Or.inl rfl⟩, ?_⟩
  refine List.forall_mem_cons.mpr ⟨⟨(RX9, TX9, 5, tyX9, 5), "ConditionedProofs$Value", rfl, by decide, Or.inr ⟨"ConditionedProofs", (lw_at lw_m2 39 rfl)⟩, Or.inl rfl⟩, ?_⟩
  refine List.forall_mem_cons.mpr ⟨⟨(RX14, TX14, 2, tyX14, 2), "ConditionedProofs$Link", rfl, by decide, Or.inr ⟨"ConditionedProofs", (lw_at lw_m5 51 rfl)⟩, Or.inl rfl⟩, ?_⟩
  refine List.forall_mem_cons.mpr ⟨⟨(RX14, TX14, 2, tyX14, 2), "ConditionedProofs$Link", rfl, by decide, Or.inr ⟨"ConditionedProofs", (lw_at lw_m5 55 rfl)⟩, Or.inl rfl⟩, ?_⟩
  refine List.forall_mem_cons.mpr ⟨⟨(RX9, TX9, 5, tyX9, 5), "ConditionedProofs$Value", rfl, by decide, Or.inr ⟨"ConditionedProofs", (lw_at lw_m2 34 rfl)⟩, Or.inl rfl⟩, ?_⟩
  refine List.forall_mem_cons.mpr ⟨⟨(RX1, TX1, 8, tyX1, 8), "ConditionedProofs", rfl, by decide, Or.inl (lw_g (lw_at lw_m2 94 rfl) rfl), Or.inl rfl⟩, ?_⟩
  refine List.forall_mem_cons.mpr ⟨⟨(RX1, TX1, 8, tyX1, 8), "ConditionedProofs", rfl, by decide, Or.inl (lw_g (lw_at lw_m2 95 rfl) rfl), Or.inl rfl⟩, ?_⟩
  refine List.forall_mem_cons.mpr ⟨⟨(RX1, TX1, 8, tyX1, 8), "ConditionedProofs", rfl, by decide, Or.inl (lw_g (lw_at lw_m2 96 rfl) rfl), Or.inl rfl⟩, ?_⟩
  refine List.forall_mem_cons.mpr ⟨⟨(RX1, TX1, 8, tyX1, 8), "ConditionedProofs", rfl, by decide, Or.inl (lw_g (lw_at lw_m2 97 rfl) rfl), Or.inl rfl⟩, ?_⟩
  refine List.forall_mem_cons.mpr ⟨⟨(RX1, TX1, 8, tyX1, 8), "ConditionedProofs", rfl, by decide, Or.inl (lw_g (lw_at lw_m2 98 rfl) rfl), Or.inl rfl⟩, ?_⟩
  refine List.forall_mem_cons.mpr ⟨⟨(RX1, TX1, 8, tyX1, 8), "ConditionedProofs", rfl, by decide, Or.inl (lw_g (lw_at lw_m2 99 rfl) rfl), Or.inl rfl⟩, ?_⟩
  refine List.forall_mem_cons.mpr ⟨⟨(RX1, TX1, 8, tyX1, 8), "ConditionedProofs", rfl, by decide, Or.inl (lw_g (lw_at lw_m2 101 rfl) rfl), Or.inl rfl⟩, ?_⟩
  refine List.forall_mem_cons.mpr ⟨⟨(RX4, TX4, 7, tyX4, 7), "ConditionedProofs$Reader", rfl, by decide, Or.inr ⟨"ConditionedProofs", (lw_at lw_m1 166 rfl)⟩, Or.inl rfl⟩, ?_⟩
  refine List.forall_mem_cons.mpr ⟨⟨(RX4, TX4, 7, tyX4, 7), "ConditionedProofs$Reader", rfl, by decide, Or.inr ⟨"ConditionedProofs", (lw_at lw_m1 172 rfl)⟩, Or.inl rfl⟩, ?_⟩
  refine List.forall_mem_cons.mpr ⟨⟨(RX2, TX2, 2, tyX2, 2), "ConditionedProofs$Store", rfl, by decide, Or.inr ⟨"ConditionedProofs", (lw_at lw_m1 118 rfl)⟩, Or.inl rfl⟩, ?_⟩
  refine List.forall_mem_cons.mpr ⟨⟨(RX2, TX2, 2, tyX2, 2), "ConditionedProofs$Store", rfl, by decide, Or.inr ⟨"ConditionedProofs", (lw_at lw_m1 116 rfl)⟩, Or.inl rfl⟩, ?_⟩
  refine List.forall_mem_cons.mpr ⟨⟨(RX8, TX8, 8, tyX8, 8), "ConditionedProofs$Checker", rfl, by decide, Or.inr ⟨"ConditionedProofs", (lw_at lw_m2 72 rfl)⟩, Or.inl rfl⟩, ?_⟩
  refine List.forall_mem_cons.mpr ⟨⟨(RX17, TX17, 2, tyX17, 2), "ConditionedProofs$Program", rfl, by decide, Or.inr ⟨"ConditionedProofs", (lw_at lw_m7 101 rfl)⟩, Or.inl rfl⟩, ?_⟩
  refine List.forall_mem_cons.mpr ⟨⟨(RX17, TX17, 2, tyX17, 2), "ConditionedProofs$Program", rfl, by decide, Or.inr ⟨"ConditionedProofs", (lw_at lw_m7 104 rfl)⟩, Or.inl rfl⟩, ?_⟩
  refine List.forall_mem_cons.mpr ⟨⟨(RX1, TX1, 8, tyX1, 8), "ConditionedProofs", rfl, by decide, Or.inl (lw_g (lw_at lw_m2 100 rfl) rfl), Or.inl rfl⟩, ?_⟩
  refine List.forall_mem_cons.mpr ⟨⟨(RX6, TX6, 4, tyX6, 4), "ConditionedProofs$Runner", rfl, by decide, Or.inr ⟨"ConditionedProofs", (lw_at lw_m1 233 rfl)⟩, Or.inl rfl⟩, ?_⟩
  refine List.forall_mem_cons.mpr ⟨⟨(RX6, TX6, 4, tyX6, 4), "ConditionedProofs$Runner", rfl, by decide, Or.inr ⟨"ConditionedProofs", (lw_at lw_m1 236 rfl)⟩, Or.inl rfl⟩, ?_⟩
  refine List.forall_mem_cons.mpr ⟨⟨(RX8, TX8, 8, tyX8, 8), "ConditionedProofs$Checker", rfl, by decide, Or.inr ⟨"ConditionedProofs", (lw_at lw_m2 70 rfl)⟩, Or.inl rfl⟩, ?_⟩
  refine List.forall_mem_cons.mpr ⟨⟨(RX5, TX5, 3, tyX5, 3), "ConditionedProofs$Writer", rfl, by decide, Or.inr ⟨"ConditionedProofs", (lw_at lw_m1 200 rfl)⟩, Or.inl rfl⟩, ?_⟩
  exact fun q h => absurd h List.not_mem_nil
set_option maxRecDepth 100000 in
theorem fT_1_ok : ∀ q ∈ fT_1, FOK (clsS 1) q.1 q.2.1 q.2.2 := by
  refine List.forall_mem_cons.mpr ⟨⟨(RX19, TX19, 5, tyX19, 5), "ConditionedProofs$Case", rfl, by decide, Or.inl (lw_g (lw_at lw_m7 69 rfl) rfl), Or.inl rfl⟩, ?_⟩
  refine List.forall_mem_cons.mpr ⟨⟨(RX19, TX19, 5, tyX19, 5), "ConditionedProofs$Case", rfl, by decide, Or.inl (lw_g (lw_at lw_m7 70 rfl) rfl), Or.inl rfl⟩, ?_⟩
  refine List.forall_mem_cons.mpr ⟨⟨(RX19, TX19, 5, tyX19, 5), "ConditionedProofs$Case", rfl, by decide, Or.inl (lw_g (lw_at lw_m7 71 rfl) rfl), Or.inl rfl⟩, ?_⟩
  refine List.forall_mem_cons.mpr ⟨⟨(RX19, TX19, 5, tyX19, 5), "ConditionedProofs$Case", rfl, by decide, Or.inl (lw_g (lw_at lw_m7 72 rfl) rfl), Or.inl rfl⟩, ?_⟩
  refine List.forall_mem_cons.mpr ⟨⟨(RX19, TX19, 5, tyX19, 5), "ConditionedProofs$Case", rfl, by decide, Or.inl (lw_g (lw_at lw_m7 73 rfl) rfl), Or.inl rfl⟩, ?_⟩
  refine List.forall_mem_cons.mpr ⟨⟨(RX9, TX9, 5, tyX9, 5), "ConditionedProofs$Value", rfl, by decide, Or.inr ⟨"ConditionedProofs", (lw_at lw_m2 28 rfl)⟩, Or.inl rfl⟩, ?_⟩
  refine List.forall_mem_cons.mpr ⟨⟨(RX9, TX9, 5, tyX9, 5), "ConditionedProofs$Value", rfl, by decide, Or.inr ⟨"ConditionedProofs", (lw_at lw_m2 35 rfl)⟩, Or.inl rfl⟩, ?_⟩
  exact fun q h => absurd h List.not_mem_nil
set_option maxRecDepth 100000 in
theorem fT_2_ok : ∀ q ∈ fT_2, FOK (clsS 2) q.1 q.2.1 q.2.2 := by
  refine List.forall_mem_cons.mpr ⟨⟨(RX8, TX8, 8, tyX8, 8), "ConditionedProofs$Checker", rfl, by decide, Or.inl (lw_g (lw_at lw_m2 65 rfl) rfl), Or.inl rfl⟩, ?_⟩
  refine List.forall_mem_cons.mpr ⟨⟨(RX8, TX8, 8, tyX8, 8), "ConditionedProofs$Checker", rfl, by decide, Or.inl (lw_g (lw_at lw_m2 66 rfl) rfl), Or.inl rfl⟩, ?_⟩
  refine List.forall_mem_cons.mpr ⟨⟨(RX8, TX8, 8, tyX8, 8), "ConditionedProofs$Checker", rfl, by decide, Or.inl (lw_g (lw_at lw_m2 67 rfl) rfl), Or.inl rfl⟩, ?_⟩
  refine List.forall_mem_cons.mpr ⟨⟨(RX8, TX8, 8, tyX8, 8), "ConditionedProofs$Checker", rfl, by decide, Or.inl (lw_g (lw_at lw_m2 68 rfl) rfl), Or.inl rfl⟩, ?_⟩
  refine List.forall_mem_cons.mpr ⟨⟨(RX8, TX8, 8, tyX8, 8), "ConditionedProofs$Checker", rfl, by decide, Or.inl (lw_g (lw_at lw_m2 62 rfl) rfl), Or.inl rfl⟩, ?_⟩
  refine List.forall_mem_cons.mpr ⟨⟨(RX8, TX8, 8, tyX8, 8), "ConditionedProofs$Checker", rfl, by decide, Or.inl (lw_g (lw_at lw_m2 64 rfl) rfl), Or.inl rfl⟩, ?_⟩
  refine List.forall_mem_cons.mpr ⟨⟨(RX9, TX9, 5, tyX9, 5), "ConditionedProofs$Value", rfl, by decide, Or.inr ⟨"ConditionedProofs", (lw_at lw_m2 21 rfl)⟩, Or.inl rfl⟩, ?_⟩
  refine List.forall_mem_cons.mpr ⟨⟨(RX8, TX8, 8, tyX8, 8), "ConditionedProofs$Checker", rfl, by decide, Or.inl (lw_g (lw_at lw_m2 71 rfl) rfl), Or.inl rfl⟩, ?_⟩
  refine List.forall_mem_cons.mpr ⟨⟨(RX11, TX11, 6, tyX11, 6), "ConditionedProofs$Term", rfl, by decide, Or.inr ⟨"ConditionedProofs", (lw_at lw_m4 38 rfl)⟩, Or.inl rfl⟩, ?_⟩
  refine List.forall_mem_cons.mpr ⟨⟨(RX11, TX11, 6, tyX11, 6), "ConditionedProofs$Term", rfl, by decide, Or.inr ⟨"ConditionedProofs", (lw_at lw_m4 44 rfl)⟩, Or.inl rfl⟩, ?_⟩
  refine List.forall_mem_cons.mpr ⟨⟨(RX11, TX11, 6, tyX11, 6), "ConditionedProofs$Term", rfl, by decide, Or.inr ⟨"ConditionedProofs", (lw_at lw_m4 47 rfl)⟩, Or.inl rfl⟩, ?_⟩
  refine List.forall_mem_cons.mpr ⟨⟨(RX11, TX11, 6, tyX11, 6), "ConditionedProofs$Term", rfl, by decide, Or.inr ⟨"ConditionedProofs", (lw_at lw_m4 42 rfl)⟩, Or.inl rfl⟩, ?_⟩
  refine List.forall_mem_cons.mpr ⟨⟨(RX11, TX11, 6, tyX11, 6), "ConditionedProofs$Term", rfl, by decide, Or.inr ⟨"ConditionedProofs", (lw_at lw_m4 46 rfl)⟩, Or.inl rfl⟩, ?_⟩
  refine List.forall_mem_cons.mpr ⟨⟨(RX2, TX2, 2, tyX2, 2), "ConditionedProofs$Store", rfl, by decide, Or.inr ⟨"ConditionedProofs", (lw_at lw_m1 114 rfl)⟩, Or.inl rfl⟩, ?_⟩
  refine List.forall_mem_cons.mpr ⟨⟨(RX11, TX11, 6, tyX11, 6), "ConditionedProofs$Term", rfl, by decide, Or.inr ⟨"ConditionedProofs", (lw_at lw_m4 40 rfl)⟩, Or.inl rfl⟩, ?_⟩
  refine List.forall_mem_cons.mpr ⟨⟨(RX8, TX8, 8, tyX8, 8), "ConditionedProofs$Checker", rfl, by decide, Or.inl (lw_g (lw_at lw_m2 69 rfl) rfl), Or.inl rfl⟩, ?_⟩
  refine List.forall_mem_cons.mpr ⟨⟨(RX13, TX13, 4, tyX13, 4), "ConditionedProofs$Constant", rfl, by decide, Or.inr ⟨"ConditionedProofs", (lw_at lw_m6 199 rfl)⟩, Or.inl rfl⟩, ?_⟩
  refine List.forall_mem_cons.mpr ⟨⟨(RX13, TX13, 4, tyX13, 4), "ConditionedProofs$Constant", rfl, by decide, Or.inr ⟨"ConditionedProofs", (lw_at lw_m6 193 rfl)⟩, Or.inl rfl⟩, ?_⟩
  refine List.forall_mem_cons.mpr ⟨⟨(RX13, TX13, 4, tyX13, 4), "ConditionedProofs$Constant", rfl, by decide, Or.inr ⟨"ConditionedProofs", (lw_at lw_m6 195 rfl)⟩, Or.inl rfl⟩, ?_⟩
  refine List.forall_mem_cons.mpr ⟨⟨(RX13, TX13, 4, tyX13, 4), "ConditionedProofs$Constant", rfl, by decide, Or.inr ⟨"ConditionedProofs", (lw_at lw_m6 197 rfl)⟩, Or.inl rfl⟩, ?_⟩
  refine List.forall_mem_cons.mpr ⟨⟨(RX17, TX17, 2, tyX17, 2), "ConditionedProofs$Program", rfl, by decide, Or.inr ⟨"ConditionedProofs", (lw_at lw_m7 100 rfl)⟩, Or.inl rfl⟩, ?_⟩
  exact fun q h => absurd h List.not_mem_nil
set_option maxRecDepth 100000 in
theorem fT_3_ok : ∀ q ∈ fT_3, FOK (clsS 3) q.1 q.2.1 q.2.2 := by
  refine List.forall_mem_cons.mpr ⟨⟨(RX18, TX18, 6, tyX18, 6), "ConditionedProofs$Code", rfl, by decide, Or.inl (lw_g (lw_at lw_m7 18 rfl) rfl), Or.inl rfl⟩, ?_⟩
  refine List.forall_mem_cons.mpr ⟨⟨(RX18, TX18, 6, tyX18, 6), "ConditionedProofs$Code", rfl, by decide, Or.inl (lw_g (lw_at lw_m7 20 rfl) rfl), Or.inl rfl⟩, ?_⟩
  refine List.forall_mem_cons.mpr ⟨⟨(RX18, TX18, 6, tyX18, 6), "ConditionedProofs$Code", rfl, by decide, Or.inl (lw_g (lw_at lw_m7 22 rfl) rfl), Or.inl rfl⟩, ?_⟩
  refine List.forall_mem_cons.mpr ⟨⟨(RX18, TX18, 6, tyX18, 6), "ConditionedProofs$Code", rfl, by decide, Or.inl (lw_g (lw_at lw_m7 24 rfl) rfl), Or.inl rfl⟩, ?_⟩
  refine List.forall_mem_cons.mpr ⟨⟨(RX18, TX18, 6, tyX18, 6), "ConditionedProofs$Code", rfl, by decide, Or.inl (lw_g (lw_at lw_m7 26 rfl) rfl), Or.inl rfl⟩, ?_⟩
  refine List.forall_mem_cons.mpr ⟨⟨(RX18, TX18, 6, tyX18, 6), "ConditionedProofs$Code", rfl, by decide, Or.inl (lw_g (lw_at lw_m7 28 rfl) rfl), Or.inl rfl⟩, ?_⟩
  exact fun q h => absurd h List.not_mem_nil
set_option maxRecDepth 100000 in
theorem fT_4_ok : ∀ q ∈ fT_4, FOK (clsS 4) q.1 q.2.1 q.2.2 := by
  refine List.forall_mem_cons.mpr ⟨⟨(RX13, TX13, 4, tyX13, 4), "ConditionedProofs$Constant", rfl, by decide, Or.inl (lw_g (lw_at lw_m6 192 rfl) rfl), Or.inl rfl⟩, ?_⟩
  refine List.forall_mem_cons.mpr ⟨⟨(RX13, TX13, 4, tyX13, 4), "ConditionedProofs$Constant", rfl, by decide, Or.inl (lw_g (lw_at lw_m6 194 rfl) rfl), Or.inl rfl⟩, ?_⟩
  refine List.forall_mem_cons.mpr ⟨⟨(RX13, TX13, 4, tyX13, 4), "ConditionedProofs$Constant", rfl, by decide, Or.inl (lw_g (lw_at lw_m6 196 rfl) rfl), Or.inl rfl⟩, ?_⟩
  refine List.forall_mem_cons.mpr ⟨⟨(RX13, TX13, 4, tyX13, 4), "ConditionedProofs$Constant", rfl, by decide, Or.inl (lw_g (lw_at lw_m6 198 rfl) rfl), Or.inl rfl⟩, ?_⟩
  exact fun q h => absurd h List.not_mem_nil
set_option maxRecDepth 100000 in
theorem fT_5_ok : ∀ q ∈ fT_5, FOK (clsS 5) q.1 q.2.1 q.2.2 := by
  refine List.forall_mem_cons.mpr ⟨⟨(RX3, TX3, 6, tyX3, 6), "ConditionedProofs$Heap", rfl, by decide, Or.inl (lw_g (lw_at lw_m1 92 rfl) rfl), Or.inl rfl⟩, ?_⟩
  refine List.forall_mem_cons.mpr ⟨⟨(RX3, TX3, 6, tyX3, 6), "ConditionedProofs$Heap", rfl, by decide, Or.inl (lw_g (lw_at lw_m1 93 rfl) rfl), Or.inl rfl⟩, ?_⟩
  refine List.forall_mem_cons.mpr ⟨⟨(RX3, TX3, 6, tyX3, 6), "ConditionedProofs$Heap", rfl, by decide, Or.inl (lw_g (lw_at lw_m1 94 rfl) rfl), Or.inl rfl⟩, ?_⟩
  refine List.forall_mem_cons.mpr ⟨⟨(RX3, TX3, 6, tyX3, 6), "ConditionedProofs$Heap", rfl, by decide, Or.inl (lw_g (lw_at lw_m1 95 rfl) rfl), Or.inl rfl⟩, ?_⟩
  refine List.forall_mem_cons.mpr ⟨⟨(RX3, TX3, 6, tyX3, 6), "ConditionedProofs$Heap", rfl, by decide, Or.inl (lw_g (lw_at lw_m1 96 rfl) rfl), Or.inl rfl⟩, ?_⟩
  refine List.forall_mem_cons.mpr ⟨⟨(RX3, TX3, 6, tyX3, 6), "ConditionedProofs$Heap", rfl, by decide, Or.inl (lw_g (lw_at lw_m1 97 rfl) rfl), Or.inl rfl⟩, ?_⟩
  refine List.forall_mem_cons.mpr ⟨⟨(RX9, TX9, 5, tyX9, 5), "ConditionedProofs$Value", rfl, by decide, Or.inr ⟨"ConditionedProofs", (lw_at lw_m2 24 rfl)⟩, Or.inl rfl⟩, ?_⟩
  refine List.forall_mem_cons.mpr ⟨⟨(RX9, TX9, 5, tyX9, 5), "ConditionedProofs$Value", rfl, by decide, Or.inr ⟨"ConditionedProofs", (lw_at lw_m2 30 rfl)⟩, Or.inl rfl⟩, ?_⟩
  refine List.forall_mem_cons.mpr ⟨⟨(RX9, TX9, 5, tyX9, 5), "ConditionedProofs$Value", rfl, by decide, Or.inr ⟨"ConditionedProofs", (lw_at lw_m2 41 rfl)⟩, Or.inl rfl⟩, ?_⟩
  refine List.forall_mem_cons.mpr ⟨⟨(RX9, TX9, 5, tyX9, 5), "ConditionedProofs$Value", rfl, by decide, Or.inr ⟨"ConditionedProofs", (lw_at lw_m2 45 rfl)⟩, Or.inl rfl⟩, ?_⟩
  refine List.forall_mem_cons.mpr ⟨⟨(RX9, TX9, 5, tyX9, 5), "ConditionedProofs$Value", rfl, by decide, Or.inr ⟨"ConditionedProofs", (lw_at lw_m2 37 rfl)⟩, Or.inl rfl⟩, ?_⟩
  refine List.forall_mem_cons.mpr ⟨⟨(RX14, TX14, 2, tyX14, 2), "ConditionedProofs$Link", rfl, by decide, Or.inr ⟨"ConditionedProofs", (lw_at lw_m5 53 rfl)⟩, Or.inl rfl⟩, ?_⟩
  refine List.forall_mem_cons.mpr ⟨⟨(RX14, TX14, 2, tyX14, 2), "ConditionedProofs$Link", rfl, by decide, Or.inr ⟨"ConditionedProofs", (lw_at lw_m5 57 rfl)⟩, Or.inl rfl⟩, ?_⟩
  refine List.forall_mem_cons.mpr ⟨⟨(RX15, TX15, 3, tyX15, 3), "ConditionedProofs$Scope", rfl, by decide, Or.inr ⟨"ConditionedProofs", (lw_at lw_m5 89 rfl)⟩, Or.inl rfl⟩, ?_⟩
  refine List.forall_mem_cons.mpr ⟨⟨(RX15, TX15, 3, tyX15, 3), "ConditionedProofs$Scope", rfl, by decide, Or.inr ⟨"ConditionedProofs", (lw_at lw_m5 91 rfl)⟩, Or.inl rfl⟩, ?_⟩
  refine List.forall_mem_cons.mpr ⟨⟨(RX15, TX15, 3, tyX15, 3), "ConditionedProofs$Scope", rfl, by decide, Or.inr ⟨"ConditionedProofs", (lw_at lw_m5 93 rfl)⟩, Or.inl rfl⟩, ?_⟩
  exact fun q h => absurd h List.not_mem_nil
set_option maxRecDepth 100000 in
theorem fT_7_ok : ∀ q ∈ fT_7, FOK (clsS 7) q.1 q.2.1 q.2.2 := by
  refine List.forall_mem_cons.mpr ⟨⟨(RX16, TX16, 4, tyX16, 4), "ConditionedProofs$Named", rfl, by decide, Or.inl (lw_g (lw_at lw_m6 37 rfl) rfl), Or.inl rfl⟩, ?_⟩
  refine List.forall_mem_cons.mpr ⟨⟨(RX16, TX16, 4, tyX16, 4), "ConditionedProofs$Named", rfl, by decide, Or.inl (lw_g (lw_at lw_m6 38 rfl) rfl), Or.inl rfl⟩, ?_⟩
  refine List.forall_mem_cons.mpr ⟨⟨(RX16, TX16, 4, tyX16, 4), "ConditionedProofs$Named", rfl, by decide, Or.inl (lw_g (lw_at lw_m6 39 rfl) rfl), Or.inl rfl⟩, ?_⟩
  refine List.forall_mem_cons.mpr ⟨⟨(RX16, TX16, 4, tyX16, 4), "ConditionedProofs$Named", rfl, by decide, Or.inl (lw_g (lw_at lw_m6 40 rfl) rfl), Or.inl rfl⟩, ?_⟩
  exact fun q h => absurd h List.not_mem_nil
set_option maxRecDepth 100000 in
theorem fT_8_ok : ∀ q ∈ fT_8, FOK (clsS 8) q.1 q.2.1 q.2.2 := by
  refine List.forall_mem_cons.mpr ⟨⟨(RX12, TX12, 5, tyX12, 5), "ConditionedProofs$Part", rfl, by decide, Or.inl (lw_g (lw_at lw_m6 166 rfl) rfl), Or.inl rfl⟩, ?_⟩
  refine List.forall_mem_cons.mpr ⟨⟨(RX12, TX12, 5, tyX12, 5), "ConditionedProofs$Part", rfl, by decide, Or.inl (lw_g (lw_at lw_m6 167 rfl) rfl), Or.inl rfl⟩, ?_⟩
  refine List.forall_mem_cons.mpr ⟨⟨(RX12, TX12, 5, tyX12, 5), "ConditionedProofs$Part", rfl, by decide, Or.inl (lw_g (lw_at lw_m6 168 rfl) rfl), Or.inl rfl⟩, ?_⟩
  refine List.forall_mem_cons.mpr ⟨⟨(RX12, TX12, 5, tyX12, 5), "ConditionedProofs$Part", rfl, by decide, Or.inl (lw_g (lw_at lw_m6 169 rfl) rfl), Or.inl rfl⟩, ?_⟩
  refine List.forall_mem_cons.mpr ⟨⟨(RX12, TX12, 5, tyX12, 5), "ConditionedProofs$Part", rfl, by decide, Or.inl (lw_g (lw_at lw_m6 170 rfl) rfl), Or.inl rfl⟩, ?_⟩
  exact fun q h => absurd h List.not_mem_nil
set_option maxRecDepth 100000 in
theorem fT_9_ok : ∀ q ∈ fT_9, FOK (clsS 9) q.1 q.2.1 q.2.2 := by
  refine List.forall_mem_cons.mpr ⟨⟨(RX17, TX17, 2, tyX17, 2), "ConditionedProofs$Program", rfl, by decide, Or.inl (lw_g (lw_at lw_m7 98 rfl) rfl), Or.inl rfl⟩, ?_⟩
  refine List.forall_mem_cons.mpr ⟨⟨(RX17, TX17, 2, tyX17, 2), "ConditionedProofs$Program", rfl, by decide, Or.inl (lw_g (lw_at lw_m7 102 rfl) rfl), Or.inl rfl⟩, ?_⟩
  exact fun q h => absurd h List.not_mem_nil
set_option maxRecDepth 100000 in
theorem fT_10_ok : ∀ q ∈ fT_10, FOK (clsS 10) q.1 q.2.1 q.2.2 := by
  refine List.forall_mem_cons.mpr ⟨⟨(RX4, TX4, 7, tyX4, 7), "ConditionedProofs$Reader", rfl, by decide, Or.inl (lw_g (lw_at lw_m1 165 rfl) rfl), Or.inl rfl⟩, ?_⟩
  refine List.forall_mem_cons.mpr ⟨⟨(RX4, TX4, 7, tyX4, 7), "ConditionedProofs$Reader", rfl, by decide, Or.inl (lw_g (lw_at lw_m1 167 rfl) rfl), Or.inl rfl⟩, ?_⟩
  refine List.forall_mem_cons.mpr ⟨⟨(RX4, TX4, 7, tyX4, 7), "ConditionedProofs$Reader", rfl, by decide, Or.inl (lw_g (lw_at lw_m1 168 rfl) rfl), Or.inl rfl⟩, ?_⟩
  refine List.forall_mem_cons.mpr ⟨⟨(RX4, TX4, 7, tyX4, 7), "ConditionedProofs$Reader", rfl, by decide, Or.inl (lw_g (lw_at lw_m1 169 rfl) rfl), Or.inl rfl⟩, ?_⟩
  refine List.forall_mem_cons.mpr ⟨⟨(RX4, TX4, 7, tyX4, 7), "ConditionedProofs$Reader", rfl, by decide, Or.inl (lw_g (lw_at lw_m1 170 rfl) rfl), Or.inl rfl⟩, ?_⟩
  refine List.forall_mem_cons.mpr ⟨⟨(RX4, TX4, 7, tyX4, 7), "ConditionedProofs$Reader", rfl, by decide, Or.inl (lw_g (lw_at lw_m1 171 rfl) rfl), Or.inl rfl⟩, ?_⟩
  refine List.forall_mem_cons.mpr ⟨⟨(RX4, TX4, 7, tyX4, 7), "ConditionedProofs$Reader", rfl, by decide, Or.inl (lw_g (lw_at lw_m1 173 rfl) rfl), Or.inl rfl⟩, ?_⟩
  refine List.forall_mem_cons.mpr ⟨⟨(RX9, TX9, 5, tyX9, 5), "ConditionedProofs$Value", rfl, by decide, Or.inr ⟨"ConditionedProofs", (lw_at lw_m2 26 rfl)⟩, Or.inl rfl⟩, ?_⟩
  refine List.forall_mem_cons.mpr ⟨⟨(RX9, TX9, 5, tyX9, 5), "ConditionedProofs$Value", rfl, by decide, Or.inr ⟨"ConditionedProofs", (lw_at lw_m2 31 rfl)⟩, Or.inl rfl⟩, ?_⟩
  exact fun q h => absurd h List.not_mem_nil
set_option maxRecDepth 100000 in
theorem fT_11_ok : ∀ q ∈ fT_11, FOK (clsS 11) q.1 q.2.1 q.2.2 := by
  refine List.forall_mem_cons.mpr ⟨⟨(RX6, TX6, 4, tyX6, 4), "ConditionedProofs$Runner", rfl, by decide, Or.inl (lw_g (lw_at lw_m1 232 rfl) rfl), Or.inl rfl⟩, ?_⟩
  refine List.forall_mem_cons.mpr ⟨⟨(RX6, TX6, 4, tyX6, 4), "ConditionedProofs$Runner", rfl, by decide, Or.inl (lw_g (lw_at lw_m1 231 rfl) rfl), Or.inl rfl⟩, ?_⟩
  refine List.forall_mem_cons.mpr ⟨⟨(RX15, TX15, 3, tyX15, 3), "ConditionedProofs$Scope", rfl, by decide, Or.inr ⟨"ConditionedProofs", (lw_at lw_m5 88 rfl)⟩, Or.inl rfl⟩, ?_⟩
  refine List.forall_mem_cons.mpr ⟨⟨(RX15, TX15, 3, tyX15, 3), "ConditionedProofs$Scope", rfl, by decide, Or.inr ⟨"ConditionedProofs", (lw_at lw_m5 92 rfl)⟩, Or.inl rfl⟩, ?_⟩
  refine List.forall_mem_cons.mpr ⟨⟨(RX6, TX6, 4, tyX6, 4), "ConditionedProofs$Runner", rfl, by decide, Or.inl (lw_g (lw_at lw_m1 234 rfl) rfl), Or.inl rfl⟩, ?_⟩
  refine List.forall_mem_cons.mpr ⟨⟨(RX17, TX17, 2, tyX17, 2), "ConditionedProofs$Program", rfl, by decide, Or.inr ⟨"ConditionedProofs", (lw_at lw_m7 103 rfl)⟩, Or.inl rfl⟩, ?_⟩
  refine List.forall_mem_cons.mpr ⟨⟨(RX6, TX6, 4, tyX6, 4), "ConditionedProofs$Runner", rfl, by decide, Or.inl (lw_g (lw_at lw_m1 235 rfl) rfl), Or.inl rfl⟩, ?_⟩
  refine List.forall_mem_cons.mpr ⟨⟨(RX18, TX18, 6, tyX18, 6), "ConditionedProofs$Code", rfl, by decide, Or.inr ⟨"ConditionedProofs", (lw_at lw_m7 19 rfl)⟩, Or.inl rfl⟩, ?_⟩
  refine List.forall_mem_cons.mpr ⟨⟨(RX18, TX18, 6, tyX18, 6), "ConditionedProofs$Code", rfl, by decide, Or.inr ⟨"ConditionedProofs", (lw_at lw_m7 23 rfl)⟩, Or.inl rfl⟩, ?_⟩
  refine List.forall_mem_cons.mpr ⟨⟨(RX18, TX18, 6, tyX18, 6), "ConditionedProofs$Code", rfl, by decide, Or.inr ⟨"ConditionedProofs", (lw_at lw_m7 25 rfl)⟩, Or.inl rfl⟩, ?_⟩
  refine List.forall_mem_cons.mpr ⟨⟨(RX15, TX15, 3, tyX15, 3), "ConditionedProofs$Scope", rfl, by decide, Or.inr ⟨"ConditionedProofs", (lw_at lw_m5 90 rfl)⟩, Or.inl rfl⟩, ?_⟩
  refine List.forall_mem_cons.mpr ⟨⟨(RX2, TX2, 2, tyX2, 2), "ConditionedProofs$Store", rfl, by decide, Or.inr ⟨"ConditionedProofs", (lw_at lw_m1 115 rfl)⟩, Or.inl rfl⟩, ?_⟩
  refine List.forall_mem_cons.mpr ⟨⟨(RX18, TX18, 6, tyX18, 6), "ConditionedProofs$Code", rfl, by decide, Or.inr ⟨"ConditionedProofs", (lw_at lw_m7 27 rfl)⟩, Or.inl rfl⟩, ?_⟩
  refine List.forall_mem_cons.mpr ⟨⟨(RX17, TX17, 2, tyX17, 2), "ConditionedProofs$Program", rfl, by decide, Or.inr ⟨"ConditionedProofs", (lw_at lw_m7 99 rfl)⟩, Or.inl rfl⟩, ?_⟩
  refine List.forall_mem_cons.mpr ⟨⟨(RX14, TX14, 2, tyX14, 2), "ConditionedProofs$Link", rfl, by decide, Or.inr ⟨"ConditionedProofs", (lw_at lw_m5 54 rfl)⟩, Or.inl rfl⟩, ?_⟩
  refine List.forall_mem_cons.mpr ⟨⟨(RX14, TX14, 2, tyX14, 2), "ConditionedProofs$Link", rfl, by decide, Or.inr ⟨"ConditionedProofs", (lw_at lw_m5 58 rfl)⟩, Or.inl rfl⟩, ?_⟩
  refine List.forall_mem_cons.mpr ⟨⟨(RX18, TX18, 6, tyX18, 6), "ConditionedProofs$Code", rfl, by decide, Or.inr ⟨"ConditionedProofs", (lw_at lw_m7 29 rfl)⟩, Or.inl rfl⟩, ?_⟩
  refine List.forall_mem_cons.mpr ⟨⟨(RX9, TX9, 5, tyX9, 5), "ConditionedProofs$Value", rfl, by decide, Or.inr ⟨"ConditionedProofs", (lw_at lw_m2 43 rfl)⟩, Or.inl rfl⟩, ?_⟩
  refine List.forall_mem_cons.mpr ⟨⟨(RX9, TX9, 5, tyX9, 5), "ConditionedProofs$Value", rfl, by decide, Or.inr ⟨"ConditionedProofs", (lw_at lw_m2 33 rfl)⟩, Or.inl rfl⟩, ?_⟩
  refine List.forall_mem_cons.mpr ⟨⟨(RX18, TX18, 6, tyX18, 6), "ConditionedProofs$Code", rfl, by decide, Or.inr ⟨"ConditionedProofs", (lw_at lw_m7 21 rfl)⟩, Or.inl rfl⟩, ?_⟩
  refine List.forall_mem_cons.mpr ⟨⟨(RX8, TX8, 8, tyX8, 8), "ConditionedProofs$Checker", rfl, by decide, Or.inr ⟨"ConditionedProofs", (lw_at lw_m2 63 rfl)⟩, Or.inl rfl⟩, ?_⟩
  exact fun q h => absurd h List.not_mem_nil
set_option maxRecDepth 100000 in
theorem fT_13_ok : ∀ q ∈ fT_13, FOK (clsS 13) q.1 q.2.1 q.2.2 := by
  refine List.forall_mem_cons.mpr ⟨⟨(RX2, TX2, 2, tyX2, 2), "ConditionedProofs$Store", rfl, by decide, Or.inl (lw_g (lw_at lw_m1 113 rfl) rfl), Or.inl rfl⟩, ?_⟩
  refine List.forall_mem_cons.mpr ⟨⟨(RX2, TX2, 2, tyX2, 2), "ConditionedProofs$Store", rfl, by decide, Or.inl (lw_g (lw_at lw_m1 117 rfl) rfl), Or.inl rfl⟩, ?_⟩
  exact fun q h => absurd h List.not_mem_nil
set_option maxRecDepth 100000 in
theorem fT_14_ok : ∀ q ∈ fT_14, FOK (clsS 14) q.1 q.2.1 q.2.2 := by
  refine List.forall_mem_cons.mpr ⟨⟨(RX11, TX11, 6, tyX11, 6), "ConditionedProofs$Term", rfl, by decide, Or.inl (lw_g (lw_at lw_m4 37 rfl) rfl), Or.inl rfl⟩, ?_⟩
  refine List.forall_mem_cons.mpr ⟨⟨(RX11, TX11, 6, tyX11, 6), "ConditionedProofs$Term", rfl, by decide, Or.inl (lw_g (lw_at lw_m4 39 rfl) rfl), Or.inl rfl⟩, ?_⟩
  refine List.forall_mem_cons.mpr ⟨⟨(RX11, TX11, 6, tyX11, 6), "ConditionedProofs$Term", rfl, by decide, Or.inl (lw_g (lw_at lw_m4 41 rfl) rfl), Or.inl rfl⟩, ?_⟩
  refine List.forall_mem_cons.mpr ⟨⟨(RX11, TX11, 6, tyX11, 6), "ConditionedProofs$Term", rfl, by decide, Or.inl (lw_g (lw_at lw_m4 43 rfl) rfl), Or.inl rfl⟩, ?_⟩
  refine List.forall_mem_cons.mpr ⟨⟨(RX11, TX11, 6, tyX11, 6), "ConditionedProofs$Term", rfl, by decide, Or.inl (lw_g (lw_at lw_m4 45 rfl) rfl), Or.inl rfl⟩, ?_⟩
  exact fun q h => absurd h List.not_mem_nil
set_option maxRecDepth 100000 in
theorem fT_15_ok : ∀ q ∈ fT_15, FOK (clsS 15) q.1 q.2.1 q.2.2 := by
  refine List.forall_mem_cons.mpr ⟨⟨(RX9, TX9, 5, tyX9, 5), "ConditionedProofs$Value", rfl, by decide, Or.inl (lw_g (lw_at lw_m2 44 rfl) rfl), Or.inl rfl⟩, ?_⟩
  refine List.forall_mem_cons.mpr ⟨⟨(RX9, TX9, 5, tyX9, 5), "ConditionedProofs$Value", rfl, by decide, Or.inl (lw_g (lw_at lw_m2 22 rfl) rfl), Or.inl rfl⟩, ?_⟩
  exact fun q h => absurd h List.not_mem_nil
set_option maxRecDepth 100000 in
theorem fT_16_ok : ∀ q ∈ fT_16, FOK (clsS 16) q.1 q.2.1 q.2.2 := by
  refine List.forall_mem_cons.mpr ⟨⟨(RX7, TX7, 2, tyX7, 2), "ConditionedProofs$Walk", rfl, by decide, Or.inl (lw_g (lw_at lw_m1 224 rfl) rfl), Or.inl rfl⟩, ?_⟩
  refine List.forall_mem_cons.mpr ⟨⟨(RX7, TX7, 2, tyX7, 2), "ConditionedProofs$Walk", rfl, by decide, Or.inl (lw_g (lw_at lw_m1 225 rfl) rfl), Or.inl rfl⟩, ?_⟩
  refine List.forall_mem_cons.mpr ⟨⟨(RX9, TX9, 5, tyX9, 5), "ConditionedProofs$Value", rfl, by decide, Or.inr ⟨"ConditionedProofs", (lw_at lw_m2 40 rfl)⟩, Or.inl rfl⟩, ?_⟩
  refine List.forall_mem_cons.mpr ⟨⟨(RX14, TX14, 2, tyX14, 2), "ConditionedProofs$Link", rfl, by decide, Or.inr ⟨"ConditionedProofs", (lw_at lw_m5 52 rfl)⟩, Or.inl rfl⟩, ?_⟩
  refine List.forall_mem_cons.mpr ⟨⟨(RX14, TX14, 2, tyX14, 2), "ConditionedProofs$Link", rfl, by decide, Or.inr ⟨"ConditionedProofs", (lw_at lw_m5 56 rfl)⟩, Or.inl rfl⟩, ?_⟩
  refine List.forall_mem_cons.mpr ⟨⟨(RX9, TX9, 5, tyX9, 5), "ConditionedProofs$Value", rfl, by decide, Or.inr ⟨"ConditionedProofs", (lw_at lw_m2 25 rfl)⟩, Or.inl rfl⟩, ?_⟩
  refine List.forall_mem_cons.mpr ⟨⟨(RX9, TX9, 5, tyX9, 5), "ConditionedProofs$Value", rfl, by decide, Or.inr ⟨"ConditionedProofs", (lw_at lw_m2 32 rfl)⟩, Or.inl rfl⟩, ?_⟩
  refine List.forall_mem_cons.mpr ⟨⟨(RX9, TX9, 5, tyX9, 5), "ConditionedProofs$Value", rfl, by decide, Or.inr ⟨"ConditionedProofs", (lw_at lw_m2 38 rfl)⟩, Or.inl rfl⟩, ?_⟩
  refine List.forall_mem_cons.mpr ⟨⟨(RX9, TX9, 5, tyX9, 5), "ConditionedProofs$Value", rfl, by decide, Or.inr ⟨"ConditionedProofs", (lw_at lw_m2 46 rfl)⟩, Or.inl rfl⟩, ?_⟩
  exact fun q h => absurd h List.not_mem_nil
set_option maxRecDepth 100000 in
theorem fT_17_ok : ∀ q ∈ fT_17, FOK (clsS 17) q.1 q.2.1 q.2.2 := by
  refine List.forall_mem_cons.mpr ⟨⟨(RX5, TX5, 3, tyX5, 3), "ConditionedProofs$Writer", rfl, by decide, Or.inl (lw_g (lw_at lw_m1 199 rfl) rfl), Or.inl rfl⟩, ?_⟩
  refine List.forall_mem_cons.mpr ⟨⟨(RX5, TX5, 3, tyX5, 3), "ConditionedProofs$Writer", rfl, by decide, Or.inl (lw_g (lw_at lw_m1 201 rfl) rfl), Or.inl rfl⟩, ?_⟩
  refine List.forall_mem_cons.mpr ⟨⟨(RX5, TX5, 3, tyX5, 3), "ConditionedProofs$Writer", rfl, by decide, Or.inl (lw_g (lw_at lw_m1 202 rfl) rfl), Or.inl rfl⟩, ?_⟩
  refine List.forall_mem_cons.mpr ⟨⟨(RX9, TX9, 5, tyX9, 5), "ConditionedProofs$Value", rfl, by decide, Or.inr ⟨"ConditionedProofs", (lw_at lw_m2 23 rfl)⟩, Or.inl rfl⟩, ?_⟩
  refine List.forall_mem_cons.mpr ⟨⟨(RX9, TX9, 5, tyX9, 5), "ConditionedProofs$Value", rfl, by decide, Or.inr ⟨"ConditionedProofs", (lw_at lw_m2 29 rfl)⟩, Or.inl rfl⟩, ?_⟩
  refine List.forall_mem_cons.mpr ⟨⟨(RX9, TX9, 5, tyX9, 5), "ConditionedProofs$Value", rfl, by decide, Or.inr ⟨"ConditionedProofs", (lw_at lw_m2 36 rfl)⟩, Or.inl rfl⟩, ?_⟩
  refine List.forall_mem_cons.mpr ⟨⟨(RX9, TX9, 5, tyX9, 5), "ConditionedProofs$Value", rfl, by decide, Or.inr ⟨"ConditionedProofs", (lw_at lw_m2 42 rfl)⟩, Or.inl rfl⟩, ?_⟩
  exact fun q h => absurd h List.not_mem_nil
set_option maxRecDepth 100000 in
theorem fT_19_ok : ∀ q ∈ fT_19, FOK (clsS 19) q.1 q.2.1 q.2.2 := by
  refine List.forall_mem_cons.mpr ⟨⟨(RX10, TX10, 86, tyX10, 86), "ConditionedProofsModel", rfl, by decide, Or.inl (lw_g (lw_at lw_m7 178 rfl) rfl), Or.inl rfl⟩, ?_⟩
  refine List.forall_mem_cons.mpr ⟨⟨(RX10, TX10, 86, tyX10, 86), "ConditionedProofsModel", rfl, by decide, Or.inl (lw_g (lw_at lw_m7 180 rfl) rfl), Or.inl rfl⟩, ?_⟩
  refine List.forall_mem_cons.mpr ⟨⟨(RX10, TX10, 86, tyX10, 86), "ConditionedProofsModel", rfl, by decide, Or.inl (lw_g (lw_at lw_m7 181 rfl) rfl), Or.inl rfl⟩, ?_⟩
  refine List.forall_mem_cons.mpr ⟨⟨(RX10, TX10, 86, tyX10, 86), "ConditionedProofsModel", rfl, by decide, Or.inl (lw_g (lw_at lw_m7 182 rfl) rfl), Or.inl rfl⟩, ?_⟩
  refine List.forall_mem_cons.mpr ⟨⟨(RX10, TX10, 86, tyX10, 86), "ConditionedProofsModel", rfl, by decide, Or.inl (lw_g (lw_at lw_m7 183 rfl) rfl), Or.inl rfl⟩, ?_⟩
  refine List.forall_mem_cons.mpr ⟨⟨(RX10, TX10, 86, tyX10, 86), "ConditionedProofsModel", rfl, by decide, Or.inl (lw_g (lw_at lw_m7 184 rfl) rfl), Or.inl rfl⟩, ?_⟩
  refine List.forall_mem_cons.mpr ⟨⟨(RX10, TX10, 86, tyX10, 86), "ConditionedProofsModel", rfl, by decide, Or.inl (lw_g (lw_at lw_m7 185 rfl) rfl), Or.inl rfl⟩, ?_⟩
  refine List.forall_mem_cons.mpr ⟨⟨(RX10, TX10, 86, tyX10, 86), "ConditionedProofsModel", rfl, by decide, Or.inl (lw_g (lw_at lw_m7 186 rfl) rfl), Or.inl rfl⟩, ?_⟩
  refine List.forall_mem_cons.mpr ⟨⟨(RX10, TX10, 86, tyX10, 86), "ConditionedProofsModel", rfl, by decide, Or.inl (lw_g (lw_at lw_m7 187 rfl) rfl), Or.inl rfl⟩, ?_⟩
  refine List.forall_mem_cons.mpr ⟨⟨(RX10, TX10, 86, tyX10, 86), "ConditionedProofsModel", rfl, by decide, Or.inl (lw_g (lw_at lw_m7 188 rfl) rfl), Or.inl rfl⟩, ?_⟩
  refine List.forall_mem_cons.mpr ⟨⟨(RX10, TX10, 86, tyX10, 86), "ConditionedProofsModel", rfl, by decide, Or.inl (lw_g (lw_at lw_m7 189 rfl) rfl), Or.inl rfl⟩, ?_⟩
  refine List.forall_mem_cons.mpr ⟨⟨(RX10, TX10, 86, tyX10, 86), "ConditionedProofsModel", rfl, by decide, Or.inl (lw_g (lw_at lw_m7 191 rfl) rfl), Or.inl rfl⟩, ?_⟩
  refine List.forall_mem_cons.mpr ⟨⟨(RX10, TX10, 86, tyX10, 86), "ConditionedProofsModel", rfl, by decide, Or.inl (lw_g (lw_at lw_m7 193 rfl) rfl), Or.inl rfl⟩, ?_⟩
  refine List.forall_mem_cons.mpr ⟨⟨(RX10, TX10, 86, tyX10, 86), "ConditionedProofsModel", rfl, by decide, Or.inl (lw_g (lw_at lw_m7 194 rfl) rfl), Or.inl rfl⟩, ?_⟩
  refine List.forall_mem_cons.mpr ⟨⟨(RX10, TX10, 86, tyX10, 86), "ConditionedProofsModel", rfl, by decide, Or.inl (lw_g (lw_at lw_m7 195 rfl) rfl), Or.inl rfl⟩, ?_⟩
  refine List.forall_mem_cons.mpr ⟨⟨(RX10, TX10, 86, tyX10, 86), "ConditionedProofsModel", rfl, by decide, Or.inl (lw_g (lw_at lw_m7 197 rfl) rfl), Or.inl rfl⟩, ?_⟩
  refine List.forall_mem_cons.mpr ⟨⟨(RX10, TX10, 86, tyX10, 86), "ConditionedProofsModel", rfl, by decide, Or.inl (lw_g (lw_at lw_m7 198 rfl) rfl), Or.inl rfl⟩, ?_⟩
  refine List.forall_mem_cons.mpr ⟨⟨(RX10, TX10, 86, tyX10, 86), "ConditionedProofsModel", rfl, by decide, Or.inl (lw_g (lw_at lw_m7 200 rfl) rfl), Or.inl rfl⟩, ?_⟩
  refine List.forall_mem_cons.mpr ⟨⟨(RX10, TX10, 86, tyX10, 86), "ConditionedProofsModel", rfl, by decide, Or.inl (lw_g (lw_at lw_m7 201 rfl) rfl), Or.inl rfl⟩, ?_⟩
  refine List.forall_mem_cons.mpr ⟨⟨(RX10, TX10, 86, tyX10, 86), "ConditionedProofsModel", rfl, by decide, Or.inl (lw_g (lw_at lw_m7 202 rfl) rfl), Or.inl rfl⟩, ?_⟩
  refine List.forall_mem_cons.mpr ⟨⟨(RX10, TX10, 86, tyX10, 86), "ConditionedProofsModel", rfl, by decide, Or.inl (lw_g (lw_at lw_m7 203 rfl) rfl), Or.inl rfl⟩, ?_⟩
  refine List.forall_mem_cons.mpr ⟨⟨(RX10, TX10, 86, tyX10, 86), "ConditionedProofsModel", rfl, by decide, Or.inl (lw_g (lw_at lw_m7 204 rfl) rfl), Or.inl rfl⟩, ?_⟩
  refine List.forall_mem_cons.mpr ⟨⟨(RX10, TX10, 86, tyX10, 86), "ConditionedProofsModel", rfl, by decide, Or.inl (lw_g (lw_at lw_m7 206 rfl) rfl), Or.inl rfl⟩, ?_⟩
  refine List.forall_mem_cons.mpr ⟨⟨(RX10, TX10, 86, tyX10, 86), "ConditionedProofsModel", rfl, by decide, Or.inl (lw_g (lw_at lw_m7 207 rfl) rfl), Or.inl rfl⟩, ?_⟩
  refine List.forall_mem_cons.mpr ⟨⟨(RX10, TX10, 86, tyX10, 86), "ConditionedProofsModel", rfl, by decide, Or.inl (lw_g (lw_at lw_m7 208 rfl) rfl), Or.inl rfl⟩, ?_⟩
  refine List.forall_mem_cons.mpr ⟨⟨(RX10, TX10, 86, tyX10, 86), "ConditionedProofsModel", rfl, by decide, Or.inl (lw_g (lw_at lw_m7 212 rfl) rfl), Or.inl rfl⟩, ?_⟩
  refine List.forall_mem_cons.mpr ⟨⟨(RX10, TX10, 86, tyX10, 86), "ConditionedProofsModel", rfl, by decide, Or.inl (lw_g (lw_at lw_m7 213 rfl) rfl), Or.inl rfl⟩, ?_⟩
  refine List.forall_mem_cons.mpr ⟨⟨(RX10, TX10, 86, tyX10, 86), "ConditionedProofsModel", rfl, by decide, Or.inl (lw_g (lw_at lw_m7 214 rfl) rfl), Or.inl rfl⟩, ?_⟩
  refine List.forall_mem_cons.mpr ⟨⟨(RX10, TX10, 86, tyX10, 86), "ConditionedProofsModel", rfl, by decide, Or.inl (lw_g (lw_at lw_m7 215 rfl) rfl), Or.inl rfl⟩, ?_⟩
  refine List.forall_mem_cons.mpr ⟨⟨(RX10, TX10, 86, tyX10, 86), "ConditionedProofsModel", rfl, by decide, Or.inl (lw_g (lw_at lw_m7 217 rfl) rfl), Or.inl rfl⟩, ?_⟩
  refine List.forall_mem_cons.mpr ⟨⟨(RX10, TX10, 86, tyX10, 86), "ConditionedProofsModel", rfl, by decide, Or.inl (lw_g (lw_at lw_m7 219 rfl) rfl), Or.inl rfl⟩, ?_⟩
  refine List.forall_mem_cons.mpr ⟨⟨(RX10, TX10, 86, tyX10, 86), "ConditionedProofsModel", rfl, by decide, Or.inl (lw_g (lw_at lw_m7 221 rfl) rfl), Or.inl rfl⟩, ?_⟩
  refine List.forall_mem_cons.mpr ⟨⟨(RX10, TX10, 86, tyX10, 86), "ConditionedProofsModel", rfl, by decide, Or.inl (lw_g (lw_at lw_m7 222 rfl) rfl), Or.inl rfl⟩, ?_⟩
  refine List.forall_mem_cons.mpr ⟨⟨(RX10, TX10, 86, tyX10, 86), "ConditionedProofsModel", rfl, by decide, Or.inl (lw_g (lw_at lw_m7 223 rfl) rfl), Or.inl rfl⟩, ?_⟩
  refine List.forall_mem_cons.mpr ⟨⟨(RX10, TX10, 86, tyX10, 86), "ConditionedProofsModel", rfl, by decide, Or.inl (lw_g (lw_at lw_m7 224 rfl) rfl), Or.inl rfl⟩, ?_⟩
  refine List.forall_mem_cons.mpr ⟨⟨(RX10, TX10, 86, tyX10, 86), "ConditionedProofsModel", rfl, by decide, Or.inl (lw_g (lw_at lw_m7 225 rfl) rfl), Or.inl rfl⟩, ?_⟩
  refine List.forall_mem_cons.mpr ⟨⟨(RX10, TX10, 86, tyX10, 86), "ConditionedProofsModel", rfl, by decide, Or.inl (lw_g (lw_at lw_m7 226 rfl) rfl), Or.inl rfl⟩, ?_⟩
  refine List.forall_mem_cons.mpr ⟨⟨(RX10, TX10, 86, tyX10, 86), "ConditionedProofsModel", rfl, by decide, Or.inl (lw_g (lw_at lw_m7 227 rfl) rfl), Or.inl rfl⟩, ?_⟩
  refine List.forall_mem_cons.mpr ⟨⟨(RX10, TX10, 86, tyX10, 86), "ConditionedProofsModel", rfl, by decide, Or.inl (lw_g (lw_at lw_m7 228 rfl) rfl), Or.inl rfl⟩, ?_⟩
  refine List.forall_mem_cons.mpr ⟨⟨(RX10, TX10, 86, tyX10, 86), "ConditionedProofsModel", rfl, by decide, Or.inl (lw_g (lw_at lw_m7 229 rfl) rfl), Or.inl rfl⟩, ?_⟩
  refine List.forall_mem_cons.mpr ⟨⟨(RX10, TX10, 86, tyX10, 86), "ConditionedProofsModel", rfl, by decide, Or.inl (lw_g (lw_at lw_m7 230 rfl) rfl), Or.inl rfl⟩, ?_⟩
  refine List.forall_mem_cons.mpr ⟨⟨(RX10, TX10, 86, tyX10, 86), "ConditionedProofsModel", rfl, by decide, Or.inl (lw_g (lw_at lw_m7 231 rfl) rfl), Or.inl rfl⟩, ?_⟩
  refine List.forall_mem_cons.mpr ⟨⟨(RX10, TX10, 86, tyX10, 86), "ConditionedProofsModel", rfl, by decide, Or.inl (lw_g (lw_at lw_m7 232 rfl) rfl), Or.inl rfl⟩, ?_⟩
  refine List.forall_mem_cons.mpr ⟨⟨(RX10, TX10, 86, tyX10, 86), "ConditionedProofsModel", rfl, by decide, Or.inl (lw_g (lw_at lw_m7 233 rfl) rfl), Or.inl rfl⟩, ?_⟩
  refine List.forall_mem_cons.mpr ⟨⟨(RX10, TX10, 86, tyX10, 86), "ConditionedProofsModel", rfl, by decide, Or.inl (lw_g (lw_at lw_m8 1 rfl) rfl), Or.inl rfl⟩, ?_⟩
  refine List.forall_mem_cons.mpr ⟨⟨(RX10, TX10, 86, tyX10, 86), "ConditionedProofsModel", rfl, by decide, Or.inl (lw_g (lw_at lw_m8 2 rfl) rfl), Or.inl rfl⟩, ?_⟩
  refine List.forall_mem_cons.mpr ⟨⟨(RX10, TX10, 86, tyX10, 86), "ConditionedProofsModel", rfl, by decide, Or.inl (lw_g (lw_at lw_m8 3 rfl) rfl), Or.inl rfl⟩, ?_⟩
  refine List.forall_mem_cons.mpr ⟨⟨(RX10, TX10, 86, tyX10, 86), "ConditionedProofsModel", rfl, by decide, Or.inl (lw_g (lw_at lw_m8 4 rfl) rfl), Or.inl rfl⟩, ?_⟩
  refine List.forall_mem_cons.mpr ⟨⟨(RX10, TX10, 86, tyX10, 86), "ConditionedProofsModel", rfl, by decide, Or.inl (lw_g (lw_at lw_m8 5 rfl) rfl), Or.inl rfl⟩, ?_⟩
  refine List.forall_mem_cons.mpr ⟨⟨(RX10, TX10, 86, tyX10, 86), "ConditionedProofsModel", rfl, by decide, Or.inl (lw_g (lw_at lw_m8 7 rfl) rfl), Or.inl rfl⟩, ?_⟩
  refine List.forall_mem_cons.mpr ⟨⟨(RX10, TX10, 86, tyX10, 86), "ConditionedProofsModel", rfl, by decide, Or.inl (lw_g (lw_at lw_m8 8 rfl) rfl), Or.inl rfl⟩, ?_⟩
  refine List.forall_mem_cons.mpr ⟨⟨(RX10, TX10, 86, tyX10, 86), "ConditionedProofsModel", rfl, by decide, Or.inl (lw_g (lw_at lw_m8 9 rfl) rfl), Or.inl rfl⟩, ?_⟩
  refine List.forall_mem_cons.mpr ⟨⟨(RX10, TX10, 86, tyX10, 86), "ConditionedProofsModel", rfl, by decide, Or.inl (lw_g (lw_at lw_m8 12 rfl) rfl), Or.inl rfl⟩, ?_⟩
  refine List.forall_mem_cons.mpr ⟨⟨(RX10, TX10, 86, tyX10, 86), "ConditionedProofsModel", rfl, by decide, Or.inl (lw_g (lw_at lw_m8 13 rfl) rfl), Or.inl rfl⟩, ?_⟩
  refine List.forall_mem_cons.mpr ⟨⟨(RX10, TX10, 86, tyX10, 86), "ConditionedProofsModel", rfl, by decide, Or.inl (lw_g (lw_at lw_m8 14 rfl) rfl), Or.inl rfl⟩, ?_⟩
  refine List.forall_mem_cons.mpr ⟨⟨(RX10, TX10, 86, tyX10, 86), "ConditionedProofsModel", rfl, by decide, Or.inl (lw_g (lw_at lw_m8 19 rfl) rfl), Or.inl rfl⟩, ?_⟩
  refine List.forall_mem_cons.mpr ⟨⟨(RX10, TX10, 86, tyX10, 86), "ConditionedProofsModel", rfl, by decide, Or.inl (lw_g (lw_at lw_m8 20 rfl) rfl), Or.inl rfl⟩, ?_⟩
  refine List.forall_mem_cons.mpr ⟨⟨(RX10, TX10, 86, tyX10, 86), "ConditionedProofsModel", rfl, by decide, Or.inl (lw_g (lw_at lw_m8 21 rfl) rfl), Or.inl rfl⟩, ?_⟩
  refine List.forall_mem_cons.mpr ⟨⟨(RX10, TX10, 86, tyX10, 86), "ConditionedProofsModel", rfl, by decide, Or.inl (lw_g (lw_at lw_m7 176 rfl) rfl), Or.inl rfl⟩, ?_⟩
  refine List.forall_mem_cons.mpr ⟨⟨(RX10, TX10, 86, tyX10, 86), "ConditionedProofsModel", rfl, by decide, Or.inl (lw_g (lw_at lw_m7 177 rfl) rfl), Or.inl rfl⟩, ?_⟩
  refine List.forall_mem_cons.mpr ⟨⟨(RX10, TX10, 86, tyX10, 86), "ConditionedProofsModel", rfl, by decide, Or.inl (lw_g (lw_at lw_m7 205 rfl) rfl), Or.inl rfl⟩, ?_⟩
  refine List.forall_mem_cons.mpr ⟨⟨(RX10, TX10, 86, tyX10, 86), "ConditionedProofsModel", rfl, by decide, Or.inl (lw_g (lw_at lw_m7 192 rfl) rfl), Or.inl rfl⟩, ?_⟩
  refine List.forall_mem_cons.mpr ⟨⟨(RX10, TX10, 86, tyX10, 86), "ConditionedProofsModel", rfl, by decide, Or.inl (lw_g (lw_at lw_m7 196 rfl) rfl), Or.inl rfl⟩, ?_⟩
  refine List.forall_mem_cons.mpr ⟨⟨(RX10, TX10, 86, tyX10, 86), "ConditionedProofsModel", rfl, by decide, Or.inl (lw_g (lw_at lw_m7 209 rfl) rfl), Or.inl rfl⟩, ?_⟩
  refine List.forall_mem_cons.mpr ⟨⟨(RX10, TX10, 86, tyX10, 86), "ConditionedProofsModel", rfl, by decide, Or.inl (lw_g (lw_at lw_m7 210 rfl) rfl), Or.inl rfl⟩, ?_⟩
  refine List.forall_mem_cons.mpr ⟨⟨(RX10, TX10, 86, tyX10, 86), "ConditionedProofsModel", rfl, by decide, Or.inl (lw_g (lw_at lw_m7 199 rfl) rfl), Or.inl rfl⟩, ?_⟩
  refine List.forall_mem_cons.mpr ⟨⟨(RX10, TX10, 86, tyX10, 86), "ConditionedProofsModel", rfl, by decide, Or.inl (lw_g (lw_at lw_m7 211 rfl) rfl), Or.inl rfl⟩, ?_⟩
  refine List.forall_mem_cons.mpr ⟨⟨(RX10, TX10, 86, tyX10, 86), "ConditionedProofsModel", rfl, by decide, Or.inl (lw_g (lw_at lw_m7 216 rfl) rfl), Or.inl rfl⟩, ?_⟩
  refine List.forall_mem_cons.mpr ⟨⟨(RX10, TX10, 86, tyX10, 86), "ConditionedProofsModel", rfl, by decide, Or.inl (lw_g (lw_at lw_m7 218 rfl) rfl), Or.inl rfl⟩, ?_⟩
  refine List.forall_mem_cons.mpr ⟨⟨(RX10, TX10, 86, tyX10, 86), "ConditionedProofsModel", rfl, by decide, Or.inl (lw_g (lw_at lw_m7 220 rfl) rfl), Or.inl rfl⟩, ?_⟩
  refine List.forall_mem_cons.mpr ⟨⟨(RX10, TX10, 86, tyX10, 86), "ConditionedProofsModel", rfl, by decide, Or.inl (lw_g (lw_at lw_m8 11 rfl) rfl), Or.inl rfl⟩, ?_⟩
  refine List.forall_mem_cons.mpr ⟨⟨(RX10, TX10, 86, tyX10, 86), "ConditionedProofsModel", rfl, by decide, Or.inl (lw_g (lw_at lw_m8 10 rfl) rfl), Or.inl rfl⟩, ?_⟩
  refine List.forall_mem_cons.mpr ⟨⟨(RX10, TX10, 86, tyX10, 86), "ConditionedProofsModel", rfl, by decide, Or.inl (lw_g (lw_at lw_m7 179 rfl) rfl), Or.inl rfl⟩, ?_⟩
  refine List.forall_mem_cons.mpr ⟨⟨(RX10, TX10, 86, tyX10, 86), "ConditionedProofsModel", rfl, by decide, Or.inl (lw_g (lw_at lw_m8 6 rfl) rfl), Or.inl rfl⟩, ?_⟩
  refine List.forall_mem_cons.mpr ⟨⟨(RX10, TX10, 86, tyX10, 86), "ConditionedProofsModel", rfl, by decide, Or.inl (lw_g (lw_at lw_m7 237 rfl) rfl), Or.inl rfl⟩, ?_⟩
  refine List.forall_mem_cons.mpr ⟨⟨(RX10, TX10, 86, tyX10, 86), "ConditionedProofsModel", rfl, by decide, Or.inl (lw_g (lw_at lw_m7 238 rfl) rfl), Or.inl rfl⟩, ?_⟩
  refine List.forall_mem_cons.mpr ⟨⟨(RX10, TX10, 86, tyX10, 86), "ConditionedProofsModel", rfl, by decide, Or.inl (lw_g (lw_at lw_m7 239 rfl) rfl), Or.inl rfl⟩, ?_⟩
  refine List.forall_mem_cons.mpr ⟨⟨(RX10, TX10, 86, tyX10, 86), "ConditionedProofsModel", rfl, by decide, Or.inl (lw_g (lw_at lw_m7 236 rfl) rfl), Or.inl rfl⟩, ?_⟩
  refine List.forall_mem_cons.mpr ⟨⟨(RX10, TX10, 86, tyX10, 86), "ConditionedProofsModel", rfl, by decide, Or.inl (lw_g (lw_at lw_m8 0 rfl) rfl), Or.inl rfl⟩, ?_⟩
  refine List.forall_mem_cons.mpr ⟨⟨(RX10, TX10, 86, tyX10, 86), "ConditionedProofsModel", rfl, by decide, Or.inl (lw_g (lw_at lw_m7 235 rfl) rfl), Or.inl rfl⟩, ?_⟩
  refine List.forall_mem_cons.mpr ⟨⟨(RX10, TX10, 86, tyX10, 86), "ConditionedProofsModel", rfl, by decide, Or.inl (lw_g (lw_at lw_m7 234 rfl) rfl), Or.inl rfl⟩, ?_⟩
  refine List.forall_mem_cons.mpr ⟨⟨(RX10, TX10, 86, tyX10, 86), "ConditionedProofsModel", rfl, by decide, Or.inl (lw_g (lw_at lw_m7 190 rfl) rfl), Or.inl rfl⟩, ?_⟩
  refine List.forall_mem_cons.mpr ⟨⟨(RX10, TX10, 86, tyX10, 86), "ConditionedProofsModel", rfl, by decide, Or.inl (lw_g (lw_at lw_m8 15 rfl) rfl), Or.inl rfl⟩, ?_⟩
  refine List.forall_mem_cons.mpr ⟨⟨(RX10, TX10, 86, tyX10, 86), "ConditionedProofsModel", rfl, by decide, Or.inl (lw_g (lw_at lw_m8 16 rfl) rfl), Or.inl rfl⟩, ?_⟩
  refine List.forall_mem_cons.mpr ⟨⟨(RX10, TX10, 86, tyX10, 86), "ConditionedProofsModel", rfl, by decide, Or.inl (lw_g (lw_at lw_m8 17 rfl) rfl), Or.inl rfl⟩, ?_⟩
  refine List.forall_mem_cons.mpr ⟨⟨(RX10, TX10, 86, tyX10, 86), "ConditionedProofsModel", rfl, by decide, Or.inl (lw_g (lw_at lw_m8 18 rfl) rfl), Or.inl rfl⟩, ?_⟩
  exact fun q h => absurd h List.not_mem_nil
set_option maxRecDepth 100000 in
theorem fT_20_ok : ∀ q ∈ fT_20, FOK (clsS 20) q.1 q.2.1 q.2.2 := by
  refine List.forall_mem_cons.mpr ⟨⟨(RJ4, TJ4, 4, tyJ4, 4), "java/lang/AbstractStringBuilder", rfl, by decide, Or.inl (lw_g (lw_at lw_m1 148 rfl) rfl), Or.inl rfl⟩, ?_⟩
  refine List.forall_mem_cons.mpr ⟨⟨(RJ4, TJ4, 4, tyJ4, 4), "java/lang/AbstractStringBuilder", rfl, by decide, Or.inl (lw_g (lw_at lw_m1 149 rfl) rfl), Or.inl rfl⟩, ?_⟩
  refine List.forall_mem_cons.mpr ⟨⟨(RJ4, TJ4, 4, tyJ4, 4), "java/lang/AbstractStringBuilder", rfl, by decide, Or.inl (lw_g (lw_at lw_m1 150 rfl) rfl), Or.inl rfl⟩, ?_⟩
  refine List.forall_mem_cons.mpr ⟨⟨(RJ4, TJ4, 4, tyJ4, 4), "java/lang/AbstractStringBuilder", rfl, by decide, Or.inl (lw_g (lw_at lw_m1 152 rfl) rfl), Or.inl rfl⟩, ?_⟩
  exact fun q h => absurd h List.not_mem_nil
set_option maxRecDepth 100000 in
theorem fT_24_ok : ∀ q ∈ fT_24, FOK (clsS 24) q.1 q.2.1 q.2.2 := by
  refine List.forall_mem_cons.mpr ⟨⟨(RJ5, TJ5, 4, tyJ5, 4), "java/lang/String", rfl, by decide, Or.inl (lw_g (lw_at lw_m3 191 rfl) rfl), Or.inl rfl⟩, ?_⟩
  refine List.forall_mem_cons.mpr ⟨⟨(RJ5, TJ5, 4, tyJ5, 4), "java/lang/String", rfl, by decide, Or.inl (lw_g (lw_at lw_m3 192 rfl) rfl), Or.inl rfl⟩, ?_⟩
  refine List.forall_mem_cons.mpr ⟨⟨(RJ4, TJ4, 4, tyJ4, 4), "java/lang/AbstractStringBuilder", rfl, by decide, Or.inl (lw_g (lw_at lw_m1 151 rfl) rfl), Or.inl rfl⟩, ?_⟩
  exact fun q h => absurd h List.not_mem_nil
set_option maxRecDepth 100000 in
theorem fT_28_ok : ∀ q ∈ fT_28, FOK (clsS 28) q.1 q.2.1 q.2.2 := by
  refine List.forall_mem_cons.mpr ⟨⟨(RJ2, TJ2, 3, tyJ2, 3), "java/util/AbstractList", rfl, by decide, Or.inl (lw_g (lw_at lw_m1 82 rfl) rfl), Or.inl rfl⟩, ?_⟩
  exact fun q h => absurd h List.not_mem_nil
set_option maxRecDepth 100000 in
theorem fT_29_ok : ∀ q ∈ fT_29, FOK (clsS 29) q.1 q.2.1 q.2.2 := by
  refine List.forall_mem_cons.mpr ⟨⟨(RJ2, TJ2, 3, tyJ2, 3), "java/util/ArrayList", rfl, by decide, Or.inl (lw_g (lw_at lw_m1 80 rfl) rfl), Or.inl rfl⟩, ?_⟩
  refine List.forall_mem_cons.mpr ⟨⟨(RJ2, TJ2, 3, tyJ2, 3), "java/util/ArrayList", rfl, by decide, Or.inl (lw_g (lw_at lw_m1 81 rfl) rfl), Or.inl rfl⟩, ?_⟩
  refine List.forall_mem_cons.mpr ⟨⟨(RJ2, TJ2, 3, tyJ2, 3), "java/util/ArrayList", rfl, by decide, Or.inl (lw_g (lw_at lw_m1 83 rfl) rfl), Or.inr (lw_g (lw_at lw_m1 84 rfl) rfl)⟩, ?_⟩
  exact fun q h => absurd h List.not_mem_nil
theorem fT_ok {o n : Nat} {v : (Nat × Nat)} (h : fT o n = some v) : FOK (clsS o) n v.1 v.2 := by
  unfold fT at h
  split at h
  · exact fT_0_ok _ (lk_mem h)
  · exact fT_1_ok _ (lk_mem h)
  · exact fT_2_ok _ (lk_mem h)
  · exact fT_3_ok _ (lk_mem h)
  · exact fT_4_ok _ (lk_mem h)
  · exact fT_5_ok _ (lk_mem h)
  · exact fT_7_ok _ (lk_mem h)
  · exact fT_8_ok _ (lk_mem h)
  · exact fT_9_ok _ (lk_mem h)
  · exact fT_10_ok _ (lk_mem h)
  · exact fT_11_ok _ (lk_mem h)
  · exact fT_13_ok _ (lk_mem h)
  · exact fT_14_ok _ (lk_mem h)
  · exact fT_15_ok _ (lk_mem h)
  · exact fT_16_ok _ (lk_mem h)
  · exact fT_17_ok _ (lk_mem h)
  · exact fT_19_ok _ (lk_mem h)
  · exact fT_20_ok _ (lk_mem h)
  · exact fT_24_ok _ (lk_mem h)
  · exact fT_28_ok _ (lk_mem h)
  · exact fT_29_ok _ (lk_mem h)
  · cases h
def sT_0 : List (Nat × AV) := [(7, (1, -19))]
def sT_1 : List (Nat × AV) := [(29, (1, -14)), (44, (1, -19))]
def sT_2 : List (Nat × AV) := [(37, (1, -15)), (46, (1, -16)), (178, (1, -12)), (181, (1, -18)), (245, (1, -17))]
def sT_5 : List (Nat × AV) := [(62, (1, -19))]
def sT_10 : List (Nat × AV) := [(68, (1, -14)), (86, (1, -10)), (95, (1, -11)), (106, (1, -16)), (109, (1, -12)), (112, (1, -13)), (143, (1, -15)), (181, (1, -1)), (191, (1, -2)), (194, (1, -9)), (197, (1, -3)), (211, (1, -5)), (214, (1, -4)), (224, (1, -6)), (234, (1, -8)), (237, (1, -7))]
def sT_11 : List (Nat × AV) := [(164, (1, -18)), (187, (1, -7)), (190, (1, -14)), (193, (1, -4)), (203, (1, -5)), (206, (1, -8)), (219, (1, -1)), (234, (1, -3))]
def sT_16 : List (Nat × AV) := [(78, (1, -18)), (91, (1, -17)), (94, (1, -14)), (101, (1, -19))]
def sT_17 : List (Nat × AV) := [(102, (1, -15)), (109, (1, -16))]
def sT_20 : List (Nat × AV) := [(18, (0, 1))]
def sT_22 : List (Nat × AV) := [(83, (1, -22)), (87, (1, -21))]
def sT_24 : List (Nat × AV) := [(38, (0, 1)), (1053, (3, 0))]
def sT_29 : List (Nat × AV) := [(39, (1, -20))]
def sT (o n : Nat) : Option AV := match o with
  | 0 => lk n sT_0
  | 1 => lk n sT_1
  | 2 => lk n sT_2
  | 5 => lk n sT_5
  | 10 => lk n sT_10
  | 11 => lk n sT_11
  | 16 => lk n sT_16
  | 17 => lk n sT_17
  | 20 => lk n sT_20
  | 22 => lk n sT_22
  | 24 => lk n sT_24
  | 29 => lk n sT_29
  | _ => none
set_option maxRecDepth 100000 in
theorem sT_0_ok : ∀ q ∈ sT_0, GOK (clsS 0) q.1 q.2 ∧ okv q.2 ∧ q.2.1 ≠ 9 := by
  refine List.forall_mem_cons.mpr ⟨⟨⟨("ConditionedProofs$Sort", "MADE", "LConditionedProofs$Sort;", (1, -19)), by decide, rfl, (lw_g (lw_at lw_m6 81 rfl) rfl)⟩, by simp [okv, in32, NC], by simp⟩, ?_⟩
  exact fun q h => absurd h List.not_mem_nil
set_option maxRecDepth 100000 in
theorem sT_1_ok : ∀ q ∈ sT_1, GOK (clsS 1) q.1 q.2 ∧ okv q.2 ∧ q.2.1 ≠ 9 := by
  refine List.forall_mem_cons.mpr ⟨⟨⟨("ConditionedProofs$Sort", "NUMBER", "LConditionedProofs$Sort;", (1, -14)), by decide, rfl, (lw_g (lw_at lw_m5 196 rfl) rfl)⟩, by simp [okv, in32, NC], by simp⟩, ?_⟩
  refine List.forall_mem_cons.mpr ⟨⟨⟨("ConditionedProofs$Sort", "MADE", "LConditionedProofs$Sort;", (1, -19)), by decide, rfl, (lw_g (lw_at lw_m5 198 rfl) rfl)⟩, by simp [okv, in32, NC], by simp⟩, ?_⟩
  exact fun q h => absurd h List.not_mem_nil
set_option maxRecDepth 100000 in
theorem sT_2_ok : ∀ q ∈ sT_2, GOK (clsS 2) q.1 q.2 ∧ okv q.2 ∧ q.2.1 ≠ 9 := by
  refine List.forall_mem_cons.mpr ⟨⟨⟨("ConditionedProofs$Sort", "STAR", "LConditionedProofs$Sort;", (1, -15)), by decide, rfl, (lw_g (lw_at lw_m2 58 rfl) rfl)⟩, by simp [okv, in32, NC], by simp⟩, ?_⟩
  refine List.forall_mem_cons.mpr ⟨⟨⟨("ConditionedProofs$Sort", "NUMBERS", "LConditionedProofs$Sort;", (1, -16)), by decide, rfl, (lw_g (lw_at lw_m2 60 rfl) rfl)⟩, by simp [okv, in32, NC], by simp⟩, ?_⟩
  refine List.forall_mem_cons.mpr ⟨⟨⟨("ConditionedProofs$Form", "BLANK", "LConditionedProofs$Form;", (1, -12)), by decide, rfl, (lw_g (lw_at lw_m6 20 rfl) rfl)⟩, by simp [okv, in32, NC], by simp⟩, ?_⟩
  refine List.forall_mem_cons.mpr ⟨⟨⟨("ConditionedProofs$Sort", "HOLE", "LConditionedProofs$Sort;", (1, -18)), by decide, rfl, (lw_g (lw_at lw_m6 21 rfl) rfl)⟩, by simp [okv, in32, NC], by simp⟩, ?_⟩
  refine List.forall_mem_cons.mpr ⟨⟨⟨("ConditionedProofs$Sort", "RIGID", "LConditionedProofs$Sort;", (1, -17)), by decide, rfl, (lw_g (lw_at lw_m6 218 rfl) rfl)⟩, by simp [okv, in32, NC], by simp⟩, ?_⟩
  exact fun q h => absurd h List.not_mem_nil
set_option maxRecDepth 100000 in
theorem sT_5_ok : ∀ q ∈ sT_5, GOK (clsS 5) q.1 q.2 ∧ okv q.2 ∧ q.2.1 ≠ 9 := by
  refine List.forall_mem_cons.mpr ⟨⟨⟨("ConditionedProofs$Sort", "MADE", "LConditionedProofs$Sort;", (1, -19)), by decide, rfl, (lw_g (lw_at lw_m5 70 rfl) rfl)⟩, by simp [okv, in32, NC], by simp⟩, ?_⟩
  exact fun q h => absurd h List.not_mem_nil
set_option maxRecDepth 100000 in
theorem sT_10_ok : ∀ q ∈ sT_10, GOK (clsS 10) q.1 q.2 ∧ okv q.2 ∧ q.2.1 ≠ 9 := by
  refine List.forall_mem_cons.mpr ⟨⟨⟨("ConditionedProofs$Sort", "NUMBER", "LConditionedProofs$Sort;", (1, -14)), by decide, rfl, (lw_g (lw_at lw_m4 69 rfl) rfl)⟩, by simp [okv, in32, NC], by simp⟩, ?_⟩
  refine List.forall_mem_cons.mpr ⟨⟨⟨("ConditionedProofs$Form", "VARIABLE", "LConditionedProofs$Form;", (1, -10)), by decide, rfl, (lw_g (lw_at lw_m4 12 rfl) rfl)⟩, by simp [okv, in32, NC], by simp⟩, ?_⟩
  refine List.forall_mem_cons.mpr ⟨⟨⟨("ConditionedProofs$Form", "LITERAL", "LConditionedProofs$Form;", (1, -11)), by decide, rfl, (lw_g (lw_at lw_m4 61 rfl) rfl)⟩, by simp [okv, in32, NC], by simp⟩, ?_⟩
  refine List.forall_mem_cons.mpr ⟨⟨⟨("ConditionedProofs$Sort", "NUMBERS", "LConditionedProofs$Sort;", (1, -16)), by decide, rfl, (lw_g (lw_at lw_m4 75 rfl) rfl)⟩, by simp [okv, in32, NC], by simp⟩, ?_⟩
  refine List.forall_mem_cons.mpr ⟨⟨⟨("ConditionedProofs$Form", "BLANK", "LConditionedProofs$Form;", (1, -12)), by decide, rfl, (lw_g (lw_at lw_m4 76 rfl) rfl)⟩, by simp [okv, in32, NC], by simp⟩, ?_⟩
  refine List.forall_mem_cons.mpr ⟨⟨⟨("ConditionedProofs$Form", "CONSTANT", "LConditionedProofs$Form;", (1, -13)), by decide, rfl, (lw_g (lw_at lw_m4 78 rfl) rfl)⟩, by simp [okv, in32, NC], by simp⟩, ?_⟩
  refine List.forall_mem_cons.mpr ⟨⟨⟨("ConditionedProofs$Sort", "STAR", "LConditionedProofs$Sort;", (1, -15)), by decide, rfl, (lw_g (lw_at lw_m6 182 rfl) rfl)⟩, by simp [okv, in32, NC], by simp⟩, ?_⟩
  refine List.forall_mem_cons.mpr ⟨⟨⟨("ConditionedProofs$Act", "NAME", "LConditionedProofs$Act;", (1, -1)), by decide, rfl, (lw_g (lw_at lw_m7 6 rfl) rfl)⟩, by simp [okv, in32, NC], by simp⟩, ?_⟩
  refine List.forall_mem_cons.mpr ⟨⟨⟨("ConditionedProofs$Act", "DIGIT", "LConditionedProofs$Act;", (1, -2)), by decide, rfl, (lw_g (lw_at lw_m7 43 rfl) rfl)⟩, by simp [okv, in32, NC], by simp⟩, ?_⟩
  refine List.forall_mem_cons.mpr ⟨⟨⟨("ConditionedProofs$Act", "FAIL", "LConditionedProofs$Act;", (1, -9)), by decide, rfl, (lw_g (lw_at lw_m7 45 rfl) rfl)⟩, by simp [okv, in32, NC], by simp⟩, ?_⟩
  refine List.forall_mem_cons.mpr ⟨⟨⟨("ConditionedProofs$Act", "USE", "LConditionedProofs$Act;", (1, -3)), by decide, rfl, (lw_g (lw_at lw_m7 47 rfl) rfl)⟩, by simp [okv, in32, NC], by simp⟩, ?_⟩
  refine List.forall_mem_cons.mpr ⟨⟨⟨("ConditionedProofs$Act", "DIFFERENCE", "LConditionedProofs$Act;", (1, -5)), by decide, rfl, (lw_g (lw_at lw_m7 92 rfl) rfl)⟩, by simp [okv, in32, NC], by simp⟩, ?_⟩
  refine List.forall_mem_cons.mpr ⟨⟨⟨("ConditionedProofs$Act", "SUM", "LConditionedProofs$Act;", (1, -4)), by decide, rfl, (lw_g (lw_at lw_m7 93 rfl) rfl)⟩, by simp [okv, in32, NC], by simp⟩, ?_⟩
  refine List.forall_mem_cons.mpr ⟨⟨⟨("ConditionedProofs$Act", "MATCH", "LConditionedProofs$Act;", (1, -6)), by decide, rfl, (lw_g (lw_at lw_m7 85 rfl) rfl)⟩, by simp [okv, in32, NC], by simp⟩, ?_⟩
  refine List.forall_mem_cons.mpr ⟨⟨⟨("ConditionedProofs$Act", "LESS", "LConditionedProofs$Act;", (1, -8)), by decide, rfl, (lw_g (lw_at lw_m7 90 rfl) rfl)⟩, by simp [okv, in32, NC], by simp⟩, ?_⟩
  refine List.forall_mem_cons.mpr ⟨⟨⟨("ConditionedProofs$Act", "EQUAL", "LConditionedProofs$Act;", (1, -7)), by decide, rfl, (lw_g (lw_at lw_m7 91 rfl) rfl)⟩, by simp [okv, in32, NC], by simp⟩, ?_⟩
  exact fun q h => absurd h List.not_mem_nil
set_option maxRecDepth 100000 in
theorem sT_11_ok : ∀ q ∈ sT_11, GOK (clsS 11) q.1 q.2 ∧ okv q.2 ∧ q.2.1 ≠ 9 := by
  refine List.forall_mem_cons.mpr ⟨⟨⟨("ConditionedProofs$Sort", "HOLE", "LConditionedProofs$Sort;", (1, -18)), by decide, rfl, (lw_g (lw_at lw_m5 199 rfl) rfl)⟩, by simp [okv, in32, NC], by simp⟩, ?_⟩
  refine List.forall_mem_cons.mpr ⟨⟨⟨("ConditionedProofs$Act", "EQUAL", "LConditionedProofs$Act;", (1, -7)), by decide, rfl, (lw_g (lw_at lw_m5 217 rfl) rfl)⟩, by simp [okv, in32, NC], by simp⟩, ?_⟩
  refine List.forall_mem_cons.mpr ⟨⟨⟨("ConditionedProofs$Sort", "NUMBER", "LConditionedProofs$Sort;", (1, -14)), by decide, rfl, (lw_g (lw_at lw_m5 219 rfl) rfl)⟩, by simp [okv, in32, NC], by simp⟩, ?_⟩
  refine List.forall_mem_cons.mpr ⟨⟨⟨("ConditionedProofs$Act", "SUM", "LConditionedProofs$Act;", (1, -4)), by decide, rfl, (lw_g (lw_at lw_m5 220 rfl) rfl)⟩, by simp [okv, in32, NC], by simp⟩, ?_⟩
  refine List.forall_mem_cons.mpr ⟨⟨⟨("ConditionedProofs$Act", "DIFFERENCE", "LConditionedProofs$Act;", (1, -5)), by decide, rfl, (lw_g (lw_at lw_m5 223 rfl) rfl)⟩, by simp [okv, in32, NC], by simp⟩, ?_⟩
  refine List.forall_mem_cons.mpr ⟨⟨⟨("ConditionedProofs$Act", "LESS", "LConditionedProofs$Act;", (1, -8)), by decide, rfl, (lw_g (lw_at lw_m5 225 rfl) rfl)⟩, by simp [okv, in32, NC], by simp⟩, ?_⟩
  refine List.forall_mem_cons.mpr ⟨⟨⟨("ConditionedProofs$Act", "NAME", "LConditionedProofs$Act;", (1, -1)), by decide, rfl, (lw_g (lw_at lw_m7 114 rfl) rfl)⟩, by simp [okv, in32, NC], by simp⟩, ?_⟩
  refine List.forall_mem_cons.mpr ⟨⟨⟨("ConditionedProofs$Act", "USE", "LConditionedProofs$Act;", (1, -3)), by decide, rfl, (lw_g (lw_at lw_m7 121 rfl) rfl)⟩, by simp [okv, in32, NC], by simp⟩, ?_⟩
  exact fun q h => absurd h List.not_mem_nil
set_option maxRecDepth 100000 in
theorem sT_16_ok : ∀ q ∈ sT_16, GOK (clsS 16) q.1 q.2 ∧ okv q.2 ∧ q.2.1 ≠ 9 := by
  refine List.forall_mem_cons.mpr ⟨⟨⟨("ConditionedProofs$Sort", "HOLE", "LConditionedProofs$Sort;", (1, -18)), by decide, rfl, (lw_g (lw_at lw_m5 235 rfl) rfl)⟩, by simp [okv, in32, NC], by simp⟩, ?_⟩
  refine List.forall_mem_cons.mpr ⟨⟨⟨("ConditionedProofs$Sort", "RIGID", "LConditionedProofs$Sort;", (1, -17)), by decide, rfl, (lw_g (lw_at lw_m6 3 rfl) rfl)⟩, by simp [okv, in32, NC], by simp⟩, ?_⟩
  refine List.forall_mem_cons.mpr ⟨⟨⟨("ConditionedProofs$Sort", "NUMBER", "LConditionedProofs$Sort;", (1, -14)), by decide, rfl, (lw_g (lw_at lw_m6 5 rfl) rfl)⟩, by simp [okv, in32, NC], by simp⟩, ?_⟩
  refine List.forall_mem_cons.mpr ⟨⟨⟨("ConditionedProofs$Sort", "MADE", "LConditionedProofs$Sort;", (1, -19)), by decide, rfl, (lw_g (lw_at lw_m6 6 rfl) rfl)⟩, by simp [okv, in32, NC], by simp⟩, ?_⟩
  exact fun q h => absurd h List.not_mem_nil
set_option maxRecDepth 100000 in
theorem sT_17_ok : ∀ q ∈ sT_17, GOK (clsS 17) q.1 q.2 ∧ okv q.2 ∧ q.2.1 ≠ 9 := by
  refine List.forall_mem_cons.mpr ⟨⟨⟨("ConditionedProofs$Sort", "STAR", "LConditionedProofs$Sort;", (1, -15)), by decide, rfl, (lw_g (lw_at lw_m6 73 rfl) rfl)⟩, by simp [okv, in32, NC], by simp⟩, ?_⟩
  refine List.forall_mem_cons.mpr ⟨⟨⟨("ConditionedProofs$Sort", "NUMBERS", "LConditionedProofs$Sort;", (1, -16)), by decide, rfl, (lw_g (lw_at lw_m6 75 rfl) rfl)⟩, by simp [okv, in32, NC], by simp⟩, ?_⟩
  exact fun q h => absurd h List.not_mem_nil
set_option maxRecDepth 100000 in
theorem sT_20_ok : ∀ q ∈ sT_20, GOK (clsS 20) q.1 q.2 ∧ okv q.2 ∧ q.2.1 ≠ 9 := by
  refine List.forall_mem_cons.mpr ⟨⟨⟨("java/lang/String", "COMPACT_STRINGS", "Z", (0, 1)), by decide, rfl, (lw_g (lw_at lw_m1 139 rfl) rfl)⟩, by simp [okv, in32, NC], by simp⟩, ?_⟩
  exact fun q h => absurd h List.not_mem_nil
set_option maxRecDepth 100000 in
theorem sT_22_ok : ∀ q ∈ sT_22, GOK (clsS 22) q.1 q.2 ∧ okv q.2 ∧ q.2.1 ≠ 9 := by
  refine List.forall_mem_cons.mpr ⟨⟨⟨("java/lang/Integer", "DigitOnes", "[B", (1, -22)), by decide, rfl, (lw_g (lw_at lw_m3 109 rfl) rfl)⟩, by simp [okv, in32, NC], by simp⟩, ?_⟩
  refine List.forall_mem_cons.mpr ⟨⟨⟨("java/lang/Integer", "DigitTens", "[B", (1, -21)), by decide, rfl, (lw_g (lw_at lw_m3 111 rfl) rfl)⟩, by simp [okv, in32, NC], by simp⟩, ?_⟩
  exact fun q h => absurd h List.not_mem_nil
set_option maxRecDepth 100000 in
theorem sT_24_ok : ∀ q ∈ sT_24, GOK (clsS 24) q.1 q.2 ∧ okv q.2 ∧ q.2.1 ≠ 9 := by
  refine List.forall_mem_cons.mpr ⟨⟨⟨("java/lang/String", "COMPACT_STRINGS", "Z", (0, 1)), by decide, rfl, (lw_g (lw_at lw_m3 80 rfl) rfl)⟩, by simp [okv, in32, NC], by simp⟩, ?_⟩
  refine List.forall_mem_cons.mpr ⟨⟨⟨("jdk/internal/util/Preconditions", "SIOOBE_FORMATTER", "Ljava/util/function/BiFunction;", (3, 0)), by decide, rfl, (lw_g (lw_at lw_m2 199 rfl) rfl)⟩, by simp [okv, in32, NC], by simp⟩, ?_⟩
  exact fun q h => absurd h List.not_mem_nil
set_option maxRecDepth 100000 in
theorem sT_29_ok : ∀ q ∈ sT_29, GOK (clsS 29) q.1 q.2 ∧ okv q.2 ∧ q.2.1 ≠ 9 := by
  refine List.forall_mem_cons.mpr ⟨⟨⟨("java/util/ArrayList", "DEFAULTCAPACITY_EMPTY_ELEMENTDATA", "[Ljava/lang/Object;", (1, -20)), by decide, rfl, (lw_g (lw_at lw_m1 78 rfl) rfl)⟩, by simp [okv, in32, NC], by simp⟩, ?_⟩
  exact fun q h => absurd h List.not_mem_nil
theorem sT_ok {o n : Nat} {v : AV} (h : sT o n = some v) : GOK (clsS o) n v ∧ okv v ∧ v.1 ≠ 9 := by
  unfold sT at h
  split at h
  · exact sT_0_ok _ (lk_mem h)
  · exact sT_1_ok _ (lk_mem h)
  · exact sT_2_ok _ (lk_mem h)
  · exact sT_5_ok _ (lk_mem h)
  · exact sT_10_ok _ (lk_mem h)
  · exact sT_11_ok _ (lk_mem h)
  · exact sT_16_ok _ (lk_mem h)
  · exact sT_17_ok _ (lk_mem h)
  · exact sT_20_ok _ (lk_mem h)
  · exact sT_22_ok _ (lk_mem h)
  · exact sT_24_ok _ (lk_mem h)
  · exact sT_29_ok _ (lk_mem h)
  · cases h
def cT_0 : List (Nat × Nat) := [(25, 2), (67, 1), (74, 4), (81, 6), (88, 7), (97, 9), (111, 5), (135, 11), (142, 14), (217, 20), (219, 3), (245, 13), (271, 17)]
def cT_2 : List (Nat × Nat) := [(7, 8), (19, 10), (53, 14), (57, 18), (67, 13), (165, 19), (240, 17)]
def cT_4 : List (Nat × Nat) := [(35, 19)]
def cT_5 : List (Nat × Nat) := [(7, 3), (36, 10), (75, 15), (84, 16)]
def cT_10 : List (Nat × Nat) := [(9, 5), (21, 3), (54, 11), (65, 10), (84, 13), (134, 19), (146, 20), (167, 21), (176, 22), (229, 23)]
def cT_11 : List (Nat × Nat) := [(9, 8), (32, 17), (57, 22), (158, 23)]
def cT_13 : List (Nat × Nat) := [(7, 2), (26, 20), (28, 21)]
def cT_16 : List (Nat × Nat) := [(9, 3), (29, 10), (112, 17)]
def cT_17 : List (Nat × Nat) := [(9, 5), (21, 3), (54, 10)]
def cT_18 : List (Nat × Nat) := [(8, 0), (13, 11), (15, 14), (32, 24)]
def cT_25 : List (Nat × Nat) := [(18, 12)]
def cT_30 : List (Nat × Nat) := [(43, 11), (45, 5)]
def cT (o n : Nat) : Option Nat := match o with
  | 0 => lk n cT_0
  | 2 => lk n cT_2
  | 4 => lk n cT_4
  | 5 => lk n cT_5
  | 10 => lk n cT_10
  | 11 => lk n cT_11
  | 13 => lk n cT_13
  | 16 => lk n cT_16
  | 17 => lk n cT_17
  | 18 => lk n cT_18
  | 25 => lk n cT_25
  | 30 => lk n cT_30
  | _ => none
set_option maxRecDepth 100000 in
theorem cT_0_ok : ∀ q ∈ cT_0, XOK (clsS 0) q.1 q.2 := by
  refine List.forall_mem_cons.mpr ⟨⟨(RX3, TX3, 6, tyX3, 6), rfl, (lw_g (lw_at lw_m2 90 rfl) rfl), by decide⟩, ?_⟩
  refine List.forall_mem_cons.mpr ⟨⟨(RX2, TX2, 2, tyX2, 2), rfl, (lw_g (lw_at lw_m1 54 rfl) rfl), by decide⟩, ?_⟩
  refine List.forall_mem_cons.mpr ⟨⟨(RX4, TX4, 7, tyX4, 7), rfl, (lw_g (lw_at lw_m1 124 rfl) rfl), by decide⟩, ?_⟩
  refine List.forall_mem_cons.mpr ⟨⟨(RX5, TX5, 3, tyX5, 3), rfl, (lw_g (lw_at lw_m1 189 rfl) rfl), by decide⟩, ?_⟩
  refine List.forall_mem_cons.mpr ⟨⟨(RX6, TX6, 4, tyX6, 4), rfl, (lw_g (lw_at lw_m1 210 rfl) rfl), by decide⟩, ?_⟩
  refine List.forall_mem_cons.mpr ⟨⟨(RX8, TX8, 8, tyX8, 8), rfl, (lw_g (lw_at lw_m2 6 rfl) rfl), by decide⟩, ?_⟩
  refine List.forall_mem_cons.mpr ⟨⟨(RJ4, TJ4, 4, tyJ4, 4), rfl, (lw_g (lw_at lw_m2 92 rfl) rfl), by decide⟩, ?_⟩
  refine List.forall_mem_cons.mpr ⟨⟨(RJ16, TJ16, 0, tyJ16, 6), rfl, (lw_g (lw_at lw_m3 210 rfl) rfl), by decide⟩, ?_⟩
  refine List.forall_mem_cons.mpr ⟨⟨(RJ18, TJ18, 0, tyJ18, 6), rfl, (lw_g (lw_at lw_m3 211 rfl) rfl), by decide⟩, ?_⟩
  refine List.forall_mem_cons.mpr ⟨⟨(RX13, TX13, 4, tyX13, 4), rfl, (lw_g (lw_at lw_m7 143 rfl) rfl), by decide⟩, ?_⟩
  refine List.forall_mem_cons.mpr ⟨⟨(RJ2, TJ2, 3, tyJ2, 3), rfl, (lw_g (lw_at lw_m7 144 rfl) rfl), by decide⟩, ?_⟩
  refine List.forall_mem_cons.mpr ⟨⟨(RX11, TX11, 6, tyX11, 6), rfl, (lw_g (lw_at lw_m4 163 rfl) rfl), by decide⟩, ?_⟩
  refine List.forall_mem_cons.mpr ⟨⟨(RJ21, TJ21, 0, tyJ21, 6), rfl, (lw_g (lw_at lw_m7 161 rfl) rfl), by decide⟩, ?_⟩
  exact fun q h => absurd h List.not_mem_nil
set_option maxRecDepth 100000 in
theorem cT_2_ok : ∀ q ∈ cT_2, XOK (clsS 2) q.1 q.2 := by
  refine List.forall_mem_cons.mpr ⟨⟨(RX7, TX7, 2, tyX7, 2), rfl, (lw_g (lw_at lw_m2 12 rfl) rfl), by decide⟩, ?_⟩
  refine List.forall_mem_cons.mpr ⟨⟨(RX9, TX9, 5, tyX9, 5), rfl, (lw_g (lw_at lw_m2 14 rfl) rfl), by decide⟩, ?_⟩
  refine List.forall_mem_cons.mpr ⟨⟨(RJ18, TJ18, 0, tyJ18, 6), rfl, (lw_g (lw_at lw_m4 196 rfl) rfl), by decide⟩, ?_⟩
  refine List.forall_mem_cons.mpr ⟨⟨(RX16, TX16, 4, tyX16, 4), rfl, (lw_g (lw_at lw_m6 28 rfl) rfl), by decide⟩, ?_⟩
  refine List.forall_mem_cons.mpr ⟨⟨(RX11, TX11, 6, tyX11, 6), rfl, (lw_g (lw_at lw_m5 32 rfl) rfl), by decide⟩, ?_⟩
  refine List.forall_mem_cons.mpr ⟨⟨(RX12, TX12, 5, tyX12, 5), rfl, (lw_g (lw_at lw_m4 234 rfl) rfl), by decide⟩, ?_⟩
  refine List.forall_mem_cons.mpr ⟨⟨(RJ21, TJ21, 0, tyJ21, 6), rfl, (lw_g (lw_at lw_m5 3 rfl) rfl), by decide⟩, ?_⟩
  exact fun q h => absurd h List.not_mem_nil
set_option maxRecDepth 100000 in
theorem cT_4_ok : ∀ q ∈ cT_4, XOK (clsS 4) q.1 q.2 := by
  refine List.forall_mem_cons.mpr ⟨⟨(RX12, TX12, 5, tyX12, 5), rfl, (lw_g (lw_at lw_m6 190 rfl) rfl), by decide⟩, ?_⟩
  exact fun q h => absurd h List.not_mem_nil
set_option maxRecDepth 100000 in
theorem cT_5_ok : ∀ q ∈ cT_5, XOK (clsS 5) q.1 q.2 := by
  refine List.forall_mem_cons.mpr ⟨⟨(RJ2, TJ2, 3, tyJ2, 3), rfl, (lw_g (lw_at lw_m1 66 rfl) rfl), by decide⟩, ?_⟩
  refine List.forall_mem_cons.mpr ⟨⟨(RX9, TX9, 5, tyX9, 5), rfl, (lw_g (lw_at lw_m5 76 rfl) rfl), by decide⟩, ?_⟩
  refine List.forall_mem_cons.mpr ⟨⟨(RX14, TX14, 2, tyX14, 2), rfl, (lw_g (lw_at lw_m5 45 rfl) rfl), by decide⟩, ?_⟩
  refine List.forall_mem_cons.mpr ⟨⟨(RX15, TX15, 3, tyX15, 3), rfl, (lw_g (lw_at lw_m5 82 rfl) rfl), by decide⟩, ?_⟩
  exact fun q h => absurd h List.not_mem_nil
set_option maxRecDepth 100000 in
theorem cT_10_ok : ∀ q ∈ cT_10, XOK (clsS 10) q.1 q.2 := by
  refine List.forall_mem_cons.mpr ⟨⟨(RJ4, TJ4, 4, tyJ4, 4), rfl, (lw_g (lw_at lw_m1 130 rfl) rfl), by decide⟩, ?_⟩
  refine List.forall_mem_cons.mpr ⟨⟨(RJ2, TJ2, 3, tyJ2, 3), rfl, (lw_g (lw_at lw_m1 163 rfl) rfl), by decide⟩, ?_⟩
  refine List.forall_mem_cons.mpr ⟨⟨(RJ16, TJ16, 0, tyJ16, 6), rfl, (lw_g (lw_at lw_m4 22 rfl) rfl), by decide⟩, ?_⟩
  refine List.forall_mem_cons.mpr ⟨⟨(RX9, TX9, 5, tyX9, 5), rfl, (lw_g (lw_at lw_m4 67 rfl) rfl), by decide⟩, ?_⟩
  refine List.forall_mem_cons.mpr ⟨⟨(RX11, TX11, 6, tyX11, 6), rfl, (lw_g (lw_at lw_m4 10 rfl) rfl), by decide⟩, ?_⟩
  refine List.forall_mem_cons.mpr ⟨⟨(RX12, TX12, 5, tyX12, 5), rfl, (lw_g (lw_at lw_m6 160 rfl) rfl), by decide⟩, ?_⟩
  refine List.forall_mem_cons.mpr ⟨⟨(RX13, TX13, 4, tyX13, 4), rfl, (lw_g (lw_at lw_m6 183 rfl) rfl), by decide⟩, ?_⟩
  refine List.forall_mem_cons.mpr ⟨⟨(RX17, TX17, 2, tyX17, 2), rfl, (lw_g (lw_at lw_m7 1 rfl) rfl), by decide⟩, ?_⟩
  refine List.forall_mem_cons.mpr ⟨⟨(RX18, TX18, 6, tyX18, 6), rfl, (lw_g (lw_at lw_m7 12 rfl) rfl), by decide⟩, ?_⟩
  refine List.forall_mem_cons.mpr ⟨⟨(RX19, TX19, 5, tyX19, 5), rfl, (lw_g (lw_at lw_m7 63 rfl) rfl), by decide⟩, ?_⟩
  exact fun q h => absurd h List.not_mem_nil
set_option maxRecDepth 100000 in
theorem cT_11_ok : ∀ q ∈ cT_11, XOK (clsS 11) q.1 q.2 := by
  refine List.forall_mem_cons.mpr ⟨⟨(RX7, TX7, 2, tyX7, 2), rfl, (lw_g (lw_at lw_m1 216 rfl) rfl), by decide⟩, ?_⟩
  refine List.forall_mem_cons.mpr ⟨⟨(RJ21, TJ21, 0, tyJ21, 6), rfl, (lw_g (lw_at lw_m5 109 rfl) rfl), by decide⟩, ?_⟩
  refine List.forall_mem_cons.mpr ⟨⟨(RX18, TX18, 6, tyX18, 6), rfl, (lw_g (lw_at lw_m5 138 rfl) rfl), by decide⟩, ?_⟩
  refine List.forall_mem_cons.mpr ⟨⟨(RX19, TX19, 5, tyX19, 5), rfl, (lw_g (lw_at lw_m5 191 rfl) rfl), by decide⟩, ?_⟩
  exact fun q h => absurd h List.not_mem_nil
set_option maxRecDepth 100000 in
theorem cT_13_ok : ∀ q ∈ cT_13, XOK (clsS 13) q.1 q.2 := by
  refine List.forall_mem_cons.mpr ⟨⟨(RX3, TX3, 6, tyX3, 6), rfl, (lw_g (lw_at lw_m1 60 rfl) rfl), by decide⟩, ?_⟩
  refine List.forall_mem_cons.mpr ⟨⟨(RX13, TX13, 4, tyX13, 4), rfl, (lw_g (lw_at lw_m4 223 rfl) rfl), by decide⟩, ?_⟩
  refine List.forall_mem_cons.mpr ⟨⟨(RX17, TX17, 2, tyX17, 2), rfl, (lw_g (lw_at lw_m5 12 rfl) rfl), by decide⟩, ?_⟩
  exact fun q h => absurd h List.not_mem_nil
set_option maxRecDepth 100000 in
theorem cT_16_ok : ∀ q ∈ cT_16, XOK (clsS 16) q.1 q.2 := by
  refine List.forall_mem_cons.mpr ⟨⟨(RJ2, TJ2, 3, tyJ2, 3), rfl, (lw_g (lw_at lw_m1 222 rfl) rfl), by decide⟩, ?_⟩
  refine List.forall_mem_cons.mpr ⟨⟨(RX9, TX9, 5, tyX9, 5), rfl, (lw_g (lw_at lw_m5 172 rfl) rfl), by decide⟩, ?_⟩
  refine List.forall_mem_cons.mpr ⟨⟨(RJ21, TJ21, 0, tyJ21, 6), rfl, (lw_g (lw_at lw_m5 237 rfl) rfl), by decide⟩, ?_⟩
  exact fun q h => absurd h List.not_mem_nil
set_option maxRecDepth 100000 in
theorem cT_17_ok : ∀ q ∈ cT_17, XOK (clsS 17) q.1 q.2 := by
  refine List.forall_mem_cons.mpr ⟨⟨(RJ4, TJ4, 4, tyJ4, 4), rfl, (lw_g (lw_at lw_m1 195 rfl) rfl), by decide⟩, ?_⟩
  refine List.forall_mem_cons.mpr ⟨⟨(RJ2, TJ2, 3, tyJ2, 3), rfl, (lw_g (lw_at lw_m1 197 rfl) rfl), by decide⟩, ?_⟩
  refine List.forall_mem_cons.mpr ⟨⟨(RX9, TX9, 5, tyX9, 5), rfl, (lw_g (lw_at lw_m6 61 rfl) rfl), by decide⟩, ?_⟩
  exact fun q h => absurd h List.not_mem_nil
set_option maxRecDepth 100000 in
theorem cT_18_ok : ∀ q ∈ cT_18, XOK (clsS 18) q.1 q.2 := by
  refine List.forall_mem_cons.mpr ⟨⟨(RX1, TX1, 8, tyX1, 8), rfl, (lw_g (lw_at lw_m1 46 rfl) rfl), by decide⟩, ?_⟩
  refine List.forall_mem_cons.mpr ⟨⟨(RJ16, TJ16, 0, tyJ16, 6), rfl, (lw_g (lw_at lw_m6 140 rfl) rfl), by decide⟩, ?_⟩
  refine List.forall_mem_cons.mpr ⟨⟨(RJ18, TJ18, 0, tyJ18, 6), rfl, (lw_g (lw_at lw_m6 141 rfl) rfl), by decide⟩, ?_⟩
  refine List.forall_mem_cons.mpr ⟨⟨(RX10, TX10, 86, tyX10, 86), rfl, (lw_g (lw_at lw_m7 170 rfl) rfl), by decide⟩, ?_⟩
  exact fun q h => absurd h List.not_mem_nil
set_option maxRecDepth 100000 in
theorem cT_25_ok : ∀ q ∈ cT_25, XOK (clsS 25) q.1 q.2 := by
  refine List.forall_mem_cons.mpr ⟨⟨(RJ5, TJ5, 4, tyJ5, 4), rfl, (lw_g (lw_at lw_m3 127 rfl) rfl), by decide⟩, ?_⟩
  exact fun q h => absurd h List.not_mem_nil
set_option maxRecDepth 100000 in
theorem cT_30_ok : ∀ q ∈ cT_30, XOK (clsS 30) q.1 q.2 := by
  refine List.forall_mem_cons.mpr ⟨⟨(RJ16, TJ16, 0, tyJ16, 6), rfl, (lw_g (lw_at lw_m3 5 rfl) rfl), by decide⟩, ?_⟩
  refine List.forall_mem_cons.mpr ⟨⟨(RJ4, TJ4, 4, tyJ4, 4), rfl, (lw_g (lw_at lw_m3 46 rfl) rfl), by decide⟩, ?_⟩
  exact fun q h => absurd h List.not_mem_nil
theorem cT_ok {o n : Nat} {v : Nat} (h : cT o n = some v) : XOK (clsS o) n v := by
  unfold cT at h
  split at h
  · exact cT_0_ok _ (lk_mem h)
  · exact cT_2_ok _ (lk_mem h)
  · exact cT_4_ok _ (lk_mem h)
  · exact cT_5_ok _ (lk_mem h)
  · exact cT_10_ok _ (lk_mem h)
  · exact cT_11_ok _ (lk_mem h)
  · exact cT_13_ok _ (lk_mem h)
  · exact cT_16_ok _ (lk_mem h)
  · exact cT_17_ok _ (lk_mem h)
  · exact cT_18_ok _ (lk_mem h)
  · exact cT_25_ok _ (lk_mem h)
  · exact cT_30_ok _ (lk_mem h)
  · cases h
theorem cls_made : ∀ r ∈ clsL, Cond.instantiable r.1 r.2.2.2.2 ∈ lw_all ∧ Cond.initialized r.1 ∈ lw_all := by
  refine List.forall_mem_cons.mpr ⟨⟨(lw_g (lw_at lw_m1 47 rfl) rfl), (lw_g (lw_at lw_m1 1 rfl) rfl)⟩, ?_⟩
  refine List.forall_mem_cons.mpr ⟨⟨(lw_g (lw_at lw_m1 55 rfl) rfl), (lw_g (lw_at lw_m1 2 rfl) rfl)⟩, ?_⟩
  refine List.forall_mem_cons.mpr ⟨⟨(lw_g (lw_at lw_m1 61 rfl) rfl), (lw_g (lw_at lw_m1 3 rfl) rfl)⟩, ?_⟩
  refine List.forall_mem_cons.mpr ⟨⟨(lw_g (lw_at lw_m1 67 rfl) rfl), (lw_g (lw_at lw_m1 6 rfl) rfl)⟩, ?_⟩
  refine List.forall_mem_cons.mpr ⟨⟨(lw_g (lw_at lw_m1 125 rfl) rfl), (lw_g (lw_at lw_m1 7 rfl) rfl)⟩, ?_⟩
  refine List.forall_mem_cons.mpr ⟨⟨(lw_g (lw_at lw_m1 131 rfl) rfl), (lw_g (lw_at lw_m1 9 rfl) rfl)⟩, ?_⟩
  refine List.forall_mem_cons.mpr ⟨⟨(lw_g (lw_at lw_m1 190 rfl) rfl), (lw_g (lw_at lw_m1 12 rfl) rfl)⟩, ?_⟩
  refine List.forall_mem_cons.mpr ⟨⟨(lw_g (lw_at lw_m1 211 rfl) rfl), (lw_g (lw_at lw_m1 13 rfl) rfl)⟩, ?_⟩
  refine List.forall_mem_cons.mpr ⟨⟨(lw_g (lw_at lw_m1 217 rfl) rfl), (lw_g (lw_at lw_m1 14 rfl) rfl)⟩, ?_⟩
  refine List.forall_mem_cons.mpr ⟨⟨(lw_g (lw_at lw_m2 7 rfl) rfl), (lw_g (lw_at lw_m1 15 rfl) rfl)⟩, ?_⟩
  refine List.forall_mem_cons.mpr ⟨⟨(lw_g (lw_at lw_m2 15 rfl) rfl), (lw_g (lw_at lw_m1 16 rfl) rfl)⟩, ?_⟩
  refine List.forall_mem_cons.mpr ⟨⟨(lw_g (lw_at lw_m3 6 rfl) rfl), (lw_g (lw_at lw_m1 29 rfl) rfl)⟩, ?_⟩
  refine List.forall_mem_cons.mpr ⟨⟨(lw_g (lw_at lw_m3 128 rfl) rfl), (lw_g (lw_at lw_m1 10 rfl) rfl)⟩, ?_⟩
  refine List.forall_mem_cons.mpr ⟨⟨(lw_g (lw_at lw_m4 11 rfl) rfl), (lw_g (lw_at lw_m1 32 rfl) rfl)⟩, ?_⟩
  refine List.forall_mem_cons.mpr ⟨⟨(lw_g (lw_at lw_m4 197 rfl) rfl), (lw_g (lw_at lw_m1 31 rfl) rfl)⟩, ?_⟩
  refine List.forall_mem_cons.mpr ⟨⟨(lw_g (lw_at lw_m5 46 rfl) rfl), (lw_g (lw_at lw_m1 38 rfl) rfl)⟩, ?_⟩
  refine List.forall_mem_cons.mpr ⟨⟨(lw_g (lw_at lw_m5 83 rfl) rfl), (lw_g (lw_at lw_m1 39 rfl) rfl)⟩, ?_⟩
  refine List.forall_mem_cons.mpr ⟨⟨(lw_g (lw_at lw_m5 110 rfl) rfl), (lw_g (lw_at lw_m1 40 rfl) rfl)⟩, ?_⟩
  refine List.forall_mem_cons.mpr ⟨⟨(lw_g (lw_at lw_m6 29 rfl) rfl), (lw_g (lw_at lw_m1 42 rfl) rfl)⟩, ?_⟩
  refine List.forall_mem_cons.mpr ⟨⟨(lw_g (lw_at lw_m6 161 rfl) rfl), (lw_g (lw_at lw_m1 35 rfl) rfl)⟩, ?_⟩
  refine List.forall_mem_cons.mpr ⟨⟨(lw_g (lw_at lw_m6 184 rfl) rfl), (lw_g (lw_at lw_m1 36 rfl) rfl)⟩, ?_⟩
  refine List.forall_mem_cons.mpr ⟨⟨(lw_g (lw_at lw_m7 2 rfl) rfl), (lw_g (lw_at lw_m1 43 rfl) rfl)⟩, ?_⟩
  refine List.forall_mem_cons.mpr ⟨⟨(lw_g (lw_at lw_m7 13 rfl) rfl), (lw_g (lw_at lw_m1 44 rfl) rfl)⟩, ?_⟩
  refine List.forall_mem_cons.mpr ⟨⟨(lw_g (lw_at lw_m7 64 rfl) rfl), (lw_g (lw_at lw_m1 45 rfl) rfl)⟩, ?_⟩
  refine List.forall_mem_cons.mpr ⟨⟨(lw_g (lw_at lw_m7 171 rfl) rfl), (lw_g (lw_at lw_m1 19 rfl) rfl)⟩, ?_⟩
  exact fun q h => absurd h List.not_mem_nil
theorem cT_made {o n c : Nat} (h : cT o n = some c) : KOK (clsS o) n c := by
  obtain ⟨r, e1, e2, -⟩ := cT_ok h
  exact ⟨r, e1, e2, cls_made r (List.mem_of_getElem? e1)⟩
def aT_13 : List (Nat × (Nat × Nat)) := [(16, (5, 0))]
def aT_29 : List (Nat × (Nat × Nat)) := [(7, (4, 0))]
def aT_30 : List (Nat × (Nat × Nat)) := [(2, (4, 0)), (110, (4, 1)), (311, (2, 1))]
def aT (o n : Nat) : Option ((Nat × Nat)) := match o with
  | 13 => lk n aT_13
  | 29 => lk n aT_29
  | 30 => lk n aT_30
  | _ => none
set_option maxRecDepth 100000 in
theorem aT_13_ok : ∀ q ∈ aT_13, (q.2.2 = 0 ∧ ∃ E, arrT q.2.1 = some (.object E) ∧ Cond.classLink (clsS 13) q.1 E ∈ lw_all ∧ Cond.arrayOver (.object E) ∈ lw_tbl) ∨ (q.2.2 = 1 ∧ ∃ (nm : String) (ty : FieldType), arrT q.2.1 = some ty ∧ "[" ++ ty.toString = nm ∧ Cond.classLink (clsS 13) q.1 nm ∈ lw_all) := by
  refine List.forall_mem_cons.mpr ⟨Or.inl ⟨rfl, "ConditionedProofs$Meaning", rfl, (lw_g (lw_at lw_m1 111 rfl) rfl), (lw_at lw_m1 112 rfl)⟩, ?_⟩
  exact fun q h => absurd h List.not_mem_nil
set_option maxRecDepth 100000 in
theorem aT_29_ok : ∀ q ∈ aT_29, (q.2.2 = 0 ∧ ∃ E, arrT q.2.1 = some (.object E) ∧ Cond.classLink (clsS 29) q.1 E ∈ lw_all ∧ Cond.arrayOver (.object E) ∈ lw_tbl) ∨ (q.2.2 = 1 ∧ ∃ (nm : String) (ty : FieldType), arrT q.2.1 = some ty ∧ "[" ++ ty.toString = nm ∧ Cond.classLink (clsS 29) q.1 nm ∈ lw_all) := by
  refine List.forall_mem_cons.mpr ⟨Or.inl ⟨rfl, "java/lang/Object", rfl, (lw_g (lw_at lw_m4 142 rfl) rfl), (lw_at lw_m4 139 rfl)⟩, ?_⟩
  exact fun q h => absurd h List.not_mem_nil
set_option maxRecDepth 100000 in
theorem aT_30_ok : ∀ q ∈ aT_30, (q.2.2 = 0 ∧ ∃ E, arrT q.2.1 = some (.object E) ∧ Cond.classLink (clsS 30) q.1 E ∈ lw_all ∧ Cond.arrayOver (.object E) ∈ lw_tbl) ∨ (q.2.2 = 1 ∧ ∃ (nm : String) (ty : FieldType), arrT q.2.1 = some ty ∧ "[" ++ ty.toString = nm ∧ Cond.classLink (clsS 30) q.1 nm ∈ lw_all) := by
  refine List.forall_mem_cons.mpr ⟨Or.inl ⟨rfl, "java/lang/Object", rfl, (lw_g (lw_at lw_m4 140 rfl) rfl), (lw_at lw_m4 139 rfl)⟩, ?_⟩
  refine List.forall_mem_cons.mpr ⟨Or.inr ⟨rfl, "[Ljava/lang/Object;", (.object "java/lang/Object"), rfl, by decide, (lw_g (lw_at lw_m4 138 rfl) rfl)⟩, ?_⟩
  refine List.forall_mem_cons.mpr ⟨Or.inr ⟨rfl, "[B", .byte, rfl, by decide, (lw_g (lw_at lw_m2 165 rfl) rfl)⟩, ?_⟩
  exact fun q h => absurd h List.not_mem_nil
theorem aT_ok {o n : Nat} {v : (Nat × Nat)} (h : aT o n = some v) : (v.2 = 0 ∧ ∃ E, arrT v.1 = some (.object E) ∧ Cond.classLink (clsS o) n E ∈ lw_all ∧ Cond.arrayOver (.object E) ∈ lw_tbl) ∨ (v.2 = 1 ∧ ∃ (nm : String) (ty : FieldType), arrT v.1 = some ty ∧ "[" ++ ty.toString = nm ∧ Cond.classLink (clsS o) n nm ∈ lw_all) := by
  unfold aT at h
  split at h
  · exact aT_13_ok _ (lk_mem h)
  · exact aT_29_ok _ (lk_mem h)
  · exact aT_30_ok _ (lk_mem h)
  · cases h
def kT_10 : List (Nat × AV) := [(227, (1, -23))]
def kT_19 : List (Nat × AV) := [(312, (2, 10))]
def kT_20 : List (Nat × AV) := [(39, (0, 2147483647))]
def kT_30 : List (Nat × AV) := [(110, (1, -26))]
def kT_32 : List (Nat × AV) := [(200, (0, 2147483639))]
def kT (o n : Nat) : Option AV := match o with
  | 10 => lk n kT_10
  | 19 => lk n kT_19
  | 20 => lk n kT_20
  | 30 => lk n kT_30
  | 32 => lk n kT_32
  | _ => none
set_option maxRecDepth 100000 in
theorem kT_10_ok : ∀ q ∈ kT_10, (q.2.1 = 0 ∧ Cond.constant (clsS 10) q.1 (Int32.ofInt q.2.2) ∈ lw_all ∧ in32 q.2.2) ∨ (q.2.1 = 2 ∧ Cond.constantLong (clsS 10) q.1 (Int64.ofInt q.2.2) ∈ lw_all ∧ in64 q.2.2) ∨ (q.2 = (1, -26) ∧ Cond.classLink (clsS 10) q.1 "[Ljava/lang/Object;" ∈ lw_all) ∨ (q.2 = (1, -23) ∧ (clsS 10) = "ConditionedProofs$Reader" ∧ q.1 = 227) := by
  refine List.forall_mem_cons.mpr ⟨Or.inr (Or.inr (Or.inr ⟨rfl, rfl, rfl⟩)), ?_⟩
  exact fun q h => absurd h List.not_mem_nil
set_option maxRecDepth 100000 in
theorem kT_19_ok : ∀ q ∈ kT_19, (q.2.1 = 0 ∧ Cond.constant (clsS 19) q.1 (Int32.ofInt q.2.2) ∈ lw_all ∧ in32 q.2.2) ∨ (q.2.1 = 2 ∧ Cond.constantLong (clsS 19) q.1 (Int64.ofInt q.2.2) ∈ lw_all ∧ in64 q.2.2) ∨ (q.2 = (1, -26) ∧ Cond.classLink (clsS 19) q.1 "[Ljava/lang/Object;" ∈ lw_all) ∨ (q.2 = (1, -23) ∧ (clsS 19) = "ConditionedProofs$Reader" ∧ q.1 = 227) := by
  refine List.forall_mem_cons.mpr ⟨Or.inr (Or.inl ⟨rfl, (lw_g (lw_at lw_m9 209 rfl) rfl), by decide⟩), ?_⟩
  exact fun q h => absurd h List.not_mem_nil
set_option maxRecDepth 100000 in
theorem kT_20_ok : ∀ q ∈ kT_20, (q.2.1 = 0 ∧ Cond.constant (clsS 20) q.1 (Int32.ofInt q.2.2) ∈ lw_all ∧ in32 q.2.2) ∨ (q.2.1 = 2 ∧ Cond.constantLong (clsS 20) q.1 (Int64.ofInt q.2.2) ∈ lw_all ∧ in64 q.2.2) ∨ (q.2 = (1, -26) ∧ Cond.classLink (clsS 20) q.1 "[Ljava/lang/Object;" ∈ lw_all) ∨ (q.2 = (1, -23) ∧ (clsS 20) = "ConditionedProofs$Reader" ∧ q.1 = 227) := by
  refine List.forall_mem_cons.mpr ⟨Or.inl ⟨rfl, (lw_g (lw_at lw_m2 155 rfl) rfl), by decide⟩, ?_⟩
  exact fun q h => absurd h List.not_mem_nil
set_option maxRecDepth 100000 in
theorem kT_30_ok : ∀ q ∈ kT_30, (q.2.1 = 0 ∧ Cond.constant (clsS 30) q.1 (Int32.ofInt q.2.2) ∈ lw_all ∧ in32 q.2.2) ∨ (q.2.1 = 2 ∧ Cond.constantLong (clsS 30) q.1 (Int64.ofInt q.2.2) ∈ lw_all ∧ in64 q.2.2) ∨ (q.2 = (1, -26) ∧ Cond.classLink (clsS 30) q.1 "[Ljava/lang/Object;" ∈ lw_all) ∨ (q.2 = (1, -23) ∧ (clsS 30) = "ConditionedProofs$Reader" ∧ q.1 = 227) := by
  refine List.forall_mem_cons.mpr ⟨Or.inr (Or.inr (Or.inl ⟨rfl, (lw_g (lw_at lw_m4 138 rfl) rfl)⟩)), ?_⟩
  exact fun q h => absurd h List.not_mem_nil
set_option maxRecDepth 100000 in
theorem kT_32_ok : ∀ q ∈ kT_32, (q.2.1 = 0 ∧ Cond.constant (clsS 32) q.1 (Int32.ofInt q.2.2) ∈ lw_all ∧ in32 q.2.2) ∨ (q.2.1 = 2 ∧ Cond.constantLong (clsS 32) q.1 (Int64.ofInt q.2.2) ∈ lw_all ∧ in64 q.2.2) ∨ (q.2 = (1, -26) ∧ Cond.classLink (clsS 32) q.1 "[Ljava/lang/Object;" ∈ lw_all) ∨ (q.2 = (1, -23) ∧ (clsS 32) = "ConditionedProofs$Reader" ∧ q.1 = 227) := by
  refine List.forall_mem_cons.mpr ⟨Or.inl ⟨rfl, (lw_g (lw_at lw_m2 151 rfl) rfl), by decide⟩, ?_⟩
  exact fun q h => absurd h List.not_mem_nil
theorem kT_ok {o n : Nat} {v : AV} (h : kT o n = some v) : (v.1 = 0 ∧ Cond.constant (clsS o) n (Int32.ofInt v.2) ∈ lw_all ∧ in32 v.2) ∨ (v.1 = 2 ∧ Cond.constantLong (clsS o) n (Int64.ofInt v.2) ∈ lw_all ∧ in64 v.2) ∨ (v = (1, -26) ∧ Cond.classLink (clsS o) n "[Ljava/lang/Object;" ∈ lw_all) ∨ (v = (1, -23) ∧ (clsS o) = "ConditionedProofs$Reader" ∧ n = 227) := by
  unfold kT at h
  split at h
  · exact kT_10_ok _ (lk_mem h)
  · exact kT_19_ok _ (lk_mem h)
  · exact kT_20_ok _ (lk_mem h)
  · exact kT_30_ok _ (lk_mem h)
  · exact kT_32_ok _ (lk_mem h)
  · cases h
/-- the tag t is the class C's -/
def tgC (t : Int) (C : String) : Prop := (∃ (c : Nat) (r : KC), clsL[c]? = some r ∧ r.1 = C ∧ t = (c : Int) + 1) ∨ (∃ j : Nat, j < 3 ∧ enN j = C ∧ t = 50 + (j : Int))
theorem tgC.recv {G : GM} {h : SM} {x t : Int} {C : String} (hc : tgC t C) (ht : h x (-1) = t) : Recv G h x C := by
  rcases hc with ⟨c, r, h1, h2, h3⟩ | ⟨j, h1, h2, h3⟩
  · exact Or.inl ⟨c, r, h1, h2, by rw [ht, h3]⟩
  · exact Or.inr ⟨j, h1, h2, by rw [ht, h3]⟩
def noMt : Mt := (⟨"", "", ""⟩, 0, ⟨#[]⟩, 0, none, [], [])
/-- a call's site: (kind, method, receiver's tag, number of parameters) -/
abbrev CI : Type := Nat × Mt × Int × Nat
def ciOK (own : String) (n : Nat) (v : CI) : Prop := (v.1 ≤ 4 → nPar v.2.1 = some v.2.2.2) ∧ match v.1 with
  | 0 => SOK own n v.2.1
  | 1 => IOK own n v.2.1
  | 2 => ∃ C, VOK own n C v.2.1 ∧ tgC v.2.2.1 C ∧ (Cond.selects C (mtN v.2.1) (mtN v.2.1) ∈ lw_all ∨ ∃ k, Cond.sameMethod (mtN v.2.1).cls (mtN v.2.1).cls (mtN v.2.1).name (mtN v.2.1).desc ∈ lw_all ∧ k = 0)
  | 3 => ∃ y owner C, UOK own n y owner C v.2.1 ∧ tgC v.2.2.1 C
  | 4 => ∃ C, POK own n v.2.1 ∧ tgC v.2.2.1 C
  | 6 => Cond.methodLink own n Lib.objectInit ∈ lw_all
  | 7 => acOK own n
  | 8 => gcOK own n
  | 9 => mxOK own n
  | 10 => mnOK own n
  | _ => False
def mT_0 : List (Nat × CI) := [(1, (2, mX9_seen, 11, 0)), (13, (2, mX9_is, 11, 1)), (24, (2, mX3_make, 3, 2)), (40, (0, mX1_copy, 0, 2)), (46, (2, mX3_append, 3, 2)), (57, (2, mX3_made, 3, 2)), (61, (6, noMt, 0, 0)), (69, (1, mX2_init, 0, 0)), (76, (1, mX4_init, 0, 0)), (83, (1, mX5_init, 0, 0)), (90, (1, mX6_init, 0, 1)), (99, (1, mX8_init, 0, 2)), (106, (1, mX3_init, 0, 0)), (113, (1, mJ4_init, 0, 0)), (121, (2, mJ4_length, 6, 0)), (125, (2, mJ4_append, 6, 1)), (128, (2, mJ4_setLength, 6, 1)), (138, (2, mX2_meaning, 2, 1)), (154, (2, mX1_mustBeFree, 1, 1)), (158, (2, mX4_begin, 5, 1)), (162, (2, mX4_declaration, 5, 0)), (166, (2, mX1_fault, 1, 0)), (172, (2, mX3_clear, 3, 0)), (175, (2, mX8_look, 10, 1)), (180, (2, mX1_keep, 1, 2)), (184, (2, mX4_program, 5, 0)), (194, (2, mJ4_append_2, 6, 1)), (201, (0, mX6_look, 0, 3)), (211, (2, mX7_lies, 9, 2)), (221, (1, mJ2_init, 0, 0)), (222, (1, mX13_init, 0, 3)), (225, (2, mJ4_charAt, 6, 1)), (236, (2, mX1_begin, 1, 1)), (237, (2, mX4_row, 5, 1)), (241, (2, mJ2_get, 4, 1)), (247, (0, mX8_type, 0, 3)), (251, (2, mX5_write, 7, 1)), (255, (2, mX2_programOf, 2, 1)), (259, (2, mJ2_size, 4, 0)), (262, (2, mX17_parameters, 22, 0)), (263, (2, mX8_scope, 10, 2)), (267, (2, mX6_start, 8, 2))]
def mT_1 : List (Nat × CI) := [(1, (1, mJ19_init, 0, 0)), (35, (2, mX9_is, 11, 1))]
def mT_2 : List (Nat × CI) := [(1, (6, noMt, 0, 0)), (9, (1, mX7_init, 0, 0)), (21, (1, mX9_init, 0, 0)), (56, (2, mX16_name, 19, 0)), (62, (2, mX16_outer, 19, 0)), (72, (3, mJ7_ordinal, 51, 0)), (88, (0, mX8_find, 0, 2)), (92, (2, mX16_value, 19, 0)), (100, (2, mJ2_size, 4, 0)), (111, (2, mJ2_get, 4, 1)), (115, (0, mX8_value, 0, 3)), (118, (2, mX3_append, 3, 2)), (124, (2, mX3_made, 3, 2)), (128, (2, mX9_is, 11, 1)), (135, (2, mX8_need, 10, 2)), (139, (2, mX16_type, 19, 0)), (142, (2, mX2_constant, 2, 1)), (146, (2, mX13_parameters, 21, 0)), (158, (0, mX8_ofConstant, 0, 4)), (167, (2, mX12_condition, 20, 0)), (171, (2, mX8_meet, 10, 3)), (175, (2, mX12_type, 20, 0)), (184, (2, mX3_make, 3, 2)), (188, (0, mX8_type, 0, 3)), (190, (2, mX8_fits, 10, 2)), (194, (2, mX12_letter, 20, 0)), (196, (1, mX16_init, 0, 4)), (206, (2, mX7_unite, 9, 3)), (210, (2, mX2_programOf, 2, 1)), (214, (2, mX12_terms, 20, 0)), (224, (2, mJ5_charAt, 13, 1)), (230, (2, mX3_bind, 3, 3)), (234, (2, mX6_start, 8, 2)), (242, (2, mX17_parameters, 22, 0)), (243, (2, mX12_place, 20, 0))]
def mT_3 : List (Nat × CI) := [(1, (6, noMt, 0, 0))]
def mT_4 : List (Nat × CI) := [(1, (6, noMt, 0, 0)), (21, (2, mJ2_size, 4, 0)), (31, (2, mJ2_get, 4, 1)), (37, (2, mX12_condition, 20, 0))]
def mT_5 : List (Nat × CI) := [(1, (6, noMt, 0, 0)), (9, (1, mJ2_init, 0, 0)), (32, (2, mJ2_size, 4, 0)), (38, (1, mX9_init, 0, 0)), (39, (2, mJ2_add, 4, 1)), (43, (2, mJ2_get, 4, 1)), (67, (2, mX3_make, 3, 2)), (77, (1, mX14_init, 0, 0)), (86, (1, mX15_init, 0, 0))]
def mT_6 : List (Nat × CI) := [(1, (6, noMt, 0, 0))]
def mT_7 : List (Nat × CI) := [(1, (1, mJ19_init, 0, 0))]
def mT_8 : List (Nat × CI) := [(1, (1, mJ19_init, 0, 0))]
def mT_9 : List (Nat × CI) := [(1, (6, noMt, 0, 0)), (17, (2, mJ5_length, 13, 0))]
def mT_10 : List (Nat × CI) := [(3, (6, noMt, 0, 0)), (11, (1, mJ4_init, 0, 0)), (23, (1, mJ2_init, 0, 0)), (42, (2, mJ4_length, 6, 0)), (46, (2, mJ4_charAt, 6, 1)), (50, (2, mX4_peek, 5, 0)), (57, (2, mX4_isNext, 5, 2)), (61, (2, mX4_need, 5, 1)), (67, (1, mX9_init, 0, 0)), (77, (2, mX4_take, 5, 2)), (92, (1, mX11_init, 0, 5)), (98, (2, mX4_digit, 5, 0)), (102, (2, mX4_passes, 5, 1)), (115, (0, mX4_terms, 0, 2)), (119, (0, mX4_term, 0, 2)), (123, (2, mJ2_add, 4, 1)), (127, (2, mJ2_size, 4, 0)), (130, (2, mX4_isTerm, 5, 0)), (136, (1, mX12_init, 0, 5)), (139, (2, mX4_part, 5, 0)), (148, (1, mX13_init, 0, 3)), (151, (2, mJ4_setLength, 6, 1)), (155, (2, mJ4_append, 6, 1)), (159, (2, mJ4_toString, 6, 0)), (163, (2, mX4_variables, 5, 1)), (169, (0, mX4_code, 0, 2)), (173, (1, mX17_init, 0, 2)), (178, (1, mX18_init, 0, 6)), (187, (2, mX4_leaf, 5, 4)), (200, (0, mX4_codes, 0, 2)), (203, (0, mX4_match, 0, 3)), (207, (0, mX4_test, 0, 4)), (217, (2, mX4_isCode, 5, 0)), (220, (0, mX4_oneCase, 0, 2)), (231, (1, mX19_init, 0, 5))]
def mT_11 : List (Nat × CI) := [(3, (6, noMt, 0, 0)), (11, (1, mX7_init, 0, 0)), (39, (2, mX6_need, 8, 1)), (49, (0, mX6_step, 0, 4)), (62, (3, mJ7_ordinal, 50, 0)), (71, (0, mX6_find, 0, 2)), (82, (0, mX6_use, 0, 4)), (85, (0, mX6_match, 0, 4)), (88, (0, mX6_reckon, 0, 4)), (101, (2, mJ2_size, 4, 0)), (106, (2, mJ2_get, 4, 1)), (110, (2, mX3_append, 3, 2)), (116, (2, mX2_programOf, 2, 1)), (120, (2, mX3_made, 3, 2)), (124, (2, mX7_nodes, 9, 2)), (132, (2, mJ5_charAt, 13, 1)), (141, (2, mX3_bind, 3, 3)), (149, (2, mX9_seen, 11, 0)), (160, (2, mX19_fits, 24, 1)), (170, (2, mX9_is, 11, 1)), (174, (2, mX19_letter, 24, 0)), (180, (2, mX19_names, 24, 0)), (183, (2, mX19_code, 24, 0)), (199, (2, mX3_make, 3, 2)), (209, (2, mX7_same, 9, 2)), (213, (2, mJ4_length, 6, 0)), (218, (2, mJ4_charAt, 6, 1)), (222, (0, mX6_has, 0, 2)), (229, (2, mX8_need, 10, 2)), (238, (2, mX2_meaning, 2, 1)), (247, (0, mX6_look, 0, 3)), (251, (2, mX2_constant, 2, 1)), (255, (2, mX13_parameters, 21, 0)), (258, (2, mJ5_length, 13, 0)), (259, (2, mX19_place, 24, 0)), (261, (2, mJ4_append_2, 6, 1)), (264, (2, mJ4_setLength, 6, 1))]
def mT_12 : List (Nat × CI) := [(1, (6, noMt, 0, 0))]
def mT_13 : List (Nat × CI) := [(1, (6, noMt, 0, 0)), (9, (1, mX3_init, 0, 0)), (22, (2, mX2_meaning, 2, 1))]
def mT_14 : List (Nat × CI) := [(1, (6, noMt, 0, 0))]
def mT_15 : List (Nat × CI) := [(1, (6, noMt, 0, 0))]
def mT_16 : List (Nat × CI) := [(3, (6, noMt, 0, 0)), (11, (1, mJ2_init, 0, 0)), (21, (2, mJ2_size, 4, 0)), (25, (2, mJ2_remove, 4, 1)), (31, (2, mX9_seen, 11, 0)), (45, (2, mJ2_add, 4, 1)), (52, (2, mJ2_get, 4, 1)), (55, (2, mJ2_set, 4, 2)), (59, (2, mJ2_clear, 4, 0)), (62, (2, mX7_begin, 9, 1)), (66, (2, mJ2_isEmpty, 4, 0)), (70, (0, mX7_pop, 0, 1)), (74, (0, mX7_push, 0, 2)), (84, (2, mX9_is, 11, 1)), (108, (2, mX7_pair, 9, 2)), (115, (2, mX7_level, 9, 2)), (119, (2, mX7_nodes, 9, 2)), (123, (2, mX7_lies, 9, 2))]
def mT_17 : List (Nat × CI) := [(3, (6, noMt, 0, 0)), (11, (1, mJ4_init, 0, 0)), (23, (1, mJ2_init, 0, 0)), (28, (2, mJ4_setLength, 6, 1)), (32, (2, mJ2_clear, 4, 0)), (35, (2, mJ2_add, 4, 1)), (39, (2, mJ2_isEmpty, 4, 0)), (43, (2, mJ4_length, 6, 0)), (47, (2, mJ2_size, 4, 0)), (50, (2, mJ2_remove, 4, 1)), (56, (2, mX5_one, 7, 1)), (60, (2, mJ4_charAt, 6, 1)), (64, (2, mJ4_append, 6, 1)), (68, (2, mX9_seen, 11, 0)), (76, (3, mJ7_ordinal, 52, 0)), (85, (2, mJ4_append_3, 6, 1)), (96, (0, mX7_push, 0, 2)), (105, (2, mX9_is, 11, 1))]
def mT_18 : List (Nat × CI) := [(7, (2, mX1_declare, 1, 1)), (17, (2, mX1_program, 1, 1)), (20, (2, mX1_lemma, 1, 1)), (24, (2, mX1_retract, 1, 0)), (28, (2, mX1_run, 1, 1)), (31, (1, mX1_init, 0, 0)), (34, (1, mX10_init, 0, 0)), (35, (2, mX1_type, 1, 1)), (39, (2, mX10_type, 25, 1)), (40, (2, mX1_wipe, 1, 0)), (44, (2, mX10_wipe, 25, 0)), (45, (0, mX0_declare, 0, 3)), (50, (2, mX10_declare, 25, 1)), (51, (2, mX10_thrown, 25, 0)), (54, (0, mX0_program, 0, 3)), (56, (2, mX10_program, 25, 1)), (57, (2, mX1_check, 1, 0)), (60, (2, mX10_check, 25, 0)), (61, (0, mX0_lemma, 0, 2)), (64, (2, mX10_lemma, 25, 1)), (65, (0, mX0_retract, 0, 2)), (68, (2, mX10_retract, 25, 0)), (69, (0, mX0_run, 0, 3)), (71, (2, mX10_run, 25, 1)), (72, (2, mX1_steps, 1, 0)), (75, (2, mX10_steps, 25, 0)), (76, (2, mX1_kind, 1, 1)), (79, (2, mX10_kind, 25, 1)), (80, (2, mX1_parameters, 1, 1)), (83, (2, mX10_parameters, 25, 1)), (84, (2, mX1_length, 1, 0)), (87, (2, mX10_length, 25, 0)), (88, (2, mX1_charAt, 1, 1)), (92, (2, mX10_charAt, 25, 1))]
def mT_19 : List (Nat × CI) := [(1, (6, noMt, 0, 0)), (200, (2, mX10_below, 25, 1)), (204, (0, mX10_isVariable, 0, 1)), (208, (0, mX10_isDigit, 0, 1)), (211, (2, mX10_node, 25, 3)), (215, (0, mX10_isLetter, 0, 1)), (218, (2, mX10_push, 25, 3)), (225, (2, mX10_part, 25, 4)), (229, (2, mX10_beginTerm, 25, 3)), (233, (2, mX10_takeDeclared, 25, 5)), (237, (2, mX10_takeCoded, 25, 5)), (240, (2, mX10_beginPart, 25, 3)), (246, (2, mX10_beginCode, 25, 3)), (249, (2, mX10_beginPattern, 25, 2)), (256, (2, mX10_take, 25, 2)), (268, (2, mX10_behind, 25, 1)), (271, (2, mX10_value, 25, 2)), (275, (2, mX10_seen, 25, 1)), (278, (2, mX10_setOut, 25, 1)), (281, (2, mX10_further, 25, 1)), (287, (2, mX10_firstPair, 25, 2)), (290, (2, mX10_isLarge, 25, 1)), (293, (2, mX10_lies, 25, 2)), (296, (2, mX10_isLevel, 25, 2)), (299, (2, mX10_nextPair, 25, 1)), (309, (2, mX10_drawOne, 25, 2)), (335, (2, mX10_child, 25, 2)), (338, (2, mX10_enter, 25, 2)), (342, (2, mX10_give, 25, 1)), (346, (2, mX10_bind, 25, 3)), (349, (2, mX10_compare, 25, 2)), (352, (2, mX10_meaning, 25, 2)), (355, (2, mX10_call, 25, 3)), (358, (2, mX10_add, 25, 3)), (361, (2, mX10_match, 25, 3)), (364, (2, mX10_choose, 25, 3)), (370, (2, mX10_wrong, 25, 1)), (376, (2, mX10_isConditioned, 25, 1)), (379, (2, mX10_valueOf, 25, 2)), (382, (2, mX10_runs, 25, 1)), (385, (2, mX10_makeSame, 25, 2)), (388, (2, mX10_condition, 25, 2)), (391, (2, mX10_settle, 25, 1)), (394, (2, mX10_simple, 25, 1)), (397, (2, mX10_begin, 25, 2)), (400, (2, mX10_goOn, 25, 1)), (403, (2, mX10_suits, 25, 3)), (407, (2, mX10_typeOf, 25, 1)), (410, (2, mX10_nothing, 25, 0)), (413, (2, mX10_noNames, 25, 0)), (416, (2, mX10_isRightCondition, 25, 1)), (419, (2, mX10_isType, 25, 1)), (425, (2, mX10_mayName, 25, 1)), (429, (2, mX10_read, 25, 3)), (432, (2, mX10_isRight, 25, 1)), (435, (2, mX10_remember, 25, 3)), (438, (2, mX10_isBound, 25, 3)), (441, (2, mX10_isRightCode, 25, 3)), (450, (2, mX10_draw, 25, 1)), (459, (2, mX10_show, 25, 1))]
def mT_20 : List (Nat × CI) := [(3, (6, noMt, 0, 0)), (32, (2, mJ5_length, 13, 0)), (40, (2, mJ5_coder, 13, 0)), (83, (2, mJ3_isLatin1, 6, 0)), (100, (2, mJ3_ensureCapacityInternal, 6, 1)), (104, (2, mJ3_newCapacity, 6, 1)), (108, (0, mJ10_copyOf, 0, 2)), (114, (0, mJ8_newLength, 0, 3)), (133, (0, mJ11_fillNull, 0, 3)), (138, (10, noMt, 0, 0)), (144, (0, mJ5_checkIndex, 0, 2)), (191, (0, mJ11_canEncode, 0, 1)), (208, (2, mJ3_putStringAt, 6, 2)), (245, (0, mJ17_stringSize, 0, 1)), (248, (0, mJ17_getChars, 0, 3)), (397, (2, mJ3_inflateIfNeededFor, 6, 1)), (399, (2, mJ5_getBytes, 13, 3))]
def mT_23 : List (Nat × CI) := [(1, (6, noMt, 0, 0))]
def mT_24 : List (Nat × CI) := [(1, (6, noMt, 0, 0)), (54, (0, mJ10_copyOfRange, 0, 3)), (106, (0, mJ11_inflate, 0, 5)), (212, (7, noMt, 0, 0)), (335, (2, mJ5_coder, 13, 0)), (489, (1, mJ5_init_2, 0, 2)), (492, (2, mJ5_isLatin1, 13, 0)), (495, (0, mJ11_charAt, 0, 2)), (549, (3, mJ4_length, 6, 0)), (552, (2, mJ3_getValue, 6, 0)), (1047, (2, mJ3_isLatin1, 6, 0)), (1059, (0, mJ12_checkIndex, 0, 3))]
def mT_25 : List (Nat × CI) := [(1, (1, mJ3_init, 0, 1)), (29, (4, mJ3_append_2, 6, 1)), (50, (4, mJ3_append, 6, 1)), (53, (4, mJ3_append_3, 6, 1)), (137, (1, mJ5_init, 0, 1)), (329, (4, mJ3_charAt, 6, 1)), (333, (4, mJ3_setLength, 6, 1)), (343, (4, mJ3_length, 6, 0))]
def mT_26 : List (Nat × CI) := [(9, (0, mJ5_checkIndex, 0, 2)), (236, (0, mJ10_fill, 0, 4))]
def mT_27 : List (Nat × CI) := [(1, (6, noMt, 0, 0))]
def mT_28 : List (Nat × CI) := [(1, (1, mJ0_init, 0, 0))]
def mT_29 : List (Nat × CI) := [(1, (1, mJ1_init, 0, 0)), (66, (0, mJ10_copyOf_2, 0, 2)), (69, (2, mJ2_grow_2, 4, 1)), (73, (0, mJ8_newLength, 0, 3)), (79, (9, noMt, 0, 0)), (112, (7, noMt, 0, 0)), (118, (0, mJ20_checkIndex, 0, 2)), (123, (2, mJ2_elementData, 4, 1)), (129, (2, mJ2_grow, 4, 0)), (131, (2, mJ2_add_2, 4, 3)), (144, (2, mJ2_fastRemove, 4, 2))]
def mT_30 : List (Nat × CI) := [(47, (1, mJ4_init, 0, 0)), (50, (2, mJ4_append_2, 6, 1)), (54, (2, mJ4_append_3, 6, 1)), (61, (2, mJ4_toString, 6, 0)), (86, (8, noMt, 0, 0)), (150, (7, noMt, 0, 0)), (300, (0, mJ10_copyOf_3, 0, 3)), (304, (10, noMt, 0, 0)), (339, (0, mJ10_copyOfRangeByte, 0, 3)), (343, (0, mJ10_checkLength, 0, 2))]
def mT_31 : List (Nat × CI) := [(105, (0, mJ12_checkIndex, 0, 3))]
def mT_32 : List (Nat × CI) := [(194, (9, noMt, 0, 0))]
def mT (o n : Nat) : Option CI := match o with
  | 0 => lk n mT_0
  | 1 => lk n mT_1
  | 2 => lk n mT_2
  | 3 => lk n mT_3
  | 4 => lk n mT_4
  | 5 => lk n mT_5
  | 6 => lk n mT_6
  | 7 => lk n mT_7
  | 8 => lk n mT_8
  | 9 => lk n mT_9
  | 10 => lk n mT_10
  | 11 => lk n mT_11
  | 12 => lk n mT_12
  | 13 => lk n mT_13
  | 14 => lk n mT_14
  | 15 => lk n mT_15
  | 16 => lk n mT_16
  | 17 => lk n mT_17
  | 18 => lk n mT_18
  | 19 => lk n mT_19
  | 20 => lk n mT_20
  | 23 => lk n mT_23
  | 24 => lk n mT_24
  | 25 => lk n mT_25
  | 26 => lk n mT_26
  | 27 => lk n mT_27
  | 28 => lk n mT_28
  | 29 => lk n mT_29
  | 30 => lk n mT_30
  | 31 => lk n mT_31
  | 32 => lk n mT_32
  | _ => none
set_option maxRecDepth 100000 in
theorem mT_0_ok : ∀ q ∈ mT_0, ciOK (clsS 0) q.1 q.2 := by
  refine List.forall_mem_cons.mpr ⟨⟨fun _ => by decide +kernel, ⟨"ConditionedProofs$Value", ⟨(lw_g (lw_at lw_m6 80 rfl) rfl), (lw_g (lw_at lw_m5 174 rfl) rfl), Or.inl (lw_g (lw_at lw_m5 175 rfl) rfl), gX9_seen⟩, Or.inl ⟨10, (RX9, TX9, 5, tyX9, 5), rfl, rfl, rfl⟩, Or.inl (lw_g (lw_at lw_m5 175 rfl) rfl)⟩⟩, ?_⟩
  refine List.forall_mem_cons.mpr ⟨⟨fun _ => by decide +kernel, ⟨"ConditionedProofs$Value", ⟨(lw_g (lw_at lw_m6 82 rfl) rfl), (lw_g (lw_at lw_m4 178 rfl) rfl), Or.inl (lw_g (lw_at lw_m4 179 rfl) rfl), gX9_is⟩, Or.inl ⟨10, (RX9, TX9, 5, tyX9, 5), rfl, rfl, rfl⟩, Or.inl (lw_g (lw_at lw_m4 179 rfl) rfl)⟩⟩, ?_⟩
  refine List.forall_mem_cons.mpr ⟨⟨fun _ => by decide +kernel, ⟨"ConditionedProofs$Heap", ⟨(lw_g (lw_at lw_m6 83 rfl) rfl), (lw_g (lw_at lw_m5 73 rfl) rfl), Or.inl (lw_g (lw_at lw_m5 74 rfl) rfl), gX3_make⟩, Or.inl ⟨2, (RX3, TX3, 6, tyX3, 6), rfl, rfl, rfl⟩, Or.inl (lw_g (lw_at lw_m5 74 rfl) rfl)⟩⟩, ?_⟩
  refine List.forall_mem_cons.mpr ⟨⟨fun _ => by decide +kernel, ⟨Or.inl (lw_g (lw_at lw_m6 77 rfl) rfl), (lw_g (lw_at lw_m6 78 rfl) rfl), gX1_copy⟩⟩, ?_⟩
  refine List.forall_mem_cons.mpr ⟨⟨fun _ => by decide +kernel, ⟨"ConditionedProofs$Heap", ⟨(lw_g (lw_at lw_m6 84 rfl) rfl), (lw_g (lw_at lw_m5 41 rfl) rfl), Or.inl (lw_g (lw_at lw_m5 42 rfl) rfl), gX3_append⟩, Or.inl ⟨2, (RX3, TX3, 6, tyX3, 6), rfl, rfl, rfl⟩, Or.inl (lw_g (lw_at lw_m5 42 rfl) rfl)⟩⟩, ?_⟩
  refine List.forall_mem_cons.mpr ⟨⟨fun _ => by decide +kernel, ⟨"ConditionedProofs$Heap", ⟨(lw_g (lw_at lw_m6 85 rfl) rfl), (lw_g (lw_at lw_m5 67 rfl) rfl), Or.inl (lw_g (lw_at lw_m5 68 rfl) rfl), gX3_made⟩, Or.inl ⟨2, (RX3, TX3, 6, tyX3, 6), rfl, rfl, rfl⟩, Or.inl (lw_g (lw_at lw_m5 68 rfl) rfl)⟩⟩, ?_⟩
  refine List.forall_mem_cons.mpr ⟨⟨fun h => absurd h (by decide), (lw_g (lw_at lw_m1 51 rfl) rfl)⟩, ?_⟩
  refine List.forall_mem_cons.mpr ⟨⟨fun _ => by decide +kernel, ⟨Or.inr ⟨"ConditionedProofs", (lw_at lw_m1 56 rfl)⟩, rfl, (lw_g (lw_at lw_m1 57 rfl) rfl), (lw_g (lw_at lw_m1 58 rfl) rfl), gX2_init⟩⟩, ?_⟩
  refine List.forall_mem_cons.mpr ⟨⟨fun _ => by decide +kernel, ⟨Or.inr ⟨"ConditionedProofs", (lw_at lw_m1 126 rfl)⟩, rfl, (lw_g (lw_at lw_m1 127 rfl) rfl), (lw_g (lw_at lw_m1 128 rfl) rfl), gX4_init⟩⟩, ?_⟩
  refine List.forall_mem_cons.mpr ⟨⟨fun _ => by decide +kernel, ⟨Or.inr ⟨"ConditionedProofs", (lw_at lw_m1 191 rfl)⟩, rfl, (lw_g (lw_at lw_m1 192 rfl) rfl), (lw_g (lw_at lw_m1 193 rfl) rfl), gX5_init⟩⟩, ?_⟩
  refine List.forall_mem_cons.mpr ⟨⟨fun _ => by decide +kernel, ⟨Or.inl (lw_g (lw_at lw_m1 212 rfl) rfl), rfl, (lw_g (lw_at lw_m1 213 rfl) rfl), (lw_g (lw_at lw_m1 214 rfl) rfl), gX6_init⟩⟩, ?_⟩
  refine List.forall_mem_cons.mpr ⟨⟨fun _ => by decide +kernel, ⟨Or.inl (lw_g (lw_at lw_m2 8 rfl) rfl), rfl, (lw_g (lw_at lw_m2 9 rfl) rfl), (lw_g (lw_at lw_m2 10 rfl) rfl), gX8_init⟩⟩, ?_⟩
  refine List.forall_mem_cons.mpr ⟨⟨fun _ => by decide +kernel, ⟨Or.inr ⟨"ConditionedProofs", (lw_at lw_m2 91 rfl)⟩, rfl, (lw_g (lw_at lw_m1 63 rfl) rfl), (lw_g (lw_at lw_m1 64 rfl) rfl), gX3_init⟩⟩, ?_⟩
  refine List.forall_mem_cons.mpr ⟨⟨fun _ => by decide +kernel, ⟨Or.inl (lw_g (lw_at lw_m2 93 rfl) rfl), rfl, (lw_g (lw_at lw_m1 133 rfl) rfl), (lw_g (lw_at lw_m1 134 rfl) rfl), gJ4_init⟩⟩, ?_⟩
  refine List.forall_mem_cons.mpr ⟨⟨fun _ => by decide +kernel, ⟨"java/lang/StringBuilder", ⟨(lw_g (lw_at lw_m2 123 rfl) rfl), (lw_g (lw_at lw_m2 124 rfl) rfl), Or.inl (lw_g (lw_at lw_m2 125 rfl) rfl), gJ4_length⟩, Or.inl ⟨5, (RJ4, TJ4, 4, tyJ4, 4), rfl, rfl, rfl⟩, Or.inl (lw_g (lw_at lw_m2 125 rfl) rfl)⟩⟩, ?_⟩
  refine List.forall_mem_cons.mpr ⟨⟨fun _ => by decide +kernel, ⟨"java/lang/StringBuilder", ⟨(lw_g (lw_at lw_m2 130 rfl) rfl), (lw_g (lw_at lw_m2 131 rfl) rfl), Or.inl (lw_g (lw_at lw_m2 132 rfl) rfl), gJ4_append⟩, Or.inl ⟨5, (RJ4, TJ4, 4, tyJ4, 4), rfl, rfl, rfl⟩, Or.inl (lw_g (lw_at lw_m2 132 rfl) rfl)⟩⟩, ?_⟩
  refine List.forall_mem_cons.mpr ⟨⟨fun _ => by decide +kernel, ⟨"java/lang/StringBuilder", ⟨(lw_g (lw_at lw_m2 229 rfl) rfl), (lw_g (lw_at lw_m2 230 rfl) rfl), Or.inl (lw_g (lw_at lw_m2 231 rfl) rfl), gJ4_setLength⟩, Or.inl ⟨5, (RJ4, TJ4, 4, tyJ4, 4), rfl, rfl, rfl⟩, Or.inl (lw_g (lw_at lw_m2 231 rfl) rfl)⟩⟩, ?_⟩
  refine List.forall_mem_cons.mpr ⟨⟨fun _ => by decide +kernel, ⟨"ConditionedProofs$Store", ⟨(lw_g (lw_at lw_m6 94 rfl) rfl), (lw_g (lw_at lw_m4 220 rfl) rfl), Or.inl (lw_g (lw_at lw_m4 221 rfl) rfl), gX2_meaning⟩, Or.inl ⟨1, (RX2, TX2, 2, tyX2, 2), rfl, rfl, rfl⟩, Or.inl (lw_g (lw_at lw_m4 221 rfl) rfl)⟩⟩, ?_⟩
  refine List.forall_mem_cons.mpr ⟨⟨fun _ => by decide +kernel, ⟨"ConditionedProofs", ⟨(lw_g (lw_at lw_m6 146 rfl) rfl), (lw_g (lw_at lw_m6 148 rfl) rfl), Or.inl qs21, gX1_mustBeFree⟩, Or.inl ⟨0, (RX1, TX1, 8, tyX1, 8), rfl, rfl, rfl⟩, Or.inl qs21⟩⟩, ?_⟩
  refine List.forall_mem_cons.mpr ⟨⟨fun _ => by decide +kernel, ⟨"ConditionedProofs$Reader", ⟨(lw_g (lw_at lw_m3 216 rfl) rfl), (lw_g (lw_at lw_m3 217 rfl) rfl), Or.inl (lw_g (lw_at lw_m3 218 rfl) rfl), gX4_begin⟩, Or.inl ⟨4, (RX4, TX4, 7, tyX4, 7), rfl, rfl, rfl⟩, Or.inl (lw_g (lw_at lw_m3 218 rfl) rfl)⟩⟩, ?_⟩
  refine List.forall_mem_cons.mpr ⟨⟨fun _ => by decide +kernel, ⟨"ConditionedProofs$Reader", ⟨(lw_g (lw_at lw_m6 152 rfl) rfl), (lw_g (lw_at lw_m6 153 rfl) rfl), Or.inl (lw_g (lw_at lw_m6 154 rfl) rfl), gX4_declaration⟩, Or.inl ⟨4, (RX4, TX4, 7, tyX4, 7), rfl, rfl, rfl⟩, Or.inl (lw_g (lw_at lw_m6 154 rfl) rfl)⟩⟩, ?_⟩
  refine List.forall_mem_cons.mpr ⟨⟨fun _ => by decide +kernel, ⟨"ConditionedProofs", ⟨(lw_g (lw_at lw_m4 164 rfl) rfl), (lw_g (lw_at lw_m4 166 rfl) rfl), Or.inl qs12, gX1_fault⟩, Or.inl ⟨0, (RX1, TX1, 8, tyX1, 8), rfl, rfl, rfl⟩, Or.inl qs12⟩⟩, ?_⟩
  refine List.forall_mem_cons.mpr ⟨⟨fun _ => by decide +kernel, ⟨"ConditionedProofs$Heap", ⟨(lw_g (lw_at lw_m3 220 rfl) rfl), (lw_g (lw_at lw_m3 221 rfl) rfl), Or.inl (lw_g (lw_at lw_m3 222 rfl) rfl), gX3_clear⟩, Or.inl ⟨2, (RX3, TX3, 6, tyX3, 6), rfl, rfl, rfl⟩, Or.inl (lw_g (lw_at lw_m3 222 rfl) rfl)⟩⟩, ?_⟩
  refine List.forall_mem_cons.mpr ⟨⟨fun _ => by decide +kernel, ⟨"ConditionedProofs$Checker", ⟨(lw_g (lw_at lw_m6 209 rfl) rfl), (lw_g (lw_at lw_m6 210 rfl) rfl), Or.inl (lw_g (lw_at lw_m6 211 rfl) rfl), gX8_look⟩, Or.inl ⟨9, (RX8, TX8, 8, tyX8, 8), rfl, rfl, rfl⟩, Or.inl (lw_g (lw_at lw_m6 211 rfl) rfl)⟩⟩, ?_⟩
  refine List.forall_mem_cons.mpr ⟨⟨fun _ => by decide +kernel, ⟨"ConditionedProofs", ⟨(lw_g (lw_at lw_m6 219 rfl) rfl), (lw_g (lw_at lw_m6 221 rfl) rfl), Or.inl qs23, gX1_keep⟩, Or.inl ⟨0, (RX1, TX1, 8, tyX1, 8), rfl, rfl, rfl⟩, Or.inl qs23⟩⟩, ?_⟩
  refine List.forall_mem_cons.mpr ⟨⟨fun _ => by decide +kernel, ⟨"ConditionedProofs$Reader", ⟨(lw_g (lw_at lw_m6 230 rfl) rfl), (lw_g (lw_at lw_m6 231 rfl) rfl), Or.inl (lw_g (lw_at lw_m6 232 rfl) rfl), gX4_program⟩, Or.inl ⟨4, (RX4, TX4, 7, tyX4, 7), rfl, rfl, rfl⟩, Or.inl (lw_g (lw_at lw_m6 232 rfl) rfl)⟩⟩, ?_⟩
  refine List.forall_mem_cons.mpr ⟨⟨fun _ => by decide +kernel, ⟨"java/lang/StringBuilder", ⟨(lw_g (lw_at lw_m7 110 rfl) rfl), (lw_g (lw_at lw_m3 50 rfl) rfl), Or.inl (lw_g (lw_at lw_m3 51 rfl) rfl), gJ4_append_2⟩, Or.inl ⟨5, (RJ4, TJ4, 4, tyJ4, 4), rfl, rfl, rfl⟩, Or.inl (lw_g (lw_at lw_m3 51 rfl) rfl)⟩⟩, ?_⟩
  refine List.forall_mem_cons.mpr ⟨⟨fun _ => by decide +kernel, ⟨Or.inr ⟨"ConditionedProofs", (lw_at lw_m7 111 rfl)⟩, (lw_g (lw_at lw_m7 112 rfl) rfl), gX6_look⟩⟩, ?_⟩
  refine List.forall_mem_cons.mpr ⟨⟨fun _ => by decide +kernel, ⟨"ConditionedProofs$Walk", ⟨(lw_g (lw_at lw_m7 142 rfl) rfl), (lw_g (lw_at lw_m6 13 rfl) rfl), Or.inl (lw_g (lw_at lw_m6 14 rfl) rfl), gX7_lies⟩, Or.inl ⟨8, (RX7, TX7, 2, tyX7, 2), rfl, rfl, rfl⟩, Or.inl (lw_g (lw_at lw_m6 14 rfl) rfl)⟩⟩, ?_⟩
  refine List.forall_mem_cons.mpr ⟨⟨fun _ => by decide +kernel, ⟨Or.inl (lw_g (lw_at lw_m7 145 rfl) rfl), rfl, (lw_g (lw_at lw_m1 69 rfl) rfl), (lw_g (lw_at lw_m1 70 rfl) rfl), gJ2_init⟩⟩, ?_⟩
  refine List.forall_mem_cons.mpr ⟨⟨fun _ => by decide +kernel, ⟨Or.inl (lw_g (lw_at lw_m7 146 rfl) rfl), rfl, (lw_g (lw_at lw_m6 186 rfl) rfl), (lw_g (lw_at lw_m6 187 rfl) rfl), gX13_init⟩⟩, ?_⟩
  refine List.forall_mem_cons.mpr ⟨⟨fun _ => by decide +kernel, ⟨"java/lang/StringBuilder", ⟨(lw_g (lw_at lw_m6 136 rfl) rfl), (lw_g (lw_at lw_m4 1 rfl) rfl), Or.inl (lw_g (lw_at lw_m4 2 rfl) rfl), gJ4_charAt⟩, Or.inl ⟨5, (RJ4, TJ4, 4, tyJ4, 4), rfl, rfl, rfl⟩, Or.inl (lw_g (lw_at lw_m4 2 rfl) rfl)⟩⟩, ?_⟩
  refine List.forall_mem_cons.mpr ⟨⟨fun _ => by decide +kernel, ⟨"ConditionedProofs", ⟨(lw_g (lw_at lw_m3 212 rfl) rfl), (lw_g (lw_at lw_m3 214 rfl) rfl), Or.inl qs1, gX1_begin⟩, Or.inl ⟨0, (RX1, TX1, 8, tyX1, 8), rfl, rfl, rfl⟩, Or.inl qs1⟩⟩, ?_⟩
  refine List.forall_mem_cons.mpr ⟨⟨fun _ => by decide +kernel, ⟨"ConditionedProofs$Reader", ⟨(lw_g (lw_at lw_m3 224 rfl) rfl), (lw_g (lw_at lw_m3 225 rfl) rfl), Or.inl (lw_g (lw_at lw_m3 226 rfl) rfl), gX4_row⟩, Or.inl ⟨4, (RX4, TX4, 7, tyX4, 7), rfl, rfl, rfl⟩, Or.inl (lw_g (lw_at lw_m3 226 rfl) rfl)⟩⟩, ?_⟩
  refine List.forall_mem_cons.mpr ⟨⟨fun _ => by decide +kernel, ⟨"java/util/ArrayList", ⟨(lw_g (lw_at lw_m4 151 rfl) rfl), (lw_g (lw_at lw_m4 152 rfl) rfl), Or.inl (lw_g (lw_at lw_m4 153 rfl) rfl), gJ2_get⟩, Or.inl ⟨3, (RJ2, TJ2, 3, tyJ2, 3), rfl, rfl, rfl⟩, Or.inl (lw_g (lw_at lw_m4 153 rfl) rfl)⟩⟩, ?_⟩
  refine List.forall_mem_cons.mpr ⟨⟨fun _ => by decide +kernel, ⟨Or.inr ⟨"ConditionedProofs", (lw_at lw_m4 168 rfl)⟩, (lw_g (lw_at lw_m4 169 rfl) rfl), gX8_type⟩⟩, ?_⟩
  refine List.forall_mem_cons.mpr ⟨⟨fun _ => by decide +kernel, ⟨"ConditionedProofs$Writer", ⟨(lw_g (lw_at lw_m6 50 rfl) rfl), (lw_g (lw_at lw_m6 51 rfl) rfl), Or.inl (lw_g (lw_at lw_m6 52 rfl) rfl), gX5_write⟩, Or.inl ⟨6, (RX5, TX5, 3, tyX5, 3), rfl, rfl, rfl⟩, Or.inl (lw_g (lw_at lw_m6 52 rfl) rfl)⟩⟩, ?_⟩
  refine List.forall_mem_cons.mpr ⟨⟨fun _ => by decide +kernel, ⟨"ConditionedProofs$Store", ⟨(lw_g (lw_at lw_m7 162 rfl) rfl), (lw_g (lw_at lw_m5 9 rfl) rfl), Or.inl (lw_g (lw_at lw_m5 10 rfl) rfl), gX2_programOf⟩, Or.inl ⟨1, (RX2, TX2, 2, tyX2, 2), rfl, rfl, rfl⟩, Or.inl (lw_g (lw_at lw_m5 10 rfl) rfl)⟩⟩, ?_⟩
  refine List.forall_mem_cons.mpr ⟨⟨fun _ => by decide +kernel, ⟨"java/util/ArrayList", ⟨(lw_g (lw_at lw_m7 163 rfl) rfl), (lw_g (lw_at lw_m4 144 rfl) rfl), Or.inl (lw_g (lw_at lw_m4 145 rfl) rfl), gJ2_size⟩, Or.inl ⟨3, (RJ2, TJ2, 3, tyJ2, 3), rfl, rfl, rfl⟩, Or.inl (lw_g (lw_at lw_m4 145 rfl) rfl)⟩⟩, ?_⟩
  refine List.forall_mem_cons.mpr ⟨⟨fun _ => by decide +kernel, ⟨"ConditionedProofs$Program", ⟨(lw_g (lw_at lw_m7 164 rfl) rfl), (lw_g (lw_at lw_m6 124 rfl) rfl), Or.inl (lw_g (lw_at lw_m10 21 rfl) rfl), gX17_parameters⟩, Or.inl ⟨21, (RX17, TX17, 2, tyX17, 2), rfl, rfl, rfl⟩, Or.inl (lw_g (lw_at lw_m10 21 rfl) rfl)⟩⟩, ?_⟩
  refine List.forall_mem_cons.mpr ⟨⟨fun _ => by decide +kernel, ⟨"ConditionedProofs$Checker", ⟨(lw_g (lw_at lw_m7 165 rfl) rfl), (lw_g (lw_at lw_m7 166 rfl) rfl), Or.inl (lw_g (lw_at lw_m7 167 rfl) rfl), gX8_scope⟩, Or.inl ⟨9, (RX8, TX8, 8, tyX8, 8), rfl, rfl, rfl⟩, Or.inl (lw_g (lw_at lw_m7 167 rfl) rfl)⟩⟩, ?_⟩
  refine List.forall_mem_cons.mpr ⟨⟨fun _ => by decide +kernel, ⟨"ConditionedProofs$Runner", ⟨(lw_g (lw_at lw_m7 169 rfl) rfl), (lw_g (lw_at lw_m5 102 rfl) rfl), Or.inl (lw_g (lw_at lw_m5 103 rfl) rfl), gX6_start⟩, Or.inl ⟨7, (RX6, TX6, 4, tyX6, 4), rfl, rfl, rfl⟩, Or.inl (lw_g (lw_at lw_m5 103 rfl) rfl)⟩⟩, ?_⟩
  exact fun q h => absurd h List.not_mem_nil
set_option maxRecDepth 100000 in
theorem mT_1_ok : ∀ q ∈ mT_1, ciOK (clsS 1) q.1 q.2 := by
  refine List.forall_mem_cons.mpr ⟨⟨fun _ => by decide +kernel, ⟨Or.inl (lw_g (lw_at lw_m7 68 rfl) rfl), rfl, (lw_g (lw_at lw_m6 34 rfl) rfl), (lw_g (lw_at lw_m6 35 rfl) rfl), gJ19_init⟩⟩, ?_⟩
  refine List.forall_mem_cons.mpr ⟨⟨fun _ => by decide +kernel, ⟨"ConditionedProofs$Value", ⟨(lw_g (lw_at lw_m5 197 rfl) rfl), (lw_g (lw_at lw_m4 178 rfl) rfl), Or.inl (lw_g (lw_at lw_m4 179 rfl) rfl), gX9_is⟩, Or.inl ⟨10, (RX9, TX9, 5, tyX9, 5), rfl, rfl, rfl⟩, Or.inl (lw_g (lw_at lw_m4 179 rfl) rfl)⟩⟩, ?_⟩
  exact fun q h => absurd h List.not_mem_nil
set_option maxRecDepth 100000 in
theorem mT_2_ok : ∀ q ∈ mT_2, ciOK (clsS 2) q.1 q.2 := by
  refine List.forall_mem_cons.mpr ⟨⟨fun h => absurd h (by decide), (lw_g (lw_at lw_m2 11 rfl) rfl)⟩, ?_⟩
  refine List.forall_mem_cons.mpr ⟨⟨fun _ => by decide +kernel, ⟨Or.inr ⟨"ConditionedProofs", (lw_at lw_m2 13 rfl)⟩, rfl, (lw_g (lw_at lw_m1 219 rfl) rfl), (lw_g (lw_at lw_m1 220 rfl) rfl), gX7_init⟩⟩, ?_⟩
  refine List.forall_mem_cons.mpr ⟨⟨fun _ => by decide +kernel, ⟨Or.inr ⟨"ConditionedProofs", (lw_at lw_m2 16 rfl)⟩, rfl, (lw_g (lw_at lw_m2 17 rfl) rfl), (lw_g (lw_at lw_m2 18 rfl) rfl), gX9_init⟩⟩, ?_⟩
  refine List.forall_mem_cons.mpr ⟨⟨fun _ => by decide +kernel, ⟨"ConditionedProofs$Named", ⟨(lw_g (lw_at lw_m4 184 rfl) rfl), (lw_g (lw_at lw_m4 185 rfl) rfl), Or.inl (lw_g (lw_at lw_m4 186 rfl) rfl), gX16_name⟩, Or.inl ⟨18, (RX16, TX16, 4, tyX16, 4), rfl, rfl, rfl⟩, Or.inl (lw_g (lw_at lw_m4 186 rfl) rfl)⟩⟩, ?_⟩
  refine List.forall_mem_cons.mpr ⟨⟨fun _ => by decide +kernel, ⟨"ConditionedProofs$Named", ⟨(lw_g (lw_at lw_m4 188 rfl) rfl), (lw_g (lw_at lw_m4 189 rfl) rfl), Or.inl (lw_g (lw_at lw_m4 190 rfl) rfl), gX16_outer⟩, Or.inl ⟨18, (RX16, TX16, 4, tyX16, 4), rfl, rfl, rfl⟩, Or.inl (lw_g (lw_at lw_m4 190 rfl) rfl)⟩⟩, ?_⟩
  refine List.forall_mem_cons.mpr ⟨⟨fun _ => by decide +kernel, ⟨(⟨"ConditionedProofs$Form", "ordinal", "()I"⟩ : MethodName), "java/lang/Enum", "ConditionedProofs$Form", ⟨(lw_g (lw_at lw_m4 171 rfl) rfl), (lw_g (lw_at lw_m4 172 rfl) rfl), (lw_g (lw_at lw_m4 175 rfl) rfl), ⟨_, _, _, (lw_g (lw_at lw_m4 176 rfl) rfl)⟩, ⟨by decide, by decide⟩, (lw_g (lw_at lw_m4 174 rfl) rfl), (lw_g (lw_at lw_m4 175 rfl) rfl), rfl, gJ7_ordinal⟩, Or.inr ⟨1, by decide, rfl, rfl⟩⟩⟩, ?_⟩
  refine List.forall_mem_cons.mpr ⟨⟨fun _ => by decide +kernel, ⟨Or.inl (lw_g (lw_at lw_m4 181 rfl) rfl), (lw_g (lw_at lw_m4 182 rfl) rfl), gX8_find⟩⟩, ?_⟩
  refine List.forall_mem_cons.mpr ⟨⟨fun _ => by decide +kernel, ⟨"ConditionedProofs$Named", ⟨(lw_g (lw_at lw_m5 36 rfl) rfl), (lw_g (lw_at lw_m5 37 rfl) rfl), Or.inl (lw_g (lw_at lw_m5 38 rfl) rfl), gX16_value⟩, Or.inl ⟨18, (RX16, TX16, 4, tyX16, 4), rfl, rfl, rfl⟩, Or.inl (lw_g (lw_at lw_m5 38 rfl) rfl)⟩⟩, ?_⟩
  refine List.forall_mem_cons.mpr ⟨⟨fun _ => by decide +kernel, ⟨"java/util/ArrayList", ⟨(lw_g (lw_at lw_m4 229 rfl) rfl), (lw_g (lw_at lw_m4 144 rfl) rfl), Or.inl (lw_g (lw_at lw_m4 145 rfl) rfl), gJ2_size⟩, Or.inl ⟨3, (RJ2, TJ2, 3, tyJ2, 3), rfl, rfl, rfl⟩, Or.inl (lw_g (lw_at lw_m4 145 rfl) rfl)⟩⟩, ?_⟩
  refine List.forall_mem_cons.mpr ⟨⟨fun _ => by decide +kernel, ⟨"java/util/ArrayList", ⟨(lw_g (lw_at lw_m4 233 rfl) rfl), (lw_g (lw_at lw_m4 152 rfl) rfl), Or.inl (lw_g (lw_at lw_m4 153 rfl) rfl), gJ2_get⟩, Or.inl ⟨3, (RJ2, TJ2, 3, tyJ2, 3), rfl, rfl, rfl⟩, Or.inl (lw_g (lw_at lw_m4 153 rfl) rfl)⟩⟩, ?_⟩
  refine List.forall_mem_cons.mpr ⟨⟨fun _ => by decide +kernel, ⟨Or.inl (lw_g (lw_at lw_m5 33 rfl) rfl), (lw_g (lw_at lw_m5 34 rfl) rfl), gX8_value⟩⟩, ?_⟩
  refine List.forall_mem_cons.mpr ⟨⟨fun _ => by decide +kernel, ⟨"ConditionedProofs$Heap", ⟨(lw_g (lw_at lw_m5 40 rfl) rfl), (lw_g (lw_at lw_m5 41 rfl) rfl), Or.inl (lw_g (lw_at lw_m5 42 rfl) rfl), gX3_append⟩, Or.inl ⟨2, (RX3, TX3, 6, tyX3, 6), rfl, rfl, rfl⟩, Or.inl (lw_g (lw_at lw_m5 42 rfl) rfl)⟩⟩, ?_⟩
  refine List.forall_mem_cons.mpr ⟨⟨fun _ => by decide +kernel, ⟨"ConditionedProofs$Heap", ⟨(lw_g (lw_at lw_m5 66 rfl) rfl), (lw_g (lw_at lw_m5 67 rfl) rfl), Or.inl (lw_g (lw_at lw_m5 68 rfl) rfl), gX3_made⟩, Or.inl ⟨2, (RX3, TX3, 6, tyX3, 6), rfl, rfl, rfl⟩, Or.inl (lw_g (lw_at lw_m5 68 rfl) rfl)⟩⟩, ?_⟩
  refine List.forall_mem_cons.mpr ⟨⟨fun _ => by decide +kernel, ⟨"ConditionedProofs$Value", ⟨(lw_g (lw_at lw_m4 177 rfl) rfl), (lw_g (lw_at lw_m4 178 rfl) rfl), Or.inl (lw_g (lw_at lw_m4 179 rfl) rfl), gX9_is⟩, Or.inl ⟨10, (RX9, TX9, 5, tyX9, 5), rfl, rfl, rfl⟩, Or.inl (lw_g (lw_at lw_m4 179 rfl) rfl)⟩⟩, ?_⟩
  refine List.forall_mem_cons.mpr ⟨⟨fun _ => by decide +kernel, ⟨"ConditionedProofs$Checker", ⟨(lw_g (lw_at lw_m4 192 rfl) rfl), (lw_g (lw_at lw_m4 193 rfl) rfl), Or.inl (lw_g (lw_at lw_m4 194 rfl) rfl), gX8_need⟩, Or.inl ⟨9, (RX8, TX8, 8, tyX8, 8), rfl, rfl, rfl⟩, Or.inl (lw_g (lw_at lw_m4 194 rfl) rfl)⟩⟩, ?_⟩
  refine List.forall_mem_cons.mpr ⟨⟨fun _ => by decide +kernel, ⟨"ConditionedProofs$Named", ⟨(lw_g (lw_at lw_m4 211 rfl) rfl), (lw_g (lw_at lw_m4 212 rfl) rfl), Or.inl (lw_g (lw_at lw_m4 213 rfl) rfl), gX16_type⟩, Or.inl ⟨18, (RX16, TX16, 4, tyX16, 4), rfl, rfl, rfl⟩, Or.inl (lw_g (lw_at lw_m4 213 rfl) rfl)⟩⟩, ?_⟩
  refine List.forall_mem_cons.mpr ⟨⟨fun _ => by decide +kernel, ⟨"ConditionedProofs$Store", ⟨(lw_g (lw_at lw_m4 215 rfl) rfl), (lw_g (lw_at lw_m4 216 rfl) rfl), Or.inl (lw_g (lw_at lw_m4 217 rfl) rfl), gX2_constant⟩, Or.inl ⟨1, (RX2, TX2, 2, tyX2, 2), rfl, rfl, rfl⟩, Or.inl (lw_g (lw_at lw_m4 217 rfl) rfl)⟩⟩, ?_⟩
  refine List.forall_mem_cons.mpr ⟨⟨fun _ => by decide +kernel, ⟨"ConditionedProofs$Constant", ⟨(lw_g (lw_at lw_m4 224 rfl) rfl), (lw_g (lw_at lw_m4 225 rfl) rfl), Or.inl (lw_g (lw_at lw_m4 226 rfl) rfl), gX13_parameters⟩, Or.inl ⟨20, (RX13, TX13, 4, tyX13, 4), rfl, rfl, rfl⟩, Or.inl (lw_g (lw_at lw_m4 226 rfl) rfl)⟩⟩, ?_⟩
  refine List.forall_mem_cons.mpr ⟨⟨fun _ => by decide +kernel, ⟨Or.inl (lw_g (lw_at lw_m4 230 rfl) rfl), (lw_g (lw_at lw_m4 231 rfl) rfl), gX8_ofConstant⟩⟩, ?_⟩
  refine List.forall_mem_cons.mpr ⟨⟨fun _ => by decide +kernel, ⟨"ConditionedProofs$Part", ⟨(lw_g (lw_at lw_m4 235 rfl) rfl), (lw_g (lw_at lw_m4 236 rfl) rfl), Or.inl (lw_g (lw_at lw_m4 237 rfl) rfl), gX12_condition⟩, Or.inl ⟨19, (RX12, TX12, 5, tyX12, 5), rfl, rfl, rfl⟩, Or.inl (lw_g (lw_at lw_m4 237 rfl) rfl)⟩⟩, ?_⟩
  refine List.forall_mem_cons.mpr ⟨⟨fun _ => by decide +kernel, ⟨"ConditionedProofs$Checker", ⟨(lw_g (lw_at lw_m4 239 rfl) rfl), (lw_g (lw_at lw_m5 1 rfl) rfl), Or.inl qs13, gX8_meet⟩, Or.inl ⟨9, (RX8, TX8, 8, tyX8, 8), rfl, rfl, rfl⟩, Or.inl qs13⟩⟩, ?_⟩
  refine List.forall_mem_cons.mpr ⟨⟨fun _ => by decide +kernel, ⟨"ConditionedProofs$Part", ⟨(lw_g (lw_at lw_m6 16 rfl) rfl), (lw_g (lw_at lw_m6 17 rfl) rfl), Or.inl (lw_g (lw_at lw_m6 18 rfl) rfl), gX12_type⟩, Or.inl ⟨19, (RX12, TX12, 5, tyX12, 5), rfl, rfl, rfl⟩, Or.inl (lw_g (lw_at lw_m6 18 rfl) rfl)⟩⟩, ?_⟩
  refine List.forall_mem_cons.mpr ⟨⟨fun _ => by decide +kernel, ⟨"ConditionedProofs$Heap", ⟨(lw_g (lw_at lw_m6 22 rfl) rfl), (lw_g (lw_at lw_m5 73 rfl) rfl), Or.inl (lw_g (lw_at lw_m5 74 rfl) rfl), gX3_make⟩, Or.inl ⟨2, (RX3, TX3, 6, tyX3, 6), rfl, rfl, rfl⟩, Or.inl (lw_g (lw_at lw_m5 74 rfl) rfl)⟩⟩, ?_⟩
  refine List.forall_mem_cons.mpr ⟨⟨fun _ => by decide +kernel, ⟨Or.inl (lw_g (lw_at lw_m6 23 rfl) rfl), (lw_g (lw_at lw_m4 169 rfl) rfl), gX8_type⟩⟩, ?_⟩
  refine List.forall_mem_cons.mpr ⟨⟨fun _ => by decide +kernel, ⟨"ConditionedProofs$Checker", ⟨(lw_g (lw_at lw_m6 24 rfl) rfl), (lw_g (lw_at lw_m6 26 rfl) rfl), Or.inl qs19, gX8_fits⟩, Or.inl ⟨9, (RX8, TX8, 8, tyX8, 8), rfl, rfl, rfl⟩, Or.inl qs19⟩⟩, ?_⟩
  refine List.forall_mem_cons.mpr ⟨⟨fun _ => by decide +kernel, ⟨"ConditionedProofs$Part", ⟨(lw_g (lw_at lw_m5 4 rfl) rfl), (lw_g (lw_at lw_m5 5 rfl) rfl), Or.inl (lw_g (lw_at lw_m5 6 rfl) rfl), gX12_letter⟩, Or.inl ⟨19, (RX12, TX12, 5, tyX12, 5), rfl, rfl, rfl⟩, Or.inl (lw_g (lw_at lw_m5 6 rfl) rfl)⟩⟩, ?_⟩
  refine List.forall_mem_cons.mpr ⟨⟨fun _ => by decide +kernel, ⟨Or.inr ⟨"ConditionedProofs", (lw_at lw_m6 30 rfl)⟩, rfl, (lw_g (lw_at lw_m6 31 rfl) rfl), (lw_g (lw_at lw_m6 32 rfl) rfl), gX16_init⟩⟩, ?_⟩
  refine List.forall_mem_cons.mpr ⟨⟨fun _ => by decide +kernel, ⟨"ConditionedProofs$Walk", ⟨(lw_g (lw_at lw_m6 7 rfl) rfl), (lw_g (lw_at lw_m6 8 rfl) rfl), Or.inl (lw_g (lw_at lw_m6 9 rfl) rfl), gX7_unite⟩, Or.inl ⟨8, (RX7, TX7, 2, tyX7, 2), rfl, rfl, rfl⟩, Or.inl (lw_g (lw_at lw_m6 9 rfl) rfl)⟩⟩, ?_⟩
  refine List.forall_mem_cons.mpr ⟨⟨fun _ => by decide +kernel, ⟨"ConditionedProofs$Store", ⟨(lw_g (lw_at lw_m5 8 rfl) rfl), (lw_g (lw_at lw_m5 9 rfl) rfl), Or.inl (lw_g (lw_at lw_m5 10 rfl) rfl), gX2_programOf⟩, Or.inl ⟨1, (RX2, TX2, 2, tyX2, 2), rfl, rfl, rfl⟩, Or.inl (lw_g (lw_at lw_m5 10 rfl) rfl)⟩⟩, ?_⟩
  refine List.forall_mem_cons.mpr ⟨⟨fun _ => by decide +kernel, ⟨"ConditionedProofs$Part", ⟨(lw_g (lw_at lw_m5 13 rfl) rfl), (lw_g (lw_at lw_m5 14 rfl) rfl), Or.inl (lw_g (lw_at lw_m5 15 rfl) rfl), gX12_terms⟩, Or.inl ⟨19, (RX12, TX12, 5, tyX12, 5), rfl, rfl, rfl⟩, Or.inl (lw_g (lw_at lw_m5 15 rfl) rfl)⟩⟩, ?_⟩
  refine List.forall_mem_cons.mpr ⟨⟨fun _ => by decide +kernel, ⟨"java/lang/String", ⟨(lw_g (lw_at lw_m5 17 rfl) rfl), (lw_g (lw_at lw_m5 18 rfl) rfl), Or.inl (lw_g (lw_at lw_m5 19 rfl) rfl), gJ5_charAt⟩, Or.inl ⟨12, (RJ5, TJ5, 4, tyJ5, 4), rfl, rfl, rfl⟩, Or.inl (lw_g (lw_at lw_m5 19 rfl) rfl)⟩⟩, ?_⟩
  refine List.forall_mem_cons.mpr ⟨⟨fun _ => by decide +kernel, ⟨"ConditionedProofs$Heap", ⟨(lw_g (lw_at lw_m5 78 rfl) rfl), (lw_g (lw_at lw_m5 79 rfl) rfl), Or.inl (lw_g (lw_at lw_m5 80 rfl) rfl), gX3_bind⟩, Or.inl ⟨2, (RX3, TX3, 6, tyX3, 6), rfl, rfl, rfl⟩, Or.inl (lw_g (lw_at lw_m5 80 rfl) rfl)⟩⟩, ?_⟩
  refine List.forall_mem_cons.mpr ⟨⟨fun _ => by decide +kernel, ⟨"ConditionedProofs$Runner", ⟨(lw_g (lw_at lw_m5 101 rfl) rfl), (lw_g (lw_at lw_m5 102 rfl) rfl), Or.inl (lw_g (lw_at lw_m5 103 rfl) rfl), gX6_start⟩, Or.inl ⟨7, (RX6, TX6, 4, tyX6, 4), rfl, rfl, rfl⟩, Or.inl (lw_g (lw_at lw_m5 103 rfl) rfl)⟩⟩, ?_⟩
  refine List.forall_mem_cons.mpr ⟨⟨fun _ => by decide +kernel, ⟨"ConditionedProofs$Program", ⟨(lw_g (lw_at lw_m6 213 rfl) rfl), (lw_g (lw_at lw_m6 124 rfl) rfl), Or.inl (lw_g (lw_at lw_m10 21 rfl) rfl), gX17_parameters⟩, Or.inl ⟨21, (RX17, TX17, 2, tyX17, 2), rfl, rfl, rfl⟩, Or.inl (lw_g (lw_at lw_m10 21 rfl) rfl)⟩⟩, ?_⟩
  refine List.forall_mem_cons.mpr ⟨⟨fun _ => by decide +kernel, ⟨"ConditionedProofs$Part", ⟨(lw_g (lw_at lw_m6 214 rfl) rfl), (lw_g (lw_at lw_m6 215 rfl) rfl), Or.inl (lw_g (lw_at lw_m6 216 rfl) rfl), gX12_place⟩, Or.inl ⟨19, (RX12, TX12, 5, tyX12, 5), rfl, rfl, rfl⟩, Or.inl (lw_g (lw_at lw_m6 216 rfl) rfl)⟩⟩, ?_⟩
  exact fun q h => absurd h List.not_mem_nil
set_option maxRecDepth 100000 in
theorem mT_3_ok : ∀ q ∈ mT_3, ciOK (clsS 3) q.1 q.2 := by
  refine List.forall_mem_cons.mpr ⟨⟨fun h => absurd h (by decide), (lw_g (lw_at lw_m7 17 rfl) rfl)⟩, ?_⟩
  exact fun q h => absurd h List.not_mem_nil
set_option maxRecDepth 100000 in
theorem mT_4_ok : ∀ q ∈ mT_4, ciOK (clsS 4) q.1 q.2 := by
  refine List.forall_mem_cons.mpr ⟨⟨fun h => absurd h (by decide), (lw_g (lw_at lw_m6 188 rfl) rfl)⟩, ?_⟩
  refine List.forall_mem_cons.mpr ⟨⟨fun _ => by decide +kernel, ⟨"java/util/ArrayList", ⟨(lw_g (lw_at lw_m4 228 rfl) rfl), (lw_g (lw_at lw_m4 144 rfl) rfl), Or.inl (lw_g (lw_at lw_m4 145 rfl) rfl), gJ2_size⟩, Or.inl ⟨3, (RJ2, TJ2, 3, tyJ2, 3), rfl, rfl, rfl⟩, Or.inl (lw_g (lw_at lw_m4 145 rfl) rfl)⟩⟩, ?_⟩
  refine List.forall_mem_cons.mpr ⟨⟨fun _ => by decide +kernel, ⟨"java/util/ArrayList", ⟨(lw_g (lw_at lw_m6 189 rfl) rfl), (lw_g (lw_at lw_m4 152 rfl) rfl), Or.inl (lw_g (lw_at lw_m4 153 rfl) rfl), gJ2_get⟩, Or.inl ⟨3, (RJ2, TJ2, 3, tyJ2, 3), rfl, rfl, rfl⟩, Or.inl (lw_g (lw_at lw_m4 153 rfl) rfl)⟩⟩, ?_⟩
  refine List.forall_mem_cons.mpr ⟨⟨fun _ => by decide +kernel, ⟨"ConditionedProofs$Part", ⟨(lw_g (lw_at lw_m6 191 rfl) rfl), (lw_g (lw_at lw_m4 236 rfl) rfl), Or.inl (lw_g (lw_at lw_m4 237 rfl) rfl), gX12_condition⟩, Or.inl ⟨19, (RX12, TX12, 5, tyX12, 5), rfl, rfl, rfl⟩, Or.inl (lw_g (lw_at lw_m4 237 rfl) rfl)⟩⟩, ?_⟩
  exact fun q h => absurd h List.not_mem_nil
set_option maxRecDepth 100000 in
theorem mT_5_ok : ∀ q ∈ mT_5, ciOK (clsS 5) q.1 q.2 := by
  refine List.forall_mem_cons.mpr ⟨⟨fun h => absurd h (by decide), (lw_g (lw_at lw_m1 65 rfl) rfl)⟩, ?_⟩
  refine List.forall_mem_cons.mpr ⟨⟨fun _ => by decide +kernel, ⟨Or.inl (lw_g (lw_at lw_m1 68 rfl) rfl), rfl, (lw_g (lw_at lw_m1 69 rfl) rfl), (lw_g (lw_at lw_m1 70 rfl) rfl), gJ2_init⟩⟩, ?_⟩
  refine List.forall_mem_cons.mpr ⟨⟨fun _ => by decide +kernel, ⟨"java/util/ArrayList", ⟨(lw_g (lw_at lw_m5 44 rfl) rfl), (lw_g (lw_at lw_m4 144 rfl) rfl), Or.inl (lw_g (lw_at lw_m4 145 rfl) rfl), gJ2_size⟩, Or.inl ⟨3, (RJ2, TJ2, 3, tyJ2, 3), rfl, rfl, rfl⟩, Or.inl (lw_g (lw_at lw_m4 145 rfl) rfl)⟩⟩, ?_⟩
  refine List.forall_mem_cons.mpr ⟨⟨fun _ => by decide +kernel, ⟨Or.inr ⟨"ConditionedProofs", (lw_at lw_m5 77 rfl)⟩, rfl, (lw_g (lw_at lw_m2 17 rfl) rfl), (lw_g (lw_at lw_m2 18 rfl) rfl), gX9_init⟩⟩, ?_⟩
  refine List.forall_mem_cons.mpr ⟨⟨fun _ => by decide +kernel, ⟨"java/util/ArrayList", ⟨(lw_g (lw_at lw_m5 64 rfl) rfl), (lw_g (lw_at lw_m4 84 rfl) rfl), Or.inl (lw_g (lw_at lw_m4 85 rfl) rfl), gJ2_add⟩, Or.inl ⟨3, (RJ2, TJ2, 3, tyJ2, 3), rfl, rfl, rfl⟩, Or.inl (lw_g (lw_at lw_m4 85 rfl) rfl)⟩⟩, ?_⟩
  refine List.forall_mem_cons.mpr ⟨⟨fun _ => by decide +kernel, ⟨"java/util/ArrayList", ⟨(lw_g (lw_at lw_m5 65 rfl) rfl), (lw_g (lw_at lw_m4 152 rfl) rfl), Or.inl (lw_g (lw_at lw_m4 153 rfl) rfl), gJ2_get⟩, Or.inl ⟨3, (RJ2, TJ2, 3, tyJ2, 3), rfl, rfl, rfl⟩, Or.inl (lw_g (lw_at lw_m4 153 rfl) rfl)⟩⟩, ?_⟩
  refine List.forall_mem_cons.mpr ⟨⟨fun _ => by decide +kernel, ⟨"ConditionedProofs$Heap", ⟨(lw_g (lw_at lw_m5 72 rfl) rfl), (lw_g (lw_at lw_m5 73 rfl) rfl), Or.inl (lw_g (lw_at lw_m5 74 rfl) rfl), gX3_make⟩, Or.inl ⟨2, (RX3, TX3, 6, tyX3, 6), rfl, rfl, rfl⟩, Or.inl (lw_g (lw_at lw_m5 74 rfl) rfl)⟩⟩, ?_⟩
  refine List.forall_mem_cons.mpr ⟨⟨fun _ => by decide +kernel, ⟨Or.inr ⟨"ConditionedProofs", (lw_at lw_m5 47 rfl)⟩, rfl, (lw_g (lw_at lw_m5 48 rfl) rfl), (lw_g (lw_at lw_m5 49 rfl) rfl), gX14_init⟩⟩, ?_⟩
  refine List.forall_mem_cons.mpr ⟨⟨fun _ => by decide +kernel, ⟨Or.inr ⟨"ConditionedProofs", (lw_at lw_m5 84 rfl)⟩, rfl, (lw_g (lw_at lw_m5 85 rfl) rfl), (lw_g (lw_at lw_m5 86 rfl) rfl), gX15_init⟩⟩, ?_⟩
  exact fun q h => absurd h List.not_mem_nil
set_option maxRecDepth 100000 in
theorem mT_6_ok : ∀ q ∈ mT_6, ciOK (clsS 6) q.1 q.2 := by
  refine List.forall_mem_cons.mpr ⟨⟨fun h => absurd h (by decide), (lw_g (lw_at lw_m5 50 rfl) rfl)⟩, ?_⟩
  exact fun q h => absurd h List.not_mem_nil
set_option maxRecDepth 100000 in
theorem mT_7_ok : ∀ q ∈ mT_7, ciOK (clsS 7) q.1 q.2 := by
  refine List.forall_mem_cons.mpr ⟨⟨fun _ => by decide +kernel, ⟨Or.inl (lw_g (lw_at lw_m6 33 rfl) rfl), rfl, (lw_g (lw_at lw_m6 34 rfl) rfl), (lw_g (lw_at lw_m6 35 rfl) rfl), gJ19_init⟩⟩, ?_⟩
  exact fun q h => absurd h List.not_mem_nil
set_option maxRecDepth 100000 in
theorem mT_8_ok : ∀ q ∈ mT_8, ciOK (clsS 8) q.1 q.2 := by
  refine List.forall_mem_cons.mpr ⟨⟨fun _ => by decide +kernel, ⟨Or.inl (lw_g (lw_at lw_m6 165 rfl) rfl), rfl, (lw_g (lw_at lw_m6 34 rfl) rfl), (lw_g (lw_at lw_m6 35 rfl) rfl), gJ19_init⟩⟩, ?_⟩
  exact fun q h => absurd h List.not_mem_nil
set_option maxRecDepth 100000 in
theorem mT_9_ok : ∀ q ∈ mT_9, ciOK (clsS 9) q.1 q.2 := by
  refine List.forall_mem_cons.mpr ⟨⟨fun h => absurd h (by decide), (lw_g (lw_at lw_m7 97 rfl) rfl)⟩, ?_⟩
  refine List.forall_mem_cons.mpr ⟨⟨fun _ => by decide +kernel, ⟨"java/lang/String", ⟨(lw_g (lw_at lw_m6 127 rfl) rfl), (lw_g (lw_at lw_m3 73 rfl) rfl), Or.inl (lw_g (lw_at lw_m3 74 rfl) rfl), gJ5_length⟩, Or.inl ⟨12, (RJ5, TJ5, 4, tyJ5, 4), rfl, rfl, rfl⟩, Or.inl (lw_g (lw_at lw_m3 74 rfl) rfl)⟩⟩, ?_⟩
  exact fun q h => absurd h List.not_mem_nil
set_option maxRecDepth 100000 in
theorem mT_10_ok : ∀ q ∈ mT_10, ciOK (clsS 10) q.1 q.2 := by
  refine List.forall_mem_cons.mpr ⟨⟨fun h => absurd h (by decide), (lw_g (lw_at lw_m1 129 rfl) rfl)⟩, ?_⟩
  refine List.forall_mem_cons.mpr ⟨⟨fun _ => by decide +kernel, ⟨Or.inl (lw_g (lw_at lw_m1 132 rfl) rfl), rfl, (lw_g (lw_at lw_m1 133 rfl) rfl), (lw_g (lw_at lw_m1 134 rfl) rfl), gJ4_init⟩⟩, ?_⟩
  refine List.forall_mem_cons.mpr ⟨⟨fun _ => by decide +kernel, ⟨Or.inl (lw_g (lw_at lw_m1 164 rfl) rfl), rfl, (lw_g (lw_at lw_m1 69 rfl) rfl), (lw_g (lw_at lw_m1 70 rfl) rfl), gJ2_init⟩⟩, ?_⟩
  refine List.forall_mem_cons.mpr ⟨⟨fun _ => by decide +kernel, ⟨"java/lang/StringBuilder", ⟨(lw_g (lw_at lw_m3 239 rfl) rfl), (lw_g (lw_at lw_m2 124 rfl) rfl), Or.inl (lw_g (lw_at lw_m2 125 rfl) rfl), gJ4_length⟩, Or.inl ⟨5, (RJ4, TJ4, 4, tyJ4, 4), rfl, rfl, rfl⟩, Or.inl (lw_g (lw_at lw_m2 125 rfl) rfl)⟩⟩, ?_⟩
  refine List.forall_mem_cons.mpr ⟨⟨fun _ => by decide +kernel, ⟨"java/lang/StringBuilder", ⟨(lw_g (lw_at lw_m4 0 rfl) rfl), (lw_g (lw_at lw_m4 1 rfl) rfl), Or.inl (lw_g (lw_at lw_m4 2 rfl) rfl), gJ4_charAt⟩, Or.inl ⟨5, (RJ4, TJ4, 4, tyJ4, 4), rfl, rfl, rfl⟩, Or.inl (lw_g (lw_at lw_m4 2 rfl) rfl)⟩⟩, ?_⟩
  refine List.forall_mem_cons.mpr ⟨⟨fun _ => by decide +kernel, ⟨"ConditionedProofs$Reader", ⟨(lw_g (lw_at lw_m3 235 rfl) rfl), (lw_g (lw_at lw_m3 237 rfl) rfl), Or.inl qs3, gX4_peek⟩, Or.inl ⟨4, (RX4, TX4, 7, tyX4, 7), rfl, rfl, rfl⟩, Or.inl qs3⟩⟩, ?_⟩
  refine List.forall_mem_cons.mpr ⟨⟨fun _ => by decide +kernel, ⟨"ConditionedProofs$Reader", ⟨(lw_g (lw_at lw_m3 231 rfl) rfl), (lw_g (lw_at lw_m3 233 rfl) rfl), Or.inl qs2, gX4_isNext⟩, Or.inl ⟨4, (RX4, TX4, 7, tyX4, 7), rfl, rfl, rfl⟩, Or.inl qs2⟩⟩, ?_⟩
  refine List.forall_mem_cons.mpr ⟨⟨fun _ => by decide +kernel, ⟨"ConditionedProofs$Reader", ⟨(lw_g (lw_at lw_m4 18 rfl) rfl), (lw_g (lw_at lw_m4 20 rfl) rfl), Or.inl qs5, gX4_need⟩, Or.inl ⟨4, (RX4, TX4, 7, tyX4, 7), rfl, rfl, rfl⟩, Or.inl qs5⟩⟩, ?_⟩
  refine List.forall_mem_cons.mpr ⟨⟨fun _ => by decide +kernel, ⟨Or.inr ⟨"ConditionedProofs", (lw_at lw_m4 68 rfl)⟩, rfl, (lw_g (lw_at lw_m2 17 rfl) rfl), (lw_g (lw_at lw_m2 18 rfl) rfl), gX9_init⟩⟩, ?_⟩
  refine List.forall_mem_cons.mpr ⟨⟨fun _ => by decide +kernel, ⟨"ConditionedProofs$Reader", ⟨(lw_g (lw_at lw_m4 14 rfl) rfl), (lw_g (lw_at lw_m4 16 rfl) rfl), Or.inl qs4, gX4_take⟩, Or.inl ⟨4, (RX4, TX4, 7, tyX4, 7), rfl, rfl, rfl⟩, Or.inl qs4⟩⟩, ?_⟩
  refine List.forall_mem_cons.mpr ⟨⟨fun _ => by decide +kernel, ⟨Or.inl (lw_g (lw_at lw_m4 33 rfl) rfl), rfl, (lw_g (lw_at lw_m4 34 rfl) rfl), (lw_g (lw_at lw_m4 35 rfl) rfl), gX11_init⟩⟩, ?_⟩
  refine List.forall_mem_cons.mpr ⟨⟨fun _ => by decide +kernel, ⟨"ConditionedProofs$Reader", ⟨(lw_g (lw_at lw_m4 63 rfl) rfl), (lw_g (lw_at lw_m4 65 rfl) rfl), Or.inl qs6, gX4_digit⟩, Or.inl ⟨4, (RX4, TX4, 7, tyX4, 7), rfl, rfl, rfl⟩, Or.inl qs6⟩⟩, ?_⟩
  refine List.forall_mem_cons.mpr ⟨⟨fun _ => by decide +kernel, ⟨"ConditionedProofs$Reader", ⟨(lw_g (lw_at lw_m4 71 rfl) rfl), (lw_g (lw_at lw_m4 73 rfl) rfl), Or.inl qs7, gX4_passes⟩, Or.inl ⟨4, (RX4, TX4, 7, tyX4, 7), rfl, rfl, rfl⟩, Or.inl qs7⟩⟩, ?_⟩
  refine List.forall_mem_cons.mpr ⟨⟨fun _ => by decide +kernel, ⟨Or.inl (lw_g (lw_at lw_m4 80 rfl) rfl), (lw_g (lw_at lw_m4 81 rfl) rfl), gX4_terms⟩⟩, ?_⟩
  refine List.forall_mem_cons.mpr ⟨⟨fun _ => by decide +kernel, ⟨Or.inl (lw_g (lw_at lw_m3 228 rfl) rfl), (lw_g (lw_at lw_m3 229 rfl) rfl), gX4_term⟩⟩, ?_⟩
  refine List.forall_mem_cons.mpr ⟨⟨fun _ => by decide +kernel, ⟨"java/util/ArrayList", ⟨(lw_g (lw_at lw_m4 83 rfl) rfl), (lw_g (lw_at lw_m4 84 rfl) rfl), Or.inl (lw_g (lw_at lw_m4 85 rfl) rfl), gJ2_add⟩, Or.inl ⟨3, (RJ2, TJ2, 3, tyJ2, 3), rfl, rfl, rfl⟩, Or.inl (lw_g (lw_at lw_m4 85 rfl) rfl)⟩⟩, ?_⟩
  refine List.forall_mem_cons.mpr ⟨⟨fun _ => by decide +kernel, ⟨"java/util/ArrayList", ⟨(lw_g (lw_at lw_m4 143 rfl) rfl), (lw_g (lw_at lw_m4 144 rfl) rfl), Or.inl (lw_g (lw_at lw_m4 145 rfl) rfl), gJ2_size⟩, Or.inl ⟨3, (RJ2, TJ2, 3, tyJ2, 3), rfl, rfl, rfl⟩, Or.inl (lw_g (lw_at lw_m4 145 rfl) rfl)⟩⟩, ?_⟩
  refine List.forall_mem_cons.mpr ⟨⟨fun _ => by decide +kernel, ⟨"ConditionedProofs$Reader", ⟨(lw_g (lw_at lw_m4 147 rfl) rfl), (lw_g (lw_at lw_m4 149 rfl) rfl), Or.inl qs11, gX4_isTerm⟩, Or.inl ⟨4, (RX4, TX4, 7, tyX4, 7), rfl, rfl, rfl⟩, Or.inl qs11⟩⟩, ?_⟩
  refine List.forall_mem_cons.mpr ⟨⟨fun _ => by decide +kernel, ⟨Or.inr ⟨"ConditionedProofs", (lw_at lw_m6 162 rfl)⟩, rfl, (lw_g (lw_at lw_m6 163 rfl) rfl), (lw_g (lw_at lw_m6 164 rfl) rfl), gX12_init⟩⟩, ?_⟩
  refine List.forall_mem_cons.mpr ⟨⟨fun _ => by decide +kernel, ⟨"ConditionedProofs$Reader", ⟨(lw_g (lw_at lw_m6 156 rfl) rfl), (lw_g (lw_at lw_m6 158 rfl) rfl), Or.inl qs22, gX4_part⟩, Or.inl ⟨4, (RX4, TX4, 7, tyX4, 7), rfl, rfl, rfl⟩, Or.inl qs22⟩⟩, ?_⟩
  refine List.forall_mem_cons.mpr ⟨⟨fun _ => by decide +kernel, ⟨Or.inl (lw_g (lw_at lw_m6 185 rfl) rfl), rfl, (lw_g (lw_at lw_m6 186 rfl) rfl), (lw_g (lw_at lw_m6 187 rfl) rfl), gX13_init⟩⟩, ?_⟩
  refine List.forall_mem_cons.mpr ⟨⟨fun _ => by decide +kernel, ⟨"java/lang/StringBuilder", ⟨(lw_g (lw_at lw_m6 238 rfl) rfl), (lw_g (lw_at lw_m2 230 rfl) rfl), Or.inl (lw_g (lw_at lw_m2 231 rfl) rfl), gJ4_setLength⟩, Or.inl ⟨5, (RJ4, TJ4, 4, tyJ4, 4), rfl, rfl, rfl⟩, Or.inl (lw_g (lw_at lw_m2 231 rfl) rfl)⟩⟩, ?_⟩
  refine List.forall_mem_cons.mpr ⟨⟨fun _ => by decide +kernel, ⟨"java/lang/StringBuilder", ⟨(lw_g (lw_at lw_m6 239 rfl) rfl), (lw_g (lw_at lw_m2 131 rfl) rfl), Or.inl (lw_g (lw_at lw_m2 132 rfl) rfl), gJ4_append⟩, Or.inl ⟨5, (RJ4, TJ4, 4, tyJ4, 4), rfl, rfl, rfl⟩, Or.inl (lw_g (lw_at lw_m2 132 rfl) rfl)⟩⟩, ?_⟩
  refine List.forall_mem_cons.mpr ⟨⟨fun _ => by decide +kernel, ⟨"java/lang/StringBuilder", ⟨(lw_g (lw_at lw_m7 0 rfl) rfl), (lw_g (lw_at lw_m3 124 rfl) rfl), Or.inl (lw_g (lw_at lw_m3 125 rfl) rfl), gJ4_toString⟩, Or.inl ⟨5, (RJ4, TJ4, 4, tyJ4, 4), rfl, rfl, rfl⟩, Or.inl (lw_g (lw_at lw_m3 125 rfl) rfl)⟩⟩, ?_⟩
  refine List.forall_mem_cons.mpr ⟨⟨fun _ => by decide +kernel, ⟨"ConditionedProofs$Reader", ⟨(lw_g (lw_at lw_m6 234 rfl) rfl), (lw_g (lw_at lw_m6 236 rfl) rfl), Or.inl qs24, gX4_variables⟩, Or.inl ⟨4, (RX4, TX4, 7, tyX4, 7), rfl, rfl, rfl⟩, Or.inl qs24⟩⟩, ?_⟩
  refine List.forall_mem_cons.mpr ⟨⟨fun _ => by decide +kernel, ⟨Or.inl (lw_g (lw_at lw_m7 3 rfl) rfl), (lw_g (lw_at lw_m7 4 rfl) rfl), gX4_code⟩⟩, ?_⟩
  refine List.forall_mem_cons.mpr ⟨⟨fun _ => by decide +kernel, ⟨Or.inl (lw_g (lw_at lw_m7 94 rfl) rfl), rfl, (lw_g (lw_at lw_m7 95 rfl) rfl), (lw_g (lw_at lw_m7 96 rfl) rfl), gX17_init⟩⟩, ?_⟩
  refine List.forall_mem_cons.mpr ⟨⟨fun _ => by decide +kernel, ⟨Or.inl (lw_g (lw_at lw_m7 14 rfl) rfl), rfl, (lw_g (lw_at lw_m7 15 rfl) rfl), (lw_g (lw_at lw_m7 16 rfl) rfl), gX18_init⟩⟩, ?_⟩
  refine List.forall_mem_cons.mpr ⟨⟨fun _ => by decide +kernel, ⟨"ConditionedProofs$Reader", ⟨(lw_g (lw_at lw_m7 8 rfl) rfl), (lw_g (lw_at lw_m7 10 rfl) rfl), Or.inl qs25, gX4_leaf⟩, Or.inl ⟨4, (RX4, TX4, 7, tyX4, 7), rfl, rfl, rfl⟩, Or.inl qs25⟩⟩, ?_⟩
  refine List.forall_mem_cons.mpr ⟨⟨fun _ => by decide +kernel, ⟨Or.inl (lw_g (lw_at lw_m7 49 rfl) rfl), (lw_g (lw_at lw_m7 50 rfl) rfl), gX4_codes⟩⟩, ?_⟩
  refine List.forall_mem_cons.mpr ⟨⟨fun _ => by decide +kernel, ⟨Or.inl (lw_g (lw_at lw_m7 56 rfl) rfl), (lw_g (lw_at lw_m7 57 rfl) rfl), gX4_match⟩⟩, ?_⟩
  refine List.forall_mem_cons.mpr ⟨⟨fun _ => by decide +kernel, ⟨Or.inl (lw_g (lw_at lw_m7 87 rfl) rfl), (lw_g (lw_at lw_m7 88 rfl) rfl), gX4_test⟩⟩, ?_⟩
  refine List.forall_mem_cons.mpr ⟨⟨fun _ => by decide +kernel, ⟨"ConditionedProofs$Reader", ⟨(lw_g (lw_at lw_m7 52 rfl) rfl), (lw_g (lw_at lw_m7 54 rfl) rfl), Or.inl qs26, gX4_isCode⟩, Or.inl ⟨4, (RX4, TX4, 7, tyX4, 7), rfl, rfl, rfl⟩, Or.inl qs26⟩⟩, ?_⟩
  refine List.forall_mem_cons.mpr ⟨⟨fun _ => by decide +kernel, ⟨Or.inl (lw_g (lw_at lw_m7 59 rfl) rfl), (lw_g (lw_at lw_m7 60 rfl) rfl), gX4_oneCase⟩⟩, ?_⟩
  refine List.forall_mem_cons.mpr ⟨⟨fun _ => by decide +kernel, ⟨Or.inr ⟨"ConditionedProofs", (lw_at lw_m7 65 rfl)⟩, rfl, (lw_g (lw_at lw_m7 66 rfl) rfl), (lw_g (lw_at lw_m7 67 rfl) rfl), gX19_init⟩⟩, ?_⟩
  exact fun q h => absurd h List.not_mem_nil
set_option maxRecDepth 100000 in
theorem mT_11_ok : ∀ q ∈ mT_11, ciOK (clsS 11) q.1 q.2 := by
  refine List.forall_mem_cons.mpr ⟨⟨fun h => absurd h (by decide), (lw_g (lw_at lw_m1 215 rfl) rfl)⟩, ?_⟩
  refine List.forall_mem_cons.mpr ⟨⟨fun _ => by decide +kernel, ⟨Or.inr ⟨"ConditionedProofs", (lw_at lw_m1 218 rfl)⟩, rfl, (lw_g (lw_at lw_m1 219 rfl) rfl), (lw_g (lw_at lw_m1 220 rfl) rfl), gX7_init⟩⟩, ?_⟩
  refine List.forall_mem_cons.mpr ⟨⟨fun _ => by decide +kernel, ⟨"ConditionedProofs$Runner", ⟨(lw_g (lw_at lw_m5 105 rfl) rfl), (lw_g (lw_at lw_m5 107 rfl) rfl), Or.inl qs14, gX6_need⟩, Or.inl ⟨7, (RX6, TX6, 4, tyX6, 4), rfl, rfl, rfl⟩, Or.inl qs14⟩⟩, ?_⟩
  refine List.forall_mem_cons.mpr ⟨⟨fun _ => by decide +kernel, ⟨Or.inl (lw_g (lw_at lw_m5 124 rfl) rfl), (lw_g (lw_at lw_m5 125 rfl) rfl), gX6_step⟩⟩, ?_⟩
  refine List.forall_mem_cons.mpr ⟨⟨fun _ => by decide +kernel, ⟨(⟨"ConditionedProofs$Act", "ordinal", "()I"⟩ : MethodName), "java/lang/Enum", "ConditionedProofs$Act", ⟨(lw_g (lw_at lw_m5 127 rfl) rfl), (lw_g (lw_at lw_m5 128 rfl) rfl), (lw_g (lw_at lw_m4 175 rfl) rfl), ⟨_, _, _, (lw_g (lw_at lw_m4 176 rfl) rfl)⟩, ⟨by decide, by decide⟩, (lw_g (lw_at lw_m5 129 rfl) rfl), (lw_g (lw_at lw_m4 175 rfl) rfl), rfl, gJ7_ordinal⟩, Or.inr ⟨0, by decide, rfl, rfl⟩⟩⟩, ?_⟩
  refine List.forall_mem_cons.mpr ⟨⟨fun _ => by decide +kernel, ⟨Or.inl (lw_g (lw_at lw_m5 130 rfl) rfl), (lw_g (lw_at lw_m5 131 rfl) rfl), gX6_find⟩⟩, ?_⟩
  refine List.forall_mem_cons.mpr ⟨⟨fun _ => by decide +kernel, ⟨Or.inl (lw_g (lw_at lw_m5 133 rfl) rfl), (lw_g (lw_at lw_m5 134 rfl) rfl), gX6_use⟩⟩, ?_⟩
  refine List.forall_mem_cons.mpr ⟨⟨fun _ => by decide +kernel, ⟨Or.inl (lw_g (lw_at lw_m5 187 rfl) rfl), (lw_g (lw_at lw_m5 188 rfl) rfl), gX6_match⟩⟩, ?_⟩
  refine List.forall_mem_cons.mpr ⟨⟨fun _ => by decide +kernel, ⟨Or.inl (lw_g (lw_at lw_m5 214 rfl) rfl), (lw_g (lw_at lw_m5 215 rfl) rfl), gX6_reckon⟩⟩, ?_⟩
  refine List.forall_mem_cons.mpr ⟨⟨fun _ => by decide +kernel, ⟨"java/util/ArrayList", ⟨(lw_g (lw_at lw_m5 136 rfl) rfl), (lw_g (lw_at lw_m4 144 rfl) rfl), Or.inl (lw_g (lw_at lw_m4 145 rfl) rfl), gJ2_size⟩, Or.inl ⟨3, (RJ2, TJ2, 3, tyJ2, 3), rfl, rfl, rfl⟩, Or.inl (lw_g (lw_at lw_m4 145 rfl) rfl)⟩⟩, ?_⟩
  refine List.forall_mem_cons.mpr ⟨⟨fun _ => by decide +kernel, ⟨"java/util/ArrayList", ⟨(lw_g (lw_at lw_m5 137 rfl) rfl), (lw_g (lw_at lw_m4 152 rfl) rfl), Or.inl (lw_g (lw_at lw_m4 153 rfl) rfl), gJ2_get⟩, Or.inl ⟨3, (RJ2, TJ2, 3, tyJ2, 3), rfl, rfl, rfl⟩, Or.inl (lw_g (lw_at lw_m4 153 rfl) rfl)⟩⟩, ?_⟩
  refine List.forall_mem_cons.mpr ⟨⟨fun _ => by decide +kernel, ⟨"ConditionedProofs$Heap", ⟨(lw_g (lw_at lw_m5 139 rfl) rfl), (lw_g (lw_at lw_m5 41 rfl) rfl), Or.inl (lw_g (lw_at lw_m5 42 rfl) rfl), gX3_append⟩, Or.inl ⟨2, (RX3, TX3, 6, tyX3, 6), rfl, rfl, rfl⟩, Or.inl (lw_g (lw_at lw_m5 42 rfl) rfl)⟩⟩, ?_⟩
  refine List.forall_mem_cons.mpr ⟨⟨fun _ => by decide +kernel, ⟨"ConditionedProofs$Store", ⟨(lw_g (lw_at lw_m5 140 rfl) rfl), (lw_g (lw_at lw_m5 9 rfl) rfl), Or.inl (lw_g (lw_at lw_m5 10 rfl) rfl), gX2_programOf⟩, Or.inl ⟨1, (RX2, TX2, 2, tyX2, 2), rfl, rfl, rfl⟩, Or.inl (lw_g (lw_at lw_m5 10 rfl) rfl)⟩⟩, ?_⟩
  refine List.forall_mem_cons.mpr ⟨⟨fun _ => by decide +kernel, ⟨"ConditionedProofs$Heap", ⟨(lw_g (lw_at lw_m5 141 rfl) rfl), (lw_g (lw_at lw_m5 67 rfl) rfl), Or.inl (lw_g (lw_at lw_m5 68 rfl) rfl), gX3_made⟩, Or.inl ⟨2, (RX3, TX3, 6, tyX3, 6), rfl, rfl, rfl⟩, Or.inl (lw_g (lw_at lw_m5 68 rfl) rfl)⟩⟩, ?_⟩
  refine List.forall_mem_cons.mpr ⟨⟨fun _ => by decide +kernel, ⟨"ConditionedProofs$Walk", ⟨(lw_g (lw_at lw_m5 142 rfl) rfl), (lw_g (lw_at lw_m5 143 rfl) rfl), Or.inl (lw_g (lw_at lw_m5 144 rfl) rfl), gX7_nodes⟩, Or.inl ⟨8, (RX7, TX7, 2, tyX7, 2), rfl, rfl, rfl⟩, Or.inl (lw_g (lw_at lw_m5 144 rfl) rfl)⟩⟩, ?_⟩
  refine List.forall_mem_cons.mpr ⟨⟨fun _ => by decide +kernel, ⟨"java/lang/String", ⟨(lw_g (lw_at lw_m5 185 rfl) rfl), (lw_g (lw_at lw_m5 18 rfl) rfl), Or.inl (lw_g (lw_at lw_m5 19 rfl) rfl), gJ5_charAt⟩, Or.inl ⟨12, (RJ5, TJ5, 4, tyJ5, 4), rfl, rfl, rfl⟩, Or.inl (lw_g (lw_at lw_m5 19 rfl) rfl)⟩⟩, ?_⟩
  refine List.forall_mem_cons.mpr ⟨⟨fun _ => by decide +kernel, ⟨"ConditionedProofs$Heap", ⟨(lw_g (lw_at lw_m5 186 rfl) rfl), (lw_g (lw_at lw_m5 79 rfl) rfl), Or.inl (lw_g (lw_at lw_m5 80 rfl) rfl), gX3_bind⟩, Or.inl ⟨2, (RX3, TX3, 6, tyX3, 6), rfl, rfl, rfl⟩, Or.inl (lw_g (lw_at lw_m5 80 rfl) rfl)⟩⟩, ?_⟩
  refine List.forall_mem_cons.mpr ⟨⟨fun _ => by decide +kernel, ⟨"ConditionedProofs$Value", ⟨(lw_g (lw_at lw_m5 190 rfl) rfl), (lw_g (lw_at lw_m5 174 rfl) rfl), Or.inl (lw_g (lw_at lw_m5 175 rfl) rfl), gX9_seen⟩, Or.inl ⟨10, (RX9, TX9, 5, tyX9, 5), rfl, rfl, rfl⟩, Or.inl (lw_g (lw_at lw_m5 175 rfl) rfl)⟩⟩, ?_⟩
  refine List.forall_mem_cons.mpr ⟨⟨fun _ => by decide +kernel, ⟨"ConditionedProofs$Case", ⟨(lw_g (lw_at lw_m5 192 rfl) rfl), (lw_g (lw_at lw_m5 193 rfl) rfl), Or.inl (lw_g (lw_at lw_m5 194 rfl) rfl), gX19_fits⟩, Or.inl ⟨23, (RX19, TX19, 5, tyX19, 5), rfl, rfl, rfl⟩, Or.inl (lw_g (lw_at lw_m5 194 rfl) rfl)⟩⟩, ?_⟩
  refine List.forall_mem_cons.mpr ⟨⟨fun _ => by decide +kernel, ⟨"ConditionedProofs$Value", ⟨(lw_g (lw_at lw_m5 201 rfl) rfl), (lw_g (lw_at lw_m4 178 rfl) rfl), Or.inl (lw_g (lw_at lw_m4 179 rfl) rfl), gX9_is⟩, Or.inl ⟨10, (RX9, TX9, 5, tyX9, 5), rfl, rfl, rfl⟩, Or.inl (lw_g (lw_at lw_m4 179 rfl) rfl)⟩⟩, ?_⟩
  refine List.forall_mem_cons.mpr ⟨⟨fun _ => by decide +kernel, ⟨"ConditionedProofs$Case", ⟨(lw_g (lw_at lw_m5 202 rfl) rfl), (lw_g (lw_at lw_m5 203 rfl) rfl), Or.inl (lw_g (lw_at lw_m5 204 rfl) rfl), gX19_letter⟩, Or.inl ⟨23, (RX19, TX19, 5, tyX19, 5), rfl, rfl, rfl⟩, Or.inl (lw_g (lw_at lw_m5 204 rfl) rfl)⟩⟩, ?_⟩
  refine List.forall_mem_cons.mpr ⟨⟨fun _ => by decide +kernel, ⟨"ConditionedProofs$Case", ⟨(lw_g (lw_at lw_m5 206 rfl) rfl), (lw_g (lw_at lw_m5 207 rfl) rfl), Or.inl (lw_g (lw_at lw_m5 208 rfl) rfl), gX19_names⟩, Or.inl ⟨23, (RX19, TX19, 5, tyX19, 5), rfl, rfl, rfl⟩, Or.inl (lw_g (lw_at lw_m5 208 rfl) rfl)⟩⟩, ?_⟩
  refine List.forall_mem_cons.mpr ⟨⟨fun _ => by decide +kernel, ⟨"ConditionedProofs$Case", ⟨(lw_g (lw_at lw_m5 210 rfl) rfl), (lw_g (lw_at lw_m5 211 rfl) rfl), Or.inl (lw_g (lw_at lw_m5 212 rfl) rfl), gX19_code⟩, Or.inl ⟨23, (RX19, TX19, 5, tyX19, 5), rfl, rfl, rfl⟩, Or.inl (lw_g (lw_at lw_m5 212 rfl) rfl)⟩⟩, ?_⟩
  refine List.forall_mem_cons.mpr ⟨⟨fun _ => by decide +kernel, ⟨"ConditionedProofs$Heap", ⟨(lw_g (lw_at lw_m5 222 rfl) rfl), (lw_g (lw_at lw_m5 73 rfl) rfl), Or.inl (lw_g (lw_at lw_m5 74 rfl) rfl), gX3_make⟩, Or.inl ⟨2, (RX3, TX3, 6, tyX3, 6), rfl, rfl, rfl⟩, Or.inl (lw_g (lw_at lw_m5 74 rfl) rfl)⟩⟩, ?_⟩
  refine List.forall_mem_cons.mpr ⟨⟨fun _ => by decide +kernel, ⟨"ConditionedProofs$Walk", ⟨(lw_g (lw_at lw_m5 227 rfl) rfl), (lw_g (lw_at lw_m5 228 rfl) rfl), Or.inl (lw_g (lw_at lw_m5 229 rfl) rfl), gX7_same⟩, Or.inl ⟨8, (RX7, TX7, 2, tyX7, 2), rfl, rfl, rfl⟩, Or.inl (lw_g (lw_at lw_m5 229 rfl) rfl)⟩⟩, ?_⟩
  refine List.forall_mem_cons.mpr ⟨⟨fun _ => by decide +kernel, ⟨"java/lang/StringBuilder", ⟨(lw_g (lw_at lw_m7 118 rfl) rfl), (lw_g (lw_at lw_m2 124 rfl) rfl), Or.inl (lw_g (lw_at lw_m2 125 rfl) rfl), gJ4_length⟩, Or.inl ⟨5, (RJ4, TJ4, 4, tyJ4, 4), rfl, rfl, rfl⟩, Or.inl (lw_g (lw_at lw_m2 125 rfl) rfl)⟩⟩, ?_⟩
  refine List.forall_mem_cons.mpr ⟨⟨fun _ => by decide +kernel, ⟨"java/lang/StringBuilder", ⟨(lw_g (lw_at lw_m7 119 rfl) rfl), (lw_g (lw_at lw_m4 1 rfl) rfl), Or.inl (lw_g (lw_at lw_m4 2 rfl) rfl), gJ4_charAt⟩, Or.inl ⟨5, (RJ4, TJ4, 4, tyJ4, 4), rfl, rfl, rfl⟩, Or.inl (lw_g (lw_at lw_m4 2 rfl) rfl)⟩⟩, ?_⟩
  refine List.forall_mem_cons.mpr ⟨⟨fun _ => by decide +kernel, ⟨Or.inl (lw_g (lw_at lw_m7 115 rfl) rfl), (lw_g (lw_at lw_m7 116 rfl) rfl), gX6_has⟩⟩, ?_⟩
  refine List.forall_mem_cons.mpr ⟨⟨fun _ => by decide +kernel, ⟨"ConditionedProofs$Checker", ⟨(lw_g (lw_at lw_m7 120 rfl) rfl), (lw_g (lw_at lw_m4 193 rfl) rfl), Or.inl (lw_g (lw_at lw_m4 194 rfl) rfl), gX8_need⟩, Or.inl ⟨9, (RX8, TX8, 8, tyX8, 8), rfl, rfl, rfl⟩, Or.inl (lw_g (lw_at lw_m4 194 rfl) rfl)⟩⟩, ?_⟩
  refine List.forall_mem_cons.mpr ⟨⟨fun _ => by decide +kernel, ⟨"ConditionedProofs$Store", ⟨(lw_g (lw_at lw_m7 122 rfl) rfl), (lw_g (lw_at lw_m4 220 rfl) rfl), Or.inl (lw_g (lw_at lw_m4 221 rfl) rfl), gX2_meaning⟩, Or.inl ⟨1, (RX2, TX2, 2, tyX2, 2), rfl, rfl, rfl⟩, Or.inl (lw_g (lw_at lw_m4 221 rfl) rfl)⟩⟩, ?_⟩
  refine List.forall_mem_cons.mpr ⟨⟨fun _ => by decide +kernel, ⟨Or.inl (lw_g (lw_at lw_m7 125 rfl) rfl), (lw_g (lw_at lw_m7 112 rfl) rfl), gX6_look⟩⟩, ?_⟩
  refine List.forall_mem_cons.mpr ⟨⟨fun _ => by decide +kernel, ⟨"ConditionedProofs$Store", ⟨(lw_g (lw_at lw_m7 126 rfl) rfl), (lw_g (lw_at lw_m4 216 rfl) rfl), Or.inl (lw_g (lw_at lw_m4 217 rfl) rfl), gX2_constant⟩, Or.inl ⟨1, (RX2, TX2, 2, tyX2, 2), rfl, rfl, rfl⟩, Or.inl (lw_g (lw_at lw_m4 217 rfl) rfl)⟩⟩, ?_⟩
  refine List.forall_mem_cons.mpr ⟨⟨fun _ => by decide +kernel, ⟨"ConditionedProofs$Constant", ⟨(lw_g (lw_at lw_m7 127 rfl) rfl), (lw_g (lw_at lw_m4 225 rfl) rfl), Or.inl (lw_g (lw_at lw_m4 226 rfl) rfl), gX13_parameters⟩, Or.inl ⟨20, (RX13, TX13, 4, tyX13, 4), rfl, rfl, rfl⟩, Or.inl (lw_g (lw_at lw_m4 226 rfl) rfl)⟩⟩, ?_⟩
  refine List.forall_mem_cons.mpr ⟨⟨fun _ => by decide +kernel, ⟨"java/lang/String", ⟨(lw_g (lw_at lw_m7 128 rfl) rfl), (lw_g (lw_at lw_m3 73 rfl) rfl), Or.inl (lw_g (lw_at lw_m3 74 rfl) rfl), gJ5_length⟩, Or.inl ⟨12, (RJ5, TJ5, 4, tyJ5, 4), rfl, rfl, rfl⟩, Or.inl (lw_g (lw_at lw_m3 74 rfl) rfl)⟩⟩, ?_⟩
  refine List.forall_mem_cons.mpr ⟨⟨fun _ => by decide +kernel, ⟨"ConditionedProofs$Case", ⟨(lw_g (lw_at lw_m7 129 rfl) rfl), (lw_g (lw_at lw_m7 130 rfl) rfl), Or.inl (lw_g (lw_at lw_m7 131 rfl) rfl), gX19_place⟩, Or.inl ⟨23, (RX19, TX19, 5, tyX19, 5), rfl, rfl, rfl⟩, Or.inl (lw_g (lw_at lw_m7 131 rfl) rfl)⟩⟩, ?_⟩
  refine List.forall_mem_cons.mpr ⟨⟨fun _ => by decide +kernel, ⟨"java/lang/StringBuilder", ⟨(lw_g (lw_at lw_m7 133 rfl) rfl), (lw_g (lw_at lw_m3 50 rfl) rfl), Or.inl (lw_g (lw_at lw_m3 51 rfl) rfl), gJ4_append_2⟩, Or.inl ⟨5, (RJ4, TJ4, 4, tyJ4, 4), rfl, rfl, rfl⟩, Or.inl (lw_g (lw_at lw_m3 51 rfl) rfl)⟩⟩, ?_⟩
  refine List.forall_mem_cons.mpr ⟨⟨fun _ => by decide +kernel, ⟨"java/lang/StringBuilder", ⟨(lw_g (lw_at lw_m7 134 rfl) rfl), (lw_g (lw_at lw_m2 230 rfl) rfl), Or.inl (lw_g (lw_at lw_m2 231 rfl) rfl), gJ4_setLength⟩, Or.inl ⟨5, (RJ4, TJ4, 4, tyJ4, 4), rfl, rfl, rfl⟩, Or.inl (lw_g (lw_at lw_m2 231 rfl) rfl)⟩⟩, ?_⟩
  exact fun q h => absurd h List.not_mem_nil
set_option maxRecDepth 100000 in
theorem mT_12_ok : ∀ q ∈ mT_12, ciOK (clsS 12) q.1 q.2 := by
  refine List.forall_mem_cons.mpr ⟨⟨fun h => absurd h (by decide), (lw_g (lw_at lw_m5 87 rfl) rfl)⟩, ?_⟩
  exact fun q h => absurd h List.not_mem_nil
set_option maxRecDepth 100000 in
theorem mT_13_ok : ∀ q ∈ mT_13, ciOK (clsS 13) q.1 q.2 := by
  refine List.forall_mem_cons.mpr ⟨⟨fun h => absurd h (by decide), (lw_g (lw_at lw_m1 59 rfl) rfl)⟩, ?_⟩
  refine List.forall_mem_cons.mpr ⟨⟨fun _ => by decide +kernel, ⟨Or.inr ⟨"ConditionedProofs", (lw_at lw_m1 62 rfl)⟩, rfl, (lw_g (lw_at lw_m1 63 rfl) rfl), (lw_g (lw_at lw_m1 64 rfl) rfl), gX3_init⟩⟩, ?_⟩
  refine List.forall_mem_cons.mpr ⟨⟨fun _ => by decide +kernel, ⟨"ConditionedProofs$Store", ⟨(lw_g (lw_at lw_m4 219 rfl) rfl), (lw_g (lw_at lw_m4 220 rfl) rfl), Or.inl (lw_g (lw_at lw_m4 221 rfl) rfl), gX2_meaning⟩, Or.inl ⟨1, (RX2, TX2, 2, tyX2, 2), rfl, rfl, rfl⟩, Or.inl (lw_g (lw_at lw_m4 221 rfl) rfl)⟩⟩, ?_⟩
  exact fun q h => absurd h List.not_mem_nil
set_option maxRecDepth 100000 in
theorem mT_14_ok : ∀ q ∈ mT_14, ciOK (clsS 14) q.1 q.2 := by
  refine List.forall_mem_cons.mpr ⟨⟨fun h => absurd h (by decide), (lw_g (lw_at lw_m4 36 rfl) rfl)⟩, ?_⟩
  exact fun q h => absurd h List.not_mem_nil
set_option maxRecDepth 100000 in
theorem mT_15_ok : ∀ q ∈ mT_15, ciOK (clsS 15) q.1 q.2 := by
  refine List.forall_mem_cons.mpr ⟨⟨fun h => absurd h (by decide), (lw_g (lw_at lw_m2 19 rfl) rfl)⟩, ?_⟩
  exact fun q h => absurd h List.not_mem_nil
set_option maxRecDepth 100000 in
theorem mT_16_ok : ∀ q ∈ mT_16, ciOK (clsS 16) q.1 q.2 := by
  refine List.forall_mem_cons.mpr ⟨⟨fun h => absurd h (by decide), (lw_g (lw_at lw_m1 221 rfl) rfl)⟩, ?_⟩
  refine List.forall_mem_cons.mpr ⟨⟨fun _ => by decide +kernel, ⟨Or.inl (lw_g (lw_at lw_m1 223 rfl) rfl), rfl, (lw_g (lw_at lw_m1 69 rfl) rfl), (lw_g (lw_at lw_m1 70 rfl) rfl), gJ2_init⟩⟩, ?_⟩
  refine List.forall_mem_cons.mpr ⟨⟨fun _ => by decide +kernel, ⟨"java/util/ArrayList", ⟨(lw_g (lw_at lw_m5 162 rfl) rfl), (lw_g (lw_at lw_m4 144 rfl) rfl), Or.inl (lw_g (lw_at lw_m4 145 rfl) rfl), gJ2_size⟩, Or.inl ⟨3, (RJ2, TJ2, 3, tyJ2, 3), rfl, rfl, rfl⟩, Or.inl (lw_g (lw_at lw_m4 145 rfl) rfl)⟩⟩, ?_⟩
  refine List.forall_mem_cons.mpr ⟨⟨fun _ => by decide +kernel, ⟨"java/util/ArrayList", ⟨(lw_g (lw_at lw_m5 163 rfl) rfl), (lw_g (lw_at lw_m5 164 rfl) rfl), Or.inl (lw_g (lw_at lw_m5 165 rfl) rfl), gJ2_remove⟩, Or.inl ⟨3, (RJ2, TJ2, 3, tyJ2, 3), rfl, rfl, rfl⟩, Or.inl (lw_g (lw_at lw_m5 165 rfl) rfl)⟩⟩, ?_⟩
  refine List.forall_mem_cons.mpr ⟨⟨fun _ => by decide +kernel, ⟨"ConditionedProofs$Value", ⟨(lw_g (lw_at lw_m5 173 rfl) rfl), (lw_g (lw_at lw_m5 174 rfl) rfl), Or.inl (lw_g (lw_at lw_m5 175 rfl) rfl), gX9_seen⟩, Or.inl ⟨10, (RX9, TX9, 5, tyX9, 5), rfl, rfl, rfl⟩, Or.inl (lw_g (lw_at lw_m5 175 rfl) rfl)⟩⟩, ?_⟩
  refine List.forall_mem_cons.mpr ⟨⟨fun _ => by decide +kernel, ⟨"java/util/ArrayList", ⟨(lw_g (lw_at lw_m5 154 rfl) rfl), (lw_g (lw_at lw_m4 84 rfl) rfl), Or.inl (lw_g (lw_at lw_m4 85 rfl) rfl), gJ2_add⟩, Or.inl ⟨3, (RJ2, TJ2, 3, tyJ2, 3), rfl, rfl, rfl⟩, Or.inl (lw_g (lw_at lw_m4 85 rfl) rfl)⟩⟩, ?_⟩
  refine List.forall_mem_cons.mpr ⟨⟨fun _ => by decide +kernel, ⟨"java/util/ArrayList", ⟨(lw_g (lw_at lw_m5 180 rfl) rfl), (lw_g (lw_at lw_m4 152 rfl) rfl), Or.inl (lw_g (lw_at lw_m4 153 rfl) rfl), gJ2_get⟩, Or.inl ⟨3, (RJ2, TJ2, 3, tyJ2, 3), rfl, rfl, rfl⟩, Or.inl (lw_g (lw_at lw_m4 153 rfl) rfl)⟩⟩, ?_⟩
  refine List.forall_mem_cons.mpr ⟨⟨fun _ => by decide +kernel, ⟨"java/util/ArrayList", ⟨(lw_g (lw_at lw_m5 181 rfl) rfl), (lw_g (lw_at lw_m5 182 rfl) rfl), Or.inl (lw_g (lw_at lw_m5 183 rfl) rfl), gJ2_set⟩, Or.inl ⟨3, (RJ2, TJ2, 3, tyJ2, 3), rfl, rfl, rfl⟩, Or.inl (lw_g (lw_at lw_m5 183 rfl) rfl)⟩⟩, ?_⟩
  refine List.forall_mem_cons.mpr ⟨⟨fun _ => by decide +kernel, ⟨"java/util/ArrayList", ⟨(lw_g (lw_at lw_m5 150 rfl) rfl), (lw_g (lw_at lw_m5 151 rfl) rfl), Or.inl (lw_g (lw_at lw_m5 152 rfl) rfl), gJ2_clear⟩, Or.inl ⟨3, (RJ2, TJ2, 3, tyJ2, 3), rfl, rfl, rfl⟩, Or.inl (lw_g (lw_at lw_m5 152 rfl) rfl)⟩⟩, ?_⟩
  refine List.forall_mem_cons.mpr ⟨⟨fun _ => by decide +kernel, ⟨"ConditionedProofs$Walk", ⟨(lw_g (lw_at lw_m5 146 rfl) rfl), (lw_g (lw_at lw_m5 148 rfl) rfl), Or.inl qs15, gX7_begin⟩, Or.inl ⟨8, (RX7, TX7, 2, tyX7, 2), rfl, rfl, rfl⟩, Or.inl qs15⟩⟩, ?_⟩
  refine List.forall_mem_cons.mpr ⟨⟨fun _ => by decide +kernel, ⟨"java/util/ArrayList", ⟨(lw_g (lw_at lw_m5 155 rfl) rfl), (lw_g (lw_at lw_m5 156 rfl) rfl), Or.inl (lw_g (lw_at lw_m5 157 rfl) rfl), gJ2_isEmpty⟩, Or.inl ⟨3, (RJ2, TJ2, 3, tyJ2, 3), rfl, rfl, rfl⟩, Or.inl (lw_g (lw_at lw_m5 157 rfl) rfl)⟩⟩, ?_⟩
  refine List.forall_mem_cons.mpr ⟨⟨fun _ => by decide +kernel, ⟨Or.inl (lw_g (lw_at lw_m5 159 rfl) rfl), (lw_g (lw_at lw_m5 160 rfl) rfl), gX7_pop⟩⟩, ?_⟩
  refine List.forall_mem_cons.mpr ⟨⟨fun _ => by decide +kernel, ⟨Or.inl (lw_g (lw_at lw_m5 177 rfl) rfl), (lw_g (lw_at lw_m5 178 rfl) rfl), gX7_push⟩⟩, ?_⟩
  refine List.forall_mem_cons.mpr ⟨⟨fun _ => by decide +kernel, ⟨"ConditionedProofs$Value", ⟨(lw_g (lw_at lw_m5 236 rfl) rfl), (lw_g (lw_at lw_m4 178 rfl) rfl), Or.inl (lw_g (lw_at lw_m4 179 rfl) rfl), gX9_is⟩, Or.inl ⟨10, (RX9, TX9, 5, tyX9, 5), rfl, rfl, rfl⟩, Or.inl (lw_g (lw_at lw_m4 179 rfl) rfl)⟩⟩, ?_⟩
  refine List.forall_mem_cons.mpr ⟨⟨fun _ => by decide +kernel, ⟨"ConditionedProofs$Walk", ⟨(lw_g (lw_at lw_m5 231 rfl) rfl), (lw_g (lw_at lw_m5 233 rfl) rfl), Or.inl qs17, gX7_pair⟩, Or.inl ⟨8, (RX7, TX7, 2, tyX7, 2), rfl, rfl, rfl⟩, Or.inl qs17⟩⟩, ?_⟩
  refine List.forall_mem_cons.mpr ⟨⟨fun _ => by decide +kernel, ⟨"ConditionedProofs$Walk", ⟨(lw_g (lw_at lw_m5 239 rfl) rfl), (lw_g (lw_at lw_m6 1 rfl) rfl), Or.inl qs18, gX7_level⟩, Or.inl ⟨8, (RX7, TX7, 2, tyX7, 2), rfl, rfl, rfl⟩, Or.inl qs18⟩⟩, ?_⟩
  refine List.forall_mem_cons.mpr ⟨⟨fun _ => by decide +kernel, ⟨"ConditionedProofs$Walk", ⟨(lw_g (lw_at lw_m6 11 rfl) rfl), (lw_g (lw_at lw_m5 143 rfl) rfl), Or.inl (lw_g (lw_at lw_m5 144 rfl) rfl), gX7_nodes⟩, Or.inl ⟨8, (RX7, TX7, 2, tyX7, 2), rfl, rfl, rfl⟩, Or.inl (lw_g (lw_at lw_m5 144 rfl) rfl)⟩⟩, ?_⟩
  refine List.forall_mem_cons.mpr ⟨⟨fun _ => by decide +kernel, ⟨"ConditionedProofs$Walk", ⟨(lw_g (lw_at lw_m6 12 rfl) rfl), (lw_g (lw_at lw_m6 13 rfl) rfl), Or.inl (lw_g (lw_at lw_m6 14 rfl) rfl), gX7_lies⟩, Or.inl ⟨8, (RX7, TX7, 2, tyX7, 2), rfl, rfl, rfl⟩, Or.inl (lw_g (lw_at lw_m6 14 rfl) rfl)⟩⟩, ?_⟩
  exact fun q h => absurd h List.not_mem_nil
set_option maxRecDepth 100000 in
theorem mT_17_ok : ∀ q ∈ mT_17, ciOK (clsS 17) q.1 q.2 := by
  refine List.forall_mem_cons.mpr ⟨⟨fun h => absurd h (by decide), (lw_g (lw_at lw_m1 194 rfl) rfl)⟩, ?_⟩
  refine List.forall_mem_cons.mpr ⟨⟨fun _ => by decide +kernel, ⟨Or.inl (lw_g (lw_at lw_m1 196 rfl) rfl), rfl, (lw_g (lw_at lw_m1 133 rfl) rfl), (lw_g (lw_at lw_m1 134 rfl) rfl), gJ4_init⟩⟩, ?_⟩
  refine List.forall_mem_cons.mpr ⟨⟨fun _ => by decide +kernel, ⟨Or.inl (lw_g (lw_at lw_m1 198 rfl) rfl), rfl, (lw_g (lw_at lw_m1 69 rfl) rfl), (lw_g (lw_at lw_m1 70 rfl) rfl), gJ2_init⟩⟩, ?_⟩
  refine List.forall_mem_cons.mpr ⟨⟨fun _ => by decide +kernel, ⟨"java/lang/StringBuilder", ⟨(lw_g (lw_at lw_m6 54 rfl) rfl), (lw_g (lw_at lw_m2 230 rfl) rfl), Or.inl (lw_g (lw_at lw_m2 231 rfl) rfl), gJ4_setLength⟩, Or.inl ⟨5, (RJ4, TJ4, 4, tyJ4, 4), rfl, rfl, rfl⟩, Or.inl (lw_g (lw_at lw_m2 231 rfl) rfl)⟩⟩, ?_⟩
  refine List.forall_mem_cons.mpr ⟨⟨fun _ => by decide +kernel, ⟨"java/util/ArrayList", ⟨(lw_g (lw_at lw_m6 55 rfl) rfl), (lw_g (lw_at lw_m5 151 rfl) rfl), Or.inl (lw_g (lw_at lw_m5 152 rfl) rfl), gJ2_clear⟩, Or.inl ⟨3, (RJ2, TJ2, 3, tyJ2, 3), rfl, rfl, rfl⟩, Or.inl (lw_g (lw_at lw_m5 152 rfl) rfl)⟩⟩, ?_⟩
  refine List.forall_mem_cons.mpr ⟨⟨fun _ => by decide +kernel, ⟨"java/util/ArrayList", ⟨(lw_g (lw_at lw_m6 56 rfl) rfl), (lw_g (lw_at lw_m4 84 rfl) rfl), Or.inl (lw_g (lw_at lw_m4 85 rfl) rfl), gJ2_add⟩, Or.inl ⟨3, (RJ2, TJ2, 3, tyJ2, 3), rfl, rfl, rfl⟩, Or.inl (lw_g (lw_at lw_m4 85 rfl) rfl)⟩⟩, ?_⟩
  refine List.forall_mem_cons.mpr ⟨⟨fun _ => by decide +kernel, ⟨"java/util/ArrayList", ⟨(lw_g (lw_at lw_m6 57 rfl) rfl), (lw_g (lw_at lw_m5 156 rfl) rfl), Or.inl (lw_g (lw_at lw_m5 157 rfl) rfl), gJ2_isEmpty⟩, Or.inl ⟨3, (RJ2, TJ2, 3, tyJ2, 3), rfl, rfl, rfl⟩, Or.inl (lw_g (lw_at lw_m5 157 rfl) rfl)⟩⟩, ?_⟩
  refine List.forall_mem_cons.mpr ⟨⟨fun _ => by decide +kernel, ⟨"java/lang/StringBuilder", ⟨(lw_g (lw_at lw_m6 58 rfl) rfl), (lw_g (lw_at lw_m2 124 rfl) rfl), Or.inl (lw_g (lw_at lw_m2 125 rfl) rfl), gJ4_length⟩, Or.inl ⟨5, (RJ4, TJ4, 4, tyJ4, 4), rfl, rfl, rfl⟩, Or.inl (lw_g (lw_at lw_m2 125 rfl) rfl)⟩⟩, ?_⟩
  refine List.forall_mem_cons.mpr ⟨⟨fun _ => by decide +kernel, ⟨"java/util/ArrayList", ⟨(lw_g (lw_at lw_m6 59 rfl) rfl), (lw_g (lw_at lw_m4 144 rfl) rfl), Or.inl (lw_g (lw_at lw_m4 145 rfl) rfl), gJ2_size⟩, Or.inl ⟨3, (RJ2, TJ2, 3, tyJ2, 3), rfl, rfl, rfl⟩, Or.inl (lw_g (lw_at lw_m4 145 rfl) rfl)⟩⟩, ?_⟩
  refine List.forall_mem_cons.mpr ⟨⟨fun _ => by decide +kernel, ⟨"java/util/ArrayList", ⟨(lw_g (lw_at lw_m6 60 rfl) rfl), (lw_g (lw_at lw_m5 164 rfl) rfl), Or.inl (lw_g (lw_at lw_m5 165 rfl) rfl), gJ2_remove⟩, Or.inl ⟨3, (RJ2, TJ2, 3, tyJ2, 3), rfl, rfl, rfl⟩, Or.inl (lw_g (lw_at lw_m5 165 rfl) rfl)⟩⟩, ?_⟩
  refine List.forall_mem_cons.mpr ⟨⟨fun _ => by decide +kernel, ⟨"ConditionedProofs$Writer", ⟨(lw_g (lw_at lw_m6 62 rfl) rfl), (lw_g (lw_at lw_m6 64 rfl) rfl), Or.inl qs20, gX5_one⟩, Or.inl ⟨6, (RX5, TX5, 3, tyX5, 3), rfl, rfl, rfl⟩, Or.inl qs20⟩⟩, ?_⟩
  refine List.forall_mem_cons.mpr ⟨⟨fun _ => by decide +kernel, ⟨"java/lang/StringBuilder", ⟨(lw_g (lw_at lw_m6 76 rfl) rfl), (lw_g (lw_at lw_m4 1 rfl) rfl), Or.inl (lw_g (lw_at lw_m4 2 rfl) rfl), gJ4_charAt⟩, Or.inl ⟨5, (RJ4, TJ4, 4, tyJ4, 4), rfl, rfl, rfl⟩, Or.inl (lw_g (lw_at lw_m4 2 rfl) rfl)⟩⟩, ?_⟩
  refine List.forall_mem_cons.mpr ⟨⟨fun _ => by decide +kernel, ⟨"java/lang/StringBuilder", ⟨(lw_g (lw_at lw_m6 66 rfl) rfl), (lw_g (lw_at lw_m2 131 rfl) rfl), Or.inl (lw_g (lw_at lw_m2 132 rfl) rfl), gJ4_append⟩, Or.inl ⟨5, (RJ4, TJ4, 4, tyJ4, 4), rfl, rfl, rfl⟩, Or.inl (lw_g (lw_at lw_m2 132 rfl) rfl)⟩⟩, ?_⟩
  refine List.forall_mem_cons.mpr ⟨⟨fun _ => by decide +kernel, ⟨"ConditionedProofs$Value", ⟨(lw_g (lw_at lw_m6 67 rfl) rfl), (lw_g (lw_at lw_m5 174 rfl) rfl), Or.inl (lw_g (lw_at lw_m5 175 rfl) rfl), gX9_seen⟩, Or.inl ⟨10, (RX9, TX9, 5, tyX9, 5), rfl, rfl, rfl⟩, Or.inl (lw_g (lw_at lw_m5 175 rfl) rfl)⟩⟩, ?_⟩
  refine List.forall_mem_cons.mpr ⟨⟨fun _ => by decide +kernel, ⟨(⟨"ConditionedProofs$Sort", "ordinal", "()I"⟩ : MethodName), "java/lang/Enum", "ConditionedProofs$Sort", ⟨(lw_g (lw_at lw_m6 68 rfl) rfl), (lw_g (lw_at lw_m6 69 rfl) rfl), (lw_g (lw_at lw_m4 175 rfl) rfl), ⟨_, _, _, (lw_g (lw_at lw_m4 176 rfl) rfl)⟩, ⟨by decide, by decide⟩, (lw_g (lw_at lw_m6 70 rfl) rfl), (lw_g (lw_at lw_m4 175 rfl) rfl), rfl, gJ7_ordinal⟩, Or.inr ⟨2, by decide, rfl, rfl⟩⟩⟩, ?_⟩
  refine List.forall_mem_cons.mpr ⟨⟨fun _ => by decide +kernel, ⟨"java/lang/StringBuilder", ⟨(lw_g (lw_at lw_m6 71 rfl) rfl), (lw_g (lw_at lw_m3 97 rfl) rfl), Or.inl (lw_g (lw_at lw_m3 98 rfl) rfl), gJ4_append_3⟩, Or.inl ⟨5, (RJ4, TJ4, 4, tyJ4, 4), rfl, rfl, rfl⟩, Or.inl (lw_g (lw_at lw_m3 98 rfl) rfl)⟩⟩, ?_⟩
  refine List.forall_mem_cons.mpr ⟨⟨fun _ => by decide +kernel, ⟨Or.inr ⟨"ConditionedProofs", (lw_at lw_m6 72 rfl)⟩, (lw_g (lw_at lw_m5 178 rfl) rfl), gX7_push⟩⟩, ?_⟩
  refine List.forall_mem_cons.mpr ⟨⟨fun _ => by decide +kernel, ⟨"ConditionedProofs$Value", ⟨(lw_g (lw_at lw_m6 74 rfl) rfl), (lw_g (lw_at lw_m4 178 rfl) rfl), Or.inl (lw_g (lw_at lw_m4 179 rfl) rfl), gX9_is⟩, Or.inl ⟨10, (RX9, TX9, 5, tyX9, 5), rfl, rfl, rfl⟩, Or.inl (lw_g (lw_at lw_m4 179 rfl) rfl)⟩⟩, ?_⟩
  exact fun q h => absurd h List.not_mem_nil
set_option maxRecDepth 100000 in
theorem mT_18_ok : ∀ q ∈ mT_18, ciOK (clsS 18) q.1 q.2 := by
  refine List.forall_mem_cons.mpr ⟨⟨fun _ => by decide +kernel, ⟨"ConditionedProofs", ⟨(lw_g (lw_at lw_m6 142 rfl) rfl), (lw_g (lw_at lw_m6 143 rfl) rfl), Or.inl (lw_g (lw_at lw_m6 144 rfl) rfl), gX1_declare⟩, Or.inl ⟨0, (RX1, TX1, 8, tyX1, 8), rfl, rfl, rfl⟩, Or.inl (lw_g (lw_at lw_m6 144 rfl) rfl)⟩⟩, ?_⟩
  refine List.forall_mem_cons.mpr ⟨⟨fun _ => by decide +kernel, ⟨"ConditionedProofs", ⟨(lw_g (lw_at lw_m6 226 rfl) rfl), (lw_g (lw_at lw_m6 227 rfl) rfl), Or.inl (lw_g (lw_at lw_m6 228 rfl) rfl), gX1_program⟩, Or.inl ⟨0, (RX1, TX1, 8, tyX1, 8), rfl, rfl, rfl⟩, Or.inl (lw_g (lw_at lw_m6 228 rfl) rfl)⟩⟩, ?_⟩
  refine List.forall_mem_cons.mpr ⟨⟨fun _ => by decide +kernel, ⟨"ConditionedProofs", ⟨(lw_g (lw_at lw_m7 138 rfl) rfl), (lw_g (lw_at lw_m7 139 rfl) rfl), Or.inl (lw_g (lw_at lw_m7 140 rfl) rfl), gX1_lemma⟩, Or.inl ⟨0, (RX1, TX1, 8, tyX1, 8), rfl, rfl, rfl⟩, Or.inl (lw_g (lw_at lw_m7 140 rfl) rfl)⟩⟩, ?_⟩
  refine List.forall_mem_cons.mpr ⟨⟨fun _ => by decide +kernel, ⟨"ConditionedProofs", ⟨(lw_g (lw_at lw_m7 150 rfl) rfl), (lw_g (lw_at lw_m7 151 rfl) rfl), Or.inl (lw_g (lw_at lw_m7 152 rfl) rfl), gX1_retract⟩, Or.inl ⟨0, (RX1, TX1, 8, tyX1, 8), rfl, rfl, rfl⟩, Or.inl (lw_g (lw_at lw_m7 152 rfl) rfl)⟩⟩, ?_⟩
  refine List.forall_mem_cons.mpr ⟨⟨fun _ => by decide +kernel, ⟨"ConditionedProofs", ⟨(lw_g (lw_at lw_m7 157 rfl) rfl), (lw_g (lw_at lw_m7 158 rfl) rfl), Or.inl (lw_g (lw_at lw_m7 159 rfl) rfl), gX1_run⟩, Or.inl ⟨0, (RX1, TX1, 8, tyX1, 8), rfl, rfl, rfl⟩, Or.inl (lw_g (lw_at lw_m7 159 rfl) rfl)⟩⟩, ?_⟩
  refine List.forall_mem_cons.mpr ⟨⟨fun _ => by decide +kernel, ⟨Or.inl (lw_g (lw_at lw_m1 48 rfl) rfl), rfl, (lw_g (lw_at lw_m1 49 rfl) rfl), (lw_g (lw_at lw_m1 50 rfl) rfl), gX1_init⟩⟩, ?_⟩
  refine List.forall_mem_cons.mpr ⟨⟨fun _ => by decide +kernel, ⟨Or.inl (lw_g (lw_at lw_m7 172 rfl) rfl), rfl, (lw_g (lw_at lw_m7 173 rfl) rfl), (lw_g (lw_at lw_m7 174 rfl) rfl), gX10_init⟩⟩, ?_⟩
  refine List.forall_mem_cons.mpr ⟨⟨fun _ => by decide +kernel, ⟨"ConditionedProofs", ⟨(lw_g (lw_at lw_m2 119 rfl) rfl), (lw_g (lw_at lw_m2 120 rfl) rfl), Or.inl (lw_g (lw_at lw_m2 121 rfl) rfl), gX1_type⟩, Or.inl ⟨0, (RX1, TX1, 8, tyX1, 8), rfl, rfl, rfl⟩, Or.inl (lw_g (lw_at lw_m2 121 rfl) rfl)⟩⟩, ?_⟩
  refine List.forall_mem_cons.mpr ⟨⟨fun _ => by decide +kernel, ⟨"ConditionedProofsModel", ⟨(lw_g (lw_at lw_m8 200 rfl) rfl), (lw_g (lw_at lw_m8 201 rfl) rfl), Or.inl (lw_g (lw_at lw_m8 202 rfl) rfl), gX10_type⟩, Or.inl ⟨24, (RX10, TX10, 86, tyX10, 86), rfl, rfl, rfl⟩, Or.inl (lw_g (lw_at lw_m8 202 rfl) rfl)⟩⟩, ?_⟩
  refine List.forall_mem_cons.mpr ⟨⟨fun _ => by decide +kernel, ⟨"ConditionedProofs", ⟨(lw_g (lw_at lw_m2 225 rfl) rfl), (lw_g (lw_at lw_m2 226 rfl) rfl), Or.inl (lw_g (lw_at lw_m2 227 rfl) rfl), gX1_wipe⟩, Or.inl ⟨0, (RX1, TX1, 8, tyX1, 8), rfl, rfl, rfl⟩, Or.inl (lw_g (lw_at lw_m2 227 rfl) rfl)⟩⟩, ?_⟩
  refine List.forall_mem_cons.mpr ⟨⟨fun _ => by decide +kernel, ⟨"ConditionedProofsModel", ⟨(lw_g (lw_at lw_m8 204 rfl) rfl), (lw_g (lw_at lw_m8 205 rfl) rfl), Or.inl (lw_g (lw_at lw_m8 206 rfl) rfl), gX10_wipe⟩, Or.inl ⟨24, (RX10, TX10, 86, tyX10, 86), rfl, rfl, rfl⟩, Or.inl (lw_g (lw_at lw_m8 206 rfl) rfl)⟩⟩, ?_⟩
  refine List.forall_mem_cons.mpr ⟨⟨fun _ => by decide +kernel, ⟨Or.inl (lw_g (lw_at lw_m6 137 rfl) rfl), (lw_g (lw_at lw_m6 138 rfl) rfl), gX0_declare⟩⟩, ?_⟩
  refine List.forall_mem_cons.mpr ⟨⟨fun _ => by decide +kernel, ⟨"ConditionedProofsModel", ⟨(lw_g (lw_at lw_m8 208 rfl) rfl), (lw_g (lw_at lw_m8 209 rfl) rfl), Or.inl (lw_g (lw_at lw_m8 210 rfl) rfl), gX10_declare⟩, Or.inl ⟨24, (RX10, TX10, 86, tyX10, 86), rfl, rfl, rfl⟩, Or.inl (lw_g (lw_at lw_m8 210 rfl) rfl)⟩⟩, ?_⟩
  refine List.forall_mem_cons.mpr ⟨⟨fun _ => by decide +kernel, ⟨"ConditionedProofsModel", ⟨(lw_g (lw_at lw_m8 196 rfl) rfl), (lw_g (lw_at lw_m8 197 rfl) rfl), Or.inl (lw_g (lw_at lw_m8 198 rfl) rfl), gX10_thrown⟩, Or.inl ⟨24, (RX10, TX10, 86, tyX10, 86), rfl, rfl, rfl⟩, Or.inl (lw_g (lw_at lw_m8 198 rfl) rfl)⟩⟩, ?_⟩
  refine List.forall_mem_cons.mpr ⟨⟨fun _ => by decide +kernel, ⟨Or.inl (lw_g (lw_at lw_m6 223 rfl) rfl), (lw_g (lw_at lw_m6 224 rfl) rfl), gX0_program⟩⟩, ?_⟩
  refine List.forall_mem_cons.mpr ⟨⟨fun _ => by decide +kernel, ⟨"ConditionedProofsModel", ⟨(lw_g (lw_at lw_m9 185 rfl) rfl), (lw_g (lw_at lw_m9 186 rfl) rfl), Or.inl (lw_g (lw_at lw_m9 187 rfl) rfl), gX10_program⟩, Or.inl ⟨24, (RX10, TX10, 86, tyX10, 86), rfl, rfl, rfl⟩, Or.inl (lw_g (lw_at lw_m9 187 rfl) rfl)⟩⟩, ?_⟩
  refine List.forall_mem_cons.mpr ⟨⟨fun _ => by decide +kernel, ⟨"ConditionedProofs", ⟨(lw_g (lw_at lw_m3 206 rfl) rfl), (lw_g (lw_at lw_m3 207 rfl) rfl), Or.inl (lw_g (lw_at lw_m3 208 rfl) rfl), gX1_check⟩, Or.inl ⟨0, (RX1, TX1, 8, tyX1, 8), rfl, rfl, rfl⟩, Or.inl (lw_g (lw_at lw_m3 208 rfl) rfl)⟩⟩, ?_⟩
  refine List.forall_mem_cons.mpr ⟨⟨fun _ => by decide +kernel, ⟨"ConditionedProofsModel", ⟨(lw_g (lw_at lw_m9 197 rfl) rfl), (lw_g (lw_at lw_m9 198 rfl) rfl), Or.inl (lw_g (lw_at lw_m9 199 rfl) rfl), gX10_check⟩, Or.inl ⟨24, (RX10, TX10, 86, tyX10, 86), rfl, rfl, rfl⟩, Or.inl (lw_g (lw_at lw_m9 199 rfl) rfl)⟩⟩, ?_⟩
  refine List.forall_mem_cons.mpr ⟨⟨fun _ => by decide +kernel, ⟨Or.inl (lw_g (lw_at lw_m7 135 rfl) rfl), (lw_g (lw_at lw_m7 136 rfl) rfl), gX0_lemma⟩⟩, ?_⟩
  refine List.forall_mem_cons.mpr ⟨⟨fun _ => by decide +kernel, ⟨"ConditionedProofsModel", ⟨(lw_g (lw_at lw_m9 214 rfl) rfl), (lw_g (lw_at lw_m9 215 rfl) rfl), Or.inl (lw_g (lw_at lw_m9 216 rfl) rfl), gX10_lemma⟩, Or.inl ⟨24, (RX10, TX10, 86, tyX10, 86), rfl, rfl, rfl⟩, Or.inl (lw_g (lw_at lw_m9 216 rfl) rfl)⟩⟩, ?_⟩
  refine List.forall_mem_cons.mpr ⟨⟨fun _ => by decide +kernel, ⟨Or.inl (lw_g (lw_at lw_m7 147 rfl) rfl), (lw_g (lw_at lw_m7 148 rfl) rfl), gX0_retract⟩⟩, ?_⟩
  refine List.forall_mem_cons.mpr ⟨⟨fun _ => by decide +kernel, ⟨"ConditionedProofsModel", ⟨(lw_g (lw_at lw_m9 218 rfl) rfl), (lw_g (lw_at lw_m9 219 rfl) rfl), Or.inl (lw_g (lw_at lw_m9 220 rfl) rfl), gX10_retract⟩, Or.inl ⟨24, (RX10, TX10, 86, tyX10, 86), rfl, rfl, rfl⟩, Or.inl (lw_g (lw_at lw_m9 220 rfl) rfl)⟩⟩, ?_⟩
  refine List.forall_mem_cons.mpr ⟨⟨fun _ => by decide +kernel, ⟨Or.inl (lw_g (lw_at lw_m7 154 rfl) rfl), (lw_g (lw_at lw_m7 155 rfl) rfl), gX0_run⟩⟩, ?_⟩
  refine List.forall_mem_cons.mpr ⟨⟨fun _ => by decide +kernel, ⟨"ConditionedProofsModel", ⟨(lw_g (lw_at lw_m9 222 rfl) rfl), (lw_g (lw_at lw_m9 223 rfl) rfl), Or.inl (lw_g (lw_at lw_m9 224 rfl) rfl), gX10_run⟩, Or.inl ⟨24, (RX10, TX10, 86, tyX10, 86), rfl, rfl, rfl⟩, Or.inl (lw_g (lw_at lw_m9 224 rfl) rfl)⟩⟩, ?_⟩
  refine List.forall_mem_cons.mpr ⟨⟨fun _ => by decide +kernel, ⟨"ConditionedProofs", ⟨(lw_g (lw_at lw_m6 86 rfl) rfl), (lw_g (lw_at lw_m6 87 rfl) rfl), Or.inl (lw_g (lw_at lw_m6 88 rfl) rfl), gX1_steps⟩, Or.inl ⟨0, (RX1, TX1, 8, tyX1, 8), rfl, rfl, rfl⟩, Or.inl (lw_g (lw_at lw_m6 88 rfl) rfl)⟩⟩, ?_⟩
  refine List.forall_mem_cons.mpr ⟨⟨fun _ => by decide +kernel, ⟨"ConditionedProofsModel", ⟨(lw_g (lw_at lw_m9 226 rfl) rfl), (lw_g (lw_at lw_m9 227 rfl) rfl), Or.inl (lw_g (lw_at lw_m9 228 rfl) rfl), gX10_steps⟩, Or.inl ⟨24, (RX10, TX10, 86, tyX10, 86), rfl, rfl, rfl⟩, Or.inl (lw_g (lw_at lw_m9 228 rfl) rfl)⟩⟩, ?_⟩
  refine List.forall_mem_cons.mpr ⟨⟨fun _ => by decide +kernel, ⟨"ConditionedProofs", ⟨(lw_g (lw_at lw_m6 90 rfl) rfl), (lw_g (lw_at lw_m6 91 rfl) rfl), Or.inl (lw_g (lw_at lw_m6 92 rfl) rfl), gX1_kind⟩, Or.inl ⟨0, (RX1, TX1, 8, tyX1, 8), rfl, rfl, rfl⟩, Or.inl (lw_g (lw_at lw_m6 92 rfl) rfl)⟩⟩, ?_⟩
  refine List.forall_mem_cons.mpr ⟨⟨fun _ => by decide +kernel, ⟨"ConditionedProofsModel", ⟨(lw_g (lw_at lw_m9 230 rfl) rfl), (lw_g (lw_at lw_m9 231 rfl) rfl), Or.inl (lw_g (lw_at lw_m9 232 rfl) rfl), gX10_kind⟩, Or.inl ⟨24, (RX10, TX10, 86, tyX10, 86), rfl, rfl, rfl⟩, Or.inl (lw_g (lw_at lw_m9 232 rfl) rfl)⟩⟩, ?_⟩
  refine List.forall_mem_cons.mpr ⟨⟨fun _ => by decide +kernel, ⟨"ConditionedProofs", ⟨(lw_g (lw_at lw_m6 111 rfl) rfl), (lw_g (lw_at lw_m6 112 rfl) rfl), Or.inl (lw_g (lw_at lw_m6 113 rfl) rfl), gX1_parameters⟩, Or.inl ⟨0, (RX1, TX1, 8, tyX1, 8), rfl, rfl, rfl⟩, Or.inl (lw_g (lw_at lw_m6 113 rfl) rfl)⟩⟩, ?_⟩
  refine List.forall_mem_cons.mpr ⟨⟨fun _ => by decide +kernel, ⟨"ConditionedProofsModel", ⟨(lw_g (lw_at lw_m9 234 rfl) rfl), (lw_g (lw_at lw_m9 235 rfl) rfl), Or.inl (lw_g (lw_at lw_m9 236 rfl) rfl), gX10_parameters⟩, Or.inl ⟨24, (RX10, TX10, 86, tyX10, 86), rfl, rfl, rfl⟩, Or.inl (lw_g (lw_at lw_m9 236 rfl) rfl)⟩⟩, ?_⟩
  refine List.forall_mem_cons.mpr ⟨⟨fun _ => by decide +kernel, ⟨"ConditionedProofs", ⟨(lw_g (lw_at lw_m6 128 rfl) rfl), (lw_g (lw_at lw_m6 129 rfl) rfl), Or.inl (lw_g (lw_at lw_m6 130 rfl) rfl), gX1_length⟩, Or.inl ⟨0, (RX1, TX1, 8, tyX1, 8), rfl, rfl, rfl⟩, Or.inl (lw_g (lw_at lw_m6 130 rfl) rfl)⟩⟩, ?_⟩
  refine List.forall_mem_cons.mpr ⟨⟨fun _ => by decide +kernel, ⟨"ConditionedProofsModel", ⟨(lw_g (lw_at lw_m9 238 rfl) rfl), (lw_g (lw_at lw_m9 239 rfl) rfl), Or.inl (lw_g (lw_at lw_m10 0 rfl) rfl), gX10_length⟩, Or.inl ⟨24, (RX10, TX10, 86, tyX10, 86), rfl, rfl, rfl⟩, Or.inl (lw_g (lw_at lw_m10 0 rfl) rfl)⟩⟩, ?_⟩
  refine List.forall_mem_cons.mpr ⟨⟨fun _ => by decide +kernel, ⟨"ConditionedProofs", ⟨(lw_g (lw_at lw_m6 132 rfl) rfl), (lw_g (lw_at lw_m6 133 rfl) rfl), Or.inl (lw_g (lw_at lw_m6 134 rfl) rfl), gX1_charAt⟩, Or.inl ⟨0, (RX1, TX1, 8, tyX1, 8), rfl, rfl, rfl⟩, Or.inl (lw_g (lw_at lw_m6 134 rfl) rfl)⟩⟩, ?_⟩
  refine List.forall_mem_cons.mpr ⟨⟨fun _ => by decide +kernel, ⟨"ConditionedProofsModel", ⟨(lw_g (lw_at lw_m10 2 rfl) rfl), (lw_g (lw_at lw_m10 3 rfl) rfl), Or.inl (lw_g (lw_at lw_m10 4 rfl) rfl), gX10_charAt⟩, Or.inl ⟨24, (RX10, TX10, 86, tyX10, 86), rfl, rfl, rfl⟩, Or.inl (lw_g (lw_at lw_m10 4 rfl) rfl)⟩⟩, ?_⟩
  exact fun q h => absurd h List.not_mem_nil
set_option maxRecDepth 100000 in
theorem mT_19_ok : ∀ q ∈ mT_19, ciOK (clsS 19) q.1 q.2 := by
  refine List.forall_mem_cons.mpr ⟨⟨fun h => absurd h (by decide), (lw_g (lw_at lw_m7 175 rfl) rfl)⟩, ?_⟩
  refine List.forall_mem_cons.mpr ⟨⟨fun _ => by decide +kernel, ⟨"ConditionedProofsModel", ⟨(lw_g (lw_at lw_m9 85 rfl) rfl), (lw_g (lw_at lw_m9 87 rfl) rfl), Or.inl qs53, gX10_below⟩, Or.inl ⟨24, (RX10, TX10, 86, tyX10, 86), rfl, rfl, rfl⟩, Or.inl qs53⟩⟩, ?_⟩
  refine List.forall_mem_cons.mpr ⟨⟨fun _ => by decide +kernel, ⟨Or.inl (lw_g (lw_at lw_m8 239 rfl) rfl), (lw_g (lw_at lw_m9 0 rfl) rfl), gX10_isVariable⟩⟩, ?_⟩
  refine List.forall_mem_cons.mpr ⟨⟨fun _ => by decide +kernel, ⟨Or.inl (lw_g (lw_at lw_m9 2 rfl) rfl), (lw_g (lw_at lw_m9 3 rfl) rfl), gX10_isDigit⟩⟩, ?_⟩
  refine List.forall_mem_cons.mpr ⟨⟨fun _ => by decide +kernel, ⟨"ConditionedProofsModel", ⟨(lw_g (lw_at lw_m9 5 rfl) rfl), (lw_g (lw_at lw_m9 7 rfl) rfl), Or.inl qs33, gX10_node⟩, Or.inl ⟨24, (RX10, TX10, 86, tyX10, 86), rfl, rfl, rfl⟩, Or.inl qs33⟩⟩, ?_⟩
  refine List.forall_mem_cons.mpr ⟨⟨fun _ => by decide +kernel, ⟨Or.inl (lw_g (lw_at lw_m8 216 rfl) rfl), (lw_g (lw_at lw_m8 217 rfl) rfl), gX10_isLetter⟩⟩, ?_⟩
  refine List.forall_mem_cons.mpr ⟨⟨fun _ => by decide +kernel, ⟨"ConditionedProofsModel", ⟨(lw_g (lw_at lw_m8 223 rfl) rfl), (lw_g (lw_at lw_m8 225 rfl) rfl), Or.inl qs29, gX10_push⟩, Or.inl ⟨24, (RX10, TX10, 86, tyX10, 86), rfl, rfl, rfl⟩, Or.inl qs29⟩⟩, ?_⟩
  refine List.forall_mem_cons.mpr ⟨⟨fun _ => by decide +kernel, ⟨"ConditionedProofsModel", ⟨(lw_g (lw_at lw_m9 13 rfl) rfl), (lw_g (lw_at lw_m9 15 rfl) rfl), Or.inl qs35, gX10_part⟩, Or.inl ⟨24, (RX10, TX10, 86, tyX10, 86), rfl, rfl, rfl⟩, Or.inl qs35⟩⟩, ?_⟩
  refine List.forall_mem_cons.mpr ⟨⟨fun _ => by decide +kernel, ⟨"ConditionedProofsModel", ⟨(lw_g (lw_at lw_m8 235 rfl) rfl), (lw_g (lw_at lw_m8 237 rfl) rfl), Or.inl qs32, gX10_beginTerm⟩, Or.inl ⟨24, (RX10, TX10, 86, tyX10, 86), rfl, rfl, rfl⟩, Or.inl qs32⟩⟩, ?_⟩
  refine List.forall_mem_cons.mpr ⟨⟨fun _ => by decide +kernel, ⟨"ConditionedProofsModel", ⟨(lw_g (lw_at lw_m8 231 rfl) rfl), (lw_g (lw_at lw_m8 233 rfl) rfl), Or.inl qs31, gX10_takeDeclared⟩, Or.inl ⟨24, (RX10, TX10, 86, tyX10, 86), rfl, rfl, rfl⟩, Or.inl qs31⟩⟩, ?_⟩
  refine List.forall_mem_cons.mpr ⟨⟨fun _ => by decide +kernel, ⟨"ConditionedProofsModel", ⟨(lw_g (lw_at lw_m9 17 rfl) rfl), (lw_g (lw_at lw_m9 19 rfl) rfl), Or.inl qs36, gX10_takeCoded⟩, Or.inl ⟨24, (RX10, TX10, 86, tyX10, 86), rfl, rfl, rfl⟩, Or.inl qs36⟩⟩, ?_⟩
  refine List.forall_mem_cons.mpr ⟨⟨fun _ => by decide +kernel, ⟨"ConditionedProofsModel", ⟨(lw_g (lw_at lw_m9 9 rfl) rfl), (lw_g (lw_at lw_m9 11 rfl) rfl), Or.inl qs34, gX10_beginPart⟩, Or.inl ⟨24, (RX10, TX10, 86, tyX10, 86), rfl, rfl, rfl⟩, Or.inl qs34⟩⟩, ?_⟩
  refine List.forall_mem_cons.mpr ⟨⟨fun _ => by decide +kernel, ⟨"ConditionedProofsModel", ⟨(lw_g (lw_at lw_m9 21 rfl) rfl), (lw_g (lw_at lw_m9 23 rfl) rfl), Or.inl qs37, gX10_beginCode⟩, Or.inl ⟨24, (RX10, TX10, 86, tyX10, 86), rfl, rfl, rfl⟩, Or.inl qs37⟩⟩, ?_⟩
  refine List.forall_mem_cons.mpr ⟨⟨fun _ => by decide +kernel, ⟨"ConditionedProofsModel", ⟨(lw_g (lw_at lw_m9 25 rfl) rfl), (lw_g (lw_at lw_m9 27 rfl) rfl), Or.inl qs38, gX10_beginPattern⟩, Or.inl ⟨24, (RX10, TX10, 86, tyX10, 86), rfl, rfl, rfl⟩, Or.inl qs38⟩⟩, ?_⟩
  refine List.forall_mem_cons.mpr ⟨⟨fun _ => by decide +kernel, ⟨"ConditionedProofsModel", ⟨(lw_g (lw_at lw_m8 227 rfl) rfl), (lw_g (lw_at lw_m8 229 rfl) rfl), Or.inl qs30, gX10_take⟩, Or.inl ⟨24, (RX10, TX10, 86, tyX10, 86), rfl, rfl, rfl⟩, Or.inl qs30⟩⟩, ?_⟩
  refine List.forall_mem_cons.mpr ⟨⟨fun _ => by decide +kernel, ⟨"ConditionedProofsModel", ⟨(lw_g (lw_at lw_m9 81 rfl) rfl), (lw_g (lw_at lw_m9 83 rfl) rfl), Or.inl qs52, gX10_behind⟩, Or.inl ⟨24, (RX10, TX10, 86, tyX10, 86), rfl, rfl, rfl⟩, Or.inl qs52⟩⟩, ?_⟩
  refine List.forall_mem_cons.mpr ⟨⟨fun _ => by decide +kernel, ⟨"ConditionedProofsModel", ⟨(lw_g (lw_at lw_m9 53 rfl) rfl), (lw_g (lw_at lw_m9 55 rfl) rfl), Or.inl qs45, gX10_value⟩, Or.inl ⟨24, (RX10, TX10, 86, tyX10, 86), rfl, rfl, rfl⟩, Or.inl qs45⟩⟩, ?_⟩
  refine List.forall_mem_cons.mpr ⟨⟨fun _ => by decide +kernel, ⟨"ConditionedProofsModel", ⟨(lw_g (lw_at lw_m9 125 rfl) rfl), (lw_g (lw_at lw_m9 127 rfl) rfl), Or.inl qs63, gX10_seen⟩, Or.inl ⟨24, (RX10, TX10, 86, tyX10, 86), rfl, rfl, rfl⟩, Or.inl qs63⟩⟩, ?_⟩
  refine List.forall_mem_cons.mpr ⟨⟨fun _ => by decide +kernel, ⟨"ConditionedProofsModel", ⟨(lw_g (lw_at lw_m9 121 rfl) rfl), (lw_g (lw_at lw_m9 123 rfl) rfl), Or.inl qs62, gX10_setOut⟩, Or.inl ⟨24, (RX10, TX10, 86, tyX10, 86), rfl, rfl, rfl⟩, Or.inl qs62⟩⟩, ?_⟩
  refine List.forall_mem_cons.mpr ⟨⟨fun _ => by decide +kernel, ⟨"ConditionedProofsModel", ⟨(lw_g (lw_at lw_m9 129 rfl) rfl), (lw_g (lw_at lw_m9 131 rfl) rfl), Or.inl qs64, gX10_further⟩, Or.inl ⟨24, (RX10, TX10, 86, tyX10, 86), rfl, rfl, rfl⟩, Or.inl qs64⟩⟩, ?_⟩
  refine List.forall_mem_cons.mpr ⟨⟨fun _ => by decide +kernel, ⟨"ConditionedProofsModel", ⟨(lw_g (lw_at lw_m9 149 rfl) rfl), (lw_g (lw_at lw_m9 151 rfl) rfl), Or.inl qs69, gX10_firstPair⟩, Or.inl ⟨24, (RX10, TX10, 86, tyX10, 86), rfl, rfl, rfl⟩, Or.inl qs69⟩⟩, ?_⟩
  refine List.forall_mem_cons.mpr ⟨⟨fun _ => by decide +kernel, ⟨"ConditionedProofsModel", ⟨(lw_g (lw_at lw_m9 117 rfl) rfl), (lw_g (lw_at lw_m9 119 rfl) rfl), Or.inl qs61, gX10_isLarge⟩, Or.inl ⟨24, (RX10, TX10, 86, tyX10, 86), rfl, rfl, rfl⟩, Or.inl qs61⟩⟩, ?_⟩
  refine List.forall_mem_cons.mpr ⟨⟨fun _ => by decide +kernel, ⟨"ConditionedProofsModel", ⟨(lw_g (lw_at lw_m9 165 rfl) rfl), (lw_g (lw_at lw_m9 167 rfl) rfl), Or.inl qs73, gX10_lies⟩, Or.inl ⟨24, (RX10, TX10, 86, tyX10, 86), rfl, rfl, rfl⟩, Or.inl qs73⟩⟩, ?_⟩
  refine List.forall_mem_cons.mpr ⟨⟨fun _ => by decide +kernel, ⟨"ConditionedProofsModel", ⟨(lw_g (lw_at lw_m9 153 rfl) rfl), (lw_g (lw_at lw_m9 155 rfl) rfl), Or.inl qs70, gX10_isLevel⟩, Or.inl ⟨24, (RX10, TX10, 86, tyX10, 86), rfl, rfl, rfl⟩, Or.inl qs70⟩⟩, ?_⟩
  refine List.forall_mem_cons.mpr ⟨⟨fun _ => by decide +kernel, ⟨"ConditionedProofsModel", ⟨(lw_g (lw_at lw_m9 157 rfl) rfl), (lw_g (lw_at lw_m9 159 rfl) rfl), Or.inl qs71, gX10_nextPair⟩, Or.inl ⟨24, (RX10, TX10, 86, tyX10, 86), rfl, rfl, rfl⟩, Or.inl qs71⟩⟩, ?_⟩
  refine List.forall_mem_cons.mpr ⟨⟨fun _ => by decide +kernel, ⟨"ConditionedProofsModel", ⟨(lw_g (lw_at lw_m9 205 rfl) rfl), (lw_g (lw_at lw_m9 207 rfl) rfl), Or.inl qs81, gX10_drawOne⟩, Or.inl ⟨24, (RX10, TX10, 86, tyX10, 86), rfl, rfl, rfl⟩, Or.inl qs81⟩⟩, ?_⟩
  refine List.forall_mem_cons.mpr ⟨⟨fun _ => by decide +kernel, ⟨"ConditionedProofsModel", ⟨(lw_g (lw_at lw_m9 113 rfl) rfl), (lw_g (lw_at lw_m9 115 rfl) rfl), Or.inl qs60, gX10_child⟩, Or.inl ⟨24, (RX10, TX10, 86, tyX10, 86), rfl, rfl, rfl⟩, Or.inl qs60⟩⟩, ?_⟩
  refine List.forall_mem_cons.mpr ⟨⟨fun _ => by decide +kernel, ⟨"ConditionedProofsModel", ⟨(lw_g (lw_at lw_m9 97 rfl) rfl), (lw_g (lw_at lw_m9 99 rfl) rfl), Or.inl qs56, gX10_enter⟩, Or.inl ⟨24, (RX10, TX10, 86, tyX10, 86), rfl, rfl, rfl⟩, Or.inl qs56⟩⟩, ?_⟩
  refine List.forall_mem_cons.mpr ⟨⟨fun _ => by decide +kernel, ⟨"ConditionedProofsModel", ⟨(lw_g (lw_at lw_m9 105 rfl) rfl), (lw_g (lw_at lw_m9 107 rfl) rfl), Or.inl qs58, gX10_give⟩, Or.inl ⟨24, (RX10, TX10, 86, tyX10, 86), rfl, rfl, rfl⟩, Or.inl qs58⟩⟩, ?_⟩
  refine List.forall_mem_cons.mpr ⟨⟨fun _ => by decide +kernel, ⟨"ConditionedProofsModel", ⟨(lw_g (lw_at lw_m9 93 rfl) rfl), (lw_g (lw_at lw_m9 95 rfl) rfl), Or.inl qs55, gX10_bind⟩, Or.inl ⟨24, (RX10, TX10, 86, tyX10, 86), rfl, rfl, rfl⟩, Or.inl qs55⟩⟩, ?_⟩
  refine List.forall_mem_cons.mpr ⟨⟨fun _ => by decide +kernel, ⟨"ConditionedProofsModel", ⟨(lw_g (lw_at lw_m9 145 rfl) rfl), (lw_g (lw_at lw_m9 147 rfl) rfl), Or.inl qs68, gX10_compare⟩, Or.inl ⟨24, (RX10, TX10, 86, tyX10, 86), rfl, rfl, rfl⟩, Or.inl qs68⟩⟩, ?_⟩
  refine List.forall_mem_cons.mpr ⟨⟨fun _ => by decide +kernel, ⟨"ConditionedProofsModel", ⟨(lw_g (lw_at lw_m9 101 rfl) rfl), (lw_g (lw_at lw_m9 103 rfl) rfl), Or.inl qs57, gX10_meaning⟩, Or.inl ⟨24, (RX10, TX10, 86, tyX10, 86), rfl, rfl, rfl⟩, Or.inl qs57⟩⟩, ?_⟩
  refine List.forall_mem_cons.mpr ⟨⟨fun _ => by decide +kernel, ⟨"ConditionedProofsModel", ⟨(lw_g (lw_at lw_m9 109 rfl) rfl), (lw_g (lw_at lw_m9 111 rfl) rfl), Or.inl qs59, gX10_call⟩, Or.inl ⟨24, (RX10, TX10, 86, tyX10, 86), rfl, rfl, rfl⟩, Or.inl qs59⟩⟩, ?_⟩
  refine List.forall_mem_cons.mpr ⟨⟨fun _ => by decide +kernel, ⟨"ConditionedProofsModel", ⟨(lw_g (lw_at lw_m9 133 rfl) rfl), (lw_g (lw_at lw_m9 135 rfl) rfl), Or.inl qs65, gX10_add⟩, Or.inl ⟨24, (RX10, TX10, 86, tyX10, 86), rfl, rfl, rfl⟩, Or.inl qs65⟩⟩, ?_⟩
  refine List.forall_mem_cons.mpr ⟨⟨fun _ => by decide +kernel, ⟨"ConditionedProofsModel", ⟨(lw_g (lw_at lw_m9 137 rfl) rfl), (lw_g (lw_at lw_m9 139 rfl) rfl), Or.inl qs66, gX10_match⟩, Or.inl ⟨24, (RX10, TX10, 86, tyX10, 86), rfl, rfl, rfl⟩, Or.inl qs66⟩⟩, ?_⟩
  refine List.forall_mem_cons.mpr ⟨⟨fun _ => by decide +kernel, ⟨"ConditionedProofsModel", ⟨(lw_g (lw_at lw_m9 141 rfl) rfl), (lw_g (lw_at lw_m9 143 rfl) rfl), Or.inl qs67, gX10_choose⟩, Or.inl ⟨24, (RX10, TX10, 86, tyX10, 86), rfl, rfl, rfl⟩, Or.inl qs67⟩⟩, ?_⟩
  refine List.forall_mem_cons.mpr ⟨⟨fun _ => by decide +kernel, ⟨"ConditionedProofsModel", ⟨(lw_g (lw_at lw_m9 57 rfl) rfl), (lw_g (lw_at lw_m9 59 rfl) rfl), Or.inl qs46, gX10_wrong⟩, Or.inl ⟨24, (RX10, TX10, 86, tyX10, 86), rfl, rfl, rfl⟩, Or.inl qs46⟩⟩, ?_⟩
  refine List.forall_mem_cons.mpr ⟨⟨fun _ => by decide +kernel, ⟨"ConditionedProofsModel", ⟨(lw_g (lw_at lw_m9 65 rfl) rfl), (lw_g (lw_at lw_m9 67 rfl) rfl), Or.inl qs48, gX10_isConditioned⟩, Or.inl ⟨24, (RX10, TX10, 86, tyX10, 86), rfl, rfl, rfl⟩, Or.inl qs48⟩⟩, ?_⟩
  refine List.forall_mem_cons.mpr ⟨⟨fun _ => by decide +kernel, ⟨"ConditionedProofsModel", ⟨(lw_g (lw_at lw_m9 77 rfl) rfl), (lw_g (lw_at lw_m9 79 rfl) rfl), Or.inl qs51, gX10_valueOf⟩, Or.inl ⟨24, (RX10, TX10, 86, tyX10, 86), rfl, rfl, rfl⟩, Or.inl qs51⟩⟩, ?_⟩
  refine List.forall_mem_cons.mpr ⟨⟨fun _ => by decide +kernel, ⟨"ConditionedProofsModel", ⟨(lw_g (lw_at lw_m9 89 rfl) rfl), (lw_g (lw_at lw_m9 91 rfl) rfl), Or.inl qs54, gX10_runs⟩, Or.inl ⟨24, (RX10, TX10, 86, tyX10, 86), rfl, rfl, rfl⟩, Or.inl qs54⟩⟩, ?_⟩
  refine List.forall_mem_cons.mpr ⟨⟨fun _ => by decide +kernel, ⟨"ConditionedProofsModel", ⟨(lw_g (lw_at lw_m9 161 rfl) rfl), (lw_g (lw_at lw_m9 163 rfl) rfl), Or.inl qs72, gX10_makeSame⟩, Or.inl ⟨24, (RX10, TX10, 86, tyX10, 86), rfl, rfl, rfl⟩, Or.inl qs72⟩⟩, ?_⟩
  refine List.forall_mem_cons.mpr ⟨⟨fun _ => by decide +kernel, ⟨"ConditionedProofsModel", ⟨(lw_g (lw_at lw_m9 73 rfl) rfl), (lw_g (lw_at lw_m9 75 rfl) rfl), Or.inl qs50, gX10_condition⟩, Or.inl ⟨24, (RX10, TX10, 86, tyX10, 86), rfl, rfl, rfl⟩, Or.inl qs50⟩⟩, ?_⟩
  refine List.forall_mem_cons.mpr ⟨⟨fun _ => by decide +kernel, ⟨"ConditionedProofsModel", ⟨(lw_g (lw_at lw_m9 169 rfl) rfl), (lw_g (lw_at lw_m9 171 rfl) rfl), Or.inl qs74, gX10_settle⟩, Or.inl ⟨24, (RX10, TX10, 86, tyX10, 86), rfl, rfl, rfl⟩, Or.inl qs74⟩⟩, ?_⟩
  refine List.forall_mem_cons.mpr ⟨⟨fun _ => by decide +kernel, ⟨"ConditionedProofsModel", ⟨(lw_g (lw_at lw_m9 49 rfl) rfl), (lw_g (lw_at lw_m9 51 rfl) rfl), Or.inl qs44, gX10_simple⟩, Or.inl ⟨24, (RX10, TX10, 86, tyX10, 86), rfl, rfl, rfl⟩, Or.inl qs44⟩⟩, ?_⟩
  refine List.forall_mem_cons.mpr ⟨⟨fun _ => by decide +kernel, ⟨"ConditionedProofsModel", ⟨(lw_g (lw_at lw_m9 61 rfl) rfl), (lw_g (lw_at lw_m9 63 rfl) rfl), Or.inl qs47, gX10_begin⟩, Or.inl ⟨24, (RX10, TX10, 86, tyX10, 86), rfl, rfl, rfl⟩, Or.inl qs47⟩⟩, ?_⟩
  refine List.forall_mem_cons.mpr ⟨⟨fun _ => by decide +kernel, ⟨"ConditionedProofsModel", ⟨(lw_g (lw_at lw_m9 69 rfl) rfl), (lw_g (lw_at lw_m9 71 rfl) rfl), Or.inl qs49, gX10_goOn⟩, Or.inl ⟨24, (RX10, TX10, 86, tyX10, 86), rfl, rfl, rfl⟩, Or.inl qs49⟩⟩, ?_⟩
  refine List.forall_mem_cons.mpr ⟨⟨fun _ => by decide +kernel, ⟨"ConditionedProofsModel", ⟨(lw_g (lw_at lw_m9 173 rfl) rfl), (lw_g (lw_at lw_m9 175 rfl) rfl), Or.inl qs75, gX10_suits⟩, Or.inl ⟨24, (RX10, TX10, 86, tyX10, 86), rfl, rfl, rfl⟩, Or.inl qs75⟩⟩, ?_⟩
  refine List.forall_mem_cons.mpr ⟨⟨fun _ => by decide +kernel, ⟨"ConditionedProofsModel", ⟨(lw_g (lw_at lw_m9 45 rfl) rfl), (lw_g (lw_at lw_m9 47 rfl) rfl), Or.inl qs43, gX10_typeOf⟩, Or.inl ⟨24, (RX10, TX10, 86, tyX10, 86), rfl, rfl, rfl⟩, Or.inl qs43⟩⟩, ?_⟩
  refine List.forall_mem_cons.mpr ⟨⟨fun _ => by decide +kernel, ⟨"ConditionedProofsModel", ⟨(lw_g (lw_at lw_m9 33 rfl) rfl), (lw_g (lw_at lw_m9 35 rfl) rfl), Or.inl qs40, gX10_nothing⟩, Or.inl ⟨24, (RX10, TX10, 86, tyX10, 86), rfl, rfl, rfl⟩, Or.inl qs40⟩⟩, ?_⟩
  refine List.forall_mem_cons.mpr ⟨⟨fun _ => by decide +kernel, ⟨"ConditionedProofsModel", ⟨(lw_g (lw_at lw_m9 37 rfl) rfl), (lw_g (lw_at lw_m9 39 rfl) rfl), Or.inl qs41, gX10_noNames⟩, Or.inl ⟨24, (RX10, TX10, 86, tyX10, 86), rfl, rfl, rfl⟩, Or.inl qs41⟩⟩, ?_⟩
  refine List.forall_mem_cons.mpr ⟨⟨fun _ => by decide +kernel, ⟨"ConditionedProofsModel", ⟨(lw_g (lw_at lw_m9 41 rfl) rfl), (lw_g (lw_at lw_m9 43 rfl) rfl), Or.inl qs42, gX10_isRightCondition⟩, Or.inl ⟨24, (RX10, TX10, 86, tyX10, 86), rfl, rfl, rfl⟩, Or.inl qs42⟩⟩, ?_⟩
  refine List.forall_mem_cons.mpr ⟨⟨fun _ => by decide +kernel, ⟨"ConditionedProofsModel", ⟨(lw_g (lw_at lw_m9 177 rfl) rfl), (lw_g (lw_at lw_m9 179 rfl) rfl), Or.inl qs76, gX10_isType⟩, Or.inl ⟨24, (RX10, TX10, 86, tyX10, 86), rfl, rfl, rfl⟩, Or.inl qs76⟩⟩, ?_⟩
  refine List.forall_mem_cons.mpr ⟨⟨fun _ => by decide +kernel, ⟨"ConditionedProofsModel", ⟨(lw_g (lw_at lw_m8 212 rfl) rfl), (lw_g (lw_at lw_m8 214 rfl) rfl), Or.inl qs27, gX10_mayName⟩, Or.inl ⟨24, (RX10, TX10, 86, tyX10, 86), rfl, rfl, rfl⟩, Or.inl qs27⟩⟩, ?_⟩
  refine List.forall_mem_cons.mpr ⟨⟨fun _ => by decide +kernel, ⟨"ConditionedProofsModel", ⟨(lw_g (lw_at lw_m8 219 rfl) rfl), (lw_g (lw_at lw_m8 221 rfl) rfl), Or.inl qs28, gX10_read⟩, Or.inl ⟨24, (RX10, TX10, 86, tyX10, 86), rfl, rfl, rfl⟩, Or.inl qs28⟩⟩, ?_⟩
  refine List.forall_mem_cons.mpr ⟨⟨fun _ => by decide +kernel, ⟨"ConditionedProofsModel", ⟨(lw_g (lw_at lw_m9 29 rfl) rfl), (lw_g (lw_at lw_m9 31 rfl) rfl), Or.inl qs39, gX10_isRight⟩, Or.inl ⟨24, (RX10, TX10, 86, tyX10, 86), rfl, rfl, rfl⟩, Or.inl qs39⟩⟩, ?_⟩
  refine List.forall_mem_cons.mpr ⟨⟨fun _ => by decide +kernel, ⟨"ConditionedProofsModel", ⟨(lw_g (lw_at lw_m9 181 rfl) rfl), (lw_g (lw_at lw_m9 183 rfl) rfl), Or.inl qs77, gX10_remember⟩, Or.inl ⟨24, (RX10, TX10, 86, tyX10, 86), rfl, rfl, rfl⟩, Or.inl qs77⟩⟩, ?_⟩
  refine List.forall_mem_cons.mpr ⟨⟨fun _ => by decide +kernel, ⟨"ConditionedProofsModel", ⟨(lw_g (lw_at lw_m9 193 rfl) rfl), (lw_g (lw_at lw_m9 195 rfl) rfl), Or.inl qs79, gX10_isBound⟩, Or.inl ⟨24, (RX10, TX10, 86, tyX10, 86), rfl, rfl, rfl⟩, Or.inl qs79⟩⟩, ?_⟩
  refine List.forall_mem_cons.mpr ⟨⟨fun _ => by decide +kernel, ⟨"ConditionedProofsModel", ⟨(lw_g (lw_at lw_m9 189 rfl) rfl), (lw_g (lw_at lw_m9 191 rfl) rfl), Or.inl qs78, gX10_isRightCode⟩, Or.inl ⟨24, (RX10, TX10, 86, tyX10, 86), rfl, rfl, rfl⟩, Or.inl qs78⟩⟩, ?_⟩
  refine List.forall_mem_cons.mpr ⟨⟨fun _ => by decide +kernel, ⟨"ConditionedProofsModel", ⟨(lw_g (lw_at lw_m9 201 rfl) rfl), (lw_g (lw_at lw_m9 203 rfl) rfl), Or.inl qs80, gX10_draw⟩, Or.inl ⟨24, (RX10, TX10, 86, tyX10, 86), rfl, rfl, rfl⟩, Or.inl qs80⟩⟩, ?_⟩
  refine List.forall_mem_cons.mpr ⟨⟨fun _ => by decide +kernel, ⟨"ConditionedProofsModel", ⟨(lw_g (lw_at lw_m9 210 rfl) rfl), (lw_g (lw_at lw_m9 212 rfl) rfl), Or.inl qs82, gX10_show⟩, Or.inl ⟨24, (RX10, TX10, 86, tyX10, 86), rfl, rfl, rfl⟩, Or.inl qs82⟩⟩, ?_⟩
  exact fun q h => absurd h List.not_mem_nil
set_option maxRecDepth 100000 in
theorem mT_20_ok : ∀ q ∈ mT_20, ciOK (clsS 20) q.1 q.2 := by
  refine List.forall_mem_cons.mpr ⟨⟨fun h => absurd h (by decide), (lw_g (lw_at lw_m1 138 rfl) rfl)⟩, ?_⟩
  refine List.forall_mem_cons.mpr ⟨⟨fun _ => by decide +kernel, ⟨"java/lang/String", ⟨(lw_g (lw_at lw_m3 72 rfl) rfl), (lw_g (lw_at lw_m3 73 rfl) rfl), Or.inl (lw_g (lw_at lw_m3 74 rfl) rfl), gJ5_length⟩, Or.inl ⟨12, (RJ5, TJ5, 4, tyJ5, 4), rfl, rfl, rfl⟩, Or.inl (lw_g (lw_at lw_m3 74 rfl) rfl)⟩⟩, ?_⟩
  refine List.forall_mem_cons.mpr ⟨⟨fun _ => by decide +kernel, ⟨"java/lang/String", ⟨(lw_g (lw_at lw_m3 89 rfl) rfl), (lw_g (lw_at lw_m3 77 rfl) rfl), Or.inl (lw_g (lw_at lw_m3 78 rfl) rfl), gJ5_coder⟩, Or.inl ⟨12, (RJ5, TJ5, 4, tyJ5, 4), rfl, rfl, rfl⟩, Or.inl (lw_g (lw_at lw_m3 78 rfl) rfl)⟩⟩, ?_⟩
  refine List.forall_mem_cons.mpr ⟨⟨fun _ => by decide +kernel, ⟨"java/lang/StringBuilder", ⟨(lw_g (lw_at lw_m2 172 rfl) rfl), (lw_g (lw_at lw_m2 173 rfl) rfl), Or.inl (lw_g (lw_at lw_m2 175 rfl) rfl), gJ3_isLatin1⟩, Or.inl ⟨5, (RJ4, TJ4, 4, tyJ4, 4), rfl, rfl, rfl⟩, Or.inl (lw_g (lw_at lw_m2 175 rfl) rfl)⟩⟩, ?_⟩
  refine List.forall_mem_cons.mpr ⟨⟨fun _ => by decide +kernel, ⟨"java/lang/StringBuilder", ⟨(lw_g (lw_at lw_m2 137 rfl) rfl), (lw_g (lw_at lw_m2 139 rfl) rfl), Or.inr (lw_at lw_m2 138 rfl), gJ3_ensureCapacityInternal⟩, Or.inl ⟨5, (RJ4, TJ4, 4, tyJ4, 4), rfl, rfl, rfl⟩, Or.inr ⟨0, (lw_g (lw_at lw_m10 9 rfl) rfl), rfl⟩⟩⟩, ?_⟩
  refine List.forall_mem_cons.mpr ⟨⟨fun _ => by decide +kernel, ⟨"java/lang/StringBuilder", ⟨(lw_g (lw_at lw_m2 141 rfl) rfl), (lw_g (lw_at lw_m2 143 rfl) rfl), Or.inr (lw_at lw_m2 142 rfl), gJ3_newCapacity⟩, Or.inl ⟨5, (RJ4, TJ4, 4, tyJ4, 4), rfl, rfl, rfl⟩, Or.inr ⟨0, (lw_g (lw_at lw_m10 10 rfl) rfl), rfl⟩⟩⟩, ?_⟩
  refine List.forall_mem_cons.mpr ⟨⟨fun _ => by decide +kernel, ⟨Or.inl (lw_g (lw_at lw_m2 156 rfl) rfl), (lw_g (lw_at lw_m2 157 rfl) rfl), gJ10_copyOf⟩⟩, ?_⟩
  refine List.forall_mem_cons.mpr ⟨⟨fun _ => by decide +kernel, ⟨Or.inl (lw_g (lw_at lw_m2 145 rfl) rfl), (lw_g (lw_at lw_m2 146 rfl) rfl), gJ8_newLength⟩⟩, ?_⟩
  refine List.forall_mem_cons.mpr ⟨⟨fun _ => by decide +kernel, ⟨Or.inl (lw_g (lw_at lw_m2 236 rfl) rfl), (lw_g (lw_at lw_m2 237 rfl) rfl), gJ11_fillNull⟩⟩, ?_⟩
  refine List.forall_mem_cons.mpr ⟨⟨fun h => absurd h (by decide), ⟨(lw_g (lw_at lw_m4 7 rfl) rfl), (lw_g (lw_at lw_m2 167 rfl) rfl), (lw_g (lw_at lw_m1 21 rfl) rfl), (lw_g (lw_at lw_m2 168 rfl) rfl)⟩⟩, ?_⟩
  refine List.forall_mem_cons.mpr ⟨⟨fun _ => by decide +kernel, ⟨Or.inl (lw_g (lw_at lw_m4 8 rfl) rfl), (lw_g (lw_at lw_m2 220 rfl) rfl), gJ5_checkIndex⟩⟩, ?_⟩
  refine List.forall_mem_cons.mpr ⟨⟨fun _ => by decide +kernel, ⟨Or.inl (lw_g (lw_at lw_m2 177 rfl) rfl), (lw_g (lw_at lw_m2 178 rfl) rfl), gJ11_canEncode⟩⟩, ?_⟩
  refine List.forall_mem_cons.mpr ⟨⟨fun _ => by decide +kernel, ⟨"java/lang/StringBuilder", ⟨(lw_g (lw_at lw_m3 81 rfl) rfl), (lw_g (lw_at lw_m3 83 rfl) rfl), Or.inr (lw_at lw_m3 82 rfl), gJ3_putStringAt⟩, Or.inl ⟨5, (RJ4, TJ4, 4, tyJ4, 4), rfl, rfl, rfl⟩, Or.inr ⟨0, (lw_g (lw_at lw_m10 16 rfl) rfl), rfl⟩⟩⟩, ?_⟩
  refine List.forall_mem_cons.mpr ⟨⟨fun _ => by decide +kernel, ⟨Or.inl (lw_g (lw_at lw_m3 103 rfl) rfl), (lw_g (lw_at lw_m3 104 rfl) rfl), gJ17_stringSize⟩⟩, ?_⟩
  refine List.forall_mem_cons.mpr ⟨⟨fun _ => by decide +kernel, ⟨Or.inl (lw_g (lw_at lw_m3 106 rfl) rfl), (lw_g (lw_at lw_m3 107 rfl) rfl), gJ17_getChars⟩⟩, ?_⟩
  refine List.forall_mem_cons.mpr ⟨⟨fun _ => by decide +kernel, ⟨"java/lang/StringBuilder", ⟨(lw_g (lw_at lw_m3 85 rfl) rfl), (lw_g (lw_at lw_m3 87 rfl) rfl), Or.inr (lw_at lw_m3 86 rfl), gJ3_inflateIfNeededFor⟩, Or.inl ⟨5, (RJ4, TJ4, 4, tyJ4, 4), rfl, rfl, rfl⟩, Or.inr ⟨0, (lw_g (lw_at lw_m10 17 rfl) rfl), rfl⟩⟩⟩, ?_⟩
  refine List.forall_mem_cons.mpr ⟨⟨fun _ => by decide +kernel, ⟨"java/lang/String", ⟨(lw_g (lw_at lw_m3 90 rfl) rfl), (lw_g (lw_at lw_m3 91 rfl) rfl), Or.inl (lw_g (lw_at lw_m3 92 rfl) rfl), gJ5_getBytes⟩, Or.inl ⟨12, (RJ5, TJ5, 4, tyJ5, 4), rfl, rfl, rfl⟩, Or.inl (lw_g (lw_at lw_m3 92 rfl) rfl)⟩⟩, ?_⟩
  exact fun q h => absurd h List.not_mem_nil
set_option maxRecDepth 100000 in
theorem mT_23_ok : ∀ q ∈ mT_23, ciOK (clsS 23) q.1 q.2 := by
  refine List.forall_mem_cons.mpr ⟨⟨fun h => absurd h (by decide), (lw_g (lw_at lw_m6 36 rfl) rfl)⟩, ?_⟩
  exact fun q h => absurd h List.not_mem_nil
set_option maxRecDepth 100000 in
theorem mT_24_ok : ∀ q ∈ mT_24, ciOK (clsS 24) q.1 q.2 := by
  refine List.forall_mem_cons.mpr ⟨⟨fun h => absurd h (by decide), (lw_g (lw_at lw_m3 135 rfl) rfl)⟩, ?_⟩
  refine List.forall_mem_cons.mpr ⟨⟨fun _ => by decide +kernel, ⟨Or.inl (lw_g (lw_at lw_m3 143 rfl) rfl), (lw_g (lw_at lw_m3 144 rfl) rfl), gJ10_copyOfRange⟩⟩, ?_⟩
  refine List.forall_mem_cons.mpr ⟨⟨fun _ => by decide +kernel, ⟨Or.inl (lw_g (lw_at lw_m3 95 rfl) rfl), (lw_g (lw_at lw_m2 185 rfl) rfl), gJ11_inflate⟩⟩, ?_⟩
  refine List.forall_mem_cons.mpr ⟨⟨fun h => absurd h (by decide), ⟨(lw_g (lw_at lw_m3 94 rfl) rfl), (lw_g (lw_at lw_m2 171 rfl) rfl), (lw_g (lw_at lw_m2 170 rfl) rfl), (lw_g (lw_at lw_m1 23 rfl) rfl)⟩⟩, ?_⟩
  refine List.forall_mem_cons.mpr ⟨⟨fun _ => by decide +kernel, ⟨"java/lang/String", ⟨(lw_g (lw_at lw_m3 76 rfl) rfl), (lw_g (lw_at lw_m3 77 rfl) rfl), Or.inl (lw_g (lw_at lw_m3 78 rfl) rfl), gJ5_coder⟩, Or.inl ⟨12, (RJ5, TJ5, 4, tyJ5, 4), rfl, rfl, rfl⟩, Or.inl (lw_g (lw_at lw_m3 78 rfl) rfl)⟩⟩, ?_⟩
  refine List.forall_mem_cons.mpr ⟨⟨fun _ => by decide +kernel, ⟨Or.inl (lw_g (lw_at lw_m3 132 rfl) rfl), rfl, (lw_g (lw_at lw_m3 133 rfl) rfl), (lw_g (lw_at lw_m3 134 rfl) rfl), gJ5_init_2⟩⟩, ?_⟩
  refine List.forall_mem_cons.mpr ⟨⟨fun _ => by decide +kernel, ⟨"java/lang/String", ⟨(lw_g (lw_at lw_m5 21 rfl) rfl), (lw_g (lw_at lw_m5 22 rfl) rfl), Or.inl (lw_g (lw_at lw_m5 23 rfl) rfl), gJ5_isLatin1⟩, Or.inl ⟨12, (RJ5, TJ5, 4, tyJ5, 4), rfl, rfl, rfl⟩, Or.inl (lw_g (lw_at lw_m5 23 rfl) rfl)⟩⟩, ?_⟩
  refine List.forall_mem_cons.mpr ⟨⟨fun _ => by decide +kernel, ⟨Or.inl (lw_g (lw_at lw_m5 25 rfl) rfl), (lw_g (lw_at lw_m5 26 rfl) rfl), gJ11_charAt⟩⟩, ?_⟩
  refine List.forall_mem_cons.mpr ⟨⟨fun _ => by decide +kernel, ⟨(⟨"java/lang/AbstractStringBuilder", "length", "()I"⟩ : MethodName), "java/lang/AbstractStringBuilder", "java/lang/StringBuilder", ⟨(lw_g (lw_at lw_m3 141 rfl) rfl), (lw_g (lw_at lw_m10 7 rfl) rfl), (lw_g (lw_at lw_m2 128 rfl) rfl), ⟨_, _, _, (lw_g (lw_at lw_m2 129 rfl) rfl)⟩, ⟨by decide, by decide⟩, (lw_g (lw_at lw_m10 19 rfl) rfl), (lw_g (lw_at lw_m2 124 rfl) rfl), rfl, gJ4_length⟩, Or.inl ⟨5, (RJ4, TJ4, 4, tyJ4, 4), rfl, rfl, rfl⟩⟩⟩, ?_⟩
  refine List.forall_mem_cons.mpr ⟨⟨fun _ => by decide +kernel, ⟨"java/lang/StringBuilder", ⟨(lw_g (lw_at lw_m3 136 rfl) rfl), (lw_g (lw_at lw_m3 137 rfl) rfl), Or.inl (lw_g (lw_at lw_m3 139 rfl) rfl), gJ3_getValue⟩, Or.inl ⟨5, (RJ4, TJ4, 4, tyJ4, 4), rfl, rfl, rfl⟩, Or.inl (lw_g (lw_at lw_m3 139 rfl) rfl)⟩⟩, ?_⟩
  refine List.forall_mem_cons.mpr ⟨⟨fun _ => by decide +kernel, ⟨"java/lang/StringBuilder", ⟨(lw_g (lw_at lw_m3 142 rfl) rfl), (lw_g (lw_at lw_m2 173 rfl) rfl), Or.inl (lw_g (lw_at lw_m2 175 rfl) rfl), gJ3_isLatin1⟩, Or.inl ⟨5, (RJ4, TJ4, 4, tyJ4, 4), rfl, rfl, rfl⟩, Or.inl (lw_g (lw_at lw_m2 175 rfl) rfl)⟩⟩, ?_⟩
  refine List.forall_mem_cons.mpr ⟨⟨fun _ => by decide +kernel, ⟨Or.inl (lw_g (lw_at lw_m2 222 rfl) rfl), (lw_g (lw_at lw_m2 223 rfl) rfl), gJ12_checkIndex⟩⟩, ?_⟩
  exact fun q h => absurd h List.not_mem_nil
set_option maxRecDepth 100000 in
theorem mT_25_ok : ∀ q ∈ mT_25, ciOK (clsS 25) q.1 q.2 := by
  refine List.forall_mem_cons.mpr ⟨⟨fun _ => by decide +kernel, ⟨Or.inl (lw_g (lw_at lw_m1 135 rfl) rfl), rfl, (lw_g (lw_at lw_m1 136 rfl) rfl), (lw_g (lw_at lw_m1 137 rfl) rfl), gJ3_init⟩⟩, ?_⟩
  refine List.forall_mem_cons.mpr ⟨⟨fun _ => by decide +kernel, ⟨"java/lang/StringBuilder", ⟨(lw_g (lw_at lw_m3 53 rfl) rfl), (lw_g (lw_at lw_m10 14 rfl) rfl), (lw_g (lw_at lw_m1 161 rfl) rfl), (lw_g (lw_at lw_m3 54 rfl) rfl), by decide, gJ3_append_2⟩, Or.inl ⟨5, (RJ4, TJ4, 4, tyJ4, 4), rfl, rfl, rfl⟩⟩⟩, ?_⟩
  refine List.forall_mem_cons.mpr ⟨⟨fun _ => by decide +kernel, ⟨"java/lang/StringBuilder", ⟨(lw_g (lw_at lw_m2 134 rfl) rfl), (lw_g (lw_at lw_m10 8 rfl) rfl), (lw_g (lw_at lw_m1 161 rfl) rfl), (lw_g (lw_at lw_m2 135 rfl) rfl), by decide, gJ3_append⟩, Or.inl ⟨5, (RJ4, TJ4, 4, tyJ4, 4), rfl, rfl, rfl⟩⟩⟩, ?_⟩
  refine List.forall_mem_cons.mpr ⟨⟨fun _ => by decide +kernel, ⟨"java/lang/StringBuilder", ⟨(lw_g (lw_at lw_m3 100 rfl) rfl), (lw_g (lw_at lw_m10 18 rfl) rfl), (lw_g (lw_at lw_m1 161 rfl) rfl), (lw_g (lw_at lw_m3 101 rfl) rfl), by decide, gJ3_append_3⟩, Or.inl ⟨5, (RJ4, TJ4, 4, tyJ4, 4), rfl, rfl, rfl⟩⟩⟩, ?_⟩
  refine List.forall_mem_cons.mpr ⟨⟨fun _ => by decide +kernel, ⟨Or.inl (lw_g (lw_at lw_m3 129 rfl) rfl), rfl, (lw_g (lw_at lw_m3 130 rfl) rfl), (lw_g (lw_at lw_m3 131 rfl) rfl), gJ5_init⟩⟩, ?_⟩
  refine List.forall_mem_cons.mpr ⟨⟨fun _ => by decide +kernel, ⟨"java/lang/StringBuilder", ⟨(lw_g (lw_at lw_m4 4 rfl) rfl), (lw_g (lw_at lw_m10 20 rfl) rfl), (lw_g (lw_at lw_m1 161 rfl) rfl), (lw_g (lw_at lw_m4 5 rfl) rfl), by decide, gJ3_charAt⟩, Or.inl ⟨5, (RJ4, TJ4, 4, tyJ4, 4), rfl, rfl, rfl⟩⟩⟩, ?_⟩
  refine List.forall_mem_cons.mpr ⟨⟨fun _ => by decide +kernel, ⟨"java/lang/StringBuilder", ⟨(lw_g (lw_at lw_m2 233 rfl) rfl), (lw_g (lw_at lw_m10 12 rfl) rfl), (lw_g (lw_at lw_m1 161 rfl) rfl), (lw_g (lw_at lw_m2 234 rfl) rfl), by decide, gJ3_setLength⟩, Or.inl ⟨5, (RJ4, TJ4, 4, tyJ4, 4), rfl, rfl, rfl⟩⟩⟩, ?_⟩
  refine List.forall_mem_cons.mpr ⟨⟨fun _ => by decide +kernel, ⟨"java/lang/StringBuilder", ⟨(lw_g (lw_at lw_m2 127 rfl) rfl), (lw_g (lw_at lw_m10 7 rfl) rfl), (lw_g (lw_at lw_m1 161 rfl) rfl), (lw_g (lw_at lw_m2 128 rfl) rfl), by decide, gJ3_length⟩, Or.inl ⟨5, (RJ4, TJ4, 4, tyJ4, 4), rfl, rfl, rfl⟩⟩⟩, ?_⟩
  exact fun q h => absurd h List.not_mem_nil
set_option maxRecDepth 100000 in
theorem mT_26_ok : ∀ q ∈ mT_26, ciOK (clsS 26) q.1 q.2 := by
  refine List.forall_mem_cons.mpr ⟨⟨fun _ => by decide +kernel, ⟨Or.inl (lw_g (lw_at lw_m5 28 rfl) rfl), (lw_g (lw_at lw_m2 220 rfl) rfl), gJ5_checkIndex⟩⟩, ?_⟩
  refine List.forall_mem_cons.mpr ⟨⟨fun _ => by decide +kernel, ⟨Or.inl (lw_g (lw_at lw_m2 239 rfl) rfl), (lw_g (lw_at lw_m3 0 rfl) rfl), gJ10_fill⟩⟩, ?_⟩
  exact fun q h => absurd h List.not_mem_nil
set_option maxRecDepth 100000 in
theorem mT_27_ok : ∀ q ∈ mT_27, ciOK (clsS 27) q.1 q.2 := by
  refine List.forall_mem_cons.mpr ⟨⟨fun h => absurd h (by decide), (lw_g (lw_at lw_m1 77 rfl) rfl)⟩, ?_⟩
  exact fun q h => absurd h List.not_mem_nil
set_option maxRecDepth 100000 in
theorem mT_28_ok : ∀ q ∈ mT_28, ciOK (clsS 28) q.1 q.2 := by
  refine List.forall_mem_cons.mpr ⟨⟨fun _ => by decide +kernel, ⟨Or.inl (lw_g (lw_at lw_m1 74 rfl) rfl), rfl, (lw_g (lw_at lw_m1 75 rfl) rfl), (lw_g (lw_at lw_m1 76 rfl) rfl), gJ0_init⟩⟩, ?_⟩
  exact fun q h => absurd h List.not_mem_nil
set_option maxRecDepth 100000 in
theorem mT_29_ok : ∀ q ∈ mT_29, ciOK (clsS 29) q.1 q.2 := by
  refine List.forall_mem_cons.mpr ⟨⟨fun _ => by decide +kernel, ⟨Or.inl (lw_g (lw_at lw_m1 71 rfl) rfl), rfl, (lw_g (lw_at lw_m1 72 rfl) rfl), (lw_g (lw_at lw_m1 73 rfl) rfl), gJ1_init⟩⟩, ?_⟩
  refine List.forall_mem_cons.mpr ⟨⟨fun _ => by decide +kernel, ⟨Or.inl (lw_g (lw_at lw_m4 100 rfl) rfl), (lw_g (lw_at lw_m4 101 rfl) rfl), gJ10_copyOf_2⟩⟩, ?_⟩
  refine List.forall_mem_cons.mpr ⟨⟨fun _ => by decide +kernel, ⟨"java/util/ArrayList", ⟨(lw_g (lw_at lw_m4 95 rfl) rfl), (lw_g (lw_at lw_m4 97 rfl) rfl), Or.inl qs10, gJ2_grow_2⟩, Or.inl ⟨3, (RJ2, TJ2, 3, tyJ2, 3), rfl, rfl, rfl⟩, Or.inl qs10⟩⟩, ?_⟩
  refine List.forall_mem_cons.mpr ⟨⟨fun _ => by decide +kernel, ⟨Or.inl (lw_g (lw_at lw_m4 99 rfl) rfl), (lw_g (lw_at lw_m2 146 rfl) rfl), gJ8_newLength⟩⟩, ?_⟩
  refine List.forall_mem_cons.mpr ⟨⟨fun h => absurd h (by decide), ⟨(lw_g (lw_at lw_m4 141 rfl) rfl), (lw_g (lw_at lw_m2 149 rfl) rfl), (lw_g (lw_at lw_m1 21 rfl) rfl), (lw_g (lw_at lw_m2 150 rfl) rfl)⟩⟩, ?_⟩
  refine List.forall_mem_cons.mpr ⟨⟨fun h => absurd h (by decide), ⟨(lw_g (lw_at lw_m5 171 rfl) rfl), (lw_g (lw_at lw_m2 171 rfl) rfl), (lw_g (lw_at lw_m2 170 rfl) rfl), (lw_g (lw_at lw_m1 23 rfl) rfl)⟩⟩, ?_⟩
  refine List.forall_mem_cons.mpr ⟨⟨fun _ => by decide +kernel, ⟨Or.inl (lw_g (lw_at lw_m4 155 rfl) rfl), (lw_g (lw_at lw_m4 156 rfl) rfl), gJ20_checkIndex⟩⟩, ?_⟩
  refine List.forall_mem_cons.mpr ⟨⟨fun _ => by decide +kernel, ⟨"java/util/ArrayList", ⟨(lw_g (lw_at lw_m4 159 rfl) rfl), (lw_g (lw_at lw_m4 160 rfl) rfl), Or.inl (lw_g (lw_at lw_m4 161 rfl) rfl), gJ2_elementData⟩, Or.inl ⟨3, (RJ2, TJ2, 3, tyJ2, 3), rfl, rfl, rfl⟩, Or.inl (lw_g (lw_at lw_m4 161 rfl) rfl)⟩⟩, ?_⟩
  refine List.forall_mem_cons.mpr ⟨⟨fun _ => by decide +kernel, ⟨"java/util/ArrayList", ⟨(lw_g (lw_at lw_m4 91 rfl) rfl), (lw_g (lw_at lw_m4 93 rfl) rfl), Or.inl qs9, gJ2_grow⟩, Or.inl ⟨3, (RJ2, TJ2, 3, tyJ2, 3), rfl, rfl, rfl⟩, Or.inl qs9⟩⟩, ?_⟩
  refine List.forall_mem_cons.mpr ⟨⟨fun _ => by decide +kernel, ⟨"java/util/ArrayList", ⟨(lw_g (lw_at lw_m4 87 rfl) rfl), (lw_g (lw_at lw_m4 89 rfl) rfl), Or.inl qs8, gJ2_add_2⟩, Or.inl ⟨3, (RJ2, TJ2, 3, tyJ2, 3), rfl, rfl, rfl⟩, Or.inl qs8⟩⟩, ?_⟩
  refine List.forall_mem_cons.mpr ⟨⟨fun _ => by decide +kernel, ⟨"java/util/ArrayList", ⟨(lw_g (lw_at lw_m5 167 rfl) rfl), (lw_g (lw_at lw_m5 169 rfl) rfl), Or.inl qs16, gJ2_fastRemove⟩, Or.inl ⟨3, (RJ2, TJ2, 3, tyJ2, 3), rfl, rfl, rfl⟩, Or.inl qs16⟩⟩, ?_⟩
  exact fun q h => absurd h List.not_mem_nil
set_option maxRecDepth 100000 in
theorem mT_30_ok : ∀ q ∈ mT_30, ciOK (clsS 30) q.1 q.2 := by
  refine List.forall_mem_cons.mpr ⟨⟨fun _ => by decide +kernel, ⟨Or.inl (lw_g (lw_at lw_m3 47 rfl) rfl), rfl, (lw_g (lw_at lw_m1 133 rfl) rfl), (lw_g (lw_at lw_m1 134 rfl) rfl), gJ4_init⟩⟩, ?_⟩
  refine List.forall_mem_cons.mpr ⟨⟨fun _ => by decide +kernel, ⟨"java/lang/StringBuilder", ⟨(lw_g (lw_at lw_m3 49 rfl) rfl), (lw_g (lw_at lw_m3 50 rfl) rfl), Or.inl (lw_g (lw_at lw_m3 51 rfl) rfl), gJ4_append_2⟩, Or.inl ⟨5, (RJ4, TJ4, 4, tyJ4, 4), rfl, rfl, rfl⟩, Or.inl (lw_g (lw_at lw_m3 51 rfl) rfl)⟩⟩, ?_⟩
  refine List.forall_mem_cons.mpr ⟨⟨fun _ => by decide +kernel, ⟨"java/lang/StringBuilder", ⟨(lw_g (lw_at lw_m3 96 rfl) rfl), (lw_g (lw_at lw_m3 97 rfl) rfl), Or.inl (lw_g (lw_at lw_m3 98 rfl) rfl), gJ4_append_3⟩, Or.inl ⟨5, (RJ4, TJ4, 4, tyJ4, 4), rfl, rfl, rfl⟩, Or.inl (lw_g (lw_at lw_m3 98 rfl) rfl)⟩⟩, ?_⟩
  refine List.forall_mem_cons.mpr ⟨⟨fun _ => by decide +kernel, ⟨"java/lang/StringBuilder", ⟨(lw_g (lw_at lw_m3 123 rfl) rfl), (lw_g (lw_at lw_m3 124 rfl) rfl), Or.inl (lw_g (lw_at lw_m3 125 rfl) rfl), gJ4_toString⟩, Or.inl ⟨5, (RJ4, TJ4, 4, tyJ4, 4), rfl, rfl, rfl⟩, Or.inl (lw_g (lw_at lw_m3 125 rfl) rfl)⟩⟩, ?_⟩
  refine List.forall_mem_cons.mpr ⟨⟨fun h => absurd h (by decide), ⟨(lw_g (lw_at lw_m4 103 rfl) rfl), (lw_at lw_m10 25 rfl), (lw_g (lw_at lw_m10 24 rfl) rfl), (lw_g (lw_at lw_m4 104 rfl) rfl), (lw_g (lw_at lw_m4 134 rfl) rfl)⟩⟩, ?_⟩
  refine List.forall_mem_cons.mpr ⟨⟨fun h => absurd h (by decide), ⟨(lw_g (lw_at lw_m2 169 rfl) rfl), (lw_g (lw_at lw_m2 171 rfl) rfl), (lw_g (lw_at lw_m2 170 rfl) rfl), (lw_g (lw_at lw_m1 23 rfl) rfl)⟩⟩, ?_⟩
  refine List.forall_mem_cons.mpr ⟨⟨fun _ => by decide +kernel, ⟨Or.inl (lw_g (lw_at lw_m4 135 rfl) rfl), (lw_g (lw_at lw_m4 136 rfl) rfl), gJ10_copyOf_3⟩⟩, ?_⟩
  refine List.forall_mem_cons.mpr ⟨⟨fun h => absurd h (by decide), ⟨(lw_g (lw_at lw_m2 166 rfl) rfl), (lw_g (lw_at lw_m2 167 rfl) rfl), (lw_g (lw_at lw_m1 21 rfl) rfl), (lw_g (lw_at lw_m2 168 rfl) rfl)⟩⟩, ?_⟩
  refine List.forall_mem_cons.mpr ⟨⟨fun _ => by decide +kernel, ⟨Or.inl (lw_g (lw_at lw_m3 146 rfl) rfl), (lw_g (lw_at lw_m3 147 rfl) rfl), gJ10_copyOfRangeByte⟩⟩, ?_⟩
  refine List.forall_mem_cons.mpr ⟨⟨fun _ => by decide +kernel, ⟨Or.inl (lw_g (lw_at lw_m3 149 rfl) rfl), (lw_g (lw_at lw_m3 150 rfl) rfl), gJ10_checkLength⟩⟩, ?_⟩
  exact fun q h => absurd h List.not_mem_nil
set_option maxRecDepth 100000 in
theorem mT_31_ok : ∀ q ∈ mT_31, ciOK (clsS 31) q.1 q.2 := by
  refine List.forall_mem_cons.mpr ⟨⟨fun _ => by decide +kernel, ⟨Or.inl (lw_g (lw_at lw_m4 158 rfl) rfl), (lw_g (lw_at lw_m2 223 rfl) rfl), gJ12_checkIndex⟩⟩, ?_⟩
  exact fun q h => absurd h List.not_mem_nil
set_option maxRecDepth 100000 in
theorem mT_32_ok : ∀ q ∈ mT_32, ciOK (clsS 32) q.1 q.2 := by
  refine List.forall_mem_cons.mpr ⟨⟨fun h => absurd h (by decide), ⟨(lw_g (lw_at lw_m2 148 rfl) rfl), (lw_g (lw_at lw_m2 149 rfl) rfl), (lw_g (lw_at lw_m1 21 rfl) rfl), (lw_g (lw_at lw_m2 150 rfl) rfl)⟩⟩, ?_⟩
  exact fun q h => absurd h List.not_mem_nil
theorem mT_ok {o n : Nat} {v : CI} (h : mT o n = some v) : ciOK (clsS o) n v := by
  unfold mT at h
  split at h
  · exact mT_0_ok _ (lk_mem h)
  · exact mT_1_ok _ (lk_mem h)
  · exact mT_2_ok _ (lk_mem h)
  · exact mT_3_ok _ (lk_mem h)
  · exact mT_4_ok _ (lk_mem h)
  · exact mT_5_ok _ (lk_mem h)
  · exact mT_6_ok _ (lk_mem h)
  · exact mT_7_ok _ (lk_mem h)
  · exact mT_8_ok _ (lk_mem h)
  · exact mT_9_ok _ (lk_mem h)
  · exact mT_10_ok _ (lk_mem h)
  · exact mT_11_ok _ (lk_mem h)
  · exact mT_12_ok _ (lk_mem h)
  · exact mT_13_ok _ (lk_mem h)
  · exact mT_14_ok _ (lk_mem h)
  · exact mT_15_ok _ (lk_mem h)
  · exact mT_16_ok _ (lk_mem h)
  · exact mT_17_ok _ (lk_mem h)
  · exact mT_18_ok _ (lk_mem h)
  · exact mT_19_ok _ (lk_mem h)
  · exact mT_20_ok _ (lk_mem h)
  · exact mT_23_ok _ (lk_mem h)
  · exact mT_24_ok _ (lk_mem h)
  · exact mT_25_ok _ (lk_mem h)
  · exact mT_26_ok _ (lk_mem h)
  · exact mT_27_ok _ (lk_mem h)
  · exact mT_28_ok _ (lk_mem h)
  · exact mT_29_ok _ (lk_mem h)
  · exact mT_30_ok _ (lk_mem h)
  · exact mT_31_ok _ (lk_mem h)
  · exact mT_32_ok _ (lk_mem h)
  · cases h
def iT_0 : List (Nat × (Mt × Mt)) := [(149, (mX13_parameters, mX17_parameters)), (273, (mX13_kind, mX17_kind))]
def iT_11 : List (Nat × (Mt × Mt)) := [(242, (mX13_parameters, mX17_parameters))]
def iT (o n : Nat) : Option ((Mt × Mt)) := match o with
  | 0 => lk n iT_0
  | 11 => lk n iT_11
  | _ => none
set_option maxRecDepth 100000 in
theorem iT_0_ok : ∀ q ∈ iT_0, (∃ y, FaOK (clsS 0) q.1 y "ConditionedProofs$Constant" q.2.1 ∧ nPar q.2.1 = some 0) ∧ (∃ y, FaOK (clsS 0) q.1 y "ConditionedProofs$Program" q.2.2 ∧ nPar q.2.2 = some 0) := by
  refine List.forall_mem_cons.mpr ⟨⟨⟨(⟨"ConditionedProofs$Meaning", "parameters", "()I"⟩ : MethodName), ⟨(lw_g (lw_at lw_m6 116 rfl) rfl), (lw_at lw_m6 118 rfl), (lw_at lw_m6 117 rfl), (lw_g (lw_at lw_m6 119 rfl) rfl), (lw_g (lw_at lw_m4 225 rfl) rfl), (lw_at lw_m6 121 rfl), (lw_at lw_m6 120 rfl), (lw_at lw_m6 99 rfl), ⟨by decide, by decide⟩, rfl, gX13_parameters⟩, by decide +kernel⟩, ⟨(⟨"ConditionedProofs$Meaning", "parameters", "()I"⟩ : MethodName), ⟨(lw_g (lw_at lw_m6 116 rfl) rfl), (lw_at lw_m6 118 rfl), (lw_at lw_m6 117 rfl), (lw_g (lw_at lw_m6 122 rfl) rfl), (lw_g (lw_at lw_m6 124 rfl) rfl), (lw_at lw_m6 125 rfl), (lw_at lw_m6 123 rfl), (lw_at lw_m6 105 rfl), ⟨by decide, by decide⟩, rfl, gX17_parameters⟩, by decide +kernel⟩⟩, ?_⟩
  refine List.forall_mem_cons.mpr ⟨⟨⟨(⟨"ConditionedProofs$Meaning", "kind", "()I"⟩ : MethodName), ⟨(lw_g (lw_at lw_m6 96 rfl) rfl), (lw_at lw_m6 98 rfl), (lw_at lw_m6 97 rfl), (lw_g (lw_at lw_m6 100 rfl) rfl), (lw_g (lw_at lw_m6 102 rfl) rfl), (lw_at lw_m6 103 rfl), (lw_at lw_m6 101 rfl), (lw_at lw_m6 99 rfl), ⟨by decide, by decide⟩, rfl, gX13_kind⟩, by decide +kernel⟩, ⟨(⟨"ConditionedProofs$Meaning", "kind", "()I"⟩ : MethodName), ⟨(lw_g (lw_at lw_m6 96 rfl) rfl), (lw_at lw_m6 98 rfl), (lw_at lw_m6 97 rfl), (lw_g (lw_at lw_m6 106 rfl) rfl), (lw_g (lw_at lw_m6 108 rfl) rfl), (lw_at lw_m6 109 rfl), (lw_at lw_m6 107 rfl), (lw_at lw_m6 105 rfl), ⟨by decide, by decide⟩, rfl, gX17_kind⟩, by decide +kernel⟩⟩, ?_⟩
  exact fun q h => absurd h List.not_mem_nil
set_option maxRecDepth 100000 in
theorem iT_11_ok : ∀ q ∈ iT_11, (∃ y, FaOK (clsS 11) q.1 y "ConditionedProofs$Constant" q.2.1 ∧ nPar q.2.1 = some 0) ∧ (∃ y, FaOK (clsS 11) q.1 y "ConditionedProofs$Program" q.2.2 ∧ nPar q.2.2 = some 0) := by
  refine List.forall_mem_cons.mpr ⟨⟨⟨(⟨"ConditionedProofs$Meaning", "parameters", "()I"⟩ : MethodName), ⟨(lw_g (lw_at lw_m7 124 rfl) rfl), (lw_at lw_m6 118 rfl), (lw_at lw_m6 117 rfl), (lw_g (lw_at lw_m6 119 rfl) rfl), (lw_g (lw_at lw_m4 225 rfl) rfl), (lw_at lw_m6 121 rfl), (lw_at lw_m6 120 rfl), (lw_at lw_m6 99 rfl), ⟨by decide, by decide⟩, rfl, gX13_parameters⟩, by decide +kernel⟩, ⟨(⟨"ConditionedProofs$Meaning", "parameters", "()I"⟩ : MethodName), ⟨(lw_g (lw_at lw_m7 124 rfl) rfl), (lw_at lw_m6 118 rfl), (lw_at lw_m6 117 rfl), (lw_g (lw_at lw_m6 122 rfl) rfl), (lw_g (lw_at lw_m6 124 rfl) rfl), (lw_at lw_m6 125 rfl), (lw_at lw_m6 123 rfl), (lw_at lw_m6 105 rfl), ⟨by decide, by decide⟩, rfl, gX17_parameters⟩, by decide +kernel⟩⟩, ?_⟩
  exact fun q h => absurd h List.not_mem_nil
theorem iT_ok {o n : Nat} {v : (Mt × Mt)} (h : iT o n = some v) : (∃ y, FaOK (clsS o) n y "ConditionedProofs$Constant" v.1 ∧ nPar v.1 = some 0) ∧ (∃ y, FaOK (clsS o) n y "ConditionedProofs$Program" v.2 ∧ nPar v.2 = some 0) := by
  unfold iT at h
  split at h
  · exact iT_0_ok _ (lk_mem h)
  · exact iT_11_ok _ (lk_mem h)
  · cases h
theorem w_oi : Cond.instanceMethod Lib.objectInit ∈ lw_all := (lw_g (lw_at lw_m1 52 rfl) rfl)
theorem w_oc : Cond.code Lib.objectInit ⟨#[0xb1]⟩ 1 none ∈ lw_all := (lw_g (lw_at lw_m1 53 rfl) rfl)
theorem w_en : Cond.fieldLink "java/lang/Enum" 7 "java/lang/Enum" "ordinal" "I" ∈ lw_all := (lw_g (lw_at lw_m10 60 rfl) rfl)
theorem w_aint : Cond.arrayClass .int ∈ lw_all := (lw_g (lw_at lw_m8 195 rfl) rfl)
theorem w_abyte : Cond.arrayClass .byte ∈ lw_all := (lw_g (lw_at lw_m1 162 rfl) rfl)
theorem w_along : Cond.arrayClass .long ∈ lw_all := (lw_g (lw_at lw_m10 6 rfl) rfl)
def eT_0 : List (Nat × Nat) := [(137, 11), (144, 14)]
def eT_2 : List (Nat × Nat) := [(55, 14)]
def eT_10 : List (Nat × Nat) := [(56, 11)]
def eT_11 : List (Nat × Nat) := [(34, 17)]
def eT_16 : List (Nat × Nat) := [(114, 17)]
def eT (o n : Nat) : Option Nat := match o with
  | 0 => lk n eT_0
  | 2 => lk n eT_2
  | 10 => lk n eT_10
  | 11 => lk n eT_11
  | 16 => lk n eT_16
  | _ => none
set_option maxRecDepth 100000 in
theorem eT_0_ok : ∀ q ∈ eT_0, ∃ r, clsL[q.2]? = some r ∧ Cond.methodLink (clsS 0) q.1 ⟨r.1, "<init>", "()V"⟩ ∈ lw_all := by
  refine List.forall_mem_cons.mpr ⟨⟨(RJ16, TJ16, 0, tyJ16, 6), rfl, (lw_g (lw_at lw_m6 150 rfl) rfl)⟩, ?_⟩
  refine List.forall_mem_cons.mpr ⟨⟨(RJ18, TJ18, 0, tyJ18, 6), rfl, (lw_g (lw_at lw_m6 151 rfl) rfl)⟩, ?_⟩
  exact fun q h => absurd h List.not_mem_nil
set_option maxRecDepth 100000 in
theorem eT_2_ok : ∀ q ∈ eT_2, ∃ r, clsL[q.2]? = some r ∧ Cond.methodLink (clsS 2) q.1 ⟨r.1, "<init>", "()V"⟩ ∈ lw_all := by
  refine List.forall_mem_cons.mpr ⟨⟨(RJ18, TJ18, 0, tyJ18, 6), rfl, (lw_g (lw_at lw_m4 205 rfl) rfl)⟩, ?_⟩
  exact fun q h => absurd h List.not_mem_nil
set_option maxRecDepth 100000 in
theorem eT_10_ok : ∀ q ∈ eT_10, ∃ r, clsL[q.2]? = some r ∧ Cond.methodLink (clsS 10) q.1 ⟨r.1, "<init>", "()V"⟩ ∈ lw_all := by
  refine List.forall_mem_cons.mpr ⟨⟨(RJ16, TJ16, 0, tyJ16, 6), rfl, (lw_g (lw_at lw_m4 23 rfl) rfl)⟩, ?_⟩
  exact fun q h => absurd h List.not_mem_nil
set_option maxRecDepth 100000 in
theorem eT_11_ok : ∀ q ∈ eT_11, ∃ r, clsL[q.2]? = some r ∧ Cond.methodLink (clsS 11) q.1 ⟨r.1, "<init>", "()V"⟩ ∈ lw_all := by
  refine List.forall_mem_cons.mpr ⟨⟨(RJ21, TJ21, 0, tyJ21, 6), rfl, (lw_g (lw_at lw_m5 118 rfl) rfl)⟩, ?_⟩
  exact fun q h => absurd h List.not_mem_nil
set_option maxRecDepth 100000 in
theorem eT_16_ok : ∀ q ∈ eT_16, ∃ r, clsL[q.2]? = some r ∧ Cond.methodLink (clsS 16) q.1 ⟨r.1, "<init>", "()V"⟩ ∈ lw_all := by
  refine List.forall_mem_cons.mpr ⟨⟨(RJ21, TJ21, 0, tyJ21, 6), rfl, (lw_g (lw_at lw_m5 238 rfl) rfl)⟩, ?_⟩
  exact fun q h => absurd h List.not_mem_nil
theorem eT_ok {o n : Nat} {v : Nat} (h : eT o n = some v) : ∃ r, clsL[v]? = some r ∧ Cond.methodLink (clsS o) n ⟨r.1, "<init>", "()V"⟩ ∈ lw_all := by
  unfold eT at h
  split at h
  · exact eT_0_ok _ (lk_mem h)
  · exact eT_2_ok _ (lk_mem h)
  · exact eT_10_ok _ (lk_mem h)
  · exact eT_11_ok _ (lk_mem h)
  · exact eT_16_ok _ (lk_mem h)
  · cases h
def asL : List (Nat × Nat) := [(4, 0), (4, 1), (4, 2), (4, 3), (4, 4), (4, 5), (4, 6), (4, 7), (4, 8), (4, 9), (4, 10), (4, 11), (4, 12), (4, 13), (4, 14), (4, 15), (4, 16), (4, 17), (4, 18), (4, 19), (4, 20), (4, 21), (4, 22), (4, 23), (4, 24), (5, 20), (5, 21)]
theorem asL_ok : ∀ q ∈ asL, asgOK q.1 q.2 := by
  refine List.forall_mem_cons.mpr ⟨⟨(RX1, TX1, 8, tyX1, 8), "java/lang/Object", rfl, rfl, (lw_at lw_m10 26 rfl)⟩, ?_⟩
  refine List.forall_mem_cons.mpr ⟨⟨(RX2, TX2, 2, tyX2, 2), "java/lang/Object", rfl, rfl, (lw_at lw_m10 27 rfl)⟩, ?_⟩
  refine List.forall_mem_cons.mpr ⟨⟨(RX3, TX3, 6, tyX3, 6), "java/lang/Object", rfl, rfl, (lw_at lw_m10 28 rfl)⟩, ?_⟩
  refine List.forall_mem_cons.mpr ⟨⟨(RJ2, TJ2, 3, tyJ2, 3), "java/lang/Object", rfl, rfl, (lw_at lw_m10 29 rfl)⟩, ?_⟩
  refine List.forall_mem_cons.mpr ⟨⟨(RX4, TX4, 7, tyX4, 7), "java/lang/Object", rfl, rfl, (lw_at lw_m10 30 rfl)⟩, ?_⟩
  refine List.forall_mem_cons.mpr ⟨⟨(RJ4, TJ4, 4, tyJ4, 4), "java/lang/Object", rfl, rfl, (lw_at lw_m10 31 rfl)⟩, ?_⟩
  refine List.forall_mem_cons.mpr ⟨⟨(RX5, TX5, 3, tyX5, 3), "java/lang/Object", rfl, rfl, (lw_at lw_m10 32 rfl)⟩, ?_⟩
  refine List.forall_mem_cons.mpr ⟨⟨(RX6, TX6, 4, tyX6, 4), "java/lang/Object", rfl, rfl, (lw_at lw_m10 33 rfl)⟩, ?_⟩
  refine List.forall_mem_cons.mpr ⟨⟨(RX7, TX7, 2, tyX7, 2), "java/lang/Object", rfl, rfl, (lw_at lw_m10 34 rfl)⟩, ?_⟩
  refine List.forall_mem_cons.mpr ⟨⟨(RX8, TX8, 8, tyX8, 8), "java/lang/Object", rfl, rfl, (lw_at lw_m10 35 rfl)⟩, ?_⟩
  refine List.forall_mem_cons.mpr ⟨⟨(RX9, TX9, 5, tyX9, 5), "java/lang/Object", rfl, rfl, (lw_at lw_m10 36 rfl)⟩, ?_⟩
  refine List.forall_mem_cons.mpr ⟨⟨(RJ16, TJ16, 0, tyJ16, 6), "java/lang/Object", rfl, rfl, (lw_at lw_m10 38 rfl)⟩, ?_⟩
  refine List.forall_mem_cons.mpr ⟨⟨(RJ5, TJ5, 4, tyJ5, 4), "java/lang/Object", rfl, rfl, (lw_at lw_m10 39 rfl)⟩, ?_⟩
  refine List.forall_mem_cons.mpr ⟨⟨(RX11, TX11, 6, tyX11, 6), "java/lang/Object", rfl, rfl, (lw_at lw_m10 41 rfl)⟩, ?_⟩
  refine List.forall_mem_cons.mpr ⟨⟨(RJ18, TJ18, 0, tyJ18, 6), "java/lang/Object", rfl, rfl, (lw_at lw_m10 40 rfl)⟩, ?_⟩
  refine List.forall_mem_cons.mpr ⟨⟨(RX14, TX14, 2, tyX14, 2), "java/lang/Object", rfl, rfl, (lw_at lw_m10 44 rfl)⟩, ?_⟩
  refine List.forall_mem_cons.mpr ⟨⟨(RX15, TX15, 3, tyX15, 3), "java/lang/Object", rfl, rfl, (lw_at lw_m10 45 rfl)⟩, ?_⟩
  refine List.forall_mem_cons.mpr ⟨⟨(RJ21, TJ21, 0, tyJ21, 6), "java/lang/Object", rfl, rfl, (lw_at lw_m10 46 rfl)⟩, ?_⟩
  refine List.forall_mem_cons.mpr ⟨⟨(RX16, TX16, 4, tyX16, 4), "java/lang/Object", rfl, rfl, (lw_at lw_m10 47 rfl)⟩, ?_⟩
  refine List.forall_mem_cons.mpr ⟨⟨(RX12, TX12, 5, tyX12, 5), "java/lang/Object", rfl, rfl, (lw_at lw_m10 42 rfl)⟩, ?_⟩
  refine List.forall_mem_cons.mpr ⟨⟨(RX13, TX13, 4, tyX13, 4), "java/lang/Object", rfl, rfl, (lw_at lw_m10 43 rfl)⟩, ?_⟩
  refine List.forall_mem_cons.mpr ⟨⟨(RX17, TX17, 2, tyX17, 2), "java/lang/Object", rfl, rfl, (lw_at lw_m10 48 rfl)⟩, ?_⟩
  refine List.forall_mem_cons.mpr ⟨⟨(RX18, TX18, 6, tyX18, 6), "java/lang/Object", rfl, rfl, (lw_at lw_m10 49 rfl)⟩, ?_⟩
  refine List.forall_mem_cons.mpr ⟨⟨(RX19, TX19, 5, tyX19, 5), "java/lang/Object", rfl, rfl, (lw_at lw_m10 50 rfl)⟩, ?_⟩
  refine List.forall_mem_cons.mpr ⟨⟨(RX10, TX10, 86, tyX10, 86), "java/lang/Object", rfl, rfl, (lw_at lw_m10 37 rfl)⟩, ?_⟩
  refine List.forall_mem_cons.mpr ⟨⟨(RX13, TX13, 4, tyX13, 4), "ConditionedProofs$Meaning", rfl, rfl, (lw_at lw_m6 99 rfl)⟩, ?_⟩
  refine List.forall_mem_cons.mpr ⟨⟨(RX17, TX17, 2, tyX17, 2), "ConditionedProofs$Meaning", rfl, rfl, (lw_at lw_m6 105 rfl)⟩, ?_⟩
  exact fun q h => absurd h List.not_mem_nil
