/-! L2: what never changes of the law's objects (made by gen_k.py, with the addresses that konst.py counts) -/
def ktab : List (Int × Int × Int) := [(-19, -1, 52), (-18, -1, 52), (-17, -1, 52), (-16, -1, 52), (-15, -1, 52), (-14, -1, 52), (-13, -1, 51), (-12, -1, 51), (-11, -1, 51), (-10, -1, 51), (-9, -1, 50), (-8, -1, 50), (-7, -1, 50), (-6, -1, 50), (-5, -1, 50), (-4, -1, 50), (-3, -1, 50), (-2, -1, 50), (-1, -1, 50), (1, -1, 1), (2, -1, 2), (3, -1, 3), (4, -1, 4), (5, -1, 4), (6, -1, 4), (7, -1, 105), (8, -1, 5), (9, -1, 6), (11, -1, 6), (13, -1, 4), (14, -1, 4), (15, -1, 4), (16, -1, 7), (17, -1, 6), (19, -1, 6), (21, -1, 4), (22, -1, 8), (23, -1, 9), (24, -1, 4), (25, -1, 4), (26, -1, 10), (27, -1, 9), (28, -1, 4), (29, -1, 4), (30, -1, 9), (31, -1, 4), (32, -1, 4), (33, -1, 11), (34, -1, 11), (35, -1, 3), (36, -1, 4), (37, -1, 4), (38, -1, 4), (39, -1, 6), (41, -1, 25), (42, -1, 101), (43, -1, 101), (44, -1, 101), (45, -1, 101), (46, -1, 101), (47, -1, 101), (48, -1, 101), (49, -1, 101), (50, -1, 101), (51, -1, 101), (52, -1, 101), (53, -1, 101), (54, -1, 101), (55, -1, 101), (56, -1, 101), (57, -1, 101), (58, -1, 101), (59, -1, 101), (60, -1, 101), (61, -1, 101), (62, -1, 101), (63, -1, 101), (64, -1, 101), (65, -1, 101), (66, -1, 101), (67, -1, 101), (68, -1, 101), (69, -1, 101), (70, -1, 101), (71, -1, 101), (72, -1, 101), (73, -1, 101), (74, -1, 101), (75, -1, 101), (76, -1, 101), (77, -1, 101), (78, -1, 101), (79, -1, 101), (80, -1, 101), (81, -1, 101), (82, -1, 101), (83, -1, 101), (84, -1, 101), (85, -1, 101), (86, -1, 101), (87, -1, 101), (88, -1, 101), (89, -1, 101), (90, -1, 101), (91, -1, 101), (92, -1, 101), (93, -1, 101), (94, -1, 101), (95, -1, 101), (96, -1, 101), (97, -1, 101), (98, -1, 101), (99, -1, 101), (100, -1, 103), (-19, 0, 5), (-18, 0, 4), (-17, 0, 3), (-16, 0, 2), (-15, 0, 1), (-14, 0, 0), (-13, 0, 3), (-12, 0, 2), (-11, 0, 1), (-10, 0, 0), (-9, 0, 8), (-8, 0, 7), (-7, 0, 6), (-6, 0, 5), (-5, 0, 4), (-4, 0, 3), (-3, 0, 2), (-2, 0, 1), (-1, 0, 0), (1, 0, 2), (1, 1, 8), (1, 2, 16), (1, 3, 22), (1, 4, 26), (1, 5, 35), (1, 7, 39), (2, 0, 3), (2, 1, 7), (3, 0, 4), (3, 1, 5), (3, 2, 6), (7, -2, 26), (8, 0, 9), (8, 1, 11), (8, 2, 13), (8, 3, 14), (8, 4, 15), (16, 0, 17), (16, 1, 19), (16, 2, 21), (22, 0, 2), (22, 1, 23), (23, 0, 24), (23, 1, 25), (26, 0, 2), (26, 1, 22), (26, 2, 27), (26, 3, 30), (26, 4, 33), (26, 5, 34), (27, 0, 28), (27, 1, 29), (30, 0, 31), (30, 1, 32), (35, 0, 36), (35, 1, 37), (35, 2, 38), (41, 2, 42), (41, 4, 43), (41, 5, 44), (41, 6, 45), (41, 7, 46), (41, 8, 47), (41, 9, 48), (41, 10, 49), (41, 11, 50), (41, 12, 51), (41, 13, 52), (41, 15, 53), (41, 17, 54), (41, 18, 55), (41, 19, 56), (41, 21, 57), (41, 22, 58), (41, 24, 59), (41, 25, 60), (41, 26, 61), (41, 27, 62), (41, 28, 63), (41, 30, 64), (41, 31, 65), (41, 32, 66), (41, 36, 67), (41, 37, 68), (41, 38, 69), (41, 39, 70), (41, 41, 71), (41, 43, 72), (41, 45, 73), (41, 46, 74), (41, 47, 75), (41, 48, 76), (41, 49, 77), (41, 50, 78), (41, 51, 79), (41, 52, 80), (41, 53, 81), (41, 54, 82), (41, 55, 83), (41, 56, 84), (41, 57, 85), (41, 65, 86), (41, 66, 87), (41, 67, 88), (41, 68, 89), (41, 69, 90), (41, 71, 91), (41, 72, 92), (41, 73, 93), (41, 76, 94), (41, 77, 95), (41, 78, 96), (41, 83, 97), (41, 84, 98), (41, 85, 99), (42, -2, 80), (43, -2, 100), (44, -2, 110), (45, -2, 26), (46, -2, 26), (47, -2, 26), (48, -2, 26), (49, -2, 26), (50, -2, 26), (51, -2, 26), (52, -2, 104), (53, -2, 26), (54, -2, 2720), (55, -2, 2720), (56, -2, 2720), (57, -2, 82), (58, -2, 82), (59, -2, 180), (60, -2, 180), (61, -2, 180), (62, -2, 180), (63, -2, 180), (64, -2, 400), (65, -2, 400), (66, -2, 400), (67, -2, 6000), (68, -2, 6000), (69, -2, 6000), (70, -2, 6000), (71, -2, 6000), (72, -2, 110), (73, -2, 1001), (74, -2, 1001), (75, -2, 1001), (76, -2, 210), (77, -2, 210), (78, -2, 260), (79, -2, 26), (80, -2, 10), (81, -2, 10), (82, -2, 10), (83, -2, 10), (84, -2, 10), (85, -2, 10), (86, -2, 6), (87, -2, 32), (88, -2, 32), (89, -2, 32), (90, -2, 256), (91, -2, 620), (92, -2, 620), (93, -2, 620), (94, -2, 101), (95, -2, 101), (96, -2, 101), (97, -2, 101), (98, -2, 101), (99, -2, 101), (100, -2, 1)]
def kft : List (Int × Int) := [(1, 0), (1, 1), (1, 2), (1, 3), (1, 4), (1, 5), (1, 7), (2, 0), (2, 1), (3, 0), (3, 1), (3, 2), (5, 0), (5, 1), (5, 2), (5, 3), (5, 4), (7, 0), (7, 1), (7, 2), (8, 0), (8, 1), (9, 0), (9, 1), (10, 0), (10, 1), (10, 2), (10, 3), (10, 4), (10, 5), (25, 2), (25, 4), (25, 5), (25, 6), (25, 7), (25, 8), (25, 9), (25, 10), (25, 11), (25, 12), (25, 13), (25, 15), (25, 17), (25, 18), (25, 19), (25, 21), (25, 22), (25, 24), (25, 25), (25, 26), (25, 27), (25, 28), (25, 30), (25, 31), (25, 32), (25, 36), (25, 37), (25, 38), (25, 39), (25, 41), (25, 43), (25, 45), (25, 46), (25, 47), (25, 48), (25, 49), (25, 50), (25, 51), (25, 52), (25, 53), (25, 54), (25, 55), (25, 56), (25, 57), (25, 65), (25, 66), (25, 67), (25, 68), (25, 69), (25, 71), (25, 72), (25, 73), (25, 76), (25, 77), (25, 78), (25, 83), (25, 84), (25, 85), (50, 0), (51, 0), (52, 0)]
def KI (m : SM) : Prop := ∀ q ∈ ktab, m q.1 q.2.1 = q.2.2
theorem Kn19_t {m : SM} (K : KI m) : m (-19) (-1) = 52 := K (-19, -1, 52) (List.mem_of_getElem? (i := 0) rfl)
theorem Kn18_t {m : SM} (K : KI m) : m (-18) (-1) = 52 := K (-18, -1, 52) (List.mem_of_getElem? (i := 1) rfl)
theorem Kn17_t {m : SM} (K : KI m) : m (-17) (-1) = 52 := K (-17, -1, 52) (List.mem_of_getElem? (i := 2) rfl)
theorem Kn16_t {m : SM} (K : KI m) : m (-16) (-1) = 52 := K (-16, -1, 52) (List.mem_of_getElem? (i := 3) rfl)
theorem Kn15_t {m : SM} (K : KI m) : m (-15) (-1) = 52 := K (-15, -1, 52) (List.mem_of_getElem? (i := 4) rfl)
theorem Kn14_t {m : SM} (K : KI m) : m (-14) (-1) = 52 := K (-14, -1, 52) (List.mem_of_getElem? (i := 5) rfl)
theorem Kn13_t {m : SM} (K : KI m) : m (-13) (-1) = 51 := K (-13, -1, 51) (List.mem_of_getElem? (i := 6) rfl)
theorem Kn12_t {m : SM} (K : KI m) : m (-12) (-1) = 51 := K (-12, -1, 51) (List.mem_of_getElem? (i := 7) rfl)
theorem Kn11_t {m : SM} (K : KI m) : m (-11) (-1) = 51 := K (-11, -1, 51) (List.mem_of_getElem? (i := 8) rfl)
theorem Kn10_t {m : SM} (K : KI m) : m (-10) (-1) = 51 := K (-10, -1, 51) (List.mem_of_getElem? (i := 9) rfl)
theorem Kn9_t {m : SM} (K : KI m) : m (-9) (-1) = 50 := K (-9, -1, 50) (List.mem_of_getElem? (i := 10) rfl)
theorem Kn8_t {m : SM} (K : KI m) : m (-8) (-1) = 50 := K (-8, -1, 50) (List.mem_of_getElem? (i := 11) rfl)
theorem Kn7_t {m : SM} (K : KI m) : m (-7) (-1) = 50 := K (-7, -1, 50) (List.mem_of_getElem? (i := 12) rfl)
theorem Kn6_t {m : SM} (K : KI m) : m (-6) (-1) = 50 := K (-6, -1, 50) (List.mem_of_getElem? (i := 13) rfl)
theorem Kn5_t {m : SM} (K : KI m) : m (-5) (-1) = 50 := K (-5, -1, 50) (List.mem_of_getElem? (i := 14) rfl)
theorem Kn4_t {m : SM} (K : KI m) : m (-4) (-1) = 50 := K (-4, -1, 50) (List.mem_of_getElem? (i := 15) rfl)
theorem Kn3_t {m : SM} (K : KI m) : m (-3) (-1) = 50 := K (-3, -1, 50) (List.mem_of_getElem? (i := 16) rfl)
theorem Kn2_t {m : SM} (K : KI m) : m (-2) (-1) = 50 := K (-2, -1, 50) (List.mem_of_getElem? (i := 17) rfl)
theorem Kn1_t {m : SM} (K : KI m) : m (-1) (-1) = 50 := K (-1, -1, 50) (List.mem_of_getElem? (i := 18) rfl)
theorem K1_t {m : SM} (K : KI m) : m (1) (-1) = 1 := K (1, -1, 1) (List.mem_of_getElem? (i := 19) rfl)
theorem K2_t {m : SM} (K : KI m) : m (2) (-1) = 2 := K (2, -1, 2) (List.mem_of_getElem? (i := 20) rfl)
theorem K3_t {m : SM} (K : KI m) : m (3) (-1) = 3 := K (3, -1, 3) (List.mem_of_getElem? (i := 21) rfl)
theorem K4_t {m : SM} (K : KI m) : m (4) (-1) = 4 := K (4, -1, 4) (List.mem_of_getElem? (i := 22) rfl)
theorem K5_t {m : SM} (K : KI m) : m (5) (-1) = 4 := K (5, -1, 4) (List.mem_of_getElem? (i := 23) rfl)
theorem K6_t {m : SM} (K : KI m) : m (6) (-1) = 4 := K (6, -1, 4) (List.mem_of_getElem? (i := 24) rfl)
theorem K7_t {m : SM} (K : KI m) : m (7) (-1) = 105 := K (7, -1, 105) (List.mem_of_getElem? (i := 25) rfl)
theorem K8_t {m : SM} (K : KI m) : m (8) (-1) = 5 := K (8, -1, 5) (List.mem_of_getElem? (i := 26) rfl)
theorem K9_t {m : SM} (K : KI m) : m (9) (-1) = 6 := K (9, -1, 6) (List.mem_of_getElem? (i := 27) rfl)
theorem K11_t {m : SM} (K : KI m) : m (11) (-1) = 6 := K (11, -1, 6) (List.mem_of_getElem? (i := 28) rfl)
theorem K13_t {m : SM} (K : KI m) : m (13) (-1) = 4 := K (13, -1, 4) (List.mem_of_getElem? (i := 29) rfl)
theorem K14_t {m : SM} (K : KI m) : m (14) (-1) = 4 := K (14, -1, 4) (List.mem_of_getElem? (i := 30) rfl)
theorem K15_t {m : SM} (K : KI m) : m (15) (-1) = 4 := K (15, -1, 4) (List.mem_of_getElem? (i := 31) rfl)
theorem K16_t {m : SM} (K : KI m) : m (16) (-1) = 7 := K (16, -1, 7) (List.mem_of_getElem? (i := 32) rfl)
theorem K17_t {m : SM} (K : KI m) : m (17) (-1) = 6 := K (17, -1, 6) (List.mem_of_getElem? (i := 33) rfl)
theorem K19_t {m : SM} (K : KI m) : m (19) (-1) = 6 := K (19, -1, 6) (List.mem_of_getElem? (i := 34) rfl)
theorem K21_t {m : SM} (K : KI m) : m (21) (-1) = 4 := K (21, -1, 4) (List.mem_of_getElem? (i := 35) rfl)
theorem K22_t {m : SM} (K : KI m) : m (22) (-1) = 8 := K (22, -1, 8) (List.mem_of_getElem? (i := 36) rfl)
theorem K23_t {m : SM} (K : KI m) : m (23) (-1) = 9 := K (23, -1, 9) (List.mem_of_getElem? (i := 37) rfl)
theorem K24_t {m : SM} (K : KI m) : m (24) (-1) = 4 := K (24, -1, 4) (List.mem_of_getElem? (i := 38) rfl)
theorem K25_t {m : SM} (K : KI m) : m (25) (-1) = 4 := K (25, -1, 4) (List.mem_of_getElem? (i := 39) rfl)
theorem K26_t {m : SM} (K : KI m) : m (26) (-1) = 10 := K (26, -1, 10) (List.mem_of_getElem? (i := 40) rfl)
theorem K27_t {m : SM} (K : KI m) : m (27) (-1) = 9 := K (27, -1, 9) (List.mem_of_getElem? (i := 41) rfl)
theorem K28_t {m : SM} (K : KI m) : m (28) (-1) = 4 := K (28, -1, 4) (List.mem_of_getElem? (i := 42) rfl)
theorem K29_t {m : SM} (K : KI m) : m (29) (-1) = 4 := K (29, -1, 4) (List.mem_of_getElem? (i := 43) rfl)
theorem K30_t {m : SM} (K : KI m) : m (30) (-1) = 9 := K (30, -1, 9) (List.mem_of_getElem? (i := 44) rfl)
theorem K31_t {m : SM} (K : KI m) : m (31) (-1) = 4 := K (31, -1, 4) (List.mem_of_getElem? (i := 45) rfl)
theorem K32_t {m : SM} (K : KI m) : m (32) (-1) = 4 := K (32, -1, 4) (List.mem_of_getElem? (i := 46) rfl)
theorem K33_t {m : SM} (K : KI m) : m (33) (-1) = 11 := K (33, -1, 11) (List.mem_of_getElem? (i := 47) rfl)
theorem K34_t {m : SM} (K : KI m) : m (34) (-1) = 11 := K (34, -1, 11) (List.mem_of_getElem? (i := 48) rfl)
theorem K35_t {m : SM} (K : KI m) : m (35) (-1) = 3 := K (35, -1, 3) (List.mem_of_getElem? (i := 49) rfl)
theorem K36_t {m : SM} (K : KI m) : m (36) (-1) = 4 := K (36, -1, 4) (List.mem_of_getElem? (i := 50) rfl)
theorem K37_t {m : SM} (K : KI m) : m (37) (-1) = 4 := K (37, -1, 4) (List.mem_of_getElem? (i := 51) rfl)
theorem K38_t {m : SM} (K : KI m) : m (38) (-1) = 4 := K (38, -1, 4) (List.mem_of_getElem? (i := 52) rfl)
theorem K39_t {m : SM} (K : KI m) : m (39) (-1) = 6 := K (39, -1, 6) (List.mem_of_getElem? (i := 53) rfl)
theorem K41_t {m : SM} (K : KI m) : m (41) (-1) = 25 := K (41, -1, 25) (List.mem_of_getElem? (i := 54) rfl)
theorem K42_t {m : SM} (K : KI m) : m (42) (-1) = 101 := K (42, -1, 101) (List.mem_of_getElem? (i := 55) rfl)
theorem K43_t {m : SM} (K : KI m) : m (43) (-1) = 101 := K (43, -1, 101) (List.mem_of_getElem? (i := 56) rfl)
theorem K44_t {m : SM} (K : KI m) : m (44) (-1) = 101 := K (44, -1, 101) (List.mem_of_getElem? (i := 57) rfl)
theorem K45_t {m : SM} (K : KI m) : m (45) (-1) = 101 := K (45, -1, 101) (List.mem_of_getElem? (i := 58) rfl)
theorem K46_t {m : SM} (K : KI m) : m (46) (-1) = 101 := K (46, -1, 101) (List.mem_of_getElem? (i := 59) rfl)
theorem K47_t {m : SM} (K : KI m) : m (47) (-1) = 101 := K (47, -1, 101) (List.mem_of_getElem? (i := 60) rfl)
theorem K48_t {m : SM} (K : KI m) : m (48) (-1) = 101 := K (48, -1, 101) (List.mem_of_getElem? (i := 61) rfl)
theorem K49_t {m : SM} (K : KI m) : m (49) (-1) = 101 := K (49, -1, 101) (List.mem_of_getElem? (i := 62) rfl)
theorem K50_t {m : SM} (K : KI m) : m (50) (-1) = 101 := K (50, -1, 101) (List.mem_of_getElem? (i := 63) rfl)
theorem K51_t {m : SM} (K : KI m) : m (51) (-1) = 101 := K (51, -1, 101) (List.mem_of_getElem? (i := 64) rfl)
theorem K52_t {m : SM} (K : KI m) : m (52) (-1) = 101 := K (52, -1, 101) (List.mem_of_getElem? (i := 65) rfl)
theorem K53_t {m : SM} (K : KI m) : m (53) (-1) = 101 := K (53, -1, 101) (List.mem_of_getElem? (i := 66) rfl)
theorem K54_t {m : SM} (K : KI m) : m (54) (-1) = 101 := K (54, -1, 101) (List.mem_of_getElem? (i := 67) rfl)
theorem K55_t {m : SM} (K : KI m) : m (55) (-1) = 101 := K (55, -1, 101) (List.mem_of_getElem? (i := 68) rfl)
theorem K56_t {m : SM} (K : KI m) : m (56) (-1) = 101 := K (56, -1, 101) (List.mem_of_getElem? (i := 69) rfl)
theorem K57_t {m : SM} (K : KI m) : m (57) (-1) = 101 := K (57, -1, 101) (List.mem_of_getElem? (i := 70) rfl)
theorem K58_t {m : SM} (K : KI m) : m (58) (-1) = 101 := K (58, -1, 101) (List.mem_of_getElem? (i := 71) rfl)
theorem K59_t {m : SM} (K : KI m) : m (59) (-1) = 101 := K (59, -1, 101) (List.mem_of_getElem? (i := 72) rfl)
theorem K60_t {m : SM} (K : KI m) : m (60) (-1) = 101 := K (60, -1, 101) (List.mem_of_getElem? (i := 73) rfl)
theorem K61_t {m : SM} (K : KI m) : m (61) (-1) = 101 := K (61, -1, 101) (List.mem_of_getElem? (i := 74) rfl)
theorem K62_t {m : SM} (K : KI m) : m (62) (-1) = 101 := K (62, -1, 101) (List.mem_of_getElem? (i := 75) rfl)
theorem K63_t {m : SM} (K : KI m) : m (63) (-1) = 101 := K (63, -1, 101) (List.mem_of_getElem? (i := 76) rfl)
theorem K64_t {m : SM} (K : KI m) : m (64) (-1) = 101 := K (64, -1, 101) (List.mem_of_getElem? (i := 77) rfl)
theorem K65_t {m : SM} (K : KI m) : m (65) (-1) = 101 := K (65, -1, 101) (List.mem_of_getElem? (i := 78) rfl)
theorem K66_t {m : SM} (K : KI m) : m (66) (-1) = 101 := K (66, -1, 101) (List.mem_of_getElem? (i := 79) rfl)
theorem K67_t {m : SM} (K : KI m) : m (67) (-1) = 101 := K (67, -1, 101) (List.mem_of_getElem? (i := 80) rfl)
theorem K68_t {m : SM} (K : KI m) : m (68) (-1) = 101 := K (68, -1, 101) (List.mem_of_getElem? (i := 81) rfl)
theorem K69_t {m : SM} (K : KI m) : m (69) (-1) = 101 := K (69, -1, 101) (List.mem_of_getElem? (i := 82) rfl)
theorem K70_t {m : SM} (K : KI m) : m (70) (-1) = 101 := K (70, -1, 101) (List.mem_of_getElem? (i := 83) rfl)
theorem K71_t {m : SM} (K : KI m) : m (71) (-1) = 101 := K (71, -1, 101) (List.mem_of_getElem? (i := 84) rfl)
theorem K72_t {m : SM} (K : KI m) : m (72) (-1) = 101 := K (72, -1, 101) (List.mem_of_getElem? (i := 85) rfl)
theorem K73_t {m : SM} (K : KI m) : m (73) (-1) = 101 := K (73, -1, 101) (List.mem_of_getElem? (i := 86) rfl)
theorem K74_t {m : SM} (K : KI m) : m (74) (-1) = 101 := K (74, -1, 101) (List.mem_of_getElem? (i := 87) rfl)
theorem K75_t {m : SM} (K : KI m) : m (75) (-1) = 101 := K (75, -1, 101) (List.mem_of_getElem? (i := 88) rfl)
theorem K76_t {m : SM} (K : KI m) : m (76) (-1) = 101 := K (76, -1, 101) (List.mem_of_getElem? (i := 89) rfl)
theorem K77_t {m : SM} (K : KI m) : m (77) (-1) = 101 := K (77, -1, 101) (List.mem_of_getElem? (i := 90) rfl)
theorem K78_t {m : SM} (K : KI m) : m (78) (-1) = 101 := K (78, -1, 101) (List.mem_of_getElem? (i := 91) rfl)
theorem K79_t {m : SM} (K : KI m) : m (79) (-1) = 101 := K (79, -1, 101) (List.mem_of_getElem? (i := 92) rfl)
theorem K80_t {m : SM} (K : KI m) : m (80) (-1) = 101 := K (80, -1, 101) (List.mem_of_getElem? (i := 93) rfl)
theorem K81_t {m : SM} (K : KI m) : m (81) (-1) = 101 := K (81, -1, 101) (List.mem_of_getElem? (i := 94) rfl)
theorem K82_t {m : SM} (K : KI m) : m (82) (-1) = 101 := K (82, -1, 101) (List.mem_of_getElem? (i := 95) rfl)
theorem K83_t {m : SM} (K : KI m) : m (83) (-1) = 101 := K (83, -1, 101) (List.mem_of_getElem? (i := 96) rfl)
theorem K84_t {m : SM} (K : KI m) : m (84) (-1) = 101 := K (84, -1, 101) (List.mem_of_getElem? (i := 97) rfl)
theorem K85_t {m : SM} (K : KI m) : m (85) (-1) = 101 := K (85, -1, 101) (List.mem_of_getElem? (i := 98) rfl)
theorem K86_t {m : SM} (K : KI m) : m (86) (-1) = 101 := K (86, -1, 101) (List.mem_of_getElem? (i := 99) rfl)
theorem K87_t {m : SM} (K : KI m) : m (87) (-1) = 101 := K (87, -1, 101) (List.mem_of_getElem? (i := 100) rfl)
theorem K88_t {m : SM} (K : KI m) : m (88) (-1) = 101 := K (88, -1, 101) (List.mem_of_getElem? (i := 101) rfl)
theorem K89_t {m : SM} (K : KI m) : m (89) (-1) = 101 := K (89, -1, 101) (List.mem_of_getElem? (i := 102) rfl)
theorem K90_t {m : SM} (K : KI m) : m (90) (-1) = 101 := K (90, -1, 101) (List.mem_of_getElem? (i := 103) rfl)
theorem K91_t {m : SM} (K : KI m) : m (91) (-1) = 101 := K (91, -1, 101) (List.mem_of_getElem? (i := 104) rfl)
theorem K92_t {m : SM} (K : KI m) : m (92) (-1) = 101 := K (92, -1, 101) (List.mem_of_getElem? (i := 105) rfl)
theorem K93_t {m : SM} (K : KI m) : m (93) (-1) = 101 := K (93, -1, 101) (List.mem_of_getElem? (i := 106) rfl)
theorem K94_t {m : SM} (K : KI m) : m (94) (-1) = 101 := K (94, -1, 101) (List.mem_of_getElem? (i := 107) rfl)
theorem K95_t {m : SM} (K : KI m) : m (95) (-1) = 101 := K (95, -1, 101) (List.mem_of_getElem? (i := 108) rfl)
theorem K96_t {m : SM} (K : KI m) : m (96) (-1) = 101 := K (96, -1, 101) (List.mem_of_getElem? (i := 109) rfl)
theorem K97_t {m : SM} (K : KI m) : m (97) (-1) = 101 := K (97, -1, 101) (List.mem_of_getElem? (i := 110) rfl)
theorem K98_t {m : SM} (K : KI m) : m (98) (-1) = 101 := K (98, -1, 101) (List.mem_of_getElem? (i := 111) rfl)
theorem K99_t {m : SM} (K : KI m) : m (99) (-1) = 101 := K (99, -1, 101) (List.mem_of_getElem? (i := 112) rfl)
theorem K100_t {m : SM} (K : KI m) : m (100) (-1) = 103 := K (100, -1, 103) (List.mem_of_getElem? (i := 113) rfl)
theorem Kn19_0 {m : SM} (K : KI m) : m (-19) 0 = 5 := K (-19, 0, 5) (List.mem_of_getElem? (i := 114) rfl)
theorem Kn18_0 {m : SM} (K : KI m) : m (-18) 0 = 4 := K (-18, 0, 4) (List.mem_of_getElem? (i := 115) rfl)
theorem Kn17_0 {m : SM} (K : KI m) : m (-17) 0 = 3 := K (-17, 0, 3) (List.mem_of_getElem? (i := 116) rfl)
theorem Kn16_0 {m : SM} (K : KI m) : m (-16) 0 = 2 := K (-16, 0, 2) (List.mem_of_getElem? (i := 117) rfl)
theorem Kn15_0 {m : SM} (K : KI m) : m (-15) 0 = 1 := K (-15, 0, 1) (List.mem_of_getElem? (i := 118) rfl)
theorem Kn14_0 {m : SM} (K : KI m) : m (-14) 0 = 0 := K (-14, 0, 0) (List.mem_of_getElem? (i := 119) rfl)
theorem Kn13_0 {m : SM} (K : KI m) : m (-13) 0 = 3 := K (-13, 0, 3) (List.mem_of_getElem? (i := 120) rfl)
theorem Kn12_0 {m : SM} (K : KI m) : m (-12) 0 = 2 := K (-12, 0, 2) (List.mem_of_getElem? (i := 121) rfl)
theorem Kn11_0 {m : SM} (K : KI m) : m (-11) 0 = 1 := K (-11, 0, 1) (List.mem_of_getElem? (i := 122) rfl)
theorem Kn10_0 {m : SM} (K : KI m) : m (-10) 0 = 0 := K (-10, 0, 0) (List.mem_of_getElem? (i := 123) rfl)
theorem Kn9_0 {m : SM} (K : KI m) : m (-9) 0 = 8 := K (-9, 0, 8) (List.mem_of_getElem? (i := 124) rfl)
theorem Kn8_0 {m : SM} (K : KI m) : m (-8) 0 = 7 := K (-8, 0, 7) (List.mem_of_getElem? (i := 125) rfl)
theorem Kn7_0 {m : SM} (K : KI m) : m (-7) 0 = 6 := K (-7, 0, 6) (List.mem_of_getElem? (i := 126) rfl)
theorem Kn6_0 {m : SM} (K : KI m) : m (-6) 0 = 5 := K (-6, 0, 5) (List.mem_of_getElem? (i := 127) rfl)
theorem Kn5_0 {m : SM} (K : KI m) : m (-5) 0 = 4 := K (-5, 0, 4) (List.mem_of_getElem? (i := 128) rfl)
theorem Kn4_0 {m : SM} (K : KI m) : m (-4) 0 = 3 := K (-4, 0, 3) (List.mem_of_getElem? (i := 129) rfl)
theorem Kn3_0 {m : SM} (K : KI m) : m (-3) 0 = 2 := K (-3, 0, 2) (List.mem_of_getElem? (i := 130) rfl)
theorem Kn2_0 {m : SM} (K : KI m) : m (-2) 0 = 1 := K (-2, 0, 1) (List.mem_of_getElem? (i := 131) rfl)
theorem Kn1_0 {m : SM} (K : KI m) : m (-1) 0 = 0 := K (-1, 0, 0) (List.mem_of_getElem? (i := 132) rfl)
theorem K1_0 {m : SM} (K : KI m) : m (1) 0 = 2 := K (1, 0, 2) (List.mem_of_getElem? (i := 133) rfl)
theorem K1_1 {m : SM} (K : KI m) : m (1) 1 = 8 := K (1, 1, 8) (List.mem_of_getElem? (i := 134) rfl)
theorem K1_2 {m : SM} (K : KI m) : m (1) 2 = 16 := K (1, 2, 16) (List.mem_of_getElem? (i := 135) rfl)
theorem K1_3 {m : SM} (K : KI m) : m (1) 3 = 22 := K (1, 3, 22) (List.mem_of_getElem? (i := 136) rfl)
theorem K1_4 {m : SM} (K : KI m) : m (1) 4 = 26 := K (1, 4, 26) (List.mem_of_getElem? (i := 137) rfl)
theorem K1_5 {m : SM} (K : KI m) : m (1) 5 = 35 := K (1, 5, 35) (List.mem_of_getElem? (i := 138) rfl)
theorem K1_7 {m : SM} (K : KI m) : m (1) 7 = 39 := K (1, 7, 39) (List.mem_of_getElem? (i := 139) rfl)
theorem K2_0 {m : SM} (K : KI m) : m (2) 0 = 3 := K (2, 0, 3) (List.mem_of_getElem? (i := 140) rfl)
theorem K2_1 {m : SM} (K : KI m) : m (2) 1 = 7 := K (2, 1, 7) (List.mem_of_getElem? (i := 141) rfl)
theorem K3_0 {m : SM} (K : KI m) : m (3) 0 = 4 := K (3, 0, 4) (List.mem_of_getElem? (i := 142) rfl)
theorem K3_1 {m : SM} (K : KI m) : m (3) 1 = 5 := K (3, 1, 5) (List.mem_of_getElem? (i := 143) rfl)
theorem K3_2 {m : SM} (K : KI m) : m (3) 2 = 6 := K (3, 2, 6) (List.mem_of_getElem? (i := 144) rfl)
theorem K7_l {m : SM} (K : KI m) : m (7) (-2) = 26 := K (7, -2, 26) (List.mem_of_getElem? (i := 145) rfl)
theorem K8_0 {m : SM} (K : KI m) : m (8) 0 = 9 := K (8, 0, 9) (List.mem_of_getElem? (i := 146) rfl)
theorem K8_1 {m : SM} (K : KI m) : m (8) 1 = 11 := K (8, 1, 11) (List.mem_of_getElem? (i := 147) rfl)
theorem K8_2 {m : SM} (K : KI m) : m (8) 2 = 13 := K (8, 2, 13) (List.mem_of_getElem? (i := 148) rfl)
theorem K8_3 {m : SM} (K : KI m) : m (8) 3 = 14 := K (8, 3, 14) (List.mem_of_getElem? (i := 149) rfl)
theorem K8_4 {m : SM} (K : KI m) : m (8) 4 = 15 := K (8, 4, 15) (List.mem_of_getElem? (i := 150) rfl)
theorem K16_0 {m : SM} (K : KI m) : m (16) 0 = 17 := K (16, 0, 17) (List.mem_of_getElem? (i := 151) rfl)
theorem K16_1 {m : SM} (K : KI m) : m (16) 1 = 19 := K (16, 1, 19) (List.mem_of_getElem? (i := 152) rfl)
theorem K16_2 {m : SM} (K : KI m) : m (16) 2 = 21 := K (16, 2, 21) (List.mem_of_getElem? (i := 153) rfl)
theorem K22_0 {m : SM} (K : KI m) : m (22) 0 = 2 := K (22, 0, 2) (List.mem_of_getElem? (i := 154) rfl)
theorem K22_1 {m : SM} (K : KI m) : m (22) 1 = 23 := K (22, 1, 23) (List.mem_of_getElem? (i := 155) rfl)
theorem K23_0 {m : SM} (K : KI m) : m (23) 0 = 24 := K (23, 0, 24) (List.mem_of_getElem? (i := 156) rfl)
theorem K23_1 {m : SM} (K : KI m) : m (23) 1 = 25 := K (23, 1, 25) (List.mem_of_getElem? (i := 157) rfl)
theorem K26_0 {m : SM} (K : KI m) : m (26) 0 = 2 := K (26, 0, 2) (List.mem_of_getElem? (i := 158) rfl)
theorem K26_1 {m : SM} (K : KI m) : m (26) 1 = 22 := K (26, 1, 22) (List.mem_of_getElem? (i := 159) rfl)
theorem K26_2 {m : SM} (K : KI m) : m (26) 2 = 27 := K (26, 2, 27) (List.mem_of_getElem? (i := 160) rfl)
theorem K26_3 {m : SM} (K : KI m) : m (26) 3 = 30 := K (26, 3, 30) (List.mem_of_getElem? (i := 161) rfl)
theorem K26_4 {m : SM} (K : KI m) : m (26) 4 = 33 := K (26, 4, 33) (List.mem_of_getElem? (i := 162) rfl)
theorem K26_5 {m : SM} (K : KI m) : m (26) 5 = 34 := K (26, 5, 34) (List.mem_of_getElem? (i := 163) rfl)
theorem K27_0 {m : SM} (K : KI m) : m (27) 0 = 28 := K (27, 0, 28) (List.mem_of_getElem? (i := 164) rfl)
theorem K27_1 {m : SM} (K : KI m) : m (27) 1 = 29 := K (27, 1, 29) (List.mem_of_getElem? (i := 165) rfl)
theorem K30_0 {m : SM} (K : KI m) : m (30) 0 = 31 := K (30, 0, 31) (List.mem_of_getElem? (i := 166) rfl)
theorem K30_1 {m : SM} (K : KI m) : m (30) 1 = 32 := K (30, 1, 32) (List.mem_of_getElem? (i := 167) rfl)
theorem K35_0 {m : SM} (K : KI m) : m (35) 0 = 36 := K (35, 0, 36) (List.mem_of_getElem? (i := 168) rfl)
theorem K35_1 {m : SM} (K : KI m) : m (35) 1 = 37 := K (35, 1, 37) (List.mem_of_getElem? (i := 169) rfl)
theorem K35_2 {m : SM} (K : KI m) : m (35) 2 = 38 := K (35, 2, 38) (List.mem_of_getElem? (i := 170) rfl)
theorem K41_2 {m : SM} (K : KI m) : m (41) 2 = 42 := K (41, 2, 42) (List.mem_of_getElem? (i := 171) rfl)
theorem K41_4 {m : SM} (K : KI m) : m (41) 4 = 43 := K (41, 4, 43) (List.mem_of_getElem? (i := 172) rfl)
theorem K41_5 {m : SM} (K : KI m) : m (41) 5 = 44 := K (41, 5, 44) (List.mem_of_getElem? (i := 173) rfl)
theorem K41_6 {m : SM} (K : KI m) : m (41) 6 = 45 := K (41, 6, 45) (List.mem_of_getElem? (i := 174) rfl)
theorem K41_7 {m : SM} (K : KI m) : m (41) 7 = 46 := K (41, 7, 46) (List.mem_of_getElem? (i := 175) rfl)
theorem K41_8 {m : SM} (K : KI m) : m (41) 8 = 47 := K (41, 8, 47) (List.mem_of_getElem? (i := 176) rfl)
theorem K41_9 {m : SM} (K : KI m) : m (41) 9 = 48 := K (41, 9, 48) (List.mem_of_getElem? (i := 177) rfl)
theorem K41_10 {m : SM} (K : KI m) : m (41) 10 = 49 := K (41, 10, 49) (List.mem_of_getElem? (i := 178) rfl)
theorem K41_11 {m : SM} (K : KI m) : m (41) 11 = 50 := K (41, 11, 50) (List.mem_of_getElem? (i := 179) rfl)
theorem K41_12 {m : SM} (K : KI m) : m (41) 12 = 51 := K (41, 12, 51) (List.mem_of_getElem? (i := 180) rfl)
theorem K41_13 {m : SM} (K : KI m) : m (41) 13 = 52 := K (41, 13, 52) (List.mem_of_getElem? (i := 181) rfl)
theorem K41_15 {m : SM} (K : KI m) : m (41) 15 = 53 := K (41, 15, 53) (List.mem_of_getElem? (i := 182) rfl)
theorem K41_17 {m : SM} (K : KI m) : m (41) 17 = 54 := K (41, 17, 54) (List.mem_of_getElem? (i := 183) rfl)
theorem K41_18 {m : SM} (K : KI m) : m (41) 18 = 55 := K (41, 18, 55) (List.mem_of_getElem? (i := 184) rfl)
theorem K41_19 {m : SM} (K : KI m) : m (41) 19 = 56 := K (41, 19, 56) (List.mem_of_getElem? (i := 185) rfl)
theorem K41_21 {m : SM} (K : KI m) : m (41) 21 = 57 := K (41, 21, 57) (List.mem_of_getElem? (i := 186) rfl)
theorem K41_22 {m : SM} (K : KI m) : m (41) 22 = 58 := K (41, 22, 58) (List.mem_of_getElem? (i := 187) rfl)
theorem K41_24 {m : SM} (K : KI m) : m (41) 24 = 59 := K (41, 24, 59) (List.mem_of_getElem? (i := 188) rfl)
theorem K41_25 {m : SM} (K : KI m) : m (41) 25 = 60 := K (41, 25, 60) (List.mem_of_getElem? (i := 189) rfl)
theorem K41_26 {m : SM} (K : KI m) : m (41) 26 = 61 := K (41, 26, 61) (List.mem_of_getElem? (i := 190) rfl)
theorem K41_27 {m : SM} (K : KI m) : m (41) 27 = 62 := K (41, 27, 62) (List.mem_of_getElem? (i := 191) rfl)
theorem K41_28 {m : SM} (K : KI m) : m (41) 28 = 63 := K (41, 28, 63) (List.mem_of_getElem? (i := 192) rfl)
theorem K41_30 {m : SM} (K : KI m) : m (41) 30 = 64 := K (41, 30, 64) (List.mem_of_getElem? (i := 193) rfl)
theorem K41_31 {m : SM} (K : KI m) : m (41) 31 = 65 := K (41, 31, 65) (List.mem_of_getElem? (i := 194) rfl)
theorem K41_32 {m : SM} (K : KI m) : m (41) 32 = 66 := K (41, 32, 66) (List.mem_of_getElem? (i := 195) rfl)
theorem K41_36 {m : SM} (K : KI m) : m (41) 36 = 67 := K (41, 36, 67) (List.mem_of_getElem? (i := 196) rfl)
theorem K41_37 {m : SM} (K : KI m) : m (41) 37 = 68 := K (41, 37, 68) (List.mem_of_getElem? (i := 197) rfl)
theorem K41_38 {m : SM} (K : KI m) : m (41) 38 = 69 := K (41, 38, 69) (List.mem_of_getElem? (i := 198) rfl)
theorem K41_39 {m : SM} (K : KI m) : m (41) 39 = 70 := K (41, 39, 70) (List.mem_of_getElem? (i := 199) rfl)
theorem K41_41 {m : SM} (K : KI m) : m (41) 41 = 71 := K (41, 41, 71) (List.mem_of_getElem? (i := 200) rfl)
theorem K41_43 {m : SM} (K : KI m) : m (41) 43 = 72 := K (41, 43, 72) (List.mem_of_getElem? (i := 201) rfl)
theorem K41_45 {m : SM} (K : KI m) : m (41) 45 = 73 := K (41, 45, 73) (List.mem_of_getElem? (i := 202) rfl)
theorem K41_46 {m : SM} (K : KI m) : m (41) 46 = 74 := K (41, 46, 74) (List.mem_of_getElem? (i := 203) rfl)
theorem K41_47 {m : SM} (K : KI m) : m (41) 47 = 75 := K (41, 47, 75) (List.mem_of_getElem? (i := 204) rfl)
theorem K41_48 {m : SM} (K : KI m) : m (41) 48 = 76 := K (41, 48, 76) (List.mem_of_getElem? (i := 205) rfl)
theorem K41_49 {m : SM} (K : KI m) : m (41) 49 = 77 := K (41, 49, 77) (List.mem_of_getElem? (i := 206) rfl)
theorem K41_50 {m : SM} (K : KI m) : m (41) 50 = 78 := K (41, 50, 78) (List.mem_of_getElem? (i := 207) rfl)
theorem K41_51 {m : SM} (K : KI m) : m (41) 51 = 79 := K (41, 51, 79) (List.mem_of_getElem? (i := 208) rfl)
theorem K41_52 {m : SM} (K : KI m) : m (41) 52 = 80 := K (41, 52, 80) (List.mem_of_getElem? (i := 209) rfl)
theorem K41_53 {m : SM} (K : KI m) : m (41) 53 = 81 := K (41, 53, 81) (List.mem_of_getElem? (i := 210) rfl)
theorem K41_54 {m : SM} (K : KI m) : m (41) 54 = 82 := K (41, 54, 82) (List.mem_of_getElem? (i := 211) rfl)
theorem K41_55 {m : SM} (K : KI m) : m (41) 55 = 83 := K (41, 55, 83) (List.mem_of_getElem? (i := 212) rfl)
theorem K41_56 {m : SM} (K : KI m) : m (41) 56 = 84 := K (41, 56, 84) (List.mem_of_getElem? (i := 213) rfl)
theorem K41_57 {m : SM} (K : KI m) : m (41) 57 = 85 := K (41, 57, 85) (List.mem_of_getElem? (i := 214) rfl)
theorem K41_65 {m : SM} (K : KI m) : m (41) 65 = 86 := K (41, 65, 86) (List.mem_of_getElem? (i := 215) rfl)
theorem K41_66 {m : SM} (K : KI m) : m (41) 66 = 87 := K (41, 66, 87) (List.mem_of_getElem? (i := 216) rfl)
theorem K41_67 {m : SM} (K : KI m) : m (41) 67 = 88 := K (41, 67, 88) (List.mem_of_getElem? (i := 217) rfl)
theorem K41_68 {m : SM} (K : KI m) : m (41) 68 = 89 := K (41, 68, 89) (List.mem_of_getElem? (i := 218) rfl)
theorem K41_69 {m : SM} (K : KI m) : m (41) 69 = 90 := K (41, 69, 90) (List.mem_of_getElem? (i := 219) rfl)
theorem K41_71 {m : SM} (K : KI m) : m (41) 71 = 91 := K (41, 71, 91) (List.mem_of_getElem? (i := 220) rfl)
theorem K41_72 {m : SM} (K : KI m) : m (41) 72 = 92 := K (41, 72, 92) (List.mem_of_getElem? (i := 221) rfl)
theorem K41_73 {m : SM} (K : KI m) : m (41) 73 = 93 := K (41, 73, 93) (List.mem_of_getElem? (i := 222) rfl)
theorem K41_76 {m : SM} (K : KI m) : m (41) 76 = 94 := K (41, 76, 94) (List.mem_of_getElem? (i := 223) rfl)
theorem K41_77 {m : SM} (K : KI m) : m (41) 77 = 95 := K (41, 77, 95) (List.mem_of_getElem? (i := 224) rfl)
theorem K41_78 {m : SM} (K : KI m) : m (41) 78 = 96 := K (41, 78, 96) (List.mem_of_getElem? (i := 225) rfl)
theorem K41_83 {m : SM} (K : KI m) : m (41) 83 = 97 := K (41, 83, 97) (List.mem_of_getElem? (i := 226) rfl)
theorem K41_84 {m : SM} (K : KI m) : m (41) 84 = 98 := K (41, 84, 98) (List.mem_of_getElem? (i := 227) rfl)
theorem K41_85 {m : SM} (K : KI m) : m (41) 85 = 99 := K (41, 85, 99) (List.mem_of_getElem? (i := 228) rfl)
theorem K42_l {m : SM} (K : KI m) : m (42) (-2) = 80 := K (42, -2, 80) (List.mem_of_getElem? (i := 229) rfl)
theorem K43_l {m : SM} (K : KI m) : m (43) (-2) = 100 := K (43, -2, 100) (List.mem_of_getElem? (i := 230) rfl)
theorem K44_l {m : SM} (K : KI m) : m (44) (-2) = 110 := K (44, -2, 110) (List.mem_of_getElem? (i := 231) rfl)
theorem K45_l {m : SM} (K : KI m) : m (45) (-2) = 26 := K (45, -2, 26) (List.mem_of_getElem? (i := 232) rfl)
theorem K46_l {m : SM} (K : KI m) : m (46) (-2) = 26 := K (46, -2, 26) (List.mem_of_getElem? (i := 233) rfl)
theorem K47_l {m : SM} (K : KI m) : m (47) (-2) = 26 := K (47, -2, 26) (List.mem_of_getElem? (i := 234) rfl)
theorem K48_l {m : SM} (K : KI m) : m (48) (-2) = 26 := K (48, -2, 26) (List.mem_of_getElem? (i := 235) rfl)
theorem K49_l {m : SM} (K : KI m) : m (49) (-2) = 26 := K (49, -2, 26) (List.mem_of_getElem? (i := 236) rfl)
theorem K50_l {m : SM} (K : KI m) : m (50) (-2) = 26 := K (50, -2, 26) (List.mem_of_getElem? (i := 237) rfl)
theorem K51_l {m : SM} (K : KI m) : m (51) (-2) = 26 := K (51, -2, 26) (List.mem_of_getElem? (i := 238) rfl)
theorem K52_l {m : SM} (K : KI m) : m (52) (-2) = 104 := K (52, -2, 104) (List.mem_of_getElem? (i := 239) rfl)
theorem K53_l {m : SM} (K : KI m) : m (53) (-2) = 26 := K (53, -2, 26) (List.mem_of_getElem? (i := 240) rfl)
theorem K54_l {m : SM} (K : KI m) : m (54) (-2) = 2720 := K (54, -2, 2720) (List.mem_of_getElem? (i := 241) rfl)
theorem K55_l {m : SM} (K : KI m) : m (55) (-2) = 2720 := K (55, -2, 2720) (List.mem_of_getElem? (i := 242) rfl)
theorem K56_l {m : SM} (K : KI m) : m (56) (-2) = 2720 := K (56, -2, 2720) (List.mem_of_getElem? (i := 243) rfl)
theorem K57_l {m : SM} (K : KI m) : m (57) (-2) = 82 := K (57, -2, 82) (List.mem_of_getElem? (i := 244) rfl)
theorem K58_l {m : SM} (K : KI m) : m (58) (-2) = 82 := K (58, -2, 82) (List.mem_of_getElem? (i := 245) rfl)
theorem K59_l {m : SM} (K : KI m) : m (59) (-2) = 180 := K (59, -2, 180) (List.mem_of_getElem? (i := 246) rfl)
theorem K60_l {m : SM} (K : KI m) : m (60) (-2) = 180 := K (60, -2, 180) (List.mem_of_getElem? (i := 247) rfl)
theorem K61_l {m : SM} (K : KI m) : m (61) (-2) = 180 := K (61, -2, 180) (List.mem_of_getElem? (i := 248) rfl)
theorem K62_l {m : SM} (K : KI m) : m (62) (-2) = 180 := K (62, -2, 180) (List.mem_of_getElem? (i := 249) rfl)
theorem K63_l {m : SM} (K : KI m) : m (63) (-2) = 180 := K (63, -2, 180) (List.mem_of_getElem? (i := 250) rfl)
theorem K64_l {m : SM} (K : KI m) : m (64) (-2) = 400 := K (64, -2, 400) (List.mem_of_getElem? (i := 251) rfl)
theorem K65_l {m : SM} (K : KI m) : m (65) (-2) = 400 := K (65, -2, 400) (List.mem_of_getElem? (i := 252) rfl)
theorem K66_l {m : SM} (K : KI m) : m (66) (-2) = 400 := K (66, -2, 400) (List.mem_of_getElem? (i := 253) rfl)
theorem K67_l {m : SM} (K : KI m) : m (67) (-2) = 6000 := K (67, -2, 6000) (List.mem_of_getElem? (i := 254) rfl)
theorem K68_l {m : SM} (K : KI m) : m (68) (-2) = 6000 := K (68, -2, 6000) (List.mem_of_getElem? (i := 255) rfl)
theorem K69_l {m : SM} (K : KI m) : m (69) (-2) = 6000 := K (69, -2, 6000) (List.mem_of_getElem? (i := 256) rfl)
theorem K70_l {m : SM} (K : KI m) : m (70) (-2) = 6000 := K (70, -2, 6000) (List.mem_of_getElem? (i := 257) rfl)
theorem K71_l {m : SM} (K : KI m) : m (71) (-2) = 6000 := K (71, -2, 6000) (List.mem_of_getElem? (i := 258) rfl)
theorem K72_l {m : SM} (K : KI m) : m (72) (-2) = 110 := K (72, -2, 110) (List.mem_of_getElem? (i := 259) rfl)
theorem K73_l {m : SM} (K : KI m) : m (73) (-2) = 1001 := K (73, -2, 1001) (List.mem_of_getElem? (i := 260) rfl)
theorem K74_l {m : SM} (K : KI m) : m (74) (-2) = 1001 := K (74, -2, 1001) (List.mem_of_getElem? (i := 261) rfl)
theorem K75_l {m : SM} (K : KI m) : m (75) (-2) = 1001 := K (75, -2, 1001) (List.mem_of_getElem? (i := 262) rfl)
theorem K76_l {m : SM} (K : KI m) : m (76) (-2) = 210 := K (76, -2, 210) (List.mem_of_getElem? (i := 263) rfl)
theorem K77_l {m : SM} (K : KI m) : m (77) (-2) = 210 := K (77, -2, 210) (List.mem_of_getElem? (i := 264) rfl)
theorem K78_l {m : SM} (K : KI m) : m (78) (-2) = 260 := K (78, -2, 260) (List.mem_of_getElem? (i := 265) rfl)
theorem K79_l {m : SM} (K : KI m) : m (79) (-2) = 26 := K (79, -2, 26) (List.mem_of_getElem? (i := 266) rfl)
theorem K80_l {m : SM} (K : KI m) : m (80) (-2) = 10 := K (80, -2, 10) (List.mem_of_getElem? (i := 267) rfl)
theorem K81_l {m : SM} (K : KI m) : m (81) (-2) = 10 := K (81, -2, 10) (List.mem_of_getElem? (i := 268) rfl)
theorem K82_l {m : SM} (K : KI m) : m (82) (-2) = 10 := K (82, -2, 10) (List.mem_of_getElem? (i := 269) rfl)
theorem K83_l {m : SM} (K : KI m) : m (83) (-2) = 10 := K (83, -2, 10) (List.mem_of_getElem? (i := 270) rfl)
theorem K84_l {m : SM} (K : KI m) : m (84) (-2) = 10 := K (84, -2, 10) (List.mem_of_getElem? (i := 271) rfl)
theorem K85_l {m : SM} (K : KI m) : m (85) (-2) = 10 := K (85, -2, 10) (List.mem_of_getElem? (i := 272) rfl)
theorem K86_l {m : SM} (K : KI m) : m (86) (-2) = 6 := K (86, -2, 6) (List.mem_of_getElem? (i := 273) rfl)
theorem K87_l {m : SM} (K : KI m) : m (87) (-2) = 32 := K (87, -2, 32) (List.mem_of_getElem? (i := 274) rfl)
theorem K88_l {m : SM} (K : KI m) : m (88) (-2) = 32 := K (88, -2, 32) (List.mem_of_getElem? (i := 275) rfl)
theorem K89_l {m : SM} (K : KI m) : m (89) (-2) = 32 := K (89, -2, 32) (List.mem_of_getElem? (i := 276) rfl)
theorem K90_l {m : SM} (K : KI m) : m (90) (-2) = 256 := K (90, -2, 256) (List.mem_of_getElem? (i := 277) rfl)
theorem K91_l {m : SM} (K : KI m) : m (91) (-2) = 620 := K (91, -2, 620) (List.mem_of_getElem? (i := 278) rfl)
theorem K92_l {m : SM} (K : KI m) : m (92) (-2) = 620 := K (92, -2, 620) (List.mem_of_getElem? (i := 279) rfl)
theorem K93_l {m : SM} (K : KI m) : m (93) (-2) = 620 := K (93, -2, 620) (List.mem_of_getElem? (i := 280) rfl)
theorem K94_l {m : SM} (K : KI m) : m (94) (-2) = 101 := K (94, -2, 101) (List.mem_of_getElem? (i := 281) rfl)
theorem K95_l {m : SM} (K : KI m) : m (95) (-2) = 101 := K (95, -2, 101) (List.mem_of_getElem? (i := 282) rfl)
theorem K96_l {m : SM} (K : KI m) : m (96) (-2) = 101 := K (96, -2, 101) (List.mem_of_getElem? (i := 283) rfl)
theorem K97_l {m : SM} (K : KI m) : m (97) (-2) = 101 := K (97, -2, 101) (List.mem_of_getElem? (i := 284) rfl)
theorem K98_l {m : SM} (K : KI m) : m (98) (-2) = 101 := K (98, -2, 101) (List.mem_of_getElem? (i := 285) rfl)
theorem K99_l {m : SM} (K : KI m) : m (99) (-2) = 101 := K (99, -2, 101) (List.mem_of_getElem? (i := 286) rfl)
theorem K100_l {m : SM} (K : KI m) : m (100) (-2) = 1 := K (100, -2, 1) (List.mem_of_getElem? (i := 287) rfl)
theorem ktab_f : ∀ q ∈ ktab, 0 ≤ q.2.1 → ∃ t, (q.1, -1, t) ∈ ktab ∧ (t, q.2.1) ∈ kft := by
  have h : (ktab.all fun q => decide (q.2.1 < 0) || (ktab.any fun r => decide (r.1 = q.1) && (decide (r.2.1 = -1) && kft.any fun z => decide (z.1 = r.2.2) && decide (z.2 = q.2.1)))) = true := by decide +kernel
  intro q hq h0
  have := List.all_eq_true.mp h q hq
  simp only [Bool.or_eq_true, decide_eq_true_eq, List.any_eq_true, Bool.and_eq_true] at this
  rcases this with h1 | ⟨r, hr, e1, e2, z, hz, e3, e4⟩
  · omega
  · refine ⟨r.2.2, ?_, ?_⟩
    · rw [← e1, ← e2]; exact hr
    · rw [← e3, ← e4]; exact hz
theorem ktab_n : ∀ q ∈ ktab, q.2.1 = -1 ∨ q.2.1 = -2 ∨ 0 ≤ q.2.1 := by decide +kernel
theorem ktab_l : ∀ q ∈ ktab, q.2.1 = -2 → ∃ t, 100 ≤ t ∧ (q.1, -1, t) ∈ ktab := by
  have h : (ktab.all fun q => !decide (q.2.1 = -2) || (ktab.any fun r => decide (r.1 = q.1) && (decide (r.2.1 = -1) && decide (100 ≤ r.2.2)))) = true := by decide +kernel
  intro q hq h0
  have := List.all_eq_true.mp h q hq
  simp only [Bool.or_eq_true, Bool.not_eq_true', decide_eq_false_iff_not, decide_eq_true_eq, List.any_eq_true, Bool.and_eq_true] at this
  rcases this with h1 | ⟨r, hr, e1, e2, e3⟩
  · exact absurd h0 h1
  · exact ⟨r.2.2, e3, by rw [← e1, ← e2]; exact hr⟩
theorem ktab_t : ∀ q ∈ ktab, q.2.1 = -1 → q.2.2 ≠ 0 := by decide +kernel
theorem kft_t : ∀ q ∈ kft, q.1 ≠ 0 ∧ q.1 < 100 ∧ q.1 ≠ 4 ∧ q.1 ≠ 6 ∧ q.1 ≠ 13 := by decide +kernel
def okKF (t F : Int) : Bool := !(kft.any fun q => decide (q.1 = t) && decide (q.2 = F))
theorem okKF_no {t F : Int} (h : okKF t F = true) : (t, F) ∉ kft := fun hm => by
  unfold okKF at h
  have : (kft.any fun q => decide (q.1 = t) && decide (q.2 = F)) = true := List.any_eq_true.mpr ⟨(t, F), hm, by simp⟩
  rw [this] at h; cases h
def Ok (m m' : SM) : Prop := (∀ x, m x (-1) ≠ 0 → m' x (-1) = m x (-1)) ∧ (KI m → KI m') ∧ (∀ x, 100 ≤ m x (-1) → m' x (-2) = m x (-2))
theorem Ok.refl (m : SM) : Ok m m := ⟨fun _ _ => rfl, id, fun _ _ => rfl⟩
theorem Ok.trans {a b c : SM} (h1 : Ok a b) (h2 : Ok b c) : Ok a c := by
  refine ⟨fun x hx => ?_, fun k => h2.2.1 (h1.2.1 k), fun x hx => ?_⟩
  · have e := h1.1 x hx
    rw [h2.1 x (by rw [e]; exact hx), e]
  · have e := h1.1 x (by omega)
    rw [h2.2.2 x (by rw [e]; exact hx), h1.2.2 x hx]
theorem Ok.tag {m m' : SM} {x t : Int} (O : Ok m m') (h : m x (-1) = t) (h0 : t ≠ 0) : m' x (-1) = t := by rw [O.1 x (by rw [h]; exact h0)]; exact h
theorem Ok.len {m m' : SM} {x t : Int} (O : Ok m m') (h : m x (-1) = t) (h0 : 100 ≤ t) : m' x (-2) = m x (-2) := O.2.2 x (by rw [h]; exact h0)
/-- rows whose tags and lengths stay; of the constant fields' objects nothing constant is written -/
theorem Ok.of {m m' : SM} (ht : ∀ x, m x (-1) ≠ 0 → m' x (-1) = m x (-1)) (hl : ∀ x, 100 ≤ m x (-1) → m' x (-2) = m x (-2)) (hf : ∀ x F t, m x (-1) = t → (t, F) ∈ kft → m' x F = m x F) : Ok m m' := by
  refine ⟨ht, fun K q hq => ?_, hl⟩
  rcases ktab_n q hq with h1 | h1 | h1
  · have e := K q hq
    have := ktab_t q hq h1
    rw [h1] at e ⊢
    rw [ht q.1 (by rw [e]; exact this)]; exact e
  · obtain ⟨t, h2, h3⟩ := ktab_l q hq h1
    have e := K q hq
    have e2 : m q.1 (-1) = t := K _ h3
    rw [h1] at e ⊢
    rw [hl q.1 (by rw [e2]; exact h2)]; exact e
  · obtain ⟨t, h2, h3⟩ := ktab_f q hq h1
    have e2 : m q.1 (-1) = t := K _ h2
    rw [hf q.1 q.2.1 t e2 h3]; exact K q hq
theorem Ok.wf {m m' : SM} {x F y t : Int} (e : m' = up m x F y) (ht : m x (-1) = t) (hok : okKF t F = true) (hF : 0 ≤ F) : Ok m m' := by
  subst e
  refine Ok.of (fun z _ => up_nf m (by omega)) (fun z _ => up_nf m (by omega)) (fun z F' t' h1 h2 => ?_)
  refine up_ne m fun q => ?_
  rw [q.1, ht] at h1
  rw [q.2, ← h1] at h2
  exact okKF_no hok h2
theorem Ok.wa {m m' : SM} {x i y t : Int} (e : m' = up m x i y) (ht : m x (-1) = t) (h100 : 100 ≤ t) (hi : 0 ≤ i) : Ok m m' := by
  subst e
  refine Ok.of (fun z _ => up_nf m (by omega)) (fun z _ => up_nf m (by omega)) (fun z F' t' h1 h2 => ?_)
  refine up_ne m fun q => ?_
  rw [q.1, ht] at h1
  have h2 := (kft_t _ h2).2.1
  dsimp only at h2
  omega
theorem al_old {m : SM} {t l n x : Int} (B : Bs m) (hx : m x (-1) ≠ 0) : al m t l n x = m x := by
  have h1 : x ≠ 0 := fun e => hx (by rw [e]; exact B.1)
  have h2 : x ≠ m 0 0 := fun e => hx (by rw [e]; exact B.2.2.1 _ (Int.le_refl _))
  funext f; unfold al; rw [if_neg h1, if_neg h2]
theorem al_new {m : SM} {t l n : Int} (B : Bs m) (f : Int) : al m t l n (m 0 0) f = if f = -1 then t else if f = -2 then l else 0 := by
  have := B.2.1
  unfold al; rw [if_neg (by omega), if_pos rfl]
theorem Ok.nw {m m' : SM} {t l n : Int} (B : Bs m) (e : m' = al m t l n) : Ok m m' := by
  subst e
  refine Ok.of (fun z hz => by rw [al_old B hz]) (fun z hz => by rw [al_old B (by omega)]) (fun z F t' h1 h2 => ?_)
  rw [al_old B (by rw [h1]; exact (kft_t _ h2).1)]
theorem al_tag {m m' : SM} {t l n : Int} (B : Bs m) (e : m' = al m t l n) : m' (m 0 0) (-1) = t := by
  subst e; rw [al_new B, if_pos rfl]
theorem v_getK {G : GM} {M : Mt} {d j pc idx nx : Nat} {ls st : List AV} {m : SM} {P : Nat → Int → SM → Prop} {x : Int} {c f g : Nat} {t F v : Int} (hm : (mtI M)[j]? = some (pc, .getfield idx, 3)) (hcl : (mtN M).cls = clsS (mtO M)) (hT : fT (mtO M) idx = some (c, f)) (hpl : plC c = true) (hg : tgF c f = g) (hc : ((c : Nat) : Int) + 1 = t) (hF : ((f : Nat) : Int) = F) (hnx : pc + 3 = nx) (ht : m x (-1) = t) (hv : m x F = v)
    (w : WV G M nx ls ((g, v) :: st) m d P) : WV G M pc ls ((1, x) :: st) m d P := by
  subst hv; exact v_getf hm hcl hT hpl hg hc hF hnx ht w
