/-! the resolved code, by methods -/
set_option maxRecDepth 100000
abbrev x0 (a : XA0) : XI := .inl a
abbrev x1 (a : XA1) : XI := .inr (.inl a)
abbrev xB (a : XB) : XI := .inr (.inr (.inl a))
abbrev xK (a : XK) : XI := .inr (.inr (.inr (.inl a)))
abbrev xR (a : XR) : XI := .inr (.inr (.inr (.inr (.inl a))))
abbrev xT : XI := .inr (.inr (.inr (.inr (.inr ()))))
/-- WrongRoomLaw led (LWrongRoom;I[J)I -/
def xm_X0_led : Nat := 0
def xk_0_0 : List (Nat × XI) := [(0, x0 (xaLdA 2 1)), (1, x0 (xaI 0 2)), (2, x0 (xaLdA 0 3)), (3, x0 (xaLdI 1 4)), (4, xK (2, 7, [(some 0, 72)])), (7, x0 (xaI2L 8)), (8, x1 (xaAStJ 9)), (9, x0 (xaGo 15)), (12, x0 (xaStA 3 13)), (13, x0 (xaI 1 14)), (14, xR xrI), (15, x0 (xaI 0 16)), (16, xR xrI)]
def xk_0 : List (List (Nat × XI)) := [xk_0_0]
/-- WrongRoom <init> ()V -/
def xm_X1_init : Nat := 1
def xk_1_0 : List (Nat × XI) := [(0, x0 (xaLdA 0 1)), (1, x1 (xaObj 4)), (4, x0 (xaLdA 0 5)), (5, x0 (xaI 1100 8)), (8, x1 (xaNewA 1 10)), (10, x1 (xaPutA 0 13)), (13, x0 (xaLdA 0 14)), (14, x0 (xaNewO 1 11 17)), (17, x0 (xaDup 18)), (18, x0 (xaLdA 0 19)), (19, x1 (xaGetA 0 22)), (22, xK (2, 25, [(some 1, 73)])), (25, x1 (xaPutA 2 28)), (28, x0 (xaLdA 0 29)), (29, x0 (xaI (-1) 30)), (30, x1 (xaPutI 6 33))]
def xk_1_1 : List (Nat × XI) := [(33, x0 (xaLdA 0 34)), (34, x0 (xaNewO 3 5 37)), (37, x0 (xaDup 38)), (38, xK (1, 41, [(some 3, 105)])), (41, x1 (xaPutA 9 44)), (44, x0 (xaLdA 0 45)), (45, x0 (xaNewO 3 5 48)), (48, x0 (xaDup 49)), (49, xK (1, 52, [(some 3, 105)])), (52, x1 (xaPutA 10 55)), (55, x0 (xaLdA 0 56)), (56, x0 (xaNewO 3 5 59)), (59, x0 (xaDup 60)), (60, xK (1, 63, [(some 3, 105)])), (63, x1 (xaPutA 11 66))]
def xk_1_2 : List (Nat × XI) := [(66, x0 (xaLdA 0 67)), (67, x0 (xaNewO 4 8 70)), (70, x0 (xaDup 71)), (71, xK (1, 74, [(some 4, 116)])), (74, x1 (xaPutA 12 77)), (77, x0 (xaLdA 0 78)), (78, x0 (xaNewO 5 0 81)), (81, x0 (xaDup 82)), (82, xK (1, 85, [(some 5, 122), (some 6, 122)])), (85, x1 (xaPutA 13 88)), (88, x0 (xaLdA 0 89)), (89, x0 (xaNewO 6 0 92)), (92, x0 (xaDup 93)), (93, xK (1, 96, [(some 6, 124)]))]
def xk_1_3 : List (Nat × XI) := [(96, x1 (xaPutA 14 99)), (99, x0 (xaLdA 0 100)), (100, x0 (xaNewO 7 7 103)), (103, x0 (xaDup 104)), (104, xK (1, 107, [(some 7, 126)])), (107, x1 (xaPutA 15 110)), (110, x0 (xaLdA 0 111)), (111, x0 (xaNewO 8 6 114)), (114, x0 (xaDup 115)), (115, xK (1, 118, [(some 8, 134)])), (118, x1 (xaPutA 16 121)), (121, x0 (xaLdA 0 122)), (122, x0 (xaI 16 124)), (124, x1 (xaNewA 4 127)), (127, x1 (xaPutA 17 130))]
def xk_1_4 : List (Nat × XI) := [(130, x0 (xaLdA 0 131)), (131, x0 (xaI 3 132)), (132, x1 (xaNewA 4 135)), (135, x1 (xaPutA 18 138)), (138, x0 (xaLdA 0 139)), (139, x0 (xaI 7 141)), (141, x1 (xaNewA 0 143)), (143, x1 (xaPutA 19 146)), (146, x0 (xaI 0 147)), (147, x0 (xaStI 1 148)), (148, x0 (xaLdI 1 149)), (149, x0 (xaI 16 151)), (151, xB (xcGe 173 154)), (154, x0 (xaLdA 0 155)), (155, x1 (xaGetA 17 158)), (158, x0 (xaLdI 1 159)), (159, x0 (xaNewO 3 5 162))]
def xk_1_5 : List (Nat × XI) := [(162, x0 (xaDup 163)), (163, xK (1, 166, [(some 3, 105)])), (166, x1 (xaAStA 167)), (167, x1 (xaInc 1 1 170)), (170, x0 (xaGo 148)), (173, x0 (xaI 0 174)), (174, x0 (xaStI 1 175)), (175, x0 (xaLdI 1 176)), (176, x0 (xaI 3 177)), (177, xB (xcGe 199 180)), (180, x0 (xaLdA 0 181)), (181, x1 (xaGetA 18 184)), (184, x0 (xaLdI 1 185)), (185, x0 (xaNewO 3 5 188)), (188, x0 (xaDup 189)), (189, xK (1, 192, [(some 3, 105)]))]
def xk_1_6 : List (Nat × XI) := [(192, x1 (xaAStA 193)), (193, x1 (xaInc 1 1 196)), (196, x0 (xaGo 175)), (199, xR xrV)]
def xk_1 : List (List (Nat × XI)) := [xk_1_0, xk_1_1, xk_1_2, xk_1_3, xk_1_4, xk_1_5, xk_1_6]
/-- WrongRoom feed (IIIII)I -/
def xm_X1_feed : Nat := 2
def xk_2_0 : List (Nat × XI) := [(0, x0 (xaLdA 0 1)), (1, x1 (xaGetI 1 4)), (4, x0 (xaI 20 6)), (6, x1 (xaAdd 7)), (7, x0 (xaI 1100 10)), (10, xB (xcLe 15 13)), (13, x0 (xaI (-1) 14)), (14, xR xrI), (15, x0 (xaLdA 0 16)), (16, x0 (xaLdI 1 17)), (17, xK (2, 20, [(some 0, 3)])), (20, x0 (xaLdA 0 21)), (21, x0 (xaLdI 2 22)), (22, xK (2, 25, [(some 0, 3)])), (25, x0 (xaLdA 0 26)), (26, x0 (xaLdI 3 27)), (27, xK (2, 30, [(some 0, 3)])), (30, x0 (xaLdA 0 31)), (31, x0 (xaLdI 4 33))]
def xk_2_1 : List (Nat × XI) := [(33, xK (2, 36, [(some 0, 3)])), (36, x0 (xaLdA 0 37)), (37, x0 (xaLdI 5 39)), (39, xK (2, 42, [(some 0, 3)])), (42, x0 (xaLdA 0 43)), (43, x1 (xaGetI 1 46)), (46, xR xrI)]
def xk_2 : List (List (Nat × XI)) := [xk_2_0, xk_2_1]
/-- WrongRoom bytes (I)V -/
def xm_X1_bytes : Nat := 3
def xk_3_0 : List (Nat × XI) := [(0, x0 (xaI 24 2)), (2, x0 (xaStI 2 3)), (3, x0 (xaLdI 2 4)), (4, xB (xbLt 36 7)), (7, x0 (xaLdA 0 8)), (8, x1 (xaGetA 0 11)), (11, x0 (xaLdA 0 12)), (12, x1 (xaGetI 1 15)), (15, x0 (xaLdI 1 16)), (16, x0 (xaLdI 2 17)), (17, x1 (xaShr 18)), (18, x0 (xaI2B 19)), (19, x1 (xaAStB 20)), (20, x0 (xaLdA 0 21)), (21, x0 (xaDup 22)), (22, x1 (xaGetI 1 25)), (25, x0 (xaI 1 26)), (26, x1 (xaAdd 27)), (27, x1 (xaPutI 1 30)), (30, x1 (xaInc 2 (-8) 33))]
def xk_3_1 : List (Nat × XI) := [(33, x0 (xaGo 3)), (36, xR xrV)]
def xk_3 : List (List (Nat × XI)) := [xk_3_0, xk_3_1]
/-- WrongRoom town (I)I -/
def xm_X1_town : Nat := 4
def xk_4_0 : List (Nat × XI) := [(0, x0 (xaLdA 0 1)), (1, xK (1, 4, [(some 0, 5)])), (4, x0 (xaLdI 1 5)), (5, x0 (xaI 0 6)), (6, x0 (xaLdA 0 7)), (7, x1 (xaGetI 1 10)), (10, xK (3, 13, [(none, 6)])), (13, xB (xbNe 22 16)), (16, x0 (xaLdA 0 17)), (17, x0 (xaI 2 18)), (18, xK (2, 21, [(some 0, 7)])), (21, xR xrI), (22, x0 (xaLdA 0 23)), (23, x0 (xaI 0 24)), (24, x1 (xaPutI 1 27)), (27, x0 (xaLdA 0 28)), (28, x0 (xaI 0 29)), (29, x1 (xaPutI 5 32))]
def xk_4_1 : List (Nat × XI) := [(32, x0 (xaLdA 0 33)), (33, x0 (xaLdA 0 34)), (34, x1 (xaGetA 2 37)), (37, x0 (xaLdI 1 38)), (38, xK (2, 41, [(some 1, 74)])), (41, x1 (xaPutA 3 44)), (44, x0 (xaGo 70)), (47, x0 (xaStA 2 48)), (48, x0 (xaLdA 0 49)), (49, x0 (xaLdA 2 50)), (50, x1 (xaGetI 38 53)), (53, x1 (xaPutI 5 56)), (56, x0 (xaLdA 0 57)), (57, x0 (xaLdA 2 58)), (58, x1 (xaGetI 39 61)), (61, x1 (xaPutI 6 64))]
def xk_4_2 : List (Nat × XI) := [(64, x0 (xaLdA 0 65)), (65, x0 (xaI 4 66)), (66, xK (2, 69, [(some 0, 7)])), (69, xR xrI), (70, x0 (xaLdA 0 71)), (71, x1 (xaGetA 9 74)), (74, x0 (xaLdA 0 75)), (75, x1 (xaGetA 3 78)), (78, xK (2, 81, [(some 3, 106)])), (81, x0 (xaLdA 0 82)), (82, x0 (xaI 0 83)), (83, x1 (xaPutI 8 86)), (86, x0 (xaLdA 0 87)), (87, x0 (xaI 0 88)), (88, x1 (xaPutI 7 91)), (91, x0 (xaLdA 0 92)), (92, x1 (xaGetA 3 95)), (95, x1 (xaGetI 111 98))]
def xk_4_3 : List (Nat × XI) := [(98, xR xrI)]
def xk_4 : List (List (Nat × XI)) := [xk_4_0, xk_4_1, xk_4_2, xk_4_3]
/-- WrongRoom anew ()V -/
def xm_X1_anew : Nat := 5
def xk_5_0 : List (Nat × XI) := [(0, x0 (xaLdA 0 1)), (1, x0 (xaI 0 2)), (2, x1 (xaPutI 4 5)), (5, x0 (xaLdA 0 6)), (6, x0 (xaI (-1) 7)), (7, x1 (xaPutI 6 10)), (10, xR xrV)]
def xk_5 : List (List (Nat × XI)) := [xk_5_0]
/-- WrongRoom in (III)Z -/
def xm_X1_in : Nat := 6
def xk_6_0 : List (Nat × XI) := [(0, x0 (xaLdI 0 1)), (1, x0 (xaLdI 1 2)), (2, xB (xcLt 14 5)), (5, x0 (xaLdI 0 6)), (6, x0 (xaLdI 2 7)), (7, xB (xcGt 14 10)), (10, x0 (xaI 1 11)), (11, x0 (xaGo 15)), (14, x0 (xaI 0 15)), (15, xR xrZ)]
def xk_6 : List (List (Nat × XI)) := [xk_6_0]
/-- WrongRoom no (I)I -/
def xm_X1_no : Nat := 7
def xk_7_0 : List (Nat × XI) := [(0, x0 (xaLdA 0 1)), (1, x0 (xaLdI 1 2)), (2, x1 (xaPutI 4 5)), (5, x0 (xaI (-1) 6)), (6, xR xrI)]
def xk_7 : List (List (Nat × XI)) := [xk_7_0]
/-- WrongRoom fault ()I -/
def xm_X1_fault : Nat := 8
def xk_8_0 : List (Nat × XI) := [(0, x0 (xaLdA 0 1)), (1, x1 (xaGetI 5 4)), (4, xR xrI)]
def xk_8 : List (List (Nat × XI)) := [xk_8_0]
/-- WrongRoom where ()I -/
def xm_X1_where : Nat := 9
def xk_9_0 : List (Nat × XI) := [(0, x0 (xaLdA 0 1)), (1, x1 (xaGetI 4 4)), (4, x0 (xaI 4 5)), (5, xB (xcNe 15 8)), (8, x0 (xaLdA 0 9)), (9, x1 (xaGetI 6 12)), (12, x0 (xaGo 16)), (15, x0 (xaI (-1) 16)), (16, xR xrI)]
def xk_9 : List (List (Nat × XI)) := [xk_9_0]
/-- WrongRoom house (II)I -/
def xm_X1_house : Nat := 10
def xk_10_0 : List (Nat × XI) := [(0, x0 (xaLdA 0 1)), (1, xK (1, 4, [(some 0, 5)])), (4, x0 (xaLdA 0 5)), (5, x0 (xaLdI 1 6)), (6, xK (2, 9, [(some 0, 11)])), (9, xB (xbNe 18 12)), (12, x0 (xaLdA 0 13)), (13, x0 (xaI 1 14)), (14, xK (2, 17, [(some 0, 7)])), (17, xR xrI), (18, x0 (xaLdA 0 19)), (19, x1 (xaGetA 3 22)), (22, x1 (xaGetA 105 25)), (25, x0 (xaLdI 1 26)), (26, x1 (xaALdA 27)), (27, x0 (xaStA 3 28)), (28, x0 (xaLdI 2 29)), (29, x0 (xaSw [(0, 68), (1, 73), (2, 78), (3, 83), (4, 93), (5, 102)] 122))]
def xk_10_1 : List (Nat × XI) := []
def xk_10_2 : List (Nat × XI) := [(68, x0 (xaLdA 3 69)), (69, x1 (xaGetI 120 72)), (72, xR xrI), (73, x0 (xaLdA 3 74)), (74, x1 (xaGetI 121 77)), (77, xR xrI), (78, x0 (xaLdA 3 79)), (79, x1 (xaGetI 122 82)), (82, xR xrI), (83, x0 (xaLdA 0 84)), (84, x1 (xaGetA 9 87)), (87, x1 (xaGetA 40 90)), (90, x0 (xaLdI 1 91)), (91, x1 (xaALdI 0 92)), (92, xR xrI), (93, x0 (xaLdA 0 94)), (94, x1 (xaGetA 9 97))]
def xk_10_3 : List (Nat × XI) := [(97, x0 (xaLdI 1 98)), (98, xK (2, 101, [(some 3, 107)])), (101, xR xrI), (102, x0 (xaLdA 0 103)), (103, x1 (xaGetA 9 106)), (106, x1 (xaGetI 44 109)), (109, x0 (xaLdI 1 110)), (110, xK (2, 113, [(none, 12)])), (113, xB (xbEq 120 116)), (116, x0 (xaI 1 117)), (117, x0 (xaGo 121)), (120, x0 (xaI 0 121)), (121, xR xrI), (122, x0 (xaLdA 0 123)), (123, x0 (xaI 1 124)), (124, xK (2, 127, [(some 0, 7)])), (127, xR xrI)]
def xk_10 : List (List (Nat × XI)) := [xk_10_0, xk_10_1, xk_10_2, xk_10_3]
/-- WrongRoom isHouse (I)Z -/
def xm_X1_isHouse : Nat := 11
def xk_11_0 : List (Nat × XI) := [(0, x0 (xaLdA 0 1)), (1, x1 (xaGetA 3 4)), (4, xB (xbNull 28 7)), (7, x0 (xaLdI 1 8)), (8, x0 (xaI 0 9)), (9, x0 (xaLdA 0 10)), (10, x1 (xaGetA 3 13)), (13, x1 (xaGetI 111 16)), (16, x0 (xaI 1 17)), (17, x1 (xaSub 18)), (18, xK (3, 21, [(none, 6)])), (21, xB (xbEq 28 24)), (24, x0 (xaI 1 25)), (25, x0 (xaGo 29)), (28, x0 (xaI 0 29)), (29, xR xrZ)]
def xk_11 : List (List (Nat × XI)) := [xk_11_0]
/-- WrongRoom has (II)Z -/
def xm_X1_has : Nat := 12
def xk_12_0 : List (Nat × XI) := [(0, x0 (xaLdI 0 1)), (1, x0 (xaLdI 1 2)), (2, x1 (xaShr 3)), (3, x0 (xaI 1 4)), (4, x0 (xaAnd 5)), (5, x0 (xaI 1 6)), (6, xB (xcNe 13 9)), (9, x0 (xaI 1 10)), (10, x0 (xaGo 14)), (13, x0 (xaI 0 14)), (14, xR xrZ)]
def xk_12 : List (List (Nat × XI)) := [xk_12_0]
/-- WrongRoom open (II)I -/
def xm_X1_open : Nat := 13
def xk_13_0 : List (Nat × XI) := [(0, x0 (xaLdA 0 1)), (1, xK (1, 4, [(some 0, 5)])), (4, x0 (xaLdA 0 5)), (5, x0 (xaLdA 0 6)), (6, x0 (xaLdI 1 7)), (7, xK (2, 10, [(some 0, 11)])), (10, x0 (xaLdI 2 11)), (11, xK (3, 14, [(some 0, 14)])), (14, x0 (xaStI 3 15)), (15, x0 (xaLdI 3 16)), (16, xB (xbEq 27 19)), (19, x0 (xaLdA 0 20)), (20, x0 (xaLdI 3 21)), (21, xK (2, 24, [(some 0, 7)])), (24, x0 (xaGo 44)), (27, x0 (xaLdA 0 28)), (28, x1 (xaGetA 9 31)), (31, x0 (xaLdI 1 32))]
def xk_13_1 : List (Nat × XI) := [(32, x0 (xaLdI 2 33)), (33, xK (3, 36, [(some 3, 108)])), (36, xB (xbEq 43 39)), (39, x0 (xaI 1 40)), (40, x0 (xaGo 44)), (43, x0 (xaI 0 44)), (44, xR xrI)]
def xk_13 : List (List (Nat × XI)) := [xk_13_0, xk_13_1]
/-- WrongRoom minuteWhy (ZI)I -/
def xm_X1_minuteWhy : Nat := 14
def xk_14_0 : List (Nat × XI) := [(0, x0 (xaLdI 1 1)), (1, xB (xbNe 8 4)), (4, x0 (xaI 1 5)), (5, x0 (xaGo 24)), (8, x0 (xaLdI 2 9)), (9, x0 (xaI 0 10)), (10, x0 (xaI 1439 13)), (13, xK (3, 16, [(none, 6)])), (16, xB (xbEq 23 19)), (19, x0 (xaI 0 20)), (20, x0 (xaGo 24)), (23, x0 (xaI 2 24)), (24, xR xrI)]
def xk_14 : List (List (Nat × XI)) := [xk_14_0]
/-- WrongRoom street (II)I -/
def xm_X1_street : Nat := 15
def xk_15_0 : List (Nat × XI) := [(0, x0 (xaLdA 0 1)), (1, xK (1, 4, [(some 0, 5)])), (4, x0 (xaLdA 0 5)), (5, x0 (xaLdI 1 6)), (6, xK (2, 9, [(some 0, 11)])), (9, xB (xbEq 25 12)), (12, x0 (xaLdA 0 13)), (13, x0 (xaLdI 2 14)), (14, xK (2, 17, [(some 0, 11)])), (17, xB (xbEq 25 20)), (20, x0 (xaLdI 1 21)), (21, x0 (xaLdI 2 22)), (22, xB (xcNe 31 25)), (25, x0 (xaLdA 0 26)), (26, x0 (xaI 1 27)), (27, xK (2, 30, [(some 0, 7)])), (30, xR xrI), (31, x0 (xaLdA 0 32))]
def xk_15_1 : List (Nat × XI) := [(32, x1 (xaGetA 3 35)), (35, x0 (xaLdI 1 36)), (36, x0 (xaLdI 2 37)), (37, xK (3, 40, [(some 10, 258)])), (40, xB (xbNe 48 43)), (43, x0 (xaI (-2) 45)), (45, x0 (xaGo 57)), (48, x0 (xaLdA 0 49)), (49, x1 (xaGetA 3 52)), (52, x0 (xaLdI 1 53)), (53, x0 (xaLdI 2 54)), (54, xK (3, 57, [(some 10, 258)])), (57, xR xrI)]
def xk_15 : List (List (Nat × XI)) := [xk_15_0, xk_15_1]
/-- WrongRoom person (II)I -/
def xm_X1_person : Nat := 16
def xk_16_0 : List (Nat × XI) := [(0, x0 (xaLdA 0 1)), (1, xK (1, 4, [(some 0, 5)])), (4, x0 (xaLdA 0 5)), (5, x0 (xaLdI 1 6)), (6, xK (2, 9, [(some 0, 17)])), (9, xB (xbNe 18 12)), (12, x0 (xaLdA 0 13)), (13, x0 (xaI 1 14)), (14, xK (2, 17, [(some 0, 7)])), (17, xR xrI), (18, x0 (xaLdI 2 19)), (19, x0 (xaSw [(0, 44), (1, 57), (2, 67)] 77))]
def xk_16_1 : List (Nat × XI) := [(44, x0 (xaLdA 0 45)), (45, x1 (xaGetA 3 48)), (48, x1 (xaGetA 106 51)), (51, x0 (xaLdI 1 52)), (52, x1 (xaALdA 53)), (53, x1 (xaGetI 128 56)), (56, xR xrI), (57, x0 (xaLdA 0 58)), (58, x1 (xaGetA 9 61)), (61, x1 (xaGetA 41 64))]
def xk_16_2 : List (Nat × XI) := [(64, x0 (xaLdI 1 65)), (65, x1 (xaALdI 0 66)), (66, xR xrI), (67, x0 (xaLdA 0 68)), (68, x1 (xaGetA 9 71)), (71, x1 (xaGetA 42 74)), (74, x0 (xaLdI 1 75)), (75, x1 (xaALdI 0 76)), (76, xR xrI), (77, x0 (xaLdA 0 78)), (78, x0 (xaI 1 79)), (79, xK (2, 82, [(some 0, 7)])), (82, xR xrI)]
def xk_16 : List (List (Nat × XI)) := [xk_16_0, xk_16_1, xk_16_2]
/-- WrongRoom isPerson (I)Z -/
def xm_X1_isPerson : Nat := 17
def xk_17_0 : List (Nat × XI) := [(0, x0 (xaLdA 0 1)), (1, x1 (xaGetA 3 4)), (4, xB (xbNull 28 7)), (7, x0 (xaLdI 1 8)), (8, x0 (xaI 0 9)), (9, x0 (xaLdA 0 10)), (10, x1 (xaGetA 3 13)), (13, x1 (xaGetI 114 16)), (16, x0 (xaI 1 17)), (17, x1 (xaSub 18)), (18, xK (3, 21, [(none, 6)])), (21, xB (xbEq 28 24)), (24, x0 (xaI 1 25)), (25, x0 (xaGo 29)), (28, x0 (xaI 0 29)), (29, xR xrZ)]
def xk_17 : List (List (Nat × XI)) := [xk_17_0]
/-- WrongRoom candle (I)I -/
def xm_X1_candle : Nat := 18
def xk_18_0 : List (Nat × XI) := [(0, x0 (xaLdA 0 1)), (1, xK (1, 4, [(some 0, 5)])), (4, x0 (xaLdA 0 5)), (5, x0 (xaLdI 1 6)), (6, xK (2, 9, [(some 0, 11)])), (9, xB (xbNe 18 12)), (12, x0 (xaLdA 0 13)), (13, x0 (xaI 1 14)), (14, xK (2, 17, [(some 0, 7)])), (17, xR xrI), (18, x0 (xaI 1 19)), (19, x0 (xaStI 2 20)), (20, x0 (xaLdI 2 21)), (21, x0 (xaI 7 23)), (23, xB (xcGt 44 26)), (26, x0 (xaLdA 0 27)), (27, x0 (xaLdI 1 28)), (28, x0 (xaLdI 2 29)), (29, xK (3, 32, [(some 0, 19)]))]
def xk_18_1 : List (Nat × XI) := [(32, x0 (xaLdI 1 33)), (33, xB (xcNe 38 36)), (36, x0 (xaLdI 2 37)), (37, xR xrI), (38, x1 (xaInc 2 1 41)), (41, x0 (xaGo 20)), (44, x0 (xaI (-2) 46)), (46, xR xrI)]
def xk_18 : List (List (Nat × XI)) := [xk_18_0, xk_18_1]
/-- WrongRoom behind (II)I -/
def xm_X1_behind : Nat := 19
def xk_19_0 : List (Nat × XI) := [(0, x0 (xaLdI 1 1)), (1, x0 (xaStI 3 2)), (2, x0 (xaI 0 3)), (3, x0 (xaStI 4 5)), (5, x0 (xaLdI 4 7)), (7, x0 (xaLdI 2 8)), (8, xB (xcGe 33 11)), (11, x0 (xaLdI 3 12)), (12, x0 (xaI (-2) 14)), (14, xB (xcEq 33 17)), (17, x0 (xaLdA 0 18)), (18, x1 (xaGetA 9 21)), (21, x1 (xaGetA 40 24)), (24, x0 (xaLdI 3 25)), (25, x1 (xaALdI 0 26)), (26, x0 (xaStI 3 27)), (27, x1 (xaInc 4 1 30)), (30, x0 (xaGo 5))]
def xk_19_1 : List (Nat × XI) := [(33, x0 (xaLdI 3 34)), (34, xR xrI)]
def xk_19 : List (List (Nat × XI)) := [xk_19_0, xk_19_1]
/-- WrongRoom candleAt (II)I -/
def xm_X1_candleAt : Nat := 20
def xk_20_0 : List (Nat × XI) := [(0, x0 (xaLdA 0 1)), (1, xK (1, 4, [(some 0, 5)])), (4, x0 (xaLdA 0 5)), (5, x0 (xaLdI 1 6)), (6, xK (2, 9, [(some 0, 11)])), (9, xB (xbNe 18 12)), (12, x0 (xaLdA 0 13)), (13, x0 (xaI 1 14)), (14, xK (2, 17, [(some 0, 7)])), (17, xR xrI), (18, x0 (xaLdI 2 19)), (19, x0 (xaI 0 20)), (20, x0 (xaI 9 22)), (22, xK (3, 25, [(none, 6)])), (25, xB (xbEq 37 28)), (28, x0 (xaLdA 0 29)), (29, x0 (xaLdI 1 30)), (30, x0 (xaLdI 2 31)), (31, xK (3, 34, [(some 0, 19)]))]
def xk_20_1 : List (Nat × XI) := [(34, x0 (xaGo 42)), (37, x0 (xaLdA 0 38)), (38, x0 (xaI 2 39)), (39, xK (2, 42, [(some 0, 7)])), (42, xR xrI)]
def xk_20 : List (List (Nat × XI)) := [xk_20_0, xk_20_1]
/-- WrongRoom mutual ()I -/
def xm_X1_mutual : Nat := 21
def xk_21_0 : List (Nat × XI) := [(0, x0 (xaLdA 0 1)), (1, xK (1, 4, [(some 0, 5)])), (4, x0 (xaLdA 0 5)), (5, x1 (xaGetA 3 8)), (8, xB (xbNonN 19 11)), (11, x0 (xaLdA 0 12)), (12, x0 (xaI 1 13)), (13, xK (2, 16, [(some 0, 7)])), (16, x0 (xaGo 26)), (19, x0 (xaLdA 0 20)), (20, x1 (xaGetA 9 23)), (23, xK (1, 26, [(some 3, 109)])), (26, xR xrI)]
def xk_21 : List (List (Nat × XI)) := [xk_21_0]
/-- WrongRoom judge ()I -/
def xm_X1_judge : Nat := 22
def xk_22_0 : List (Nat × XI) := [(0, x0 (xaLdA 0 1)), (1, xK (1, 4, [(some 0, 5)])), (4, x0 (xaLdA 0 5)), (5, x1 (xaGetA 3 8)), (8, xB (xbNonN 17 11)), (11, x0 (xaLdA 0 12)), (12, x0 (xaI 1 13)), (13, xK (2, 16, [(some 0, 7)])), (16, xR xrI), (17, x0 (xaI 0 18)), (18, x0 (xaStI 1 19)), (19, x0 (xaI 0 20)), (20, x0 (xaStI 2 21)), (21, x0 (xaLdI 2 22)), (22, x0 (xaLdA 0 23)), (23, x1 (xaGetA 3 26)), (26, xK (1, 29, [(some 10, 259)])), (29, xB (xcGe 101 32))]
def xk_22_1 : List (Nat × XI) := [(32, x0 (xaLdA 0 33)), (33, x1 (xaGetA 3 36)), (36, x1 (xaGetA 107 39)), (39, x0 (xaLdI 2 40)), (40, x1 (xaALdA 41)), (41, x0 (xaStA 3 42)), (42, x0 (xaLdA 3 43)), (43, x1 (xaInst [13] [14] 46)), (46, xB (xbNe 52 49)), (49, x0 (xaGo 95)), (52, x0 (xaLdA 0 53)), (53, x1 (xaGetA 9 56)), (56, x1 (xaGetA 40 59)), (59, x0 (xaLdA 3 60)), (60, x1 (xaGetI 130 63)), (63, x1 (xaALdI 0 64))]
def xk_22_2 : List (Nat × XI) := [(64, x0 (xaStI 4 66)), (66, x0 (xaLdI 4 68)), (68, x0 (xaI (-2) 70)), (70, xB (xcEq 90 73)), (73, x0 (xaLdA 3 74)), (74, x0 (xaLdA 0 75)), (75, x1 (xaGetA 3 78)), (78, x1 (xaGetA 105 81)), (81, x0 (xaLdI 4 83)), (83, x1 (xaALdA 84)), (84, xK (2, 87, [(some 13, 288), (some 14, 290)])), (87, xB (xbNe 92 90)), (90, x0 (xaLdI 1 91)), (91, xR xrI), (92, x1 (xaInc 1 1 95)), (95, x1 (xaInc 2 1 98))]
def xk_22_3 : List (Nat × XI) := [(98, x0 (xaGo 21)), (101, x0 (xaI (-2) 103)), (103, xR xrI)]
def xk_22 : List (List (Nat × XI)) := [xk_22_0, xk_22_1, xk_22_2, xk_22_3]
/-- WrongRoom way (III)I -/
def xm_X1_way : Nat := 23
def xk_23_0 : List (Nat × XI) := [(0, x0 (xaLdA 0 1)), (1, xK (1, 4, [(some 0, 5)])), (4, x0 (xaLdA 0 5)), (5, x0 (xaLdI 1 6)), (6, x0 (xaLdI 2 7)), (7, x0 (xaLdI 3 8)), (8, xK (4, 11, [(some 0, 24)])), (11, x0 (xaStI 4 13)), (13, x0 (xaLdI 4 15)), (15, xB (xbEq 27 18)), (18, x0 (xaLdA 0 19)), (19, x0 (xaLdI 4 21)), (21, xK (2, 24, [(some 0, 7)])), (24, x0 (xaGo 38)), (27, x0 (xaLdA 0 28)), (28, x0 (xaLdA 0 29)), (29, x1 (xaGetA 14 32))]
def xk_23_1 : List (Nat × XI) := [(32, x0 (xaLdI 1 33)), (33, x0 (xaLdI 2 34)), (34, x0 (xaLdI 3 35)), (35, xK (5, 38, [(some 0, 25)])), (38, xR xrI)]
def xk_23 : List (List (Nat × XI)) := [xk_23_0, xk_23_1]
/-- WrongRoom wayWhy (III)I -/
def xm_X1_wayWhy : Nat := 24
def xk_24_0 : List (Nat × XI) := [(0, x0 (xaLdA 0 1)), (1, x0 (xaLdA 0 2)), (2, x0 (xaLdI 1 3)), (3, xK (2, 6, [(some 0, 11)])), (6, xB (xbEq 21 9)), (9, x0 (xaLdA 0 10)), (10, x0 (xaLdI 2 11)), (11, xK (2, 14, [(some 0, 11)])), (14, xB (xbEq 21 17)), (17, x0 (xaI 1 18)), (18, x0 (xaGo 22)), (21, x0 (xaI 0 22)), (22, x0 (xaLdI 3 23)), (23, xK (3, 26, [(some 0, 14)])), (26, xR xrI)]
def xk_24 : List (List (Nat × XI)) := [xk_24_0]
/-- WrongRoom minutesBy (LWrongRoom$Going;III)I -/
def xm_X1_minutesBy : Nat := 25
def xk_25_0 : List (Nat × XI) := [(0, x0 (xaLdA 0 1)), (1, x1 (xaGetA 12 4)), (4, x0 (xaLdA 0 5)), (5, x1 (xaGetA 3 8)), (8, x0 (xaLdA 0 9)), (9, x1 (xaGetA 9 12)), (12, x0 (xaLdA 1 13)), (13, x0 (xaLdI 2 14)), (14, x0 (xaLdI 3 15)), (15, x0 (xaLdI 4 17)), (17, xK (7, 20, [(some 4, 117)])), (20, x0 (xaStI 5 22)), (22, x0 (xaLdI 5 24)), (24, x0 (xaI 100000000 26)), (26, xB (xcNe 34 29)), (29, x0 (xaI (-2) 31)), (31, x0 (xaGo 39))]
def xk_25_1 : List (Nat × XI) := [(34, x0 (xaLdI 5 36)), (36, x0 (xaLdI 4 38)), (38, x1 (xaSub 39)), (39, xR xrI)]
def xk_25 : List (List (Nat × XI)) := [xk_25_0, xk_25_1]
/-- WrongRoom wayAt (IIII)I -/
def xm_X1_wayAt : Nat := 26
def xk_26_0 : List (Nat × XI) := [(0, x0 (xaLdA 0 1)), (1, xK (1, 4, [(some 0, 5)])), (4, x0 (xaLdA 0 5)), (5, x0 (xaLdI 1 6)), (6, x0 (xaLdI 2 7)), (7, x0 (xaLdI 3 8)), (8, xK (4, 11, [(some 0, 24)])), (11, x0 (xaStI 5 13)), (13, x0 (xaLdI 5 15)), (15, xB (xbEq 25 18)), (18, x0 (xaLdA 0 19)), (19, x0 (xaLdI 5 21)), (21, xK (2, 24, [(some 0, 7)])), (24, xR xrI), (25, x0 (xaLdA 0 26)), (26, x0 (xaLdA 0 27)), (27, x1 (xaGetA 14 30)), (30, x0 (xaLdI 1 31)), (31, x0 (xaLdI 2 32))]
def xk_26_1 : List (Nat × XI) := [(32, x0 (xaLdI 3 33)), (33, xK (5, 36, [(some 0, 25)])), (36, x0 (xaPop 37)), (37, x0 (xaLdI 4 39)), (39, x0 (xaI 0 40)), (40, x0 (xaLdA 0 41)), (41, x1 (xaGetA 12 44)), (44, xK (1, 47, [(some 4, 119)])), (47, x0 (xaI 1 48)), (48, x1 (xaSub 49)), (49, xK (3, 52, [(none, 6)])), (52, xB (xbEq 67 55)), (55, x0 (xaLdA 0 56)), (56, x1 (xaGetA 12 59)), (59, x0 (xaLdI 4 61)), (61, xK (2, 64, [(some 4, 120)]))]
def xk_26_2 : List (Nat × XI) := [(64, x0 (xaGo 72)), (67, x0 (xaLdA 0 68)), (68, x0 (xaI 1 69)), (69, xK (2, 72, [(some 0, 7)])), (72, xR xrI)]
def xk_26 : List (List (Nat × XI)) := [xk_26_0, xk_26_1, xk_26_2]
/-- WrongRoom saves (III)I -/
def xm_X1_saves : Nat := 27
def xk_27_0 : List (Nat × XI) := [(0, x0 (xaLdA 0 1)), (1, xK (1, 4, [(some 0, 5)])), (4, x0 (xaLdA 0 5)), (5, x0 (xaLdI 1 6)), (6, x0 (xaLdI 2 7)), (7, x0 (xaLdI 3 8)), (8, xK (4, 11, [(some 0, 24)])), (11, x0 (xaStI 4 13)), (13, x0 (xaLdI 4 15)), (15, xB (xbEq 25 18)), (18, x0 (xaLdA 0 19)), (19, x0 (xaLdI 4 21)), (21, xK (2, 24, [(some 0, 7)])), (24, xR xrI), (25, x0 (xaLdA 0 26)), (26, x0 (xaLdA 0 27)), (27, x1 (xaGetA 13 30)), (30, x0 (xaLdI 1 31)), (31, x0 (xaLdI 2 32))]
def xk_27_1 : List (Nat × XI) := [(32, x0 (xaLdI 3 33)), (33, xK (5, 36, [(some 0, 25)])), (36, x0 (xaStI 5 38)), (38, x0 (xaLdI 5 40)), (40, x0 (xaI (-2) 42)), (42, xB (xcNe 50 45)), (45, x0 (xaI (-2) 47)), (47, x0 (xaGo 64)), (50, x0 (xaLdI 5 52)), (52, x0 (xaLdA 0 53)), (53, x0 (xaLdA 0 54)), (54, x1 (xaGetA 14 57)), (57, x0 (xaLdI 1 58)), (58, x0 (xaLdI 2 59)), (59, x0 (xaLdI 3 60)), (60, xK (5, 63, [(some 0, 25)])), (63, x1 (xaSub 64))]
def xk_27_2 : List (Nat × XI) := [(64, xR xrI)]
def xk_27 : List (List (Nat × XI)) := [xk_27_0, xk_27_1, xk_27_2]
/-- WrongRoom farthest (II)I -/
def xm_X1_farthest : Nat := 28
def xk_28_0 : List (Nat × XI) := [(0, x0 (xaLdA 0 1)), (1, xK (1, 4, [(some 0, 5)])), (4, x0 (xaLdA 0 5)), (5, x0 (xaLdA 0 6)), (6, x0 (xaLdI 1 7)), (7, xK (2, 10, [(some 0, 11)])), (10, x0 (xaLdI 2 11)), (11, xK (3, 14, [(some 0, 14)])), (14, x0 (xaStI 3 15)), (15, x0 (xaLdI 3 16)), (16, xB (xbEq 25 19)), (19, x0 (xaLdA 0 20)), (20, x0 (xaLdI 3 21)), (21, xK (2, 24, [(some 0, 7)])), (24, xR xrI), (25, x0 (xaI (-2) 27)), (27, x0 (xaStI 4 29)), (29, x0 (xaI (-1) 30)), (30, x0 (xaStI 5 32))]
def xk_28_1 : List (Nat × XI) := [(32, x0 (xaI 0 33)), (33, x0 (xaStI 6 35)), (35, x0 (xaLdI 6 37)), (37, x0 (xaLdA 0 38)), (38, x1 (xaGetA 3 41)), (41, x1 (xaGetI 111 44)), (44, xB (xcGe 85 47)), (47, x0 (xaLdA 0 48)), (48, x0 (xaLdA 0 49)), (49, x1 (xaGetA 14 52)), (52, x0 (xaLdI 1 53)), (53, x0 (xaLdI 6 55)), (55, x0 (xaLdI 2 56)), (56, xK (5, 59, [(some 0, 25)])), (59, x0 (xaStI 7 61)), (61, x0 (xaLdI 7 63)), (63, x0 (xaLdI 5 65))]
def xk_28_2 : List (Nat × XI) := [(65, xB (xcGt 71 68)), (68, x0 (xaGo 79)), (71, x0 (xaLdI 6 73)), (73, x0 (xaStI 4 75)), (75, x0 (xaLdI 7 77)), (77, x0 (xaStI 5 79)), (79, x1 (xaInc 6 1 82)), (82, x0 (xaGo 35)), (85, x0 (xaLdI 4 87)), (87, xR xrI)]
def xk_28 : List (List (Nat × XI)) := [xk_28_0, xk_28_1, xk_28_2]
/-- WrongRoom homeIn (I)I -/
def xm_X1_homeIn : Nat := 29
def xk_29_0 : List (Nat × XI) := [(0, x0 (xaLdA 0 1)), (1, xK (1, 4, [(some 0, 5)])), (4, x0 (xaLdA 0 5)), (5, x0 (xaLdI 1 6)), (6, xK (2, 9, [(some 0, 17)])), (9, xB (xbEq 53 12)), (12, x0 (xaLdA 0 13)), (13, x0 (xaLdA 0 14)), (14, x1 (xaGetA 14 17)), (17, x0 (xaLdA 0 18)), (18, x1 (xaGetA 9 21)), (21, x1 (xaGetA 41 24)), (24, x0 (xaLdI 1 25)), (25, x1 (xaALdI 0 26)), (26, x0 (xaLdA 0 27)), (27, x1 (xaGetA 3 30)), (30, x1 (xaGetA 106 33))]
def xk_29_1 : List (Nat × XI) := [(33, x0 (xaLdI 1 34)), (34, x1 (xaALdA 35)), (35, x1 (xaGetI 128 38)), (38, x0 (xaLdA 0 39)), (39, x1 (xaGetA 9 42)), (42, x1 (xaGetA 42 45)), (45, x0 (xaLdI 1 46)), (46, x1 (xaALdI 0 47)), (47, xK (5, 50, [(some 0, 25)])), (50, x0 (xaGo 58)), (53, x0 (xaLdA 0 54)), (54, x0 (xaI 1 55)), (55, xK (2, 58, [(some 0, 7)])), (58, xR xrI)]
def xk_29 : List (List (Nat × XI)) := [xk_29_0, xk_29_1]
/-- WrongRoom fits ()I -/
def xm_X1_fits : Nat := 30
def xk_30_0 : List (Nat × XI) := [(0, x0 (xaLdA 0 1)), (1, xK (1, 4, [(some 0, 5)])), (4, x0 (xaLdA 0 5)), (5, x1 (xaGetA 3 8)), (8, xB (xbNonN 17 11)), (11, x0 (xaLdA 0 12)), (12, x0 (xaI 1 13)), (13, xK (2, 16, [(some 0, 7)])), (16, xR xrI), (17, x0 (xaLdA 0 18)), (18, x1 (xaGetA 15 21)), (21, x0 (xaLdA 0 22)), (22, x1 (xaGetA 3 25)), (25, x0 (xaLdA 0 26)), (26, x1 (xaGetA 9 29)), (29, xK (3, 32, [(some 7, 127)]))]
def xk_30_1 : List (Nat × XI) := [(32, x0 (xaLdA 0 33)), (33, x1 (xaGetA 15 36)), (36, x1 (xaGetI 59 39)), (39, xR xrI)]
def xk_30 : List (List (Nat × XI)) := [xk_30_0, xk_30_1]
/-- WrongRoom could (I)I -/
def xm_X1_could : Nat := 31
def xk_31_0 : List (Nat × XI) := [(0, x0 (xaLdA 0 1)), (1, xK (1, 4, [(some 0, 5)])), (4, x0 (xaLdA 0 5)), (5, x0 (xaLdI 1 6)), (6, xK (2, 9, [(some 0, 11)])), (9, xB (xbNe 18 12)), (12, x0 (xaLdA 0 13)), (13, x0 (xaI 1 14)), (14, xK (2, 17, [(some 0, 7)])), (17, xR xrI), (18, x0 (xaLdA 0 19)), (19, x1 (xaGetA 15 22)), (22, x0 (xaLdA 0 23)), (23, x1 (xaGetA 3 26)), (26, x0 (xaLdA 0 27)), (27, x1 (xaGetA 9 30)), (30, xK (3, 33, [(some 7, 127)]))]
def xk_31_1 : List (Nat × XI) := [(33, x0 (xaLdA 0 34)), (34, x1 (xaGetA 15 37)), (37, x0 (xaLdI 1 38)), (38, xK (2, 41, [(some 7, 130)])), (41, xR xrI)]
def xk_31 : List (List (Nat × XI)) := [xk_31_0, xk_31_1]
/-- WrongRoom surely (I)I -/
def xm_X1_surely : Nat := 32
def xk_32_0 : List (Nat × XI) := [(0, x0 (xaLdA 0 1)), (1, xK (1, 4, [(some 0, 5)])), (4, x0 (xaLdA 0 5)), (5, x0 (xaLdI 1 6)), (6, xK (2, 9, [(some 0, 11)])), (9, xB (xbNe 18 12)), (12, x0 (xaLdA 0 13)), (13, x0 (xaI 1 14)), (14, xK (2, 17, [(some 0, 7)])), (17, xR xrI), (18, x0 (xaLdA 0 19)), (19, x1 (xaGetA 15 22)), (22, x0 (xaLdA 0 23)), (23, x1 (xaGetA 3 26)), (26, x0 (xaLdA 0 27)), (27, x1 (xaGetA 9 30)), (30, xK (3, 33, [(some 7, 127)]))]
def xk_32_1 : List (Nat × XI) := [(33, x0 (xaLdA 0 34)), (34, x1 (xaGetA 15 37)), (37, x0 (xaLdI 1 38)), (38, xK (2, 41, [(some 7, 131)])), (41, xR xrI)]
def xk_32 : List (List (Nat × XI)) := [xk_32_0, xk_32_1]
/-- WrongRoom firstOf (I)I -/
def xm_X1_firstOf : Nat := 33
def xk_33_0 : List (Nat × XI) := [(0, x0 (xaLdA 0 1)), (1, xK (1, 4, [(some 0, 5)])), (4, x0 (xaLdA 0 5)), (5, x0 (xaLdI 1 6)), (6, xK (2, 9, [(some 0, 11)])), (9, xB (xbNe 18 12)), (12, x0 (xaLdA 0 13)), (13, x0 (xaI 1 14)), (14, xK (2, 17, [(some 0, 7)])), (17, xR xrI), (18, x0 (xaLdA 0 19)), (19, x1 (xaGetA 15 22)), (22, x0 (xaLdA 0 23)), (23, x1 (xaGetA 3 26)), (26, x0 (xaLdA 0 27)), (27, x1 (xaGetA 9 30)), (30, xK (3, 33, [(some 7, 127)]))]
def xk_33_1 : List (Nat × XI) := [(33, x0 (xaLdA 0 34)), (34, x1 (xaGetA 15 37)), (37, x0 (xaLdI 1 38)), (38, xK (2, 41, [(some 7, 132)])), (41, xR xrI)]
def xk_33 : List (List (Nat × XI)) := [xk_33_0, xk_33_1]
/-- WrongRoom ask ()I -/
def xm_X1_ask : Nat := 34
def xk_34_0 : List (Nat × XI) := [(0, x0 (xaLdA 0 1)), (1, xK (1, 4, [(some 0, 5)])), (4, x0 (xaLdA 0 5)), (5, x1 (xaGetA 3 8)), (8, xB (xbNonN 19 11)), (11, x0 (xaLdA 0 12)), (12, x0 (xaI 1 13)), (13, xK (2, 16, [(some 0, 7)])), (16, x0 (xaGo 23)), (19, x0 (xaLdA 0 20)), (20, xK (1, 23, [(some 0, 35)])), (23, xR xrI)]
def xk_34 : List (List (Nat × XI)) := [xk_34_0]
/-- WrongRoom askOf ()I -/
def xm_X1_askOf : Nat := 35
def xk_35_0 : List (Nat × XI) := [(0, x0 (xaLdA 0 1)), (1, x1 (xaGetA 15 4)), (4, x0 (xaLdA 0 5)), (5, x1 (xaGetA 3 8)), (8, x0 (xaLdA 0 9)), (9, x1 (xaGetA 9 12)), (12, xK (3, 15, [(some 7, 127)])), (15, x0 (xaI (-2) 17)), (17, x0 (xaStI 1 18)), (18, x0 (xaI 0 19)), (19, x0 (xaStI 2 20)), (20, x0 (xaLdI 2 21)), (21, x0 (xaLdA 0 22)), (22, x1 (xaGetA 3 25)), (25, x1 (xaGetI 111 28)), (28, xB (xcGe 88 31)), (31, x0 (xaLdA 0 32))]
def xk_35_1 : List (Nat × XI) := [(32, x1 (xaGetA 15 35)), (35, x1 (xaGetI 59 38)), (38, xB (xbLe 88 41)), (41, x0 (xaLdA 0 42)), (42, x1 (xaGetA 9 45)), (45, x1 (xaGetA 40 48)), (48, x0 (xaLdI 2 49)), (49, x1 (xaALdI 0 50)), (50, x0 (xaI (-2) 52)), (52, xB (xcNe 82 55)), (55, x0 (xaLdI 1 56)), (56, x0 (xaI (-2) 58)), (58, xB (xcEq 80 61)), (61, x0 (xaLdA 0 62)), (62, x1 (xaGetA 15 65))]
def xk_35_2 : List (Nat × XI) := [(65, x0 (xaLdI 2 66)), (66, xK (2, 69, [(some 7, 133)])), (69, x0 (xaLdA 0 70)), (70, x1 (xaGetA 15 73)), (73, x0 (xaLdI 1 74)), (74, xK (2, 77, [(some 7, 133)])), (77, xB (xcGe 82 80)), (80, x0 (xaLdI 2 81)), (81, x0 (xaStI 1 82)), (82, x1 (xaInc 2 1 85)), (85, x0 (xaGo 20)), (88, x0 (xaLdI 1 89)), (89, xR xrI)]
def xk_35 : List (List (Nat × XI)) := [xk_35_0, xk_35_1, xk_35_2]
/-- WrongRoom askLeaves ()I -/
def xm_X1_askLeaves : Nat := 36
def xk_36_0 : List (Nat × XI) := [(0, x0 (xaLdA 0 1)), (1, xK (1, 4, [(some 0, 5)])), (4, x0 (xaLdA 0 5)), (5, x1 (xaGetA 3 8)), (8, xB (xbNonN 17 11)), (11, x0 (xaLdA 0 12)), (12, x0 (xaI 1 13)), (13, xK (2, 16, [(some 0, 7)])), (16, xR xrI), (17, x0 (xaLdA 0 18)), (18, xK (1, 21, [(some 0, 35)])), (21, x0 (xaStI 1 22)), (22, x0 (xaLdI 1 23)), (23, x0 (xaI (-2) 25)), (25, xB (xcNe 33 28)), (28, x0 (xaI (-2) 30)), (30, x0 (xaGo 41))]
def xk_36_1 : List (Nat × XI) := [(33, x0 (xaLdA 0 34)), (34, x1 (xaGetA 15 37)), (37, x0 (xaLdI 1 38)), (38, xK (2, 41, [(some 7, 133)])), (41, xR xrI)]
def xk_36 : List (List (Nat × XI)) := [xk_36_0, xk_36_1]
/-- WrongRoom owes (IZ)J -/
def xm_X1_owes : Nat := 37
def xk_37_0 : List (Nat × XI) := [(0, x0 (xaLdA 0 1)), (1, xK (1, 4, [(some 0, 5)])), (4, x0 (xaLdA 0 5)), (5, x0 (xaLdI 1 6)), (6, xK (2, 9, [(some 0, 11)])), (9, xB (xbNe 19 12)), (12, x0 (xaLdA 0 13)), (13, x0 (xaI 1 14)), (14, xK (2, 17, [(some 0, 7)])), (17, x0 (xaI2L 18)), (18, xR xrJ), (19, x0 (xaLdA 0 20)), (20, x1 (xaGetA 9 23)), (23, x0 (xaLdI 1 24)), (24, xK (2, 27, [(some 3, 107)])), (27, x0 (xaStI 3 28)), (28, x0 (xaLdI 3 29)), (29, x0 (xaI (-2) 31)), (31, xB (xcNe 43 34))]
def xk_37_1 : List (Nat × XI) := [(34, x0 (xaL 0 35)), (35, x0 (xaL 1 36)), (36, x0 (xaLdI 2 37)), (37, xK (3, 40, [(none, 38)])), (40, x0 (xaGo 66)), (43, x0 (xaLdA 0 44)), (44, x1 (xaGetA 3 47)), (47, x1 (xaGetA 105 50)), (50, x0 (xaLdI 3 51)), (51, x1 (xaALdA 52)), (52, x1 (xaGetI 122 55)), (55, x0 (xaI2L 56)), (56, x0 (xaLdA 0 57)), (57, x0 (xaLdI 3 58)), (58, xK (2, 61, [(some 0, 40)])), (61, x0 (xaI2L 62)), (62, x0 (xaLdI 2 63)), (63, xK (3, 66, [(none, 38)]))]
def xk_37_2 : List (Nat × XI) := [(66, xR xrJ)]
def xk_37 : List (List (Nat × XI)) := [xk_37_0, xk_37_1, xk_37_2]
/-- WrongRoom lowest (JJZ)J -/
def xm_X1_lowest : Nat := 38
def xk_38_0 : List (Nat × XI) := [(0, x0 (xaLdI 4 2)), (2, xB (xbEq 9 5)), (5, x0 (xaLdJ 2 6)), (6, x0 (xaGo 10)), (9, x0 (xaLdJ 0 10)), (10, x0 (xaLdJ 2 11)), (11, x0 (xaLdJ 0 12)), (12, x1 (xaMAbsJ 15)), (15, xK (2, 18, [(none, 39)])), (18, x1 (xaLDiv 19)), (19, xR xrJ)]
def xk_38 : List (List (Nat × XI)) := [xk_38_0]
/-- WrongRoom dividing (JJ)J -/
def xm_X1_dividing : Nat := 39
def xk_39_0 : List (Nat × XI) := [(0, x0 (xaLdJ 2 1)), (1, x0 (xaL 0 2)), (2, x0 (xaLCmp 3)), (3, xB (xbNe 10 6)), (6, x0 (xaLdJ 0 7)), (7, x0 (xaGo 17)), (10, x0 (xaLdJ 2 11)), (11, x0 (xaLdJ 0 12)), (12, x0 (xaLdJ 2 13)), (13, x1 (xaLRem 14)), (14, xK (2, 17, [(none, 39)])), (17, xR xrJ)]
def xk_39 : List (List (Nat × XI)) := [xk_39_0]
/-- WrongRoom shares (I)I -/
def xm_X1_shares : Nat := 40
def xk_40_0 : List (Nat × XI) := [(0, x0 (xaLdA 0 1)), (1, x1 (xaGetA 3 4)), (4, x1 (xaGetA 105 7)), (7, x0 (xaLdI 1 8)), (8, x1 (xaALdA 9)), (9, x1 (xaGetI 120 12)), (12, x0 (xaI 1 13)), (13, x1 (xaAdd 14)), (14, xR xrI)]
def xk_40 : List (List (Nat × XI)) := [xk_40_0]
/-- WrongRoom net (IZ)J -/
def xm_X1_net : Nat := 41
def xk_41_0 : List (Nat × XI) := [(0, x0 (xaLdA 0 1)), (1, xK (1, 4, [(some 0, 5)])), (4, x0 (xaLdA 0 5)), (5, x0 (xaLdI 1 6)), (6, xK (2, 9, [(some 0, 11)])), (9, xB (xbNe 21 12)), (12, x0 (xaLdA 0 13)), (13, x0 (xaI 1 14)), (14, x1 (xaPutI 4 17)), (17, x0 (xaL (-9223372036854775808) 20)), (20, xR xrJ), (21, x0 (xaLdA 0 22)), (22, x1 (xaGetA 9 25)), (25, x0 (xaLdI 1 26)), (26, xK (2, 29, [(some 3, 107)])), (29, x0 (xaStI 3 30)), (30, x0 (xaLdA 0 31)), (31, x1 (xaGetA 9 34))]
def xk_41_1 : List (Nat × XI) := [(34, x1 (xaGetA 40 37)), (37, x0 (xaLdI 1 38)), (38, x1 (xaALdI 0 39)), (39, x0 (xaI (-2) 41)), (41, xB (xcNe 48 44)), (44, x0 (xaL 0 45)), (45, x0 (xaGo 61)), (48, x0 (xaLdA 0 49)), (49, x1 (xaGetA 3 52)), (52, x1 (xaGetA 105 55)), (55, x0 (xaLdI 1 56)), (56, x1 (xaALdA 57)), (57, x1 (xaGetI 122 60)), (60, x0 (xaI2L 61)), (61, x0 (xaStJ 4 63)), (63, x0 (xaLdI 3 64))]
def xk_41_2 : List (Nat × XI) := [(64, x0 (xaI (-2) 66)), (66, xB (xcNe 73 69)), (69, x0 (xaL 0 70)), (70, x0 (xaGo 86)), (73, x0 (xaLdA 0 74)), (74, x1 (xaGetA 3 77)), (77, x1 (xaGetA 105 80)), (80, x0 (xaLdI 3 81)), (81, x1 (xaALdA 82)), (82, x1 (xaGetI 122 85)), (85, x0 (xaI2L 86)), (86, x0 (xaStJ 6 88)), (88, x0 (xaLdI 3 89)), (89, x0 (xaI (-2) 91)), (91, xB (xcNe 98 94)), (94, x0 (xaL 1 95)), (95, x0 (xaGo 104))]
def xk_41_3 : List (Nat × XI) := [(98, x0 (xaLdA 0 99)), (99, x0 (xaLdI 3 100)), (100, xK (2, 103, [(some 0, 40)])), (103, x0 (xaI2L 104)), (104, x0 (xaStJ 8 106)), (106, x0 (xaLdJ 4 108)), (108, x0 (xaLdJ 8 110)), (110, x1 (xaLMul 111)), (111, x0 (xaLdJ 6 113)), (113, x0 (xaLdA 0 114)), (114, x0 (xaLdI 1 115)), (115, xK (2, 118, [(some 0, 40)])), (118, x0 (xaI2L 119)), (119, x1 (xaLMul 120)), (120, x1 (xaLSub 121)), (121, x0 (xaLdA 0 122)), (122, x0 (xaLdI 1 123)), (123, xK (2, 126, [(some 0, 40)])), (126, x0 (xaI2L 127)), (127, x0 (xaLdJ 8 129))]
def xk_41_4 : List (Nat × XI) := [(129, x1 (xaLMul 130)), (130, x0 (xaLdI 2 131)), (131, xK (3, 134, [(none, 38)])), (134, xR xrJ)]
def xk_41 : List (List (Nat × XI)) := [xk_41_0, xk_41_1, xk_41_2, xk_41_3, xk_41_4]
/-- WrongRoom debtor ()I -/
def xm_X1_debtor : Nat := 42
def xk_42_0 : List (Nat × XI) := [(0, x0 (xaLdA 0 1)), (1, xK (1, 4, [(some 0, 5)])), (4, x0 (xaLdA 0 5)), (5, x1 (xaGetA 3 8)), (8, xB (xbNonN 17 11)), (11, x0 (xaLdA 0 12)), (12, x0 (xaI 1 13)), (13, xK (2, 16, [(some 0, 7)])), (16, xR xrI), (17, x0 (xaI (-2) 19)), (19, x0 (xaStI 1 20)), (20, x0 (xaI 0 21)), (21, x0 (xaStI 2 22)), (22, x0 (xaI 1 23)), (23, x0 (xaStI 3 24)), (24, x0 (xaI 0 25)), (25, x0 (xaStI 4 27)), (27, x0 (xaLdI 4 29)), (29, x0 (xaLdA 0 30)), (30, x1 (xaGetA 3 33))]
def xk_42_1 : List (Nat × XI) := [(33, x1 (xaGetI 111 36)), (36, xB (xcGe 116 39)), (39, x0 (xaLdA 0 40)), (40, x1 (xaGetA 9 43)), (43, x0 (xaLdI 4 45)), (45, xK (2, 48, [(some 3, 107)])), (48, x0 (xaStI 5 50)), (50, x0 (xaLdI 5 52)), (52, x0 (xaI (-2) 54)), (54, xB (xcEq 110 57)), (57, x0 (xaLdA 0 58)), (58, x1 (xaGetA 3 61)), (61, x1 (xaGetA 105 64))]
def xk_42_2 : List (Nat × XI) := [(64, x0 (xaLdI 5 66)), (66, x1 (xaALdA 67)), (67, x1 (xaGetI 122 70)), (70, x0 (xaLdI 3 71)), (71, x1 (xaMul 72)), (72, x0 (xaLdI 2 73)), (73, x0 (xaLdA 0 74)), (74, x0 (xaLdI 5 76)), (76, xK (2, 79, [(some 0, 40)])), (79, x1 (xaMul 80)), (80, xB (xcGt 86 83)), (83, x0 (xaGo 110)), (86, x0 (xaLdI 4 88)), (88, x0 (xaStI 1 89)), (89, x0 (xaLdA 0 90)), (90, x1 (xaGetA 3 93)), (93, x1 (xaGetA 105 96))]
def xk_42_3 : List (Nat × XI) := [(96, x0 (xaLdI 5 98)), (98, x1 (xaALdA 99)), (99, x1 (xaGetI 122 102)), (102, x0 (xaStI 2 103)), (103, x0 (xaLdA 0 104)), (104, x0 (xaLdI 5 106)), (106, xK (2, 109, [(some 0, 40)])), (109, x0 (xaStI 3 110)), (110, x1 (xaInc 4 1 113)), (113, x0 (xaGo 27)), (116, x0 (xaLdI 1 117)), (117, xR xrI)]
def xk_42 : List (List (Nat × XI)) := [xk_42_0, xk_42_1, xk_42_2, xk_42_3]
/-- WrongRoom paired ()I -/
def xm_X1_paired : Nat := 43
def xk_43_0 : List (Nat × XI) := [(0, x0 (xaLdA 0 1)), (1, xK (1, 4, [(some 0, 5)])), (4, x0 (xaLdA 0 5)), (5, x1 (xaGetA 3 8)), (8, xB (xbNonN 17 11)), (11, x0 (xaLdA 0 12)), (12, x0 (xaI 1 13)), (13, xK (2, 16, [(some 0, 7)])), (16, xR xrI), (17, x0 (xaLdA 0 18)), (18, x1 (xaGetA 16 21)), (21, x0 (xaLdA 0 22)), (22, x1 (xaGetA 3 25)), (25, x0 (xaLdA 0 26)), (26, x1 (xaGetA 9 29)), (29, xK (3, 32, [(some 8, 135)]))]
def xk_43_1 : List (Nat × XI) := [(32, x0 (xaLdA 0 33)), (33, x1 (xaGetA 16 36)), (36, x1 (xaGetI 64 39)), (39, xR xrI)]
def xk_43 : List (List (Nat × XI)) := [xk_43_0, xk_43_1]
/-- WrongRoom ones (I)I -/
def xm_X1_ones : Nat := 44
def xk_44_0 : List (Nat × XI) := [(0, x0 (xaI 0 1)), (1, x0 (xaStI 1 2)), (2, x0 (xaLdI 0 3)), (3, x0 (xaStI 2 4)), (4, x0 (xaLdI 2 5)), (5, xB (xbEq 20 8)), (8, x1 (xaInc 1 1 11)), (11, x0 (xaLdI 2 12)), (12, x0 (xaLdI 2 13)), (13, x0 (xaI 1 14)), (14, x1 (xaSub 15)), (15, x0 (xaAnd 16)), (16, x0 (xaStI 2 17)), (17, x0 (xaGo 4)), (20, x0 (xaLdI 1 21)), (21, xR xrI)]
def xk_44 : List (List (Nat × XI)) := [xk_44_0]
/-- WrongRoom fewest ()I -/
def xm_X1_fewest : Nat := 45
def xk_45_0 : List (Nat × XI) := [(0, x0 (xaLdA 0 1)), (1, xK (1, 4, [(some 0, 5)])), (4, x0 (xaLdA 0 5)), (5, x1 (xaGetA 3 8)), (8, xB (xbNonN 17 11)), (11, x0 (xaLdA 0 12)), (12, x0 (xaI 1 13)), (13, xK (2, 16, [(some 0, 7)])), (16, xR xrI), (17, x0 (xaLdA 0 18)), (18, x1 (xaGetA 16 21)), (21, x0 (xaLdA 0 22)), (22, x1 (xaGetA 3 25)), (25, x0 (xaLdA 0 26)), (26, x1 (xaGetA 9 29)), (29, xK (3, 32, [(some 8, 135)]))]
def xk_45_1 : List (Nat × XI) := [(32, x0 (xaLdA 0 33)), (33, x1 (xaGetA 16 36)), (36, x1 (xaGetI 65 39)), (39, xR xrI)]
def xk_45 : List (List (Nat × XI)) := [xk_45_0, xk_45_1]
/-- WrongRoom exchangeAt (I)I -/
def xm_X1_exchangeAt : Nat := 46
def xk_46_0 : List (Nat × XI) := [(0, x0 (xaLdA 0 1)), (1, xK (1, 4, [(some 0, 5)])), (4, x0 (xaLdA 0 5)), (5, x1 (xaGetA 3 8)), (8, xB (xbNonN 17 11)), (11, x0 (xaLdA 0 12)), (12, x0 (xaI 1 13)), (13, xK (2, 16, [(some 0, 7)])), (16, xR xrI), (17, x0 (xaLdA 0 18)), (18, x1 (xaGetA 16 21)), (21, x0 (xaLdA 0 22)), (22, x1 (xaGetA 3 25)), (25, x0 (xaLdA 0 26)), (26, x1 (xaGetA 9 29)), (29, xK (3, 32, [(some 8, 135)]))]
def xk_46_1 : List (Nat × XI) := [(32, x0 (xaLdI 1 33)), (33, x0 (xaI 0 34)), (34, x0 (xaLdA 0 35)), (35, x1 (xaGetA 16 38)), (38, x1 (xaGetI 65 41)), (41, x0 (xaI 1 42)), (42, x1 (xaSub 43)), (43, xK (3, 46, [(none, 6)])), (46, xB (xbEq 60 49)), (49, x0 (xaLdA 0 50)), (50, x1 (xaGetA 16 53)), (53, x0 (xaLdI 1 54)), (54, xK (2, 57, [(some 8, 137)])), (57, x0 (xaGo 65)), (60, x0 (xaLdA 0 61)), (61, x0 (xaI 1 62)), (62, xK (2, 65, [(some 0, 7)]))]
def xk_46_2 : List (Nat × XI) := [(65, xR xrI)]
def xk_46 : List (List (Nat × XI)) := [xk_46_0, xk_46_1, xk_46_2]
/-- WrongRoom stands (I)I -/
def xm_X1_stands : Nat := 47
def xk_47_0 : List (Nat × XI) := [(0, x0 (xaLdA 0 1)), (1, xK (1, 4, [(some 0, 5)])), (4, x0 (xaLdA 0 5)), (5, x1 (xaGetA 3 8)), (8, xB (xbNonN 17 11)), (11, x0 (xaLdA 0 12)), (12, x0 (xaI 1 13)), (13, xK (2, 16, [(some 0, 7)])), (16, xR xrI), (17, x0 (xaLdI 1 18)), (18, x0 (xaI 0 19)), (19, x0 (xaI 999 22)), (22, xK (3, 25, [(none, 6)])), (25, xB (xbNe 34 28)), (28, x0 (xaLdA 0 29)), (29, x0 (xaI 2 30)), (30, xK (2, 33, [(some 0, 7)]))]
def xk_47_1 : List (Nat × XI) := [(33, xR xrI), (34, x0 (xaI 0 35)), (35, x0 (xaStI 2 36)), (36, x0 (xaLdI 2 37)), (37, x0 (xaLdA 0 38)), (38, x1 (xaGetA 3 41)), (41, x1 (xaGetI 111 44)), (44, xB (xcGe 114 47)), (47, x0 (xaLdA 0 48)), (48, x1 (xaGetA 19 51)), (51, x0 (xaLdI 2 52)), (52, x0 (xaI 0 53)), (53, x1 (xaAStI 54)), (54, x0 (xaI 0 55)), (55, x0 (xaStI 3 56)), (56, x0 (xaLdI 3 57)), (57, x0 (xaLdA 0 58)), (58, x1 (xaGetA 3 61)), (61, x1 (xaGetI 111 64))]
def xk_47_2 : List (Nat × XI) := [(64, xB (xcGe 108 67)), (67, x0 (xaLdA 0 68)), (68, x1 (xaGetA 19 71)), (71, x0 (xaLdI 2 72)), (72, x0 (xaDup2 73)), (73, x1 (xaALdI 0 74)), (74, x0 (xaLdA 0 75)), (75, x0 (xaLdA 0 76)), (76, x1 (xaGetA 13 79)), (79, x0 (xaLdI 2 80)), (80, x0 (xaLdI 3 81)), (81, x0 (xaI 0 82)), (82, xK (5, 85, [(some 0, 25)])), (85, x0 (xaI 0 86)), (86, x0 (xaLdI 1 87)), (87, xK (3, 90, [(none, 6)])), (90, xB (xbEq 99 93)), (93, x0 (xaI 1 94)), (94, x0 (xaLdI 3 95)), (95, x1 (xaShl 96))]
def xk_47_3 : List (Nat × XI) := [(96, x0 (xaGo 100)), (99, x0 (xaI 0 100)), (100, x0 (xaOr 101)), (101, x1 (xaAStI 102)), (102, x1 (xaInc 3 1 105)), (105, x0 (xaGo 56)), (108, x1 (xaInc 2 1 111)), (111, x0 (xaGo 36)), (114, x0 (xaI 1 115)), (115, x0 (xaLdA 0 116)), (116, x1 (xaGetA 3 119)), (119, x1 (xaGetI 111 122)), (122, x1 (xaShl 123)), (123, x0 (xaI 1 124)), (124, x1 (xaSub 125)), (125, x0 (xaStI 2 126)), (126, x0 (xaI 0 127)), (127, x0 (xaStI 3 128))]
def xk_47_4 : List (Nat × XI) := [(128, x0 (xaLdI 3 129)), (129, x0 (xaI 1 130)), (130, x0 (xaLdA 0 131)), (131, x1 (xaGetA 3 134)), (134, x1 (xaGetI 111 137)), (137, x1 (xaShl 138)), (138, xB (xcGe 168 141)), (141, x0 (xaLdI 3 142)), (142, xK (1, 145, [(none, 44)])), (145, x0 (xaLdI 2 146)), (146, xK (1, 149, [(none, 44)])), (149, xB (xcGe 162 152)), (152, x0 (xaLdA 0 153)), (153, x0 (xaLdI 3 154)), (154, xK (2, 157, [(some 0, 48)])), (157, xB (xbEq 162 160))]
def xk_47_5 : List (Nat × XI) := [(160, x0 (xaLdI 3 161)), (161, x0 (xaStI 2 162)), (162, x1 (xaInc 3 1 165)), (165, x0 (xaGo 128)), (168, x0 (xaLdI 2 169)), (169, xR xrI)]
def xk_47 : List (List (Nat × XI)) := [xk_47_0, xk_47_1, xk_47_2, xk_47_3, xk_47_4, xk_47_5]
/-- WrongRoom doStand (I)Z -/
def xm_X1_doStand : Nat := 48
def xk_48_0 : List (Nat × XI) := [(0, x0 (xaI 0 1)), (1, x0 (xaStI 2 2)), (2, x0 (xaI 0 3)), (3, x0 (xaStI 3 4)), (4, x0 (xaLdI 3 5)), (5, x0 (xaLdA 0 6)), (6, x1 (xaGetA 3 9)), (9, x1 (xaGetI 111 12)), (12, xB (xcGe 42 15)), (15, x0 (xaLdI 2 16)), (16, x0 (xaLdI 1 17)), (17, x0 (xaLdI 3 18)), (18, xK (2, 21, [(none, 12)])), (21, xB (xbEq 33 24)), (24, x0 (xaLdA 0 25)), (25, x1 (xaGetA 19 28)), (28, x0 (xaLdI 3 29)), (29, x1 (xaALdI 0 30)), (30, x0 (xaGo 34))]
def xk_48_1 : List (Nat × XI) := [(33, x0 (xaI 0 34)), (34, x0 (xaOr 35)), (35, x0 (xaStI 2 36)), (36, x1 (xaInc 3 1 39)), (39, x0 (xaGo 4)), (42, x0 (xaLdI 2 43)), (43, x0 (xaI 1 44)), (44, x0 (xaLdA 0 45)), (45, x1 (xaGetA 3 48)), (48, x1 (xaGetI 111 51)), (51, x1 (xaShl 52)), (52, x0 (xaI 1 53)), (53, x1 (xaSub 54)), (54, xB (xcNe 61 57)), (57, x0 (xaI 1 58)), (58, x0 (xaGo 62)), (61, x0 (xaI 0 62)), (62, xR xrZ)]
def xk_48 : List (List (Nat × XI)) := [xk_48_0, xk_48_1]
/-- WrongRoom gain (IIIIZ)I -/
def xm_X1_gain : Nat := 49
def xk_49_0 : List (Nat × XI) := [(0, x0 (xaLdA 0 1)), (1, xK (1, 4, [(some 0, 5)])), (4, x0 (xaLdA 0 5)), (5, x0 (xaLdI 1 6)), (6, xK (2, 9, [(some 0, 11)])), (9, xB (xbEq 25 12)), (12, x0 (xaLdA 0 13)), (13, x0 (xaLdI 3 14)), (14, xK (2, 17, [(some 0, 11)])), (17, xB (xbEq 25 20)), (20, x0 (xaLdI 1 21)), (21, x0 (xaLdI 3 22)), (22, xB (xcNe 31 25)), (25, x0 (xaLdA 0 26)), (26, x0 (xaI 1 27)), (27, xK (2, 30, [(some 0, 7)])), (30, xR xrI), (31, x0 (xaLdI 2 32))]
def xk_49_1 : List (Nat × XI) := [(32, x0 (xaI 0 33)), (33, x0 (xaI 9 35)), (35, xK (3, 38, [(none, 6)])), (38, xB (xbEq 52 41)), (41, x0 (xaLdI 4 43)), (43, x0 (xaI 0 44)), (44, x0 (xaI 9 46)), (46, xK (3, 49, [(none, 6)])), (49, xB (xbNe 58 52)), (52, x0 (xaLdA 0 53)), (53, x0 (xaI 2 54)), (54, xK (2, 57, [(some 0, 7)])), (57, xR xrI), (58, x0 (xaLdI 5 60)), (60, xB (xbEq 75 63)), (63, x0 (xaLdA 0 64))]
def xk_49_2 : List (Nat × XI) := [(64, x0 (xaLdI 3 65)), (65, x0 (xaLdI 4 67)), (67, x0 (xaLdI 1 68)), (68, x0 (xaLdI 2 69)), (69, xK (5, 72, [(some 0, 50)])), (72, x0 (xaGo 84)), (75, x0 (xaLdA 0 76)), (76, x0 (xaLdI 1 77)), (77, x0 (xaLdI 2 78)), (78, x0 (xaLdI 3 79)), (79, x0 (xaLdI 4 81)), (81, xK (5, 84, [(some 0, 50)])), (84, xR xrI)]
def xk_49 : List (List (Nat × XI)) := [xk_49_0, xk_49_1, xk_49_2]
/-- WrongRoom gainOf (IIII)I -/
def xm_X1_gainOf : Nat := 50
def xk_50_0 : List (Nat × XI) := [(0, x0 (xaLdA 0 1)), (1, x1 (xaGetA 3 4)), (4, x1 (xaGetA 105 7)), (7, x0 (xaLdI 1 8)), (8, x1 (xaALdA 9)), (9, x1 (xaGetI 120 12)), (12, x0 (xaLdA 0 13)), (13, x1 (xaGetA 3 16)), (16, x1 (xaGetA 105 19)), (19, x0 (xaLdI 3 20)), (20, x1 (xaALdA 21)), (21, x1 (xaGetI 120 24)), (24, x1 (xaAdd 25)), (25, x0 (xaStI 5 27)), (27, x0 (xaLdA 0 28)), (28, x0 (xaLdI 1 29)), (29, x0 (xaLdI 2 30)), (30, xK (3, 33, [(some 0, 51)]))]
def xk_50_1 : List (Nat × XI) := [(33, x0 (xaLdA 0 34)), (34, x0 (xaLdI 3 35)), (35, x0 (xaLdI 4 37)), (37, xK (3, 40, [(some 0, 51)])), (40, x1 (xaSub 41)), (41, x0 (xaStI 6 43)), (43, x0 (xaLdI 2 44)), (44, x0 (xaLdI 6 46)), (46, x1 (xaMAbs 49)), (49, x0 (xaLdA 0 50)), (50, x1 (xaGetA 3 53)), (53, x1 (xaGetI 110 56)), (56, xB (xcGt 66 59)), (59, x0 (xaLdI 5 61)), (61, x0 (xaI 2 62)), (62, x1 (xaDiv 63)), (63, x0 (xaGo 77))]
def xk_50_2 : List (Nat × XI) := [(66, x0 (xaLdI 6 68)), (68, xB (xbLe 76 71)), (71, x0 (xaLdI 5 73)), (73, x0 (xaGo 77)), (76, x0 (xaI 0 77)), (77, x1 (xaMul 78)), (78, xR xrI)]
def xk_50 : List (List (Nat × XI)) := [xk_50_0, xk_50_1, xk_50_2]
/-- WrongRoom worth (II)I -/
def xm_X1_worth : Nat := 51
def xk_51_0 : List (Nat × XI) := [(0, x0 (xaLdA 0 1)), (1, x1 (xaGetA 3 4)), (4, x1 (xaGetA 105 7)), (7, x0 (xaLdI 1 8)), (8, x1 (xaALdA 9)), (9, x1 (xaGetI 120 12)), (12, x0 (xaLdA 0 13)), (13, x1 (xaGetA 9 16)), (16, xK (1, 19, [(some 3, 109)])), (19, x0 (xaLdI 1 20)), (20, xK (2, 23, [(none, 12)])), (23, xB (xbEq 30 26)), (26, x0 (xaI 2 27)), (27, x0 (xaGo 31)), (30, x0 (xaI 0 31)), (31, x1 (xaAdd 32))]
def xk_51_1 : List (Nat × XI) := [(32, x0 (xaLdI 2 33)), (33, x1 (xaSub 34)), (34, xR xrI)]
def xk_51 : List (List (Nat × XI)) := [xk_51_0, xk_51_1]
/-- WrongRoom rests (II)I -/
def xm_X1_rests : Nat := 52
def xk_52_0 : List (Nat × XI) := [(0, x0 (xaLdA 0 1)), (1, xK (1, 4, [(some 0, 5)])), (4, x0 (xaLdA 0 5)), (5, x0 (xaLdI 1 6)), (6, xK (2, 9, [(some 0, 11)])), (9, xB (xbEq 34 12)), (12, x0 (xaLdA 0 13)), (13, x0 (xaLdI 2 14)), (14, xK (2, 17, [(some 0, 11)])), (17, xB (xbEq 34 20)), (20, x0 (xaLdI 1 21)), (21, x0 (xaLdI 2 22)), (22, xB (xcEq 34 25)), (25, x0 (xaLdA 0 26)), (26, x0 (xaLdI 1 27)), (27, x0 (xaLdI 2 28)), (28, xK (3, 31, [(some 0, 53)])), (31, x0 (xaGo 39))]
def xk_52_1 : List (Nat × XI) := [(34, x0 (xaLdA 0 35)), (35, x0 (xaI 1 36)), (36, xK (2, 39, [(some 0, 7)])), (39, xR xrI)]
def xk_52 : List (List (Nat × XI)) := [xk_52_0, xk_52_1]
/-- WrongRoom seekRests (II)I -/
def xm_X1_seekRests : Nat := 53
def xk_53_0 : List (Nat × XI) := [(0, x0 (xaI 0 1)), (1, x0 (xaStI 3 2)), (2, x0 (xaLdA 0 3)), (3, x0 (xaI (-2) 5)), (5, x1 (xaPutI 20 8)), (8, x0 (xaI 0 9)), (9, x0 (xaStI 4 11)), (11, x0 (xaLdI 4 13)), (13, x0 (xaI 9 15)), (15, xB (xcGt 75 18)), (18, x0 (xaI 0 19)), (19, x0 (xaStI 5 21)), (21, x0 (xaLdI 5 23)), (23, x0 (xaI 9 25)), (25, xB (xcGt 69 28)), (28, x0 (xaLdA 0 29)), (29, x0 (xaLdI 1 30)), (30, x0 (xaLdI 4 32))]
def xk_53_1 : List (Nat × XI) := [(32, x0 (xaLdI 2 33)), (33, x0 (xaLdI 5 35)), (35, xK (5, 38, [(some 0, 54)])), (38, xB (xbNe 44 41)), (41, x0 (xaGo 63)), (44, x0 (xaLdI 3 45)), (45, xB (xbNe 60 48)), (48, x0 (xaLdA 0 49)), (49, x0 (xaI 10 51)), (51, x0 (xaLdI 4 53)), (53, x1 (xaMul 54)), (54, x0 (xaLdI 5 56)), (56, x1 (xaAdd 57)), (57, x1 (xaPutI 20 60)), (60, x1 (xaInc 3 1 63)), (63, x1 (xaInc 5 1 66))]
def xk_53_2 : List (Nat × XI) := [(66, x0 (xaGo 21)), (69, x1 (xaInc 4 1 72)), (72, x0 (xaGo 11)), (75, x0 (xaLdI 3 76)), (76, xR xrI)]
def xk_53 : List (List (Nat × XI)) := [xk_53_0, xk_53_1, xk_53_2]
/-- WrongRoom isRest (IIII)Z -/
def xm_X1_isRest : Nat := 54
def xk_54_0 : List (Nat × XI) := [(0, x0 (xaI 1 1)), (1, x0 (xaStI 5 3)), (3, x0 (xaI 0 4)), (4, x0 (xaStI 6 6)), (6, x0 (xaLdI 6 8)), (8, x0 (xaI 9 10)), (10, xB (xcGt 74 13)), (13, x0 (xaLdI 5 15)), (15, xB (xbEq 65 18)), (18, x0 (xaLdA 0 19)), (19, x0 (xaLdI 1 20)), (20, x0 (xaLdI 6 22)), (22, x0 (xaLdI 3 23)), (23, x0 (xaLdI 4 25)), (25, xK (5, 28, [(some 0, 50)])), (28, x0 (xaLdA 0 29)), (29, x0 (xaLdI 1 30)), (30, x0 (xaLdI 2 31)), (31, x0 (xaLdI 3 32))]
def xk_54_1 : List (Nat × XI) := [(32, x0 (xaLdI 4 34)), (34, xK (5, 37, [(some 0, 50)])), (37, xB (xcGt 65 40)), (40, x0 (xaLdA 0 41)), (41, x0 (xaLdI 3 42)), (42, x0 (xaLdI 6 44)), (44, x0 (xaLdI 1 45)), (45, x0 (xaLdI 2 46)), (46, xK (5, 49, [(some 0, 50)])), (49, x0 (xaLdA 0 50)), (50, x0 (xaLdI 3 51)), (51, x0 (xaLdI 4 53)), (53, x0 (xaLdI 1 54)), (54, x0 (xaLdI 2 55)), (55, xK (5, 58, [(some 0, 50)])), (58, xB (xcGt 65 61)), (61, x0 (xaI 1 62)), (62, x0 (xaGo 66))]
def xk_54_2 : List (Nat × XI) := [(65, x0 (xaI 0 66)), (66, x0 (xaStI 5 68)), (68, x1 (xaInc 6 1 71)), (71, x0 (xaGo 6)), (74, x0 (xaLdI 5 76)), (76, xR xrZ)]
def xk_54 : List (List (Nat × XI)) := [xk_54_0, xk_54_1, xk_54_2]
/-- WrongRoom rest (II)I -/
def xm_X1_rest : Nat := 55
def xk_55_0 : List (Nat × XI) := [(0, x0 (xaLdA 0 1)), (1, xK (1, 4, [(some 0, 5)])), (4, x0 (xaLdA 0 5)), (5, x0 (xaLdI 1 6)), (6, xK (2, 9, [(some 0, 11)])), (9, xB (xbEq 25 12)), (12, x0 (xaLdA 0 13)), (13, x0 (xaLdI 2 14)), (14, xK (2, 17, [(some 0, 11)])), (17, xB (xbEq 25 20)), (20, x0 (xaLdI 1 21)), (21, x0 (xaLdI 2 22)), (22, xB (xcNe 31 25)), (25, x0 (xaLdA 0 26)), (26, x0 (xaI 1 27)), (27, xK (2, 30, [(some 0, 7)])), (30, xR xrI), (31, x0 (xaLdA 0 32))]
def xk_55_1 : List (Nat × XI) := [(32, x0 (xaLdI 1 33)), (33, x0 (xaLdI 2 34)), (34, xK (3, 37, [(some 0, 53)])), (37, x0 (xaPop 38)), (38, x0 (xaLdA 0 39)), (39, x1 (xaGetI 20 42)), (42, xR xrI)]
def xk_55 : List (List (Nat × XI)) := [xk_55_0, xk_55_1]
/-- WrongRoom builders (II)I -/
def xm_X1_builders : Nat := 56
def xk_56_0 : List (Nat × XI) := [(0, x0 (xaLdA 0 1)), (1, xK (1, 4, [(some 0, 5)])), (4, x0 (xaLdA 0 5)), (5, x0 (xaLdA 0 6)), (6, x1 (xaGetA 3 9)), (9, xB (xbNull 16 12)), (12, x0 (xaI 1 13)), (13, x0 (xaGo 17)), (16, x0 (xaI 0 17)), (17, x0 (xaLdI 1 18)), (18, x0 (xaLdI 2 19)), (19, xK (4, 22, [(some 0, 57)])), (22, x0 (xaStI 3 23)), (23, x0 (xaLdI 3 24)), (24, xB (xbEq 35 27)), (27, x0 (xaLdA 0 28)), (28, x0 (xaLdI 3 29)), (29, xK (2, 32, [(some 0, 7)]))]
def xk_56_1 : List (Nat × XI) := [(32, x0 (xaGo 45)), (35, x0 (xaLdA 0 36)), (36, x1 (xaGetA 11 39)), (39, xK (1, 42, [(some 3, 109)])), (42, xK (1, 45, [(none, 44)])), (45, xR xrI)]
def xk_56 : List (List (Nat × XI)) := [xk_56_0, xk_56_1]
/-- WrongRoom buildWhy (ZII)I -/
def xm_X1_buildWhy : Nat := 57
def xk_57_0 : List (Nat × XI) := [(0, x0 (xaLdI 1 1)), (1, xB (xbNe 6 4)), (4, x0 (xaI 1 5)), (5, xR xrI), (6, x0 (xaLdI 2 7)), (7, x0 (xaI 0 8)), (8, x0 (xaI 65536 11)), (11, xK (3, 14, [(none, 6)])), (14, xB (xbEq 27 17)), (17, x0 (xaLdI 3 18)), (18, x0 (xaI 0 19)), (19, x0 (xaI 60 21)), (21, xK (3, 24, [(none, 6)])), (24, xB (xbNe 29 27)), (27, x0 (xaI 2 28)), (28, xR xrI), (29, x0 (xaLdA 0 30)), (30, x1 (xaGetA 11 33))]
def xk_57_1 : List (Nat × XI) := [(33, x0 (xaLdA 0 34)), (34, x1 (xaGetA 9 37)), (37, xK (2, 40, [(some 3, 112)])), (40, x0 (xaLdI 2 41)), (41, x0 (xaStI 4 43)), (43, x0 (xaI 0 44)), (44, x0 (xaStI 5 46)), (46, x0 (xaLdI 5 48)), (48, x0 (xaLdI 3 49)), (49, xB (xcGe 135 52)), (52, x0 (xaI 75 54)), (54, x0 (xaLdI 4 56)), (56, x1 (xaMul 57)), (57, x0 (xaI 74 59)), (59, x1 (xaAdd 60)), (60, x0 (xaI 65537 63)), (63, x1 (xaRem 64))]
def xk_57_2 : List (Nat × XI) := [(64, x0 (xaStI 4 66)), (66, x0 (xaLdI 4 68)), (68, x0 (xaLdA 0 69)), (69, x1 (xaGetA 3 72)), (72, x1 (xaGetI 111 75)), (75, x1 (xaRem 76)), (76, x0 (xaStI 6 78)), (78, x0 (xaI 75 80)), (80, x0 (xaLdI 4 82)), (82, x1 (xaMul 83)), (83, x0 (xaI 74 85)), (85, x1 (xaAdd 86)), (86, x0 (xaI 65537 89)), (89, x1 (xaRem 90)), (90, x0 (xaStI 4 92)), (92, x0 (xaLdI 4 94)), (94, x0 (xaLdA 0 95)), (95, x1 (xaGetA 3 98))]
def xk_57_3 : List (Nat × XI) := [(98, x1 (xaGetI 111 101)), (101, x1 (xaRem 102)), (102, x0 (xaStI 7 104)), (104, x0 (xaLdA 0 105)), (105, x1 (xaGetA 11 108)), (108, x0 (xaLdI 6 110)), (110, x0 (xaLdI 7 112)), (112, xK (3, 115, [(some 3, 113)])), (115, xB (xbEq 129 118)), (118, x0 (xaLdA 0 119)), (119, x1 (xaGetA 11 122)), (122, x0 (xaLdI 6 124)), (124, x0 (xaLdI 7 126)), (126, xK (3, 129, [(some 3, 114)]))]
def xk_57_4 : List (Nat × XI) := [(129, x1 (xaInc 5 1 132)), (132, x0 (xaGo 46)), (135, x0 (xaI 0 136)), (136, xR xrI)]
def xk_57 : List (List (Nat × XI)) := [xk_57_0, xk_57_1, xk_57_2, xk_57_3, xk_57_4]
/-- WrongRoom builtOf (III)I -/
def xm_X1_builtOf : Nat := 58
def xk_58_0 : List (Nat × XI) := [(0, x0 (xaLdA 0 1)), (1, xK (1, 4, [(some 0, 5)])), (4, x0 (xaLdA 0 5)), (5, x0 (xaLdA 0 6)), (6, x0 (xaLdI 1 7)), (7, xK (2, 10, [(some 0, 11)])), (10, x0 (xaLdI 2 11)), (11, x0 (xaLdI 3 12)), (12, xK (4, 15, [(some 0, 57)])), (15, x0 (xaStI 4 17)), (17, x0 (xaLdI 4 19)), (19, xB (xbEq 31 22)), (22, x0 (xaLdA 0 23)), (23, x0 (xaLdI 4 25)), (25, xK (2, 28, [(some 0, 7)])), (28, x0 (xaGo 40)), (31, x0 (xaLdA 0 32))]
def xk_58_1 : List (Nat × XI) := [(32, x1 (xaGetA 11 35)), (35, x1 (xaGetA 40 38)), (38, x0 (xaLdI 1 39)), (39, x1 (xaALdI 0 40)), (40, xR xrI)]
def xk_58 : List (List (Nat × XI)) := [xk_58_0, xk_58_1]
/-- WrongRoom exchange (II)Z -/
def xm_X1_exchange : Nat := 59
def xk_59_0 : List (Nat × XI) := [(0, x0 (xaLdA 0 1)), (1, x0 (xaLdA 0 2)), (2, x0 (xaLdI 1 3)), (3, xK (2, 6, [(some 0, 11)])), (6, xB (xbEq 22 9)), (9, x0 (xaLdA 0 10)), (10, x0 (xaLdI 2 11)), (11, xK (2, 14, [(some 0, 11)])), (14, xB (xbEq 22 17)), (17, x0 (xaLdI 1 18)), (18, x0 (xaLdI 2 19)), (19, xB (xcNe 26 22)), (22, x0 (xaI 1 23)), (23, x0 (xaGo 43)), (26, x0 (xaLdA 0 27)), (27, x1 (xaGetA 9 30)), (30, x0 (xaLdI 1 31)), (31, x0 (xaLdI 2 32))]
def xk_59_1 : List (Nat × XI) := [(32, xK (3, 35, [(some 3, 113)])), (35, xB (xbNe 42 38)), (38, x0 (xaI 5 39)), (39, x0 (xaGo 43)), (42, x0 (xaI 0 43)), (43, xK (2, 46, [(some 0, 60)])), (46, xB (xbNe 51 49)), (49, x0 (xaI 0 50)), (50, xR xrZ), (51, x0 (xaLdA 0 52)), (52, xK (1, 55, [(some 0, 61)])), (55, x0 (xaLdA 0 56)), (56, x1 (xaGetA 9 59)), (59, x0 (xaLdI 1 60)), (60, x0 (xaLdI 2 61)), (61, xK (3, 64, [(some 3, 114)]))]
def xk_59_2 : List (Nat × XI) := [(64, x0 (xaLdA 0 65)), (65, xK (1, 68, [(some 0, 62)])), (68, xR xrZ)]
def xk_59 : List (List (Nat × XI)) := [xk_59_0, xk_59_1, xk_59_2]
/-- WrongRoom yes (I)Z -/
def xm_X1_yes : Nat := 60
def xk_60_0 : List (Nat × XI) := [(0, x0 (xaLdA 0 1)), (1, xK (1, 4, [(some 0, 5)])), (4, x0 (xaLdA 0 5)), (5, x0 (xaLdI 1 6)), (6, x1 (xaPutI 4 9)), (9, x0 (xaLdI 1 10)), (10, xB (xbNe 17 13)), (13, x0 (xaI 1 14)), (14, x0 (xaGo 18)), (17, x0 (xaI 0 18)), (18, xR xrZ)]
def xk_60 : List (List (Nat × XI)) := [xk_60_0]
/-- WrongRoom keep ()V -/
def xm_X1_keep : Nat := 61
def xk_61_0 : List (Nat × XI) := [(0, x0 (xaLdA 0 1)), (1, x1 (xaGetA 10 4)), (4, x0 (xaLdA 0 5)), (5, x1 (xaGetA 9 8)), (8, xK (2, 11, [(some 3, 112)])), (11, xR xrV)]
def xk_61 : List (List (Nat × XI)) := [xk_61_0]
/-- WrongRoom done ()Z -/
def xm_X1_done : Nat := 62
def xk_62_0 : List (Nat × XI) := [(0, x0 (xaLdA 0 1)), (1, x1 (xaGetI 8 4)), (4, x0 (xaI 16 6)), (6, xB (xcNe 62 9)), (9, x0 (xaLdA 0 10)), (10, x1 (xaGetA 17 13)), (13, x0 (xaI 0 14)), (14, x1 (xaALdA 15)), (15, x0 (xaStA 1 16)), (16, x0 (xaI 1 17)), (17, x0 (xaStI 2 18)), (18, x0 (xaLdI 2 19)), (19, x0 (xaI 16 21)), (21, xB (xcGe 44 24)), (24, x0 (xaLdA 0 25)), (25, x1 (xaGetA 17 28)), (28, x0 (xaLdI 2 29)), (29, x0 (xaI 1 30)), (30, x1 (xaSub 31)), (31, x0 (xaLdA 0 32))]
def xk_62_1 : List (Nat × XI) := [(32, x1 (xaGetA 17 35)), (35, x0 (xaLdI 2 36)), (36, x1 (xaALdA 37)), (37, x1 (xaAStA 38)), (38, x1 (xaInc 2 1 41)), (41, x0 (xaGo 18)), (44, x0 (xaLdA 0 45)), (45, x1 (xaGetA 17 48)), (48, x0 (xaI 15 50)), (50, x0 (xaLdA 1 51)), (51, x1 (xaAStA 52)), (52, x0 (xaLdA 0 53)), (53, x0 (xaDup 54)), (54, x1 (xaGetI 8 57)), (57, x0 (xaI 1 58)), (58, x1 (xaSub 59)), (59, x1 (xaPutI 8 62)), (62, x0 (xaLdA 0 63)), (63, x1 (xaGetA 17 66))]
def xk_62_2 : List (Nat × XI) := [(66, x0 (xaLdA 0 67)), (67, x1 (xaGetI 8 70)), (70, x1 (xaALdA 71)), (71, x0 (xaLdA 0 72)), (72, x1 (xaGetA 10 75)), (75, xK (2, 78, [(some 3, 112)])), (78, x0 (xaLdA 0 79)), (79, x0 (xaDup 80)), (80, x1 (xaGetI 8 83)), (83, x0 (xaI 1 84)), (84, x1 (xaAdd 85)), (85, x1 (xaPutI 8 88)), (88, x0 (xaI 1 89)), (89, xR xrZ)]
def xk_62 : List (List (Nat × XI)) := [xk_62_0, xk_62_1, xk_62_2]
/-- WrongRoom shut (IZ)Z -/
def xm_X1_shut : Nat := 63
def xk_63_0 : List (Nat × XI) := [(0, x0 (xaLdA 0 1)), (1, x0 (xaLdA 0 2)), (2, x0 (xaLdI 1 3)), (3, xK (2, 6, [(some 0, 11)])), (6, xB (xbNe 13 9)), (9, x0 (xaI 1 10)), (10, x0 (xaGo 33)), (13, x0 (xaLdA 0 14)), (14, x1 (xaGetA 9 17)), (17, x1 (xaGetI 44 20)), (20, x0 (xaLdI 1 21)), (21, xK (2, 24, [(none, 12)])), (24, x0 (xaLdI 2 25)), (25, xB (xcNe 32 28)), (28, x0 (xaI 5 29)), (29, x0 (xaGo 33))]
def xk_63_1 : List (Nat × XI) := [(32, x0 (xaI 0 33)), (33, xK (2, 36, [(some 0, 60)])), (36, xB (xbNe 41 39)), (39, x0 (xaI 0 40)), (40, xR xrZ), (41, x0 (xaLdA 0 42)), (42, xK (1, 45, [(some 0, 61)])), (45, x0 (xaLdA 0 46)), (46, x1 (xaGetA 9 49)), (49, x0 (xaDup 50)), (50, x1 (xaGetI 44 53)), (53, x0 (xaI 1 54)), (54, x0 (xaLdI 1 55)), (55, x1 (xaShl 56)), (56, x0 (xaXor 57)), (57, x1 (xaPutI 44 60)), (60, x0 (xaLdA 0 61)), (61, xK (1, 64, [(some 0, 62)]))]
def xk_63_2 : List (Nat × XI) := [(64, xR xrZ)]
def xk_63 : List (List (Nat × XI)) := [xk_63_0, xk_63_1, xk_63_2]
/-- WrongRoom go (II)I -/
def xm_X1_go : Nat := 64
def xk_64_0 : List (Nat × XI) := [(0, x0 (xaLdA 0 1)), (1, xK (1, 4, [(some 0, 5)])), (4, x0 (xaLdA 0 5)), (5, x0 (xaLdI 1 6)), (6, xK (2, 9, [(some 0, 17)])), (9, xB (xbEq 20 12)), (12, x0 (xaLdA 0 13)), (13, x0 (xaLdI 2 14)), (14, xK (2, 17, [(some 0, 11)])), (17, xB (xbNe 26 20)), (20, x0 (xaLdA 0 21)), (21, x0 (xaI 1 22)), (22, xK (2, 25, [(some 0, 7)])), (25, xR xrI), (26, x0 (xaLdA 0 27)), (27, x1 (xaGetA 9 30)), (30, x0 (xaLdA 0 31)), (31, x1 (xaGetA 9 34))]
def xk_64_1 : List (Nat × XI) := [(34, x1 (xaGetA 41 37)), (37, x0 (xaLdI 1 38)), (38, x1 (xaALdI 0 39)), (39, x0 (xaLdI 2 40)), (40, x0 (xaLdA 0 41)), (41, x1 (xaGetA 9 44)), (44, x1 (xaGetA 42 47)), (47, x0 (xaLdI 1 48)), (48, x1 (xaALdI 0 49)), (49, xK (4, 52, [(some 3, 115)])), (52, x0 (xaStI 3 53)), (53, x0 (xaLdI 3 54)), (54, x0 (xaI 100000000 56)), (56, xB (xcNe 65 59)), (59, x0 (xaLdA 0 60)), (60, x0 (xaI 5 61)), (61, xK (2, 64, [(some 0, 7)]))]
def xk_64_2 : List (Nat × XI) := [(64, xR xrI), (65, x0 (xaLdA 0 66)), (66, xK (1, 69, [(some 0, 61)])), (69, x0 (xaLdA 0 70)), (70, x1 (xaGetA 9 73)), (73, x1 (xaGetA 41 76)), (76, x0 (xaLdI 1 77)), (77, x0 (xaLdI 2 78)), (78, x1 (xaAStI 79)), (79, x0 (xaLdA 0 80)), (80, x1 (xaGetA 9 83)), (83, x1 (xaGetA 42 86)), (86, x0 (xaLdI 1 87)), (87, x0 (xaLdI 3 88)), (88, x1 (xaAStI 89)), (89, x0 (xaLdA 0 90)), (90, xK (1, 93, [(some 0, 62)])), (93, x0 (xaPop 94)), (94, x0 (xaLdI 3 95)), (95, xR xrI)]
def xk_64 : List (List (Nat × XI)) := [xk_64_0, xk_64_1, xk_64_2]
/-- WrongRoom waits (II)I -/
def xm_X1_waits : Nat := 65
def xk_65_0 : List (Nat × XI) := [(0, x0 (xaLdA 0 1)), (1, xK (1, 4, [(some 0, 5)])), (4, x0 (xaLdA 0 5)), (5, x0 (xaLdI 1 6)), (6, xK (2, 9, [(some 0, 17)])), (9, xB (xbNe 18 12)), (12, x0 (xaLdA 0 13)), (13, x0 (xaI 1 14)), (14, xK (2, 17, [(some 0, 7)])), (17, xR xrI), (18, x0 (xaLdI 2 19)), (19, x0 (xaI 1 20)), (20, x0 (xaI 999 23)), (23, xK (3, 26, [(none, 6)])), (26, xB (xbNe 35 29)), (29, x0 (xaLdA 0 30)), (30, x0 (xaI 2 31)), (31, xK (2, 34, [(some 0, 7)]))]
def xk_65_1 : List (Nat × XI) := [(34, xR xrI), (35, x0 (xaLdA 0 36)), (36, xK (1, 39, [(some 0, 61)])), (39, x0 (xaLdA 0 40)), (40, x1 (xaGetA 9 43)), (43, x1 (xaGetA 42 46)), (46, x0 (xaLdI 1 47)), (47, x0 (xaDup2 48)), (48, x1 (xaALdI 0 49)), (49, x0 (xaLdI 2 50)), (50, x1 (xaAdd 51)), (51, x1 (xaAStI 52)), (52, x0 (xaLdA 0 53)), (53, xK (1, 56, [(some 0, 62)])), (56, x0 (xaPop 57)), (57, x0 (xaLdA 0 58)), (58, x1 (xaGetA 9 61)), (61, x1 (xaGetA 42 64))]
def xk_65_2 : List (Nat × XI) := [(64, x0 (xaLdI 1 65)), (65, x1 (xaALdI 0 66)), (66, xR xrI)]
def xk_65 : List (List (Nat × XI)) := [xk_65_0, xk_65_1, xk_65_2]
/-- WrongRoom undo ()Z -/
def xm_X1_undo : Nat := 66
def xk_66_0 : List (Nat × XI) := [(0, x0 (xaLdA 0 1)), (1, x0 (xaLdA 0 2)), (2, x1 (xaGetI 8 5)), (5, xB (xbNe 13 8)), (8, x0 (xaI 6 10)), (10, x0 (xaGo 14)), (13, x0 (xaI 0 14)), (14, xK (2, 17, [(some 0, 60)])), (17, xB (xbNe 22 20)), (20, x0 (xaI 0 21)), (21, xR xrZ), (22, x0 (xaLdA 0 23)), (23, x0 (xaDup 24)), (24, x1 (xaGetI 8 27)), (27, x0 (xaI 1 28)), (28, x1 (xaSub 29)), (29, x1 (xaPutI 8 32))]
def xk_66_1 : List (Nat × XI) := [(32, x0 (xaLdA 0 33)), (33, x1 (xaGetA 9 36)), (36, x0 (xaLdA 0 37)), (37, x1 (xaGetA 17 40)), (40, x0 (xaLdA 0 41)), (41, x1 (xaGetI 8 44)), (44, x1 (xaALdA 45)), (45, xK (2, 48, [(some 3, 112)])), (48, x0 (xaI 1 49)), (49, xR xrZ)]
def xk_66 : List (List (Nat × XI)) := [xk_66_0, xk_66_1]
/-- WrongRoom mark ()I -/
def xm_X1_mark : Nat := 67
def xk_67_0 : List (Nat × XI) := [(0, x0 (xaLdA 0 1)), (1, xK (1, 4, [(some 0, 5)])), (4, x0 (xaLdA 0 5)), (5, x1 (xaGetA 3 8)), (8, xB (xbNonN 17 11)), (11, x0 (xaLdA 0 12)), (12, x0 (xaI 1 13)), (13, xK (2, 16, [(some 0, 7)])), (16, xR xrI), (17, x0 (xaLdA 0 18)), (18, x1 (xaGetI 7 21)), (21, x0 (xaI 3 22)), (22, xB (xcNe 31 25)), (25, x0 (xaLdA 0 26)), (26, x0 (xaI 3 27)), (27, xK (2, 30, [(some 0, 7)])), (30, xR xrI), (31, x0 (xaLdA 0 32))]
def xk_67_1 : List (Nat × XI) := [(32, x1 (xaGetA 18 35)), (35, x0 (xaLdA 0 36)), (36, x1 (xaGetI 7 39)), (39, x1 (xaALdA 40)), (40, x0 (xaLdA 0 41)), (41, x1 (xaGetA 9 44)), (44, xK (2, 47, [(some 3, 112)])), (47, x0 (xaLdA 0 48)), (48, x0 (xaDup 49)), (49, x1 (xaGetI 7 52)), (52, x0 (xaI 1 53)), (53, x1 (xaAdd 54)), (54, x1 (xaPutI 7 57)), (57, x0 (xaLdA 0 58)), (58, x1 (xaGetI 7 61)), (61, x0 (xaI 1 62)), (62, x1 (xaSub 63)), (63, xR xrI)]
def xk_67 : List (List (Nat × XI)) := [xk_67_0, xk_67_1]
/-- WrongRoom back (I)Z -/
def xm_X1_back : Nat := 68
def xk_68_0 : List (Nat × XI) := [(0, x0 (xaLdA 0 1)), (1, x0 (xaLdI 1 2)), (2, x0 (xaI 0 3)), (3, x0 (xaLdA 0 4)), (4, x1 (xaGetI 7 7)), (7, x0 (xaI 1 8)), (8, x1 (xaSub 9)), (9, xK (3, 12, [(none, 6)])), (12, xB (xbEq 19 15)), (15, x0 (xaI 0 16)), (16, x0 (xaGo 20)), (19, x0 (xaI 1 20)), (20, xK (2, 23, [(some 0, 60)])), (23, xB (xbNe 28 26)), (26, x0 (xaI 0 27)), (27, xR xrZ), (28, x0 (xaLdA 0 29)), (29, x1 (xaGetA 9 32))]
def xk_68_1 : List (Nat × XI) := [(32, x0 (xaLdA 0 33)), (33, x1 (xaGetA 18 36)), (36, x0 (xaLdI 1 37)), (37, x1 (xaALdA 38)), (38, xK (2, 41, [(some 3, 112)])), (41, x0 (xaLdA 0 42)), (42, x0 (xaI 0 43)), (43, x1 (xaPutI 8 46)), (46, x0 (xaI 1 47)), (47, xR xrZ)]
def xk_68 : List (List (Nat × XI)) := [xk_68_0, xk_68_1]
/-- WrongRoom size (I)I -/
def xm_X1_size : Nat := 69
def xk_69_0 : List (Nat × XI) := [(0, x0 (xaLdI 1 1)), (1, x0 (xaI 12 3)), (3, xB (xcNe 11 6)), (6, x0 (xaLdA 0 7)), (7, x1 (xaGetI 1 10)), (10, xR xrI), (11, x0 (xaLdA 0 12)), (12, x1 (xaGetA 3 15)), (15, xB (xbNonN 34 18)), (18, x0 (xaLdI 1 19)), (19, x0 (xaI 0 20)), (20, x0 (xaI 11 22)), (22, xK (3, 25, [(none, 6)])), (25, xB (xbEq 32 28)), (28, x0 (xaI 0 29)), (29, x0 (xaGo 33))]
def xk_69_1 : List (Nat × XI) := [(32, x0 (xaI (-1) 33)), (33, xR xrI), (34, x0 (xaLdI 1 35)), (35, x0 (xaSw [(0, 96), (1, 104), (2, 112), (3, 120), (4, 125), (5, 133), (6, 141), (7, 149), (8, 157), (9, 165), (10, 176), (11, 181)] 186))]
def xk_69_2 : List (Nat × XI) := []
def xk_69_3 : List (Nat × XI) := [(96, x0 (xaLdA 0 97)), (97, x1 (xaGetA 3 100)), (100, x1 (xaGetI 109 103)), (103, xR xrI), (104, x0 (xaLdA 0 105)), (105, x1 (xaGetA 3 108)), (108, x1 (xaGetI 110 111)), (111, xR xrI), (112, x0 (xaLdA 0 113)), (113, x1 (xaGetA 3 116)), (116, x1 (xaGetI 111 119)), (119, xR xrI), (120, x0 (xaLdA 0 121)), (121, xK (1, 124, [(some 0, 70)])), (124, xR xrI), (125, x0 (xaLdA 0 126)), (126, x1 (xaGetA 3 129))]
def xk_69_4 : List (Nat × XI) := [(129, x1 (xaGetI 112 132)), (132, xR xrI), (133, x0 (xaLdA 0 134)), (134, x1 (xaGetA 3 137)), (137, x1 (xaGetI 113 140)), (140, xR xrI), (141, x0 (xaLdA 0 142)), (142, x1 (xaGetA 3 145)), (145, x1 (xaGetI 114 148)), (148, xR xrI), (149, x0 (xaLdA 0 150)), (150, x1 (xaGetA 3 153)), (153, x1 (xaGetI 115 156)), (156, xR xrI), (157, x0 (xaLdA 0 158)), (158, x1 (xaGetA 3 161))]
def xk_69_5 : List (Nat × XI) := [(161, x1 (xaGetI 116 164)), (164, xR xrI), (165, x0 (xaLdA 0 166)), (166, x1 (xaGetA 9 169)), (169, x1 (xaGetI 44 172)), (172, xK (1, 175, [(none, 44)])), (175, xR xrI), (176, x0 (xaLdA 0 177)), (177, x1 (xaGetI 8 180)), (180, xR xrI), (181, x0 (xaLdA 0 182)), (182, x1 (xaGetI 7 185)), (185, xR xrI), (186, x0 (xaI (-1) 187)), (187, xR xrI)]
def xk_69 : List (List (Nat × XI)) := [xk_69_0, xk_69_1, xk_69_2, xk_69_3, xk_69_4, xk_69_5]
/-- WrongRoom known ()I -/
def xm_X1_known : Nat := 70
def xk_70_0 : List (Nat × XI) := [(0, x0 (xaI 0 1)), (1, x0 (xaStI 1 2)), (2, x0 (xaI 0 3)), (3, x0 (xaStI 2 4)), (4, x0 (xaLdI 2 5)), (5, x0 (xaLdA 0 6)), (6, x1 (xaGetA 3 9)), (9, x1 (xaGetI 111 12)), (12, xB (xcGe 43 15)), (15, x0 (xaLdI 1 16)), (16, x0 (xaLdA 0 17)), (17, x1 (xaGetA 9 20)), (20, x1 (xaGetA 40 23)), (23, x0 (xaLdI 2 24)), (24, x1 (xaALdI 0 25)), (25, x0 (xaI (-2) 27)), (27, xB (xcEq 34 30)), (30, x0 (xaI 1 31)), (31, x0 (xaGo 35))]
def xk_70_1 : List (Nat × XI) := [(34, x0 (xaI 0 35)), (35, x1 (xaAdd 36)), (36, x0 (xaStI 1 37)), (37, x1 (xaInc 2 1 40)), (40, x0 (xaGo 4)), (43, x0 (xaLdI 1 44)), (44, xR xrI)]
def xk_70 : List (List (Nat × XI)) := [xk_70_0, xk_70_1]
/-- WrongRoom trouble ()I -/
def xm_X1_trouble : Nat := 71
def xk_71_0 : List (Nat × XI) := [(0, x0 (xaLdA 0 1)), (1, x1 (xaGetI 4 4)), (4, xR xrI)]
def xk_71 : List (List (Nat × XI)) := [xk_71_0]
/-- WrongRoom led (I)I -/
def xm_X1_led : Nat := 72
def xk_72_0 : List (Nat × XI) := [(0, x0 (xaI 0 1)), (1, x0 (xaStI 2 2)), (2, x0 (xaI 0 3)), (3, x0 (xaStI 3 4)), (4, x0 (xaLdA 0 5)), (5, x1 (xaGetA 3 8)), (8, xB (xbNull 65 11)), (11, x0 (xaLdI 3 12)), (12, x0 (xaLdA 0 13)), (13, x1 (xaGetA 3 16)), (16, x1 (xaGetI 114 19)), (19, xB (xcGe 65 22)), (22, x0 (xaLdA 0 23)), (23, x1 (xaGetA 9 26)), (26, x1 (xaGetA 41 29)), (29, x0 (xaLdI 3 30)), (30, x1 (xaALdI 0 31)), (31, x0 (xaLdA 0 32))]
def xk_72_1 : List (Nat × XI) := [(32, x1 (xaGetA 3 35)), (35, x1 (xaGetA 106 38)), (38, x0 (xaLdI 3 39)), (39, x1 (xaALdA 40)), (40, x1 (xaGetI 128 43)), (43, xB (xcEq 49 46)), (46, x0 (xaGo 59)), (49, x0 (xaLdI 2 50)), (50, x0 (xaLdI 1 51)), (51, xB (xcNe 56 54)), (54, x0 (xaLdI 3 55)), (55, xR xrI), (56, x1 (xaInc 2 1 59)), (59, x1 (xaInc 3 1 62)), (62, x0 (xaGo 4))]
def xk_72_2 : List (Nat × XI) := [(65, x0 (xaNewE 17 6 72)), (68, x0 (xaDup 69)), (72, xT)]
def xk_72 : List (List (Nat × XI)) := [xk_72_0, xk_72_1, xk_72_2]
/-- WrongRoom$Reader <init> ([B)V -/
def xm_X2_init : Nat := 73
def xk_73_0 : List (Nat × XI) := [(0, x0 (xaLdA 0 1)), (1, x1 (xaObj 4)), (4, x0 (xaLdA 0 5)), (5, x0 (xaNewO 2 8 8)), (8, x0 (xaDup 9)), (9, xK (1, 12, [(some 2, 103)])), (12, x1 (xaPutA 21 15)), (15, x0 (xaLdA 0 16)), (16, x0 (xaI 8 18)), (18, x1 (xaNewA 2 20)), (20, x1 (xaPutA 23 23)), (23, x0 (xaLdA 0 24)), (24, x0 (xaLdA 1 25)), (25, x1 (xaPutA 22 28)), (28, xR xrV)]
def xk_73 : List (List (Nat × XI)) := [xk_73_0]
/-- WrongRoom$Reader read (I)LWrongRoom$Town; -/
def xm_X2_read : Nat := 74
def xk_74_0 : List (Nat × XI) := [(0, x0 (xaLdA 0 1)), (1, x0 (xaLdI 1 2)), (2, x1 (xaPutI 24 5)), (5, x0 (xaLdA 0 6)), (6, x0 (xaI 0 7)), (7, x1 (xaPutI 25 10)), (10, x0 (xaLdA 0 11)), (11, x0 (xaNewO 10 12 14)), (14, x0 (xaDup 15)), (15, xK (1, 18, [(some 10, 256)])), (18, x1 (xaPutA 30 21)), (21, x0 (xaLdA 0 22)), (22, x0 (xaI 0 23)), (23, x1 (xaPutZ 31 26)), (26, x0 (xaLdA 0 27)), (27, xK (1, 30, [(some 1, 75)])), (30, x0 (xaLdA 0 31)), (31, xK (1, 34, [(some 1, 79)]))]
def xk_74_1 : List (Nat × XI) := [(34, x0 (xaLdA 0 35)), (35, x1 (xaGetI 26 38)), (38, x0 (xaI 59 40)), (40, xB (xcNe 54 43)), (43, x0 (xaLdA 0 44)), (44, xK (1, 47, [(some 1, 75)])), (47, x0 (xaLdA 0 48)), (48, xK (1, 51, [(some 1, 79)])), (51, x0 (xaGo 34)), (54, x0 (xaLdA 0 55)), (55, x1 (xaGetI 26 58)), (58, xB (xbEq 67 61)), (61, x0 (xaLdA 0 62)), (62, x0 (xaI 1 63)), (63, xK (2, 66, [(some 1, 80)]))]
def xk_74_2 : List (Nat × XI) := [(66, xT), (67, x0 (xaLdA 0 68)), (68, x1 (xaGetI 31 71)), (71, xB (xbEq 85 74)), (74, x0 (xaLdA 0 75)), (75, x1 (xaGetA 30 78)), (78, x1 (xaGetI 111 81)), (81, x0 (xaI 2 82)), (82, xB (xcGe 92 85)), (85, x0 (xaLdA 0 86)), (86, x0 (xaI 6 88)), (88, xK (2, 91, [(some 1, 80)])), (91, xT), (92, x0 (xaLdA 0 93)), (93, x1 (xaGetA 30 96))]
def xk_74_3 : List (Nat × XI) := [(96, xR xrA)]
def xk_74 : List (List (Nat × XI)) := [xk_74_0, xk_74_1, xk_74_2, xk_74_3]
/-- WrongRoom$Reader next ()V -/
def xm_X2_next : Nat := 75
def xk_75_0 : List (Nat × XI) := [(0, x0 (xaLdA 0 1)), (1, x1 (xaGetI 25 4)), (4, x0 (xaStI 1 5)), (5, x0 (xaLdA 0 6)), (6, x0 (xaLdI 1 7)), (7, xK (2, 10, [(some 1, 76)])), (10, x0 (xaI 32 12)), (12, xB (xcNe 21 15)), (15, x1 (xaInc 1 1 18)), (18, x0 (xaGo 5)), (21, x0 (xaLdA 0 22)), (22, x0 (xaLdI 1 23)), (23, x1 (xaPutI 27 26)), (26, x0 (xaLdA 0 27)), (27, x0 (xaLdI 1 28)), (28, x0 (xaI 1 29)), (29, x1 (xaAdd 30)), (30, x1 (xaPutI 25 33))]
def xk_75_1 : List (Nat × XI) := [(33, x0 (xaLdA 0 34)), (34, x0 (xaLdI 1 35)), (35, xK (2, 38, [(some 1, 76)])), (38, x0 (xaStI 2 39)), (39, x0 (xaLdI 2 40)), (40, x0 (xaI (-1) 41)), (41, xB (xcNe 57 44)), (44, x0 (xaLdA 0 45)), (45, x0 (xaI 0 46)), (46, x1 (xaPutI 26 49)), (49, x0 (xaLdA 0 50)), (50, x0 (xaLdI 1 51)), (51, x1 (xaPutI 25 54)), (54, x0 (xaGo 299)), (57, x0 (xaLdI 2 58)), (58, xK (1, 61, [(none, 77)])), (61, xB (xbEq 185 64))]
def xk_75_2 : List (Nat × XI) := [(64, x0 (xaLdA 0 65)), (65, x0 (xaLdI 1 66)), (66, x1 (xaPutI 25 69)), (69, x0 (xaLdA 0 70)), (70, x0 (xaLdA 0 71)), (71, x1 (xaGetI 25 74)), (74, xK (2, 77, [(some 1, 76)])), (77, xK (1, 80, [(none, 77)])), (80, xB (xbEq 127 83)), (83, x0 (xaLdA 0 84)), (84, x1 (xaGetI 25 87)), (87, x0 (xaLdI 1 88)), (88, x1 (xaSub 89)), (89, x0 (xaI 8 91)), (91, xB (xcGe 114 94)), (94, x0 (xaLdA 0 95)), (95, x1 (xaGetA 23 98))]
def xk_75_3 : List (Nat × XI) := [(98, x0 (xaLdA 0 99)), (99, x1 (xaGetI 25 102)), (102, x0 (xaLdI 1 103)), (103, x1 (xaSub 104)), (104, x0 (xaLdA 0 105)), (105, x0 (xaLdA 0 106)), (106, x1 (xaGetI 25 109)), (109, xK (2, 112, [(some 1, 76)])), (112, x1 (xaI2C 113)), (113, x1 (xaAStC 114)), (114, x0 (xaLdA 0 115)), (115, x0 (xaDup 116)), (116, x1 (xaGetI 25 119)), (119, x0 (xaI 1 120)), (120, x1 (xaAdd 121)), (121, x1 (xaPutI 25 124)), (124, x0 (xaGo 69)), (127, x0 (xaLdA 0 128))]
def xk_75_4 : List (Nat × XI) := [(128, x0 (xaLdA 0 129)), (129, x1 (xaGetI 25 132)), (132, x0 (xaLdI 1 133)), (133, x1 (xaSub 134)), (134, x0 (xaI 8 136)), (136, xB (xcLe 143 139)), (139, x0 (xaI 1 140)), (140, x0 (xaGo 144)), (143, x0 (xaI 2 144)), (144, x1 (xaPutI 26 147)), (147, x0 (xaLdA 0 148)), (148, x0 (xaLdA 0 149)), (149, x1 (xaGetI 26 152)), (152, x0 (xaI 2 153)), (153, xB (xcNe 177 156)), (156, x0 (xaNewO 16 4 159)), (159, x0 (xaDup 160))]
def xk_75_5 : List (Nat × XI) := [(160, x0 (xaLdA 0 161)), (161, x1 (xaGetA 23 164)), (164, x0 (xaI 0 165)), (165, x0 (xaLdA 0 166)), (166, x1 (xaGetI 25 169)), (169, x0 (xaLdI 1 170)), (170, x1 (xaSub 171)), (171, xK (4, 174, [(some 16, 261)])), (174, x0 (xaGo 179)), (177, x0 (xaCst 0 179)), (179, x1 (xaPutA 29 182)), (182, x0 (xaGo 299)), (185, x0 (xaLdI 2 186)), (186, xK (1, 189, [(none, 78)])), (189, xB (xbEq 284 192))]
def xk_75_6 : List (Nat × XI) := [(192, x0 (xaLdA 0 193)), (193, x0 (xaI 0 194)), (194, x1 (xaPutI 28 197)), (197, x0 (xaLdA 0 198)), (198, x0 (xaLdI 1 199)), (199, x1 (xaPutI 25 202)), (202, x0 (xaLdA 0 203)), (203, x0 (xaLdA 0 204)), (204, x1 (xaGetI 25 207)), (207, xK (2, 210, [(some 1, 76)])), (210, xK (1, 213, [(none, 78)])), (213, xB (xbEq 262 216)), (216, x0 (xaLdA 0 217)), (217, x1 (xaGetI 25 220)), (220, x0 (xaLdI 1 221)), (221, x1 (xaSub 222)), (222, x0 (xaI 3 223)), (223, xB (xcGe 249 226))]
def xk_75_7 : List (Nat × XI) := [(226, x0 (xaLdA 0 227)), (227, x0 (xaI 10 229)), (229, x0 (xaLdA 0 230)), (230, x1 (xaGetI 28 233)), (233, x1 (xaMul 234)), (234, x0 (xaLdA 0 235)), (235, x0 (xaLdA 0 236)), (236, x1 (xaGetI 25 239)), (239, xK (2, 242, [(some 1, 76)])), (242, x1 (xaAdd 243)), (243, x0 (xaI 48 245)), (245, x1 (xaSub 246)), (246, x1 (xaPutI 28 249)), (249, x0 (xaLdA 0 250)), (250, x0 (xaDup 251)), (251, x1 (xaGetI 25 254)), (254, x0 (xaI 1 255)), (255, x1 (xaAdd 256))]
def xk_75_8 : List (Nat × XI) := [(256, x1 (xaPutI 25 259)), (259, x0 (xaGo 202)), (262, x0 (xaLdA 0 263)), (263, x0 (xaLdA 0 264)), (264, x1 (xaGetI 25 267)), (267, x0 (xaLdI 1 268)), (268, x1 (xaSub 269)), (269, x0 (xaI 3 270)), (270, xB (xcLe 277 273)), (273, x0 (xaI 1 274)), (274, x0 (xaGo 278)), (277, x0 (xaI 3 278)), (278, x1 (xaPutI 26 281)), (281, x0 (xaGo 299)), (284, x0 (xaLdA 0 285)), (285, x0 (xaLdI 2 286)), (286, x0 (xaI 59 288))]
def xk_75_9 : List (Nat × XI) := [(288, xB (xcNe 295 291)), (291, x0 (xaLdI 2 292)), (292, x0 (xaGo 296)), (295, x0 (xaI 1 296)), (296, x1 (xaPutI 26 299)), (299, xR xrV)]
def xk_75 : List (List (Nat × XI)) := [xk_75_0, xk_75_1, xk_75_2, xk_75_3, xk_75_4, xk_75_5, xk_75_6, xk_75_7, xk_75_8, xk_75_9]
/-- WrongRoom$Reader see (I)I -/
def xm_X2_see : Nat := 76
def xk_76_0 : List (Nat × XI) := [(0, x0 (xaLdI 1 1)), (1, x0 (xaLdA 0 2)), (2, x1 (xaGetI 24 5)), (5, xB (xcGe 21 8)), (8, x0 (xaLdA 0 9)), (9, x1 (xaGetA 22 12)), (12, x0 (xaLdI 1 13)), (13, x1 (xaALdI 1 14)), (14, x0 (xaI 255 17)), (17, x0 (xaAnd 18)), (18, x0 (xaGo 22)), (21, x0 (xaI (-1) 22)), (22, xR xrI)]
def xk_76 : List (List (Nat × XI)) := [xk_76_0]
/-- WrongRoom$Reader isSmall (I)Z -/
def xm_X2_isSmall : Nat := 77
def xk_77_0 : List (Nat × XI) := [(0, x0 (xaLdI 0 1)), (1, x0 (xaI 97 3)), (3, x0 (xaI 122 5)), (5, xK (3, 8, [(none, 6)])), (8, xR xrZ)]
def xk_77 : List (List (Nat × XI)) := [xk_77_0]
/-- WrongRoom$Reader isDigit (I)Z -/
def xm_X2_isDigit : Nat := 78
def xk_78_0 : List (Nat × XI) := [(0, x0 (xaLdI 0 1)), (1, x0 (xaI 48 3)), (3, x0 (xaI 57 5)), (5, xK (3, 8, [(none, 6)])), (8, xR xrZ)]
def xk_78 : List (List (Nat × XI)) := [xk_78_0]
/-- WrongRoom$Reader line ()V -/
def xm_X2_line : Nat := 79
def xk_79_0 : List (Nat × XI) := [(0, x0 (xaLdA 0 1)), (1, x1 (xaGetI 26 4)), (4, x0 (xaI 2 5)), (5, xB (xcEq 14 8)), (8, x0 (xaLdA 0 9)), (9, x0 (xaI 1 10)), (10, xK (2, 13, [(some 1, 80)])), (13, xT), (14, x0 (xaLdA 0 15)), (15, x1 (xaGetA 29 18)), (18, x0 (xaStA 1 19)), (19, x0 (xaI (-1) 20)), (20, x0 (xaStI 2 21)), (21, x0 (xaLdA 1 22)), (22, xK (1, 25, [(some 16, 265)])), (25, x0 (xaSw [(-991716523, 170), (-891990013, 156), (3417674, 142), (3530173, 184), (3566226, 100), (99469088, 114), (104998682, 199), (113405357, 128)] 211))]
def xk_79_1 : List (Nat × XI) := []
def xk_79_2 : List (Nat × XI) := []
def xk_79_3 : List (Nat × XI) := [(100, x0 (xaLdA 1 101)), (101, x0 (xaCst 1 103)), (103, xK (2, 106, [(some 16, 267)])), (106, xB (xbEq 211 109)), (109, x0 (xaI 0 110)), (110, x0 (xaStI 2 111)), (111, x0 (xaGo 211)), (114, x0 (xaLdA 1 115)), (115, x0 (xaCst 2 117)), (117, xK (2, 120, [(some 16, 267)])), (120, xB (xbEq 211 123)), (123, x0 (xaI 1 124)), (124, x0 (xaStI 2 125)), (125, x0 (xaGo 211))]
def xk_79_4 : List (Nat × XI) := [(128, x0 (xaLdA 1 129)), (129, x0 (xaCst 3 131)), (131, xK (2, 134, [(some 16, 267)])), (134, xB (xbEq 211 137)), (137, x0 (xaI 2 138)), (138, x0 (xaStI 2 139)), (139, x0 (xaGo 211)), (142, x0 (xaLdA 1 143)), (143, x0 (xaCst 4 145)), (145, xK (2, 148, [(some 16, 267)])), (148, xB (xbEq 211 151)), (151, x0 (xaI 3 152)), (152, x0 (xaStI 2 153)), (153, x0 (xaGo 211)), (156, x0 (xaLdA 1 157)), (157, x0 (xaCst 5 159)), (159, xK (2, 162, [(some 16, 267)]))]
def xk_79_5 : List (Nat × XI) := [(162, xB (xbEq 211 165)), (165, x0 (xaI 4 166)), (166, x0 (xaStI 2 167)), (167, x0 (xaGo 211)), (170, x0 (xaLdA 1 171)), (171, x0 (xaCst 6 173)), (173, xK (2, 176, [(some 16, 267)])), (176, xB (xbEq 211 179)), (179, x0 (xaI 5 180)), (180, x0 (xaStI 2 181)), (181, x0 (xaGo 211)), (184, x0 (xaLdA 1 185)), (185, x0 (xaCst 7 187)), (187, xK (2, 190, [(some 16, 267)])), (190, xB (xbEq 211 193))]
def xk_79_6 : List (Nat × XI) := [(193, x0 (xaI 6 195)), (195, x0 (xaStI 2 196)), (196, x0 (xaGo 211)), (199, x0 (xaLdA 1 200)), (200, x0 (xaCst 8 202)), (202, xK (2, 205, [(some 16, 267)])), (205, xB (xbEq 211 208)), (208, x0 (xaI 7 210)), (210, x0 (xaStI 2 211)), (211, x0 (xaLdI 2 212)), (212, x0 (xaSw [(0, 260), (1, 267), (2, 274), (3, 281), (4, 288), (5, 295), (6, 302), (7, 309)] 316))]
def xk_79_7 : List (Nat × XI) := []
def xk_79_8 : List (Nat × XI) := [(260, x0 (xaLdA 0 261)), (261, xK (1, 264, [(some 1, 81)])), (264, x0 (xaGo 322)), (267, x0 (xaLdA 0 268)), (268, xK (1, 271, [(some 1, 86)])), (271, x0 (xaGo 322)), (274, x0 (xaLdA 0 275)), (275, xK (1, 278, [(some 1, 91)])), (278, x0 (xaGo 322)), (281, x0 (xaLdA 0 282)), (282, xK (1, 285, [(some 1, 93)])), (285, x0 (xaGo 322))]
def xk_79_9 : List (Nat × XI) := [(288, x0 (xaLdA 0 289)), (289, xK (1, 292, [(some 1, 94)])), (292, x0 (xaGo 322)), (295, x0 (xaLdA 0 296)), (296, xK (1, 299, [(some 1, 96)])), (299, x0 (xaGo 322)), (302, x0 (xaLdA 0 303)), (303, xK (1, 306, [(some 1, 97)])), (306, x0 (xaGo 322)), (309, x0 (xaLdA 0 310)), (310, xK (1, 313, [(some 1, 99)])), (313, x0 (xaGo 322)), (316, x0 (xaLdA 0 317)), (317, x0 (xaI 1 318)), (318, xK (2, 321, [(some 1, 80)]))]
def xk_79_10 : List (Nat × XI) := [(321, xT), (322, xR xrV)]
def xk_79 : List (List (Nat × XI)) := [xk_79_0, xk_79_1, xk_79_2, xk_79_3, xk_79_4, xk_79_5, xk_79_6, xk_79_7, xk_79_8, xk_79_9, xk_79_10]
/-- WrongRoom$Reader fail (I)LWrongRoom$Refused; -/
def xm_X2_fail : Nat := 80
def xk_80_0 : List (Nat × XI) := [(0, x0 (xaLdA 0 1)), (1, x1 (xaGetA 21 4)), (4, x0 (xaLdI 1 5)), (5, x0 (xaLdA 0 6)), (6, x1 (xaGetI 27 9)), (9, xK (3, 12, [(some 2, 104)])), (12, xR xrA)]
def xk_80 : List (List (Nat × XI)) := [xk_80_0]
/-- WrongRoom$Reader townLine ()V -/
def xm_X2_townLine : Nat := 81
def xk_81_0 : List (Nat × XI) := [(0, x0 (xaLdA 0 1)), (1, x1 (xaGetI 31 4)), (4, xB (xbEq 13 7)), (7, x0 (xaLdA 0 8)), (8, x0 (xaI 3 9)), (9, xK (2, 12, [(some 1, 80)])), (12, xT), (13, x0 (xaLdA 0 14)), (14, xK (1, 17, [(some 1, 75)])), (17, x0 (xaLdA 0 18)), (18, x1 (xaGetA 30 21)), (21, x0 (xaLdA 0 22)), (22, x0 (xaCst 9 24)), (24, x0 (xaI 1 25)), (25, x0 (xaI 9 27)), (27, xK (4, 30, [(some 1, 82)])), (30, x1 (xaPutI 109 33))]
def xk_81_1 : List (Nat × XI) := [(33, x0 (xaLdA 0 34)), (34, x1 (xaGetA 30 37)), (37, x0 (xaLdA 0 38)), (38, x0 (xaCst 10 40)), (40, x0 (xaI 0 41)), (41, x0 (xaI 9 43)), (43, xK (4, 46, [(some 1, 82)])), (46, x1 (xaPutI 110 49)), (49, x0 (xaLdA 0 50)), (50, x0 (xaI 1 51)), (51, x1 (xaPutZ 31 54)), (54, xR xrV)]
def xk_81 : List (List (Nat × XI)) := [xk_81_0, xk_81_1]
/-- WrongRoom$Reader after (Ljava/lang/String;II)I -/
def xm_X2_after : Nat := 82
def xk_82_0 : List (Nat × XI) := [(0, x0 (xaLdA 0 1)), (1, x0 (xaLdA 1 2)), (2, xK (2, 5, [(some 1, 83)])), (5, x0 (xaLdA 0 6)), (6, x0 (xaLdI 2 7)), (7, x0 (xaLdI 3 8)), (8, xK (3, 11, [(some 1, 85)])), (11, xR xrI)]
def xk_82 : List (List (Nat × XI)) := [xk_82_0]
/-- WrongRoom$Reader must (Ljava/lang/String;)V -/
def xm_X2_must : Nat := 83
def xk_83_0 : List (Nat × XI) := [(0, x0 (xaLdA 0 1)), (1, x0 (xaLdA 1 2)), (2, xK (2, 5, [(some 1, 84)])), (5, xB (xbNe 14 8)), (8, x0 (xaLdA 0 9)), (9, x0 (xaI 1 10)), (10, xK (2, 13, [(some 1, 80)])), (13, xT), (14, xR xrV)]
def xk_83 : List (List (Nat × XI)) := [xk_83_0]
/-- WrongRoom$Reader takes (Ljava/lang/String;)Z -/
def xm_X2_takes : Nat := 84
def xk_84_0 : List (Nat × XI) := [(0, x0 (xaLdA 0 1)), (1, x1 (xaGetI 26 4)), (4, x0 (xaI 2 5)), (5, xB (xcNe 19 8)), (8, x0 (xaLdA 0 9)), (9, x1 (xaGetA 29 12)), (12, x0 (xaLdA 1 13)), (13, xK (2, 16, [(some 16, 267)])), (16, xB (xbNe 21 19)), (19, x0 (xaI 0 20)), (20, xR xrZ), (21, x0 (xaLdA 0 22)), (22, xK (1, 25, [(some 1, 75)])), (25, x0 (xaI 1 26)), (26, xR xrZ)]
def xk_84 : List (List (Nat × XI)) := [xk_84_0]
/-- WrongRoom$Reader number (II)I -/
def xm_X2_number : Nat := 85
def xk_85_0 : List (Nat × XI) := [(0, x0 (xaLdA 0 1)), (1, x1 (xaGetI 26 4)), (4, x0 (xaI 3 5)), (5, xB (xcEq 14 8)), (8, x0 (xaLdA 0 9)), (9, x0 (xaI 1 10)), (10, xK (2, 13, [(some 1, 80)])), (13, xT), (14, x0 (xaLdA 0 15)), (15, x1 (xaGetI 28 18)), (18, x0 (xaLdI 1 19)), (19, x0 (xaLdI 2 20)), (20, xK (3, 23, [(none, 6)])), (23, xB (xbNe 32 26)), (26, x0 (xaLdA 0 27)), (27, x0 (xaI 4 28)), (28, xK (2, 31, [(some 1, 80)])), (31, xT)]
def xk_85_1 : List (Nat × XI) := [(32, x0 (xaLdA 0 33)), (33, x1 (xaGetI 28 36)), (36, x0 (xaStI 3 37)), (37, x0 (xaLdA 0 38)), (38, xK (1, 41, [(some 1, 75)])), (41, x0 (xaLdI 3 42)), (42, xR xrI)]
def xk_85 : List (List (Nat × XI)) := [xk_85_0, xk_85_1]
/-- WrongRoom$Reader houseLine ()V -/
def xm_X2_houseLine : Nat := 86
def xk_86_0 : List (Nat × XI) := [(0, x0 (xaLdA 0 1)), (1, x0 (xaLdA 0 2)), (2, x1 (xaGetA 30 5)), (5, x1 (xaGetI 111 8)), (8, x0 (xaI 7 10)), (10, xB (xcGe 17 13)), (13, x0 (xaI 1 14)), (14, x0 (xaGo 18)), (17, x0 (xaI 0 18)), (18, xK (2, 21, [(some 1, 87)])), (21, x0 (xaNewO 11 11 24)), (24, x0 (xaDup 25)), (25, x0 (xaLdA 0 26)), (26, xK (1, 29, [(some 1, 88)])), (29, x0 (xaLdA 0 30)), (30, x1 (xaGetA 30 33))]
def xk_86_1 : List (Nat × XI) := [(33, x1 (xaGetI 111 36)), (36, xK (3, 39, [(some 11, 283)])), (39, x0 (xaStA 1 40)), (40, x0 (xaLdA 1 41)), (41, x0 (xaLdA 0 42)), (42, x0 (xaCst 11 44)), (44, x0 (xaI 1 45)), (45, x0 (xaI 9 47)), (47, xK (4, 50, [(some 1, 82)])), (50, x1 (xaPutI 120 53)), (53, x0 (xaLdA 1 54)), (54, x0 (xaLdA 0 55)), (55, x0 (xaCst 12 57)), (57, x0 (xaI 1 58)), (58, x0 (xaI 99 60)), (60, xK (4, 63, [(some 1, 82)])), (63, x1 (xaPutI 121 66))]
def xk_86_2 : List (Nat × XI) := [(66, x0 (xaLdA 1 67)), (67, x0 (xaLdA 0 68)), (68, x0 (xaCst 13 70)), (70, x0 (xaI 0 71)), (71, x0 (xaI 999 74)), (74, xK (4, 77, [(some 1, 82)])), (77, x1 (xaPutI 122 80)), (80, x0 (xaLdA 0 81)), (81, x0 (xaCst 14 83)), (83, xK (2, 86, [(some 1, 83)])), (86, x0 (xaLdA 1 87)), (87, x0 (xaLdA 0 88)), (88, xK (1, 91, [(some 1, 90)])), (91, x1 (xaPutA 119 94)), (94, x0 (xaLdA 0 95)), (95, x1 (xaGetA 30 98))]
def xk_86_3 : List (Nat × XI) := [(98, x1 (xaGetA 105 101)), (101, x0 (xaLdA 0 102)), (102, x1 (xaGetA 30 105)), (105, x1 (xaGetI 111 108)), (108, x0 (xaLdA 1 109)), (109, x1 (xaAStA 110)), (110, x0 (xaLdA 0 111)), (111, x1 (xaGetA 30 114)), (114, x0 (xaDup 115)), (115, x1 (xaGetI 111 118)), (118, x0 (xaI 1 119)), (119, x1 (xaAdd 120)), (120, x1 (xaPutI 111 123)), (123, xR xrV)]
def xk_86 : List (List (Nat × XI)) := [xk_86_0, xk_86_1, xk_86_2, xk_86_3]
/-- WrongRoom$Reader begins (Z)V -/
def xm_X2_begins : Nat := 87
def xk_87_0 : List (Nat × XI) := [(0, x0 (xaLdI 1 1)), (1, xB (xbNe 10 4)), (4, x0 (xaLdA 0 5)), (5, x0 (xaI 5 6)), (6, xK (2, 9, [(some 1, 80)])), (9, xT), (10, x0 (xaLdA 0 11)), (11, x1 (xaGetI 31 14)), (14, xB (xbNe 24 17)), (17, x0 (xaLdA 0 18)), (18, x0 (xaI 6 20)), (20, xK (2, 23, [(some 1, 80)])), (23, xT), (24, x0 (xaLdA 0 25)), (25, xK (1, 28, [(some 1, 75)])), (28, xR xrV)]
def xk_87 : List (List (Nat × XI)) := [xk_87_0]
/-- WrongRoom$Reader newName ()Ljava/lang/String; -/
def xm_X2_newName : Nat := 88
def xk_88_0 : List (Nat × XI) := [(0, x0 (xaLdA 0 1)), (1, xK (1, 4, [(some 1, 89)])), (4, x0 (xaLdA 0 5)), (5, x1 (xaGetA 30 8)), (8, x0 (xaLdA 0 9)), (9, x1 (xaGetA 29 12)), (12, xK (2, 15, [(some 10, 257)])), (15, xB (xbNull 24 18)), (18, x0 (xaLdA 0 19)), (19, x0 (xaI 3 20)), (20, xK (2, 23, [(some 1, 80)])), (23, xT), (24, x0 (xaLdA 0 25)), (25, x1 (xaGetA 29 28)), (28, x0 (xaStA 1 29)), (29, x0 (xaLdA 0 30)), (30, xK (1, 33, [(some 1, 75)]))]
def xk_88_1 : List (Nat × XI) := [(33, x0 (xaLdA 1 34)), (34, xR xrA)]
def xk_88 : List (List (Nat × XI)) := [xk_88_0, xk_88_1]
/-- WrongRoom$Reader mustName ()V -/
def xm_X2_mustName : Nat := 89
def xk_89_0 : List (Nat × XI) := [(0, x0 (xaLdA 0 1)), (1, x1 (xaGetI 26 4)), (4, x0 (xaI 2 5)), (5, xB (xcEq 14 8)), (8, x0 (xaLdA 0 9)), (9, x0 (xaI 1 10)), (10, xK (2, 13, [(some 1, 80)])), (13, xT), (14, x0 (xaLdA 0 15)), (15, x1 (xaGetA 29 18)), (18, x0 (xaStA 1 19)), (19, x0 (xaI (-1) 20)), (20, x0 (xaStI 2 21)), (21, x0 (xaLdA 1 22)), (22, xK (1, 25, [(some 16, 265)])), (25, x0 (xaSw [(-991716523, 170), (-891990013, 156), (3417674, 142), (3530173, 184), (3566226, 100), (99469088, 114), (104998682, 199), (113405357, 128)] 211))]
def xk_89_1 : List (Nat × XI) := []
def xk_89_2 : List (Nat × XI) := []
def xk_89_3 : List (Nat × XI) := [(100, x0 (xaLdA 1 101)), (101, x0 (xaCst 1 103)), (103, xK (2, 106, [(some 16, 267)])), (106, xB (xbEq 211 109)), (109, x0 (xaI 0 110)), (110, x0 (xaStI 2 111)), (111, x0 (xaGo 211)), (114, x0 (xaLdA 1 115)), (115, x0 (xaCst 2 117)), (117, xK (2, 120, [(some 16, 267)])), (120, xB (xbEq 211 123)), (123, x0 (xaI 1 124)), (124, x0 (xaStI 2 125)), (125, x0 (xaGo 211))]
def xk_89_4 : List (Nat × XI) := [(128, x0 (xaLdA 1 129)), (129, x0 (xaCst 3 131)), (131, xK (2, 134, [(some 16, 267)])), (134, xB (xbEq 211 137)), (137, x0 (xaI 2 138)), (138, x0 (xaStI 2 139)), (139, x0 (xaGo 211)), (142, x0 (xaLdA 1 143)), (143, x0 (xaCst 4 145)), (145, xK (2, 148, [(some 16, 267)])), (148, xB (xbEq 211 151)), (151, x0 (xaI 3 152)), (152, x0 (xaStI 2 153)), (153, x0 (xaGo 211)), (156, x0 (xaLdA 1 157)), (157, x0 (xaCst 5 159)), (159, xK (2, 162, [(some 16, 267)]))]
def xk_89_5 : List (Nat × XI) := [(162, xB (xbEq 211 165)), (165, x0 (xaI 4 166)), (166, x0 (xaStI 2 167)), (167, x0 (xaGo 211)), (170, x0 (xaLdA 1 171)), (171, x0 (xaCst 6 173)), (173, xK (2, 176, [(some 16, 267)])), (176, xB (xbEq 211 179)), (179, x0 (xaI 5 180)), (180, x0 (xaStI 2 181)), (181, x0 (xaGo 211)), (184, x0 (xaLdA 1 185)), (185, x0 (xaCst 7 187)), (187, xK (2, 190, [(some 16, 267)])), (190, xB (xbEq 211 193))]
def xk_89_6 : List (Nat × XI) := [(193, x0 (xaI 6 195)), (195, x0 (xaStI 2 196)), (196, x0 (xaGo 211)), (199, x0 (xaLdA 1 200)), (200, x0 (xaCst 8 202)), (202, xK (2, 205, [(some 16, 267)])), (205, xB (xbEq 211 208)), (208, x0 (xaI 7 210)), (210, x0 (xaStI 2 211)), (211, x0 (xaLdI 2 212)), (212, x0 (xaSw [(0, 260), (1, 260), (2, 260), (3, 260), (4, 260), (5, 260), (6, 260), (7, 260)] 266))]
def xk_89_7 : List (Nat × XI) := []
def xk_89_8 : List (Nat × XI) := [(260, x0 (xaLdA 0 261)), (261, x0 (xaI 1 262)), (262, xK (2, 265, [(some 1, 80)])), (265, xT), (266, xR xrV)]
def xk_89 : List (List (Nat × XI)) := [xk_89_0, xk_89_1, xk_89_2, xk_89_3, xk_89_4, xk_89_5, xk_89_6, xk_89_7, xk_89_8]
/-- WrongRoom$Reader anyWord ()Ljava/lang/String; -/
def xm_X2_anyWord : Nat := 90
def xk_90_0 : List (Nat × XI) := [(0, x0 (xaLdA 0 1)), (1, x1 (xaGetI 26 4)), (4, x0 (xaI 2 5)), (5, xB (xcEq 14 8)), (8, x0 (xaLdA 0 9)), (9, x0 (xaI 1 10)), (10, xK (2, 13, [(some 1, 80)])), (13, xT), (14, x0 (xaLdA 0 15)), (15, x1 (xaGetA 29 18)), (18, x0 (xaStA 1 19)), (19, x0 (xaLdA 0 20)), (20, xK (1, 23, [(some 1, 75)])), (23, x0 (xaLdA 1 24)), (24, xR xrA)]
def xk_90 : List (List (Nat × XI)) := [xk_90_0]
/-- WrongRoom$Reader wrongLine ()V -/
def xm_X2_wrongLine : Nat := 91
def xk_91_0 : List (Nat × XI) := [(0, x0 (xaLdA 0 1)), (1, x0 (xaI 1 2)), (2, xK (2, 5, [(some 1, 87)])), (5, x0 (xaLdA 0 6)), (6, xK (1, 9, [(some 1, 92)])), (9, x0 (xaStA 1 10)), (10, x0 (xaLdA 1 11)), (11, x1 (xaGetI 125 14)), (14, x0 (xaI (-2) 16)), (16, xB (xcEq 25 19)), (19, x0 (xaLdA 0 20)), (20, x0 (xaI 3 21)), (21, xK (2, 24, [(some 1, 80)])), (24, xT), (25, x0 (xaLdA 0 26)), (26, xK (1, 29, [(some 1, 75)])), (29, x0 (xaLdA 0 30)), (30, x0 (xaCst 15 32))]
def xk_91_1 : List (Nat × XI) := [(32, xK (2, 35, [(some 1, 83)])), (35, x0 (xaLdA 0 36)), (36, xK (1, 39, [(some 1, 92)])), (39, x0 (xaStA 2 40)), (40, x0 (xaLdA 2 41)), (41, x0 (xaLdA 1 42)), (42, xB (xaEq 52 45)), (45, x0 (xaLdA 2 46)), (46, x1 (xaGetI 127 49)), (49, xB (xbEq 58 52)), (52, x0 (xaLdA 0 53)), (53, x0 (xaI 3 54)), (54, xK (2, 57, [(some 1, 80)])), (57, xT), (58, x0 (xaLdA 0 59)), (59, xK (1, 62, [(some 1, 75)])), (62, x0 (xaLdA 1 63)), (63, x0 (xaLdA 2 64))]
def xk_91_2 : List (Nat × XI) := [(64, x1 (xaGetI 118 67)), (67, x1 (xaPutI 125 70)), (70, x0 (xaLdA 2 71)), (71, x0 (xaI 1 72)), (72, x1 (xaPutZ 127 75)), (75, xR xrV)]
def xk_91 : List (List (Nat × XI)) := [xk_91_0, xk_91_1, xk_91_2]
/-- WrongRoom$Reader houseHere ()LWrongRoom$House; -/
def xm_X2_houseHere : Nat := 92
def xk_92_0 : List (Nat × XI) := [(0, x0 (xaLdA 0 1)), (1, xK (1, 4, [(some 1, 89)])), (4, x0 (xaLdA 0 5)), (5, x1 (xaGetA 30 8)), (8, x0 (xaLdA 0 9)), (9, x1 (xaGetA 29 12)), (12, xK (2, 15, [(some 10, 257)])), (15, x0 (xaStA 1 16)), (16, x0 (xaLdA 1 17)), (17, x1 (xaInst [11] [12] 20)), (20, xB (xbNe 29 23)), (23, x0 (xaLdA 0 24)), (24, x0 (xaI 2 25)), (25, xK (2, 28, [(some 1, 80)])), (28, xT), (29, x0 (xaLdA 1 30)), (30, x1 (xaCast [11] 33))]
def xk_92_1 : List (Nat × XI) := [(33, xR xrA)]
def xk_92 : List (List (Nat × XI)) := [xk_92_0, xk_92_1]
/-- WrongRoom$Reader openLine ()V -/
def xm_X2_openLine : Nat := 93
def xk_93_0 : List (Nat × XI) := [(0, x0 (xaLdA 0 1)), (1, x0 (xaI 1 2)), (2, xK (2, 5, [(some 1, 87)])), (5, x0 (xaLdA 0 6)), (6, xK (1, 9, [(some 1, 92)])), (9, x0 (xaStA 1 10)), (10, x0 (xaLdA 1 11)), (11, x1 (xaGetI 126 14)), (14, xB (xbEq 23 17)), (17, x0 (xaLdA 0 18)), (18, x0 (xaI 3 19)), (19, xK (2, 22, [(some 1, 80)])), (22, xT), (23, x0 (xaLdA 0 24)), (24, xK (1, 27, [(some 1, 75)])), (27, x0 (xaLdA 1 28)), (28, x0 (xaLdA 0 29)), (29, x0 (xaCst 16 31)), (31, x0 (xaI 0 32))]
def xk_93_1 : List (Nat × XI) := [(32, x0 (xaI 23 34)), (34, xK (4, 37, [(some 1, 82)])), (37, x1 (xaPutI 123 40)), (40, x0 (xaLdA 1 41)), (41, x0 (xaLdA 0 42)), (42, x0 (xaCst 17 44)), (44, x0 (xaLdA 1 45)), (45, x1 (xaGetI 123 48)), (48, x0 (xaI 23 50)), (50, xK (4, 53, [(some 1, 82)])), (53, x1 (xaPutI 124 56)), (56, x0 (xaLdA 1 57)), (57, x0 (xaI 1 58)), (58, x1 (xaPutZ 126 61)), (61, x0 (xaLdA 0 62)), (62, x1 (xaGetA 30 65))]
def xk_93_2 : List (Nat × XI) := [(65, x0 (xaDup 66)), (66, x1 (xaGetI 112 69)), (69, x0 (xaI 1 70)), (70, x1 (xaAdd 71)), (71, x1 (xaPutI 112 74)), (74, xR xrV)]
def xk_93 : List (List (Nat × XI)) := [xk_93_0, xk_93_1, xk_93_2]
/-- WrongRoom$Reader streetLine ()V -/
def xm_X2_streetLine : Nat := 94
def xk_94_0 : List (Nat × XI) := [(0, x0 (xaLdA 0 1)), (1, x0 (xaLdA 0 2)), (2, x1 (xaGetA 30 5)), (5, x1 (xaGetI 113 8)), (8, x0 (xaI 10 10)), (10, xB (xcGe 17 13)), (13, x0 (xaI 1 14)), (14, x0 (xaGo 18)), (17, x0 (xaI 0 18)), (18, xK (2, 21, [(some 1, 87)])), (21, x0 (xaLdA 0 22)), (22, xK (1, 25, [(some 1, 95)])), (25, x0 (xaStA 1 26)), (26, x0 (xaLdA 0 27)), (27, xK (1, 30, [(some 1, 92)])), (30, x0 (xaStA 2 31)), (31, x0 (xaLdA 1 32))]
def xk_94_1 : List (Nat × XI) := [(32, x0 (xaLdA 2 33)), (33, xB (xaEq 54 36)), (36, x0 (xaLdA 0 37)), (37, x1 (xaGetA 30 40)), (40, x0 (xaLdA 1 41)), (41, x1 (xaGetI 118 44)), (44, x0 (xaLdA 2 45)), (45, x1 (xaGetI 118 48)), (48, xK (3, 51, [(some 10, 258)])), (51, xB (xbLe 60 54)), (54, x0 (xaLdA 0 55)), (55, x0 (xaI 3 56)), (56, xK (2, 59, [(some 1, 80)])), (59, xT), (60, x0 (xaLdA 0 61)), (61, xK (1, 64, [(some 1, 75)]))]
def xk_94_2 : List (Nat × XI) := [(64, x0 (xaLdA 0 65)), (65, x0 (xaCst 18 67)), (67, x0 (xaI 1 68)), (68, x0 (xaI 99 70)), (70, xK (4, 73, [(some 1, 82)])), (73, x0 (xaStI 3 74)), (74, x0 (xaLdA 0 75)), (75, x1 (xaGetA 30 78)), (78, x1 (xaGetA 108 81)), (81, x0 (xaI 7 83)), (83, x0 (xaLdA 1 84)), (84, x1 (xaGetI 118 87)), (87, x1 (xaMul 88)), (88, x0 (xaLdA 2 89)), (89, x1 (xaGetI 118 92)), (92, x1 (xaAdd 93)), (93, x0 (xaLdI 3 94)), (94, x1 (xaAStI 95)), (95, x0 (xaLdA 0 96))]
def xk_94_3 : List (Nat × XI) := [(96, x1 (xaGetA 30 99)), (99, x1 (xaGetA 108 102)), (102, x0 (xaI 7 104)), (104, x0 (xaLdA 2 105)), (105, x1 (xaGetI 118 108)), (108, x1 (xaMul 109)), (109, x0 (xaLdA 1 110)), (110, x1 (xaGetI 118 113)), (113, x1 (xaAdd 114)), (114, x0 (xaLdI 3 115)), (115, x1 (xaAStI 116)), (116, x0 (xaLdA 0 117)), (117, x1 (xaGetA 30 120)), (120, x0 (xaDup 121)), (121, x1 (xaGetI 113 124)), (124, x0 (xaI 1 125)), (125, x1 (xaAdd 126)), (126, x1 (xaPutI 113 129))]
def xk_94_4 : List (Nat × XI) := [(129, xR xrV)]
def xk_94 : List (List (Nat × XI)) := [xk_94_0, xk_94_1, xk_94_2, xk_94_3, xk_94_4]
/-- WrongRoom$Reader house ()LWrongRoom$House; -/
def xm_X2_house : Nat := 95
def xk_95_0 : List (Nat × XI) := [(0, x0 (xaLdA 0 1)), (1, xK (1, 4, [(some 1, 92)])), (4, x0 (xaStA 1 5)), (5, x0 (xaLdA 0 6)), (6, xK (1, 9, [(some 1, 75)])), (9, x0 (xaLdA 1 10)), (10, xR xrA)]
def xk_95 : List (List (Nat × XI)) := [xk_95_0]
/-- WrongRoom$Reader personLine ()V -/
def xm_X2_personLine : Nat := 96
def xk_96_0 : List (Nat × XI) := [(0, x0 (xaLdA 0 1)), (1, x0 (xaLdA 0 2)), (2, x1 (xaGetA 30 5)), (5, x1 (xaGetI 114 8)), (8, x0 (xaI 4 9)), (9, xB (xcGe 16 12)), (12, x0 (xaI 1 13)), (13, x0 (xaGo 17)), (16, x0 (xaI 0 17)), (17, xK (2, 20, [(some 1, 87)])), (20, x0 (xaNewO 12 4 23)), (23, x0 (xaDup 24)), (24, x0 (xaLdA 0 25)), (25, xK (1, 28, [(some 1, 88)])), (28, x0 (xaLdA 0 29)), (29, x1 (xaGetA 30 32))]
def xk_96_1 : List (Nat × XI) := [(32, x1 (xaGetI 114 35)), (35, xK (3, 38, [(some 12, 285)])), (38, x0 (xaStA 1 39)), (39, x0 (xaLdA 0 40)), (40, x0 (xaCst 19 42)), (42, xK (2, 45, [(some 1, 83)])), (45, x0 (xaLdA 1 46)), (46, x0 (xaLdA 0 47)), (47, xK (1, 50, [(some 1, 95)])), (50, x1 (xaGetI 118 53)), (53, x1 (xaPutI 128 56)), (56, x0 (xaLdA 0 57)), (57, x0 (xaCst 20 60)), (60, xK (2, 63, [(some 1, 83)])), (63, x0 (xaLdA 1 64))]
def xk_96_2 : List (Nat × XI) := [(64, x0 (xaLdA 0 65)), (65, xK (1, 68, [(some 1, 95)])), (68, x1 (xaGetI 118 71)), (71, x1 (xaPutI 129 74)), (74, x0 (xaLdA 0 75)), (75, x1 (xaGetA 30 78)), (78, x1 (xaGetA 106 81)), (81, x0 (xaLdA 0 82)), (82, x1 (xaGetA 30 85)), (85, x1 (xaGetI 114 88)), (88, x0 (xaLdA 1 89)), (89, x1 (xaAStA 90)), (90, x0 (xaLdA 0 91)), (91, x1 (xaGetA 30 94)), (94, x0 (xaDup 95)), (95, x1 (xaGetI 114 98))]
def xk_96_3 : List (Nat × XI) := [(98, x0 (xaI 1 99)), (99, x1 (xaAdd 100)), (100, x1 (xaPutI 114 103)), (103, xR xrV)]
def xk_96 : List (List (Nat × XI)) := [xk_96_0, xk_96_1, xk_96_2, xk_96_3]
/-- WrongRoom$Reader signLine ()V -/
def xm_X2_signLine : Nat := 97
def xk_97_0 : List (Nat × XI) := [(0, x0 (xaLdA 0 1)), (1, x0 (xaLdA 0 2)), (2, x1 (xaGetA 30 5)), (5, x1 (xaGetI 115 8)), (8, x0 (xaI 8 10)), (10, xB (xcGe 17 13)), (13, x0 (xaI 1 14)), (14, x0 (xaGo 18)), (17, x0 (xaI 0 18)), (18, xK (2, 21, [(some 1, 87)])), (21, x0 (xaLdA 0 22)), (22, xK (1, 25, [(some 1, 95)])), (25, x1 (xaGetI 118 28)), (28, x0 (xaStI 1 29)), (29, x0 (xaLdA 0 30)), (30, x0 (xaNewO 13 2 33))]
def xk_97_1 : List (Nat × XI) := [(33, x0 (xaDup 34)), (34, x0 (xaLdI 1 35)), (35, x0 (xaLdA 0 36)), (36, xK (1, 39, [(some 1, 90)])), (39, xK (3, 42, [(some 13, 287)])), (42, xK (2, 45, [(some 1, 98)])), (45, x0 (xaLdA 0 46)), (46, x1 (xaGetA 30 49)), (49, x0 (xaDup 50)), (50, x1 (xaGetI 115 53)), (53, x0 (xaI 1 54)), (54, x1 (xaAdd 55)), (55, x1 (xaPutI 115 58)), (58, xR xrV)]
def xk_97 : List (List (Nat × XI)) := [xk_97_0, xk_97_1]
/-- WrongRoom$Reader note (LWrongRoom$Notice;)V -/
def xm_X2_note : Nat := 98
def xk_98_0 : List (Nat × XI) := [(0, x0 (xaLdA 0 1)), (1, x1 (xaGetA 30 4)), (4, x1 (xaGetA 107 7)), (7, x0 (xaLdA 0 8)), (8, x1 (xaGetA 30 11)), (11, xK (1, 14, [(some 10, 259)])), (14, x0 (xaLdA 1 15)), (15, x1 (xaAStA 16)), (16, xR xrV)]
def xk_98 : List (List (Nat × XI)) := [xk_98_0]
/-- WrongRoom$Reader noiseLine ()V -/
def xm_X2_noiseLine : Nat := 99
def xk_99_0 : List (Nat × XI) := [(0, x0 (xaLdA 0 1)), (1, x0 (xaLdA 0 2)), (2, x1 (xaGetA 30 5)), (5, x1 (xaGetI 116 8)), (8, x0 (xaI 4 9)), (9, xB (xcGe 16 12)), (12, x0 (xaI 1 13)), (13, x0 (xaGo 17)), (16, x0 (xaI 0 17)), (17, xK (2, 20, [(some 1, 87)])), (20, x0 (xaLdA 0 21)), (21, xK (1, 24, [(some 1, 95)])), (24, x1 (xaGetI 118 27)), (27, x0 (xaStI 1 28)), (28, x0 (xaLdA 0 29)), (29, x0 (xaNewO 14 2 32))]
def xk_99_1 : List (Nat × XI) := [(32, x0 (xaDup 33)), (33, x0 (xaLdI 1 34)), (34, x0 (xaLdA 0 35)), (35, x0 (xaI 1 36)), (36, x0 (xaI 9 38)), (38, xK (3, 41, [(some 1, 85)])), (41, xK (3, 44, [(some 14, 289)])), (44, xK (2, 47, [(some 1, 98)])), (47, x0 (xaLdA 0 48)), (48, x1 (xaGetA 30 51)), (51, x0 (xaDup 52)), (52, x1 (xaGetI 116 55)), (55, x0 (xaI 1 56)), (56, x1 (xaAdd 57)), (57, x1 (xaPutI 116 60)), (60, xR xrV)]
def xk_99 : List (List (Nat × XI)) := [xk_99_0, xk_99_1]
/-- java/lang/Throwable <init> (Ljava/lang/String;Ljava/lang/Throwable;ZZ)V -/
def xm_J0_init_2 : Nat := 100
def xk_100_0 : List (Nat × XI) := [(0, x0 (xaLdA 0 1)), (1, x1 (xaObj 4)), (4, x0 (xaLdA 0 5)), (5, x0 (xaLdA 0 6)), (6, x1 (xaPutA 32 9)), (9, x0 (xaLdA 0 10)), (10, x0 (xaCst 50 13)), (13, x1 (xaPutA 33 16)), (16, x0 (xaLdA 0 17)), (17, x0 (xaCst 51 20)), (20, x1 (xaPutA 34 23)), (23, x0 (xaLdI 4 25)), (25, xB (xbEq 36 28)), (28, x0 (xaLdA 0 29))]
def xk_100_1 : List (Nat × XI) := [(32, x0 (xaPop 33)), (33, x0 (xaGo 41)), (36, x0 (xaLdA 0 37)), (37, x0 (xaNull 38)), (38, x1 (xaPutA 33 41)), (41, x0 (xaLdA 0 42)), (42, x0 (xaLdA 1 43)), (43, x1 (xaPutA 35 46)), (46, x0 (xaLdA 0 47)), (47, x0 (xaLdA 2 48)), (48, x1 (xaPutA 32 51)), (51, x0 (xaLdI 3 52)), (52, xB (xbNe 60 55)), (55, x0 (xaLdA 0 56)), (56, x0 (xaNull 57)), (57, x1 (xaPutA 34 60)), (60, xR xrV)]
def xk_100 : List (List (Nat × XI)) := [xk_100_0, xk_100_1]
/-- java/lang/Exception <init> (Ljava/lang/String;Ljava/lang/Throwable;ZZ)V -/
def xm_J1_init : Nat := 101
def xk_101_0 : List (Nat × XI) := [(0, x0 (xaLdA 0 1)), (1, x0 (xaLdA 1 2)), (2, x0 (xaLdA 2 3)), (3, x0 (xaLdI 3 4)), (4, x0 (xaLdI 4 6)), (6, xK (5, 9, [(some 2, 100)])), (9, xR xrV)]
def xk_101 : List (List (Nat × XI)) := [xk_101_0]
/-- java/lang/RuntimeException <init> (Ljava/lang/String;Ljava/lang/Throwable;ZZ)V -/
def xm_J2_init : Nat := 102
def xk_102_0 : List (Nat × XI) := [(0, x0 (xaLdA 0 1)), (1, x0 (xaLdA 1 2)), (2, x0 (xaLdA 2 3)), (3, x0 (xaLdI 3 4)), (4, x0 (xaLdI 4 6)), (6, xK (5, 9, [(some 2, 101)])), (9, xR xrV)]
def xk_102 : List (List (Nat × XI)) := [xk_102_0]
/-- WrongRoom$Refused <init> ()V -/
def xm_X3_init : Nat := 103
def xk_103_0 : List (Nat × XI) := [(0, x0 (xaLdA 0 1)), (1, x0 (xaNull 2)), (2, x0 (xaNull 3)), (3, x0 (xaI 0 4)), (4, x0 (xaI 0 5)), (5, xK (5, 8, [(some 2, 102)])), (8, x0 (xaLdA 0 9)), (9, x0 (xaI (-1) 10)), (10, x1 (xaPutI 39 13)), (13, xR xrV)]
def xk_103 : List (List (Nat × XI)) := [xk_103_0]
/-- WrongRoom$Refused at (II)LWrongRoom$Refused; -/
def xm_X3_at : Nat := 104
def xk_104_0 : List (Nat × XI) := [(0, x0 (xaLdA 0 1)), (1, x0 (xaLdI 1 2)), (2, x1 (xaPutI 38 5)), (5, x0 (xaLdA 0 6)), (6, x0 (xaLdI 2 7)), (7, x1 (xaPutI 39 10)), (10, x0 (xaLdA 0 11)), (11, xR xrA)]
def xk_104 : List (List (Nat × XI)) := [xk_104_0]
/-- WrongRoom$Rooms <init> ()V -/
def xm_X4_init : Nat := 105
def xk_105_0 : List (Nat × XI) := [(0, x0 (xaLdA 0 1)), (1, x1 (xaObj 4)), (4, x0 (xaLdA 0 5)), (5, x0 (xaI 7 7)), (7, x1 (xaNewA 0 9)), (9, x1 (xaPutA 40 12)), (12, x0 (xaLdA 0 13)), (13, x0 (xaI 4 14)), (14, x1 (xaNewA 0 16)), (16, x1 (xaPutA 41 19)), (19, x0 (xaLdA 0 20)), (20, x0 (xaI 4 21)), (21, x1 (xaNewA 0 23)), (23, x1 (xaPutA 42 26)), (26, xR xrV)]
def xk_105 : List (List (Nat × XI)) := [xk_105_0]
/-- WrongRoom$Rooms begin (LWrongRoom$Town;)V -/
def xm_X4_begin : Nat := 106
def xk_106_0 : List (Nat × XI) := [(0, x0 (xaLdA 0 1)), (1, x0 (xaLdA 1 2)), (2, x1 (xaPutA 43 5)), (5, x0 (xaLdA 0 6)), (6, x0 (xaI 0 7)), (7, x1 (xaPutI 44 10)), (10, x0 (xaI 0 11)), (11, x0 (xaStI 2 12)), (12, x0 (xaLdI 2 13)), (13, x0 (xaLdA 1 14)), (14, x1 (xaGetI 111 17)), (17, xB (xcGe 41 20)), (20, x0 (xaLdA 0 21)), (21, x1 (xaGetA 40 24)), (24, x0 (xaLdI 2 25)), (25, x0 (xaLdA 1 26)), (26, x1 (xaGetA 105 29)), (29, x0 (xaLdI 2 30)), (30, x1 (xaALdA 31)), (31, x1 (xaGetI 125 34))]
def xk_106_1 : List (Nat × XI) := [(34, x1 (xaAStI 35)), (35, x1 (xaInc 2 1 38)), (38, x0 (xaGo 12)), (41, x0 (xaI 0 42)), (42, x0 (xaStI 2 43)), (43, x0 (xaLdI 2 44)), (44, x0 (xaLdA 1 45)), (45, x1 (xaGetI 114 48)), (48, xB (xcGe 79 51)), (51, x0 (xaLdA 0 52)), (52, x1 (xaGetA 41 55)), (55, x0 (xaLdI 2 56)), (56, x0 (xaLdA 1 57)), (57, x1 (xaGetA 106 60)), (60, x0 (xaLdI 2 61)), (61, x1 (xaALdA 62)), (62, x1 (xaGetI 129 65))]
def xk_106_2 : List (Nat × XI) := [(65, x1 (xaAStI 66)), (66, x0 (xaLdA 0 67)), (67, x1 (xaGetA 42 70)), (70, x0 (xaLdI 2 71)), (71, x0 (xaI 0 72)), (72, x1 (xaAStI 73)), (73, x1 (xaInc 2 1 76)), (76, x0 (xaGo 43)), (79, xR xrV)]
def xk_106 : List (List (Nat × XI)) := [xk_106_0, xk_106_1, xk_106_2]
/-- WrongRoom$Rooms lender (I)I -/
def xm_X4_lender : Nat := 107
def xk_107_0 : List (Nat × XI) := [(0, x0 (xaI 0 1)), (1, x0 (xaStI 2 2)), (2, x0 (xaLdI 2 3)), (3, x0 (xaLdA 0 4)), (4, x1 (xaGetA 43 7)), (7, x1 (xaGetI 111 10)), (10, xB (xcGe 31 13)), (13, x0 (xaLdA 0 14)), (14, x1 (xaGetA 40 17)), (17, x0 (xaLdI 2 18)), (18, x1 (xaALdI 0 19)), (19, x0 (xaLdI 1 20)), (20, xB (xcNe 25 23)), (23, x0 (xaLdI 2 24)), (24, xR xrI), (25, x1 (xaInc 2 1 28)), (28, x0 (xaGo 2)), (31, x0 (xaI (-2) 33))]
def xk_107_1 : List (Nat × XI) := [(33, xR xrI)]
def xk_107 : List (List (Nat × XI)) := [xk_107_0, xk_107_1]
/-- WrongRoom$Rooms isOpen (II)Z -/
def xm_X4_isOpen : Nat := 108
def xk_108_0 : List (Nat × XI) := [(0, x0 (xaLdA 0 1)), (1, x1 (xaGetA 40 4)), (4, x0 (xaLdI 1 5)), (5, x1 (xaALdI 0 6)), (6, x0 (xaI (-2) 8)), (8, xB (xcEq 42 11)), (11, x0 (xaLdA 0 12)), (12, x1 (xaGetI 44 15)), (15, x0 (xaLdI 1 16)), (16, xK (2, 19, [(none, 12)])), (19, xB (xbNe 42 22)), (22, x0 (xaLdA 0 23)), (23, x1 (xaGetA 43 26)), (26, x1 (xaGetA 105 29)), (29, x0 (xaLdI 1 30)), (30, x1 (xaALdA 31)), (31, x0 (xaLdI 2 32))]
def xk_108_1 : List (Nat × XI) := [(32, xK (2, 35, [(some 11, 284)])), (35, xB (xbEq 42 38)), (38, x0 (xaI 1 39)), (39, x0 (xaGo 43)), (42, x0 (xaI 0 43)), (43, xR xrZ)]
def xk_108 : List (List (Nat × XI)) := [xk_108_0, xk_108_1]
/-- WrongRoom$Rooms mutual ()I -/
def xm_X4_mutual : Nat := 109
def xk_109_0 : List (Nat × XI) := [(0, x0 (xaI 0 1)), (1, x0 (xaStI 1 2)), (2, x0 (xaI 0 3)), (3, x0 (xaStI 2 4)), (4, x0 (xaLdI 2 5)), (5, x0 (xaLdA 0 6)), (6, x1 (xaGetA 43 9)), (9, x1 (xaGetI 111 12)), (12, xB (xcGe 39 15)), (15, x0 (xaLdI 1 16)), (16, x0 (xaLdA 0 17)), (17, x0 (xaLdI 2 18)), (18, xK (2, 21, [(some 3, 110)])), (21, xB (xbEq 30 24)), (24, x0 (xaI 1 25)), (25, x0 (xaLdI 2 26)), (26, x1 (xaShl 27)), (27, x0 (xaGo 31)), (30, x0 (xaI 0 31)), (31, x0 (xaOr 32))]
def xk_109_1 : List (Nat × XI) := [(32, x0 (xaStI 1 33)), (33, x1 (xaInc 2 1 36)), (36, x0 (xaGo 4)), (39, x0 (xaLdI 1 40)), (40, xR xrI)]
def xk_109 : List (List (Nat × XI)) := [xk_109_0, xk_109_1]
/-- WrongRoom$Rooms isMutual (I)Z -/
def xm_X4_isMutual : Nat := 110
def xk_110_0 : List (Nat × XI) := [(0, x0 (xaLdA 0 1)), (1, x1 (xaGetA 40 4)), (4, x0 (xaLdI 1 5)), (5, x1 (xaALdI 0 6)), (6, x0 (xaI (-2) 8)), (8, xB (xcEq 30 11)), (11, x0 (xaLdA 0 12)), (12, x1 (xaGetA 40 15)), (15, x0 (xaLdA 0 16)), (16, x1 (xaGetA 40 19)), (19, x0 (xaLdI 1 20)), (20, x1 (xaALdI 0 21)), (21, x1 (xaALdI 0 22)), (22, x0 (xaLdI 1 23)), (23, xB (xcNe 30 26)), (26, x0 (xaI 1 27)), (27, x0 (xaGo 31)), (30, x0 (xaI 0 31)), (31, xR xrZ)]
def xk_110 : List (List (Nat × XI)) := [xk_110_0]
/-- WrongRoom$Rooms opens (II)I -/
def xm_X4_opens : Nat := 111
def xk_111_0 : List (Nat × XI) := [(0, x0 (xaLdA 0 1)), (1, x1 (xaGetA 40 4)), (4, x0 (xaLdI 1 5)), (5, x1 (xaALdI 0 6)), (6, x0 (xaI (-2) 8)), (8, xB (xcEq 22 11)), (11, x0 (xaLdA 0 12)), (12, x1 (xaGetI 44 15)), (15, x0 (xaLdI 1 16)), (16, xK (2, 19, [(none, 12)])), (19, xB (xbEq 25 22)), (22, x0 (xaI 100000000 24)), (24, xR xrI), (25, x0 (xaLdI 2 26)), (26, x0 (xaStI 3 27)), (27, x0 (xaLdA 0 28)), (28, x1 (xaGetA 43 31)), (31, x1 (xaGetA 105 34))]
def xk_111_1 : List (Nat × XI) := [(34, x0 (xaLdI 1 35)), (35, x1 (xaALdA 36)), (36, x0 (xaLdI 3 37)), (37, xK (2, 40, [(some 11, 284)])), (40, xB (xbNe 56 43)), (43, x0 (xaI 60 45)), (45, x0 (xaLdI 3 46)), (46, x0 (xaI 60 48)), (48, x1 (xaDiv 49)), (49, x0 (xaI 1 50)), (50, x1 (xaAdd 51)), (51, x1 (xaMul 52)), (52, x0 (xaStI 3 53)), (53, x0 (xaGo 27)), (56, x0 (xaLdI 3 57)), (57, xR xrI)]
def xk_111 : List (List (Nat × XI)) := [xk_111_0, xk_111_1]
/-- WrongRoom$Rooms become (LWrongRoom$Rooms;)V -/
def xm_X4_become : Nat := 112
def xk_112_0 : List (Nat × XI) := [(0, x0 (xaLdA 0 1)), (1, x0 (xaLdA 1 2)), (2, x1 (xaGetA 43 5)), (5, x1 (xaPutA 43 8)), (8, x0 (xaLdA 0 9)), (9, x0 (xaLdA 1 10)), (10, x1 (xaGetI 44 13)), (13, x1 (xaPutI 44 16)), (16, x0 (xaLdA 1 17)), (17, x1 (xaGetA 40 20)), (20, x0 (xaI 0 21)), (21, x0 (xaLdA 0 22)), (22, x1 (xaGetA 40 25)), (25, x0 (xaI 0 26)), (26, x0 (xaI 7 28)), (28, x1 (xaCopy 31)), (31, x0 (xaLdA 1 32))]
def xk_112_1 : List (Nat × XI) := [(32, x1 (xaGetA 41 35)), (35, x0 (xaI 0 36)), (36, x0 (xaLdA 0 37)), (37, x1 (xaGetA 41 40)), (40, x0 (xaI 0 41)), (41, x0 (xaI 4 42)), (42, x1 (xaCopy 45)), (45, x0 (xaLdA 1 46)), (46, x1 (xaGetA 42 49)), (49, x0 (xaI 0 50)), (50, x0 (xaLdA 0 51)), (51, x1 (xaGetA 42 54)), (54, x0 (xaI 0 55)), (55, x0 (xaI 4 56)), (56, x1 (xaCopy 59)), (59, xR xrV)]
def xk_112 : List (List (Nat × XI)) := [xk_112_0, xk_112_1]
/-- WrongRoom$Rooms canExchange (II)Z -/
def xm_X4_canExchange : Nat := 113
def xk_113_0 : List (Nat × XI) := [(0, x0 (xaLdI 1 1)), (1, x0 (xaLdI 2 2)), (2, xB (xcEq 51 5)), (5, x0 (xaLdA 0 6)), (6, x1 (xaGetA 40 9)), (9, x0 (xaLdI 1 10)), (10, x1 (xaALdI 0 11)), (11, x0 (xaI (-2) 13)), (13, xB (xcEq 51 16)), (16, x0 (xaLdA 0 17)), (17, x1 (xaGetA 40 20)), (20, x0 (xaLdI 2 21)), (21, x1 (xaALdI 0 22)), (22, x0 (xaI (-2) 24)), (24, xB (xcEq 51 27)), (27, x0 (xaLdA 0 28)), (28, x1 (xaGetA 40 31)), (31, x0 (xaLdI 1 32))]
def xk_113_1 : List (Nat × XI) := [(32, x1 (xaALdI 0 33)), (33, x0 (xaLdI 2 34)), (34, xB (xcEq 51 37)), (37, x0 (xaLdA 0 38)), (38, x1 (xaGetA 40 41)), (41, x0 (xaLdI 2 42)), (42, x1 (xaALdI 0 43)), (43, x0 (xaLdI 1 44)), (44, xB (xcEq 51 47)), (47, x0 (xaI 1 48)), (48, x0 (xaGo 52)), (51, x0 (xaI 0 52)), (52, xR xrZ)]
def xk_113 : List (List (Nat × XI)) := [xk_113_0, xk_113_1]
/-- WrongRoom$Rooms exchange (II)V -/
def xm_X4_exchange : Nat := 114
def xk_114_0 : List (Nat × XI) := [(0, x0 (xaLdA 0 1)), (1, x1 (xaGetA 40 4)), (4, x0 (xaLdI 1 5)), (5, x1 (xaALdI 0 6)), (6, x0 (xaStI 3 7)), (7, x0 (xaLdA 0 8)), (8, x1 (xaGetA 40 11)), (11, x0 (xaLdI 1 12)), (12, x0 (xaLdA 0 13)), (13, x1 (xaGetA 40 16)), (16, x0 (xaLdI 2 17)), (17, x1 (xaALdI 0 18)), (18, x1 (xaAStI 19)), (19, x0 (xaLdA 0 20)), (20, x1 (xaGetA 40 23)), (23, x0 (xaLdI 2 24)), (24, x0 (xaLdI 3 25)), (25, x1 (xaAStI 26)), (26, xR xrV)]
def xk_114 : List (List (Nat × XI)) := [xk_114_0]
/-- WrongRoom$Rooms arrives (III)I -/
def xm_X4_arrives : Nat := 115
def xk_115_0 : List (Nat × XI) := [(0, x0 (xaLdA 0 1)), (1, x1 (xaGetA 43 4)), (4, x0 (xaLdI 1 5)), (5, x0 (xaLdI 2 6)), (6, xK (3, 9, [(some 10, 258)])), (9, xB (xbLe 26 12)), (12, x0 (xaLdI 3 13)), (13, x0 (xaLdA 0 14)), (14, x1 (xaGetA 43 17)), (17, x0 (xaLdI 1 18)), (18, x0 (xaLdI 2 19)), (19, xK (3, 22, [(some 10, 258)])), (22, x1 (xaAdd 23)), (23, x0 (xaGo 28)), (26, x0 (xaI 100000000 28)), (28, x0 (xaStI 4 30)), (30, x0 (xaLdA 0 31)), (31, x1 (xaGetA 40 34))]
def xk_115_1 : List (Nat × XI) := [(34, x0 (xaLdI 1 35)), (35, x1 (xaALdI 0 36)), (36, x0 (xaLdI 2 37)), (37, xB (xcNe 66 40)), (40, x0 (xaLdA 0 41)), (41, x0 (xaLdI 1 42)), (42, x0 (xaLdI 3 43)), (43, xK (3, 46, [(some 3, 108)])), (46, xB (xbEq 66 49)), (49, x0 (xaLdI 4 51)), (51, x0 (xaLdI 3 52)), (52, x0 (xaLdA 0 53)), (53, x1 (xaGetA 43 56)), (56, x1 (xaGetI 109 59)), (59, x1 (xaAdd 60)), (60, x0 (xaMMin 63)), (63, x0 (xaGo 68))]
def xk_115_2 : List (Nat × XI) := [(66, x0 (xaLdI 4 68)), (68, xR xrI)]
def xk_115 : List (List (Nat × XI)) := [xk_115_0, xk_115_1, xk_115_2]
/-- WrongRoom$Ways <init> ()V -/
def xm_X5_init : Nat := 116
def xk_116_0 : List (Nat × XI) := [(0, x0 (xaLdA 0 1)), (1, x1 (xaObj 4)), (4, x0 (xaLdA 0 5)), (5, x0 (xaI 7 7)), (7, x1 (xaNewA 0 9)), (9, x1 (xaPutA 45 12)), (12, x0 (xaLdA 0 13)), (13, x0 (xaI 7 15)), (15, x1 (xaNewA 0 17)), (17, x1 (xaPutA 46 20)), (20, xR xrV)]
def xk_116 : List (List (Nat × XI)) := [xk_116_0]
/-- WrongRoom$Ways seek (LWrongRoom$Town;LWrongRoom$Rooms;LWrongRoom$Going;III)I -/
def xm_X5_seek : Nat := 117
def xk_117_0 : List (Nat × XI) := [(0, x0 (xaLdA 0 1)), (1, x0 (xaLdA 1 2)), (2, x1 (xaPutA 47 5)), (5, x0 (xaLdA 0 6)), (6, x0 (xaLdA 2 7)), (7, x1 (xaPutA 48 10)), (10, x0 (xaLdA 0 11)), (11, x0 (xaLdA 3 12)), (12, x1 (xaPutA 49 15)), (15, x0 (xaLdA 0 16)), (16, x0 (xaLdI 5 18)), (18, x1 (xaPutI 50 21)), (21, x0 (xaLdA 0 22)), (22, x0 (xaI 100000000 24)), (24, x1 (xaPutI 51 27)), (27, x0 (xaLdA 0 28)), (28, x0 (xaI 0 29)), (29, x1 (xaPutI 52 32))]
def xk_117_1 : List (Nat × XI) := [(32, x0 (xaLdA 0 33)), (33, x0 (xaI 0 34)), (34, x0 (xaLdI 4 36)), (36, x0 (xaI 1 37)), (37, x0 (xaLdI 4 39)), (39, x1 (xaShl 40)), (40, x0 (xaLdI 6 42)), (42, xK (5, 45, [(some 4, 118)])), (45, x0 (xaLdA 0 46)), (46, x1 (xaGetI 51 49)), (49, xR xrI)]
def xk_117 : List (List (Nat × XI)) := [xk_117_0, xk_117_1]
/-- WrongRoom$Ways comes (IIII)V -/
def xm_X5_comes : Nat := 118
def xk_118_0 : List (Nat × XI) := [(0, x0 (xaLdA 0 1)), (1, x1 (xaGetA 45 4)), (4, x0 (xaLdI 1 5)), (5, x0 (xaLdI 2 6)), (6, x1 (xaAStI 7)), (7, x0 (xaLdI 4 9)), (9, x0 (xaLdA 0 10)), (10, x1 (xaGetI 51 13)), (13, xB (xcLt 17 16)), (16, xR xrV), (17, x0 (xaLdI 2 18)), (18, x0 (xaLdA 0 19)), (19, x1 (xaGetI 50 22)), (22, xB (xcNe 54 25)), (25, x0 (xaLdA 0 26)), (26, x0 (xaLdI 4 28)), (28, x1 (xaPutI 51 31)), (31, x0 (xaLdA 0 32))]
def xk_118_1 : List (Nat × XI) := [(32, x0 (xaLdI 1 33)), (33, x0 (xaI 1 34)), (34, x1 (xaAdd 35)), (35, x1 (xaPutI 52 38)), (38, x0 (xaLdA 0 39)), (39, x1 (xaGetA 45 42)), (42, x0 (xaI 0 43)), (43, x0 (xaLdA 0 44)), (44, x1 (xaGetA 46 47)), (47, x0 (xaI 0 48)), (48, x0 (xaI 7 50)), (50, x1 (xaCopy 53)), (53, xR xrV), (54, x0 (xaI 0 55)), (55, x0 (xaStI 5 57)), (57, x0 (xaLdI 5 59)), (59, x0 (xaLdA 0 60)), (60, x1 (xaGetA 47 63)), (63, x1 (xaGetI 111 66))]
def xk_118_2 : List (Nat × XI) := [(66, xB (xcGe 119 69)), (69, x0 (xaLdI 3 70)), (70, x0 (xaLdI 5 72)), (72, xK (2, 75, [(none, 12)])), (75, xB (xbNe 113 78)), (78, x0 (xaLdA 0 79)), (79, x0 (xaLdI 1 80)), (80, x0 (xaI 1 81)), (81, x1 (xaAdd 82)), (82, x0 (xaLdI 5 84)), (84, x0 (xaLdI 3 85)), (85, x0 (xaI 1 86)), (86, x0 (xaLdI 5 88)), (88, x1 (xaShl 89)), (89, x0 (xaOr 90)), (90, x0 (xaLdA 0 91)), (91, x1 (xaGetA 49 94)), (94, x0 (xaLdA 0 95)), (95, x1 (xaGetA 47 98))]
def xk_118_3 : List (Nat × XI) := [(98, x0 (xaLdA 0 99)), (99, x1 (xaGetA 48 102)), (102, x0 (xaLdI 2 103)), (103, x0 (xaLdI 5 105)), (105, x0 (xaLdI 4 107)), (107, xK (6, 110, [(some 5, 123), (some 6, 125)])), (110, xK (5, 113, [(some 4, 118)])), (113, x1 (xaInc 5 1 116)), (116, x0 (xaGo 57)), (119, xR xrV)]
def xk_118 : List (List (Nat × XI)) := [xk_118_0, xk_118_1, xk_118_2, xk_118_3]
/-- WrongRoom$Ways many ()I -/
def xm_X5_many : Nat := 119
def xk_119_0 : List (Nat × XI) := [(0, x0 (xaLdA 0 1)), (1, x1 (xaGetI 52 4)), (4, xR xrI)]
def xk_119 : List (List (Nat × XI)) := [xk_119_0]
/-- WrongRoom$Ways at (I)I -/
def xm_X5_at : Nat := 120
def xk_120_0 : List (Nat × XI) := [(0, x0 (xaLdA 0 1)), (1, x1 (xaGetA 46 4)), (4, x0 (xaLdI 1 5)), (5, x1 (xaALdI 0 6)), (6, xR xrI)]
def xk_120 : List (List (Nat × XI)) := [xk_120_0]
/-- WrongRoom$Going <init> ()V -/
def xm_X6_init : Nat := 121
def xk_121_0 : List (Nat × XI) := [(0, x0 (xaLdA 0 1)), (1, x1 (xaObj 4)), (4, xR xrV)]
def xk_121 : List (List (Nat × XI)) := [xk_121_0]
/-- WrongRoom$ByStreets <init> ()V -/
def xm_X7_init : Nat := 122
def xk_122_0 : List (Nat × XI) := [(0, x0 (xaLdA 0 1)), (1, xK (1, 4, [(some 5, 121), (some 6, 121)])), (4, xR xrV)]
def xk_122 : List (List (Nat × XI)) := [xk_122_0]
/-- WrongRoom$ByStreets comes (LWrongRoom$Town;LWrongRoom$Rooms;III)I -/
def xm_X7_comes : Nat := 123
def xk_123_0 : List (Nat × XI) := [(0, x0 (xaLdA 1 1)), (1, x0 (xaLdI 3 2)), (2, x0 (xaLdI 4 4)), (4, xK (3, 7, [(some 10, 258)])), (7, xB (xbLe 23 10)), (10, x0 (xaLdI 5 12)), (12, x0 (xaLdA 1 13)), (13, x0 (xaLdI 3 14)), (14, x0 (xaLdI 4 16)), (16, xK (3, 19, [(some 10, 258)])), (19, x1 (xaAdd 20)), (20, x0 (xaGo 25)), (23, x0 (xaI 100000000 25)), (25, xR xrI)]
def xk_123 : List (List (Nat × XI)) := [xk_123_0]
/-- WrongRoom$ByAll <init> ()V -/
def xm_X8_init : Nat := 124
def xk_124_0 : List (Nat × XI) := [(0, x0 (xaLdA 0 1)), (1, xK (1, 4, [(some 5, 122), (some 6, 122)])), (4, xR xrV)]
def xk_124 : List (List (Nat × XI)) := [xk_124_0]
/-- WrongRoom$ByAll comes (LWrongRoom$Town;LWrongRoom$Rooms;III)I -/
def xm_X8_comes : Nat := 125
def xk_125_0 : List (Nat × XI) := [(0, x0 (xaLdA 0 1)), (1, x0 (xaLdA 1 2)), (2, x0 (xaLdA 2 3)), (3, x0 (xaLdI 3 4)), (4, x0 (xaLdI 4 6)), (6, x0 (xaLdI 5 8)), (8, xK (6, 11, [(some 6, 123)])), (11, x0 (xaStI 6 13)), (13, x0 (xaLdA 2 14)), (14, x1 (xaGetA 40 17)), (17, x0 (xaLdI 3 18)), (18, x1 (xaALdI 0 19)), (19, x0 (xaLdI 4 21)), (21, xB (xcNe 44 24)), (24, x0 (xaLdI 6 26)), (26, x0 (xaLdA 2 27)), (27, x0 (xaLdI 3 28)), (28, x0 (xaLdI 5 30)), (30, xK (3, 33, [(some 3, 111)]))]
def xk_125_1 : List (Nat × XI) := [(33, x0 (xaLdA 1 34)), (34, x1 (xaGetI 109 37)), (37, x1 (xaAdd 38)), (38, x0 (xaMMin 41)), (41, x0 (xaGo 46)), (44, x0 (xaLdI 6 46)), (46, xR xrI)]
def xk_125 : List (List (Nat × XI)) := [xk_125_0, xk_125_1]
/-- WrongRoom$Rows <init> ()V -/
def xm_X9_init : Nat := 126
def xk_126_0 : List (Nat × XI) := [(0, x0 (xaLdA 0 1)), (1, x1 (xaObj 4)), (4, x0 (xaLdA 0 5)), (5, x0 (xaI 7 7)), (7, x1 (xaNewA 0 9)), (9, x1 (xaPutA 53 12)), (12, x0 (xaLdA 0 13)), (13, x0 (xaI 7 15)), (15, x1 (xaNewA 0 17)), (17, x1 (xaPutA 54 20)), (20, x0 (xaLdA 0 21)), (21, x0 (xaI 7 23)), (23, x1 (xaNewA 0 25)), (25, x1 (xaPutA 55 28)), (28, x0 (xaLdA 0 29)), (29, x0 (xaI 49 31)), (31, x1 (xaNewA 0 33))]
def xk_126_1 : List (Nat × XI) := [(33, x1 (xaPutA 56 36)), (36, xR xrV)]
def xk_126 : List (List (Nat × XI)) := [xk_126_0, xk_126_1]
/-- WrongRoom$Rows seek (LWrongRoom$Town;LWrongRoom$Rooms;)V -/
def xm_X9_seek : Nat := 127
def xk_127_0 : List (Nat × XI) := [(0, x0 (xaLdA 0 1)), (1, x0 (xaLdA 1 2)), (2, x1 (xaPutA 57 5)), (5, x0 (xaLdA 0 6)), (6, x0 (xaLdA 2 7)), (7, x1 (xaPutA 58 10)), (10, x0 (xaLdA 0 11)), (11, x0 (xaI 0 12)), (12, x1 (xaPutI 59 15)), (15, x0 (xaI 0 16)), (16, x0 (xaStI 3 17)), (17, x0 (xaLdI 3 18)), (18, x0 (xaI 49 20)), (20, xB (xcGe 36 23)), (23, x0 (xaLdA 0 24)), (24, x1 (xaGetA 56 27)), (27, x0 (xaLdI 3 28)), (28, x0 (xaI 0 29)), (29, x1 (xaAStI 30)), (30, x1 (xaInc 3 1 33))]
def xk_127_1 : List (Nat × XI) := [(33, x0 (xaGo 17)), (36, x0 (xaI 0 37)), (37, x0 (xaStI 3 38)), (38, x0 (xaI 0 39)), (39, x0 (xaStI 4 41)), (41, x0 (xaLdI 4 43)), (43, x0 (xaI 7 45)), (45, xB (xcGe 95 48)), (48, x0 (xaLdA 0 49)), (49, x1 (xaGetA 55 52)), (52, x0 (xaLdI 4 54)), (54, x0 (xaI 0 55)), (55, x1 (xaAStI 56)), (56, x0 (xaLdI 4 58)), (58, x0 (xaLdA 1 59)), (59, x1 (xaGetI 111 62)), (62, xB (xcGe 89 65))]
def xk_127_2 : List (Nat × XI) := [(65, x0 (xaLdA 2 66)), (66, x1 (xaGetA 40 69)), (69, x0 (xaLdI 4 71)), (71, x1 (xaALdI 0 72)), (72, x0 (xaI (-2) 74)), (74, xB (xcEq 89 77)), (77, x0 (xaLdI 3 78)), (78, x0 (xaI 1 79)), (79, x0 (xaLdA 2 80)), (80, x1 (xaGetA 40 83)), (83, x0 (xaLdI 4 85)), (85, x1 (xaALdI 0 86)), (86, x1 (xaShl 87)), (87, x0 (xaOr 88)), (88, x0 (xaStI 3 89)), (89, x1 (xaInc 4 1 92)), (92, x0 (xaGo 41)), (95, x0 (xaLdA 0 96))]
def xk_127_3 : List (Nat × XI) := [(96, x0 (xaI 0 97)), (97, x0 (xaLdI 3 98)), (98, xK (3, 101, [(some 7, 128)])), (101, xR xrV)]
def xk_127 : List (List (Nat × XI)) := [xk_127_0, xk_127_1, xk_127_2, xk_127_3]
/-- WrongRoom$Rows tries (II)V -/
def xm_X9_tries : Nat := 128
def xk_128_0 : List (Nat × XI) := [(0, x0 (xaLdI 1 1)), (1, x0 (xaLdA 0 2)), (2, x1 (xaGetA 57 5)), (5, x1 (xaGetI 111 8)), (8, xB (xcNe 16 11)), (11, x0 (xaLdA 0 12)), (12, xK (1, 15, [(some 7, 129)])), (15, xR xrV), (16, x0 (xaLdA 0 17)), (17, x1 (xaGetA 58 20)), (20, x1 (xaGetA 40 23)), (23, x0 (xaLdI 1 24)), (24, x1 (xaALdI 0 25)), (25, x0 (xaI (-2) 27)), (27, xB (xcEq 54 30)), (30, x0 (xaLdA 0 31)), (31, x1 (xaGetA 53 34))]
def xk_128_1 : List (Nat × XI) := [(34, x0 (xaLdI 1 35)), (35, x0 (xaLdA 0 36)), (36, x1 (xaGetA 58 39)), (39, x1 (xaGetA 40 42)), (42, x0 (xaLdI 1 43)), (43, x1 (xaALdI 0 44)), (44, x1 (xaAStI 45)), (45, x0 (xaLdA 0 46)), (46, x0 (xaLdI 1 47)), (47, x0 (xaI 1 48)), (48, x1 (xaAdd 49)), (49, x0 (xaLdI 2 50)), (50, xK (3, 53, [(some 7, 128)])), (53, xR xrV), (54, x0 (xaI 0 55)), (55, x0 (xaStI 3 56)), (56, x0 (xaLdI 3 57)), (57, x0 (xaLdA 0 58)), (58, x1 (xaGetA 57 61)), (61, x1 (xaGetI 111 64))]
def xk_128_2 : List (Nat × XI) := [(64, xB (xcGe 115 67)), (67, x0 (xaLdI 2 68)), (68, x0 (xaLdI 3 69)), (69, xK (2, 72, [(none, 12)])), (72, xB (xbNe 109 75)), (75, x0 (xaLdA 0 76)), (76, x1 (xaGetA 57 79)), (79, x0 (xaLdI 1 80)), (80, x0 (xaLdI 3 81)), (81, xK (3, 84, [(some 10, 260)])), (84, xB (xbNe 90 87)), (87, x0 (xaGo 109)), (90, x0 (xaLdA 0 91)), (91, x1 (xaGetA 53 94)), (94, x0 (xaLdI 1 95)), (95, x0 (xaLdI 3 96))]
def xk_128_3 : List (Nat × XI) := [(96, x1 (xaAStI 97)), (97, x0 (xaLdA 0 98)), (98, x0 (xaLdI 1 99)), (99, x0 (xaI 1 100)), (100, x1 (xaAdd 101)), (101, x0 (xaLdI 2 102)), (102, x0 (xaI 1 103)), (103, x0 (xaLdI 3 104)), (104, x1 (xaShl 105)), (105, x0 (xaOr 106)), (106, xK (3, 109, [(some 7, 128)])), (109, x1 (xaInc 3 1 112)), (112, x0 (xaGo 56)), (115, xR xrV)]
def xk_128 : List (List (Nat × XI)) := [xk_128_0, xk_128_1, xk_128_2, xk_128_3]
/-- WrongRoom$Rows note ()V -/
def xm_X9_note : Nat := 129
def xk_129_0 : List (Nat × XI) := [(0, x0 (xaLdA 0 1)), (1, x1 (xaGetI 59 4)), (4, xB (xbNe 22 7)), (7, x0 (xaLdA 0 8)), (8, x1 (xaGetA 53 11)), (11, x0 (xaI 0 12)), (12, x0 (xaLdA 0 13)), (13, x1 (xaGetA 54 16)), (16, x0 (xaI 0 17)), (17, x0 (xaI 7 19)), (19, x1 (xaCopy 22)), (22, x0 (xaLdA 0 23)), (23, x0 (xaDup 24)), (24, x1 (xaGetI 59 27)), (27, x0 (xaI 1 28)), (28, x1 (xaAdd 29)), (29, x1 (xaPutI 59 32))]
def xk_129_1 : List (Nat × XI) := [(32, x0 (xaI 0 33)), (33, x0 (xaStI 1 34)), (34, x0 (xaLdI 1 35)), (35, x0 (xaLdA 0 36)), (36, x1 (xaGetA 57 39)), (39, x1 (xaGetI 111 42)), (42, xB (xcGe 88 45)), (45, x0 (xaLdA 0 46)), (46, x1 (xaGetA 55 49)), (49, x0 (xaLdI 1 50)), (50, x0 (xaDup2 51)), (51, x1 (xaALdI 0 52)), (52, x0 (xaI 1 53)), (53, x0 (xaLdA 0 54)), (54, x1 (xaGetA 53 57)), (57, x0 (xaLdI 1 58)), (58, x1 (xaALdI 0 59)), (59, x1 (xaShl 60)), (60, x0 (xaOr 61)), (61, x1 (xaAStI 62)), (62, x0 (xaLdA 0 63)), (63, x1 (xaGetA 56 66))]
def xk_129_2 : List (Nat × XI) := [(66, x0 (xaI 7 68)), (68, x0 (xaLdI 1 69)), (69, x1 (xaMul 70)), (70, x0 (xaLdA 0 71)), (71, x1 (xaGetA 53 74)), (74, x0 (xaLdI 1 75)), (75, x1 (xaALdI 0 76)), (76, x1 (xaAdd 77)), (77, x0 (xaDup2 78)), (78, x1 (xaALdI 0 79)), (79, x0 (xaI 1 80)), (80, x1 (xaAdd 81)), (81, x1 (xaAStI 82)), (82, x1 (xaInc 1 1 85)), (85, x0 (xaGo 34)), (88, xR xrV)]
def xk_129 : List (List (Nat × XI)) := [xk_129_0, xk_129_1, xk_129_2]
/-- WrongRoom$Rows could (I)I -/
def xm_X9_could : Nat := 130
def xk_130_0 : List (Nat × XI) := [(0, x0 (xaLdA 0 1)), (1, x1 (xaGetA 55 4)), (4, x0 (xaLdI 1 5)), (5, x1 (xaALdI 0 6)), (6, xR xrI)]
def xk_130 : List (List (Nat × XI)) := [xk_130_0]
/-- WrongRoom$Rows surely (I)I -/
def xm_X9_surely : Nat := 131
def xk_131_0 : List (Nat × XI) := [(0, x0 (xaI 0 1)), (1, x0 (xaStI 2 2)), (2, x0 (xaLdI 2 3)), (3, x0 (xaLdA 0 4)), (4, x1 (xaGetA 57 7)), (7, x1 (xaGetI 111 10)), (10, xB (xcGe 46 13)), (13, x0 (xaLdA 0 14)), (14, x1 (xaGetI 59 17)), (17, xB (xbLe 46 20)), (20, x0 (xaLdA 0 21)), (21, x1 (xaGetA 56 24)), (24, x0 (xaI 7 26)), (26, x0 (xaLdI 1 27)), (27, x1 (xaMul 28)), (28, x0 (xaLdI 2 29)), (29, x1 (xaAdd 30)), (30, x1 (xaALdI 0 31)), (31, x0 (xaLdA 0 32))]
def xk_131_1 : List (Nat × XI) := [(32, x1 (xaGetI 59 35)), (35, xB (xcNe 40 38)), (38, x0 (xaLdI 2 39)), (39, xR xrI), (40, x1 (xaInc 2 1 43)), (43, x0 (xaGo 2)), (46, x0 (xaI (-2) 48)), (48, xR xrI)]
def xk_131 : List (List (Nat × XI)) := [xk_131_0, xk_131_1]
/-- WrongRoom$Rows first (I)I -/
def xm_X9_first : Nat := 132
def xk_132_0 : List (Nat × XI) := [(0, x0 (xaLdA 0 1)), (1, x1 (xaGetI 59 4)), (4, xB (xbNe 12 7)), (7, x0 (xaI (-2) 9)), (9, x0 (xaGo 18)), (12, x0 (xaLdA 0 13)), (13, x1 (xaGetA 54 16)), (16, x0 (xaLdI 1 17)), (17, x1 (xaALdI 0 18)), (18, xR xrI)]
def xk_132 : List (List (Nat × XI)) := [xk_132_0]
/-- WrongRoom$Rows leaves (I)I -/
def xm_X9_leaves : Nat := 133
def xk_133_0 : List (Nat × XI) := [(0, x0 (xaI 0 1)), (1, x0 (xaStI 2 2)), (2, x0 (xaI 0 3)), (3, x0 (xaStI 3 4)), (4, x0 (xaLdI 3 5)), (5, x0 (xaLdA 0 6)), (6, x1 (xaGetA 57 9)), (9, x1 (xaGetI 111 12)), (12, xB (xcGe 37 15)), (15, x0 (xaLdI 2 16)), (16, x0 (xaLdA 0 17)), (17, x1 (xaGetA 56 20)), (20, x0 (xaI 7 22)), (22, x0 (xaLdI 1 23)), (23, x1 (xaMul 24)), (24, x0 (xaLdI 3 25)), (25, x1 (xaAdd 26)), (26, x1 (xaALdI 0 27)), (27, x0 (xaMMax 30)), (30, x0 (xaStI 2 31)), (31, x1 (xaInc 3 1 34))]
def xk_133_1 : List (Nat × XI) := [(34, x0 (xaGo 4)), (37, x0 (xaLdI 2 38)), (38, xR xrI)]
def xk_133 : List (List (Nat × XI)) := [xk_133_0, xk_133_1]
/-- WrongRoom$Exchanges <init> ()V -/
def xm_X10_init : Nat := 134
def xk_134_0 : List (Nat × XI) := [(0, x0 (xaLdA 0 1)), (1, x1 (xaObj 4)), (4, x0 (xaLdA 0 5)), (5, x0 (xaI 4 6)), (6, x1 (xaNewA 4 9)), (9, x1 (xaPutA 60 12)), (12, x0 (xaLdA 0 13)), (13, x0 (xaI 3 14)), (14, x1 (xaNewA 0 16)), (16, x1 (xaPutA 61 19)), (19, x0 (xaLdA 0 20)), (20, x0 (xaI 3 21)), (21, x1 (xaNewA 0 23)), (23, x1 (xaPutA 62 26)), (26, x0 (xaI 0 27)), (27, x0 (xaStI 1 28)), (28, x0 (xaLdI 1 29)), (29, x0 (xaI 3 30)), (30, xB (xcGt 52 33))]
def xk_134_1 : List (Nat × XI) := [(33, x0 (xaLdA 0 34)), (34, x1 (xaGetA 60 37)), (37, x0 (xaLdI 1 38)), (38, x0 (xaNewO 3 5 41)), (41, x0 (xaDup 42)), (42, xK (1, 45, [(some 3, 105)])), (45, x1 (xaAStA 46)), (46, x1 (xaInc 1 1 49)), (49, x0 (xaGo 28)), (52, xR xrV)]
def xk_134 : List (List (Nat × XI)) := [xk_134_0, xk_134_1]
/-- WrongRoom$Exchanges seek (LWrongRoom$Town;LWrongRoom$Rooms;)V -/
def xm_X10_seek : Nat := 135
def xk_135_0 : List (Nat × XI) := [(0, x0 (xaLdA 0 1)), (1, x0 (xaLdA 1 2)), (2, x1 (xaPutA 63 5)), (5, x0 (xaLdA 0 6)), (6, x0 (xaI (-1) 7)), (7, x1 (xaPutI 64 10)), (10, x0 (xaLdA 0 11)), (11, x0 (xaI 0 12)), (12, x1 (xaPutI 65 15)), (15, x0 (xaLdA 0 16)), (16, x1 (xaGetA 60 19)), (19, x0 (xaI 0 20)), (20, x1 (xaALdA 21)), (21, x0 (xaLdA 2 22)), (22, xK (2, 25, [(some 3, 112)])), (25, x0 (xaI 0 26)), (26, x0 (xaStI 3 27)), (27, x0 (xaLdI 3 28)), (28, x0 (xaI 3 29)), (29, xB (xcGt 44 32))]
def xk_135_1 : List (Nat × XI) := [(32, x0 (xaLdA 0 33)), (33, x0 (xaI 0 34)), (34, x0 (xaLdI 3 35)), (35, xK (3, 38, [(some 8, 136)])), (38, x1 (xaInc 3 1 41)), (41, x0 (xaGo 27)), (44, xR xrV)]
def xk_135 : List (List (Nat × XI)) := [xk_135_0, xk_135_1]
/-- WrongRoom$Exchanges tries (II)V -/
def xm_X10_tries : Nat := 136
def xk_136_0 : List (Nat × XI) := [(0, x0 (xaLdI 1 1)), (1, x0 (xaLdI 2 2)), (2, xB (xcNe 52 5)), (5, x0 (xaLdA 0 6)), (6, x1 (xaGetA 60 9)), (9, x0 (xaLdI 1 10)), (10, x1 (xaALdA 11)), (11, xK (1, 14, [(some 3, 109)])), (14, xK (1, 17, [(none, 44)])), (17, x0 (xaStI 3 18)), (18, x0 (xaLdI 3 19)), (19, x0 (xaLdA 0 20)), (20, x1 (xaGetI 64 23)), (23, xB (xcGt 27 26)), (26, xR xrV), (27, x0 (xaLdA 0 28)), (28, x0 (xaLdI 3 29)), (29, x1 (xaPutI 64 32))]
def xk_136_1 : List (Nat × XI) := [(32, x0 (xaLdA 0 33)), (33, x0 (xaLdI 2 34)), (34, x1 (xaPutI 65 37)), (37, x0 (xaLdA 0 38)), (38, x1 (xaGetA 61 41)), (41, x0 (xaI 0 42)), (42, x0 (xaLdA 0 43)), (43, x1 (xaGetA 62 46)), (46, x0 (xaI 0 47)), (47, x0 (xaI 3 48)), (48, x1 (xaCopy 51)), (51, xR xrV), (52, x0 (xaI 0 53)), (53, x0 (xaStI 3 54)), (54, x0 (xaLdI 3 55)), (55, x0 (xaLdA 0 56)), (56, x1 (xaGetA 63 59)), (59, x1 (xaGetI 111 62)), (62, xB (xcGe 164 65))]
def xk_136_2 : List (Nat × XI) := [(65, x0 (xaLdI 3 66)), (66, x0 (xaI 1 67)), (67, x1 (xaAdd 68)), (68, x0 (xaStI 4 70)), (70, x0 (xaLdI 4 72)), (72, x0 (xaLdA 0 73)), (73, x1 (xaGetA 63 76)), (76, x1 (xaGetI 111 79)), (79, xB (xcGe 158 82)), (82, x0 (xaLdA 0 83)), (83, x1 (xaGetA 60 86)), (86, x0 (xaLdI 1 87)), (87, x1 (xaALdA 88)), (88, x0 (xaLdI 3 89)), (89, x0 (xaLdI 4 91)), (91, xK (3, 94, [(some 3, 113)])), (94, xB (xbNe 100 97))]
def xk_136_3 : List (Nat × XI) := [(97, x0 (xaGo 152)), (100, x0 (xaLdA 0 101)), (101, x1 (xaGetA 60 104)), (104, x0 (xaLdI 1 105)), (105, x0 (xaI 1 106)), (106, x1 (xaAdd 107)), (107, x1 (xaALdA 108)), (108, x0 (xaLdA 0 109)), (109, x1 (xaGetA 60 112)), (112, x0 (xaLdI 1 113)), (113, x1 (xaALdA 114)), (114, xK (2, 117, [(some 3, 112)])), (117, x0 (xaLdA 0 118)), (118, x1 (xaGetA 60 121)), (121, x0 (xaLdI 1 122)), (122, x0 (xaI 1 123)), (123, x1 (xaAdd 124)), (124, x1 (xaALdA 125)), (125, x0 (xaLdI 3 126)), (126, x0 (xaLdI 4 128))]
def xk_136_4 : List (Nat × XI) := [(128, xK (3, 131, [(some 3, 114)])), (131, x0 (xaLdA 0 132)), (132, x1 (xaGetA 61 135)), (135, x0 (xaLdI 1 136)), (136, x0 (xaI 10 138)), (138, x0 (xaLdI 3 139)), (139, x1 (xaMul 140)), (140, x0 (xaLdI 4 142)), (142, x1 (xaAdd 143)), (143, x1 (xaAStI 144)), (144, x0 (xaLdA 0 145)), (145, x0 (xaLdI 1 146)), (146, x0 (xaI 1 147)), (147, x1 (xaAdd 148)), (148, x0 (xaLdI 2 149)), (149, xK (3, 152, [(some 8, 136)])), (152, x1 (xaInc 4 1 155)), (155, x0 (xaGo 70)), (158, x1 (xaInc 3 1 161))]
def xk_136_5 : List (Nat × XI) := [(161, x0 (xaGo 54)), (164, xR xrV)]
def xk_136 : List (List (Nat × XI)) := [xk_136_0, xk_136_1, xk_136_2, xk_136_3, xk_136_4, xk_136_5]
/-- WrongRoom$Exchanges at (I)I -/
def xm_X10_at : Nat := 137
def xk_137_0 : List (Nat × XI) := [(0, x0 (xaLdA 0 1)), (1, x1 (xaGetA 62 4)), (4, x0 (xaLdI 1 5)), (5, x1 (xaALdI 0 6)), (6, xR xrI)]
def xk_137 : List (List (Nat × XI)) := [xk_137_0]
/-- WrongRoomModel <init> ()V -/
def xm_X11_init : Nat := 138
def xk_138_0 : List (Nat × XI) := [(0, x0 (xaLdA 0 1)), (1, x1 (xaObj 4)), (4, x0 (xaLdA 0 5)), (5, x0 (xaI (-1) 6)), (6, x1 (xaPutI 68 9)), (9, x0 (xaLdA 0 10)), (10, x0 (xaI 1100 13)), (13, x1 (xaNewA 1 15)), (15, x1 (xaPutA 71 18)), (18, x0 (xaLdA 0 19)), (19, x0 (xaI 16 21)), (21, x1 (xaNewA 0 23)), (23, x1 (xaPutA 81 26)), (26, x0 (xaLdA 0 27)), (27, x0 (xaI 256 30)), (30, x1 (xaNewA 0 32))]
def xk_138_1 : List (Nat × XI) := [(32, x1 (xaPutA 82 35)), (35, x0 (xaLdA 0 36)), (36, x0 (xaI 48 38)), (38, x1 (xaNewA 0 40)), (40, x1 (xaPutA 83 43)), (43, x0 (xaLdA 0 44)), (44, x0 (xaI 7 46)), (46, x1 (xaNewA 0 48)), (48, x1 (xaPutA 86 51)), (51, x0 (xaLdA 0 52)), (52, x0 (xaI 7 54)), (54, x1 (xaNewA 0 56)), (56, x1 (xaPutA 87 59)), (59, x0 (xaLdA 0 60)), (60, x0 (xaI 7 62)), (62, x1 (xaNewA 0 64))]
def xk_138_2 : List (Nat × XI) := [(64, x1 (xaPutA 88 67)), (67, x0 (xaLdA 0 68)), (68, x0 (xaI 7 70)), (70, x1 (xaNewA 0 72)), (72, x1 (xaPutA 91 75)), (75, x0 (xaLdA 0 76)), (76, x0 (xaI 7 78)), (78, x1 (xaNewA 0 80)), (80, x1 (xaPutA 92 83)), (83, x0 (xaLdA 0 84)), (84, x0 (xaI 7 86)), (86, x1 (xaNewA 0 88)), (88, x1 (xaPutA 93 91)), (91, x0 (xaLdA 0 92)), (92, x0 (xaI 7 94)), (94, x1 (xaNewA 0 96))]
def xk_138_3 : List (Nat × XI) := [(96, x1 (xaPutA 94 99)), (99, x0 (xaLdA 0 100)), (100, x0 (xaI 49 102)), (102, x1 (xaNewA 0 104)), (104, x1 (xaPutA 95 107)), (107, x0 (xaLdA 0 108)), (108, x0 (xaI 3 109)), (109, x1 (xaNewA 0 111)), (111, x1 (xaPutA 99 114)), (114, x0 (xaLdA 0 115)), (115, x0 (xaI 3 116)), (116, x1 (xaNewA 0 118)), (118, x1 (xaPutA 100 121)), (121, x0 (xaLdA 0 122)), (122, x0 (xaI 49 124)), (124, x1 (xaNewA 0 126)), (126, x1 (xaPutA 103 129))]
def xk_138_4 : List (Nat × XI) := [(129, xR xrV)]
def xk_138 : List (List (Nat × XI)) := [xk_138_0, xk_138_1, xk_138_2, xk_138_3, xk_138_4]
/-- WrongRoomModel thrown ()I -/
def xm_X11_thrown : Nat := 139
def xk_139_0 : List (Nat × XI) := [(0, x0 (xaLdA 0 1)), (1, x1 (xaGetI 66 4)), (4, xR xrI)]
def xk_139 : List (List (Nat × XI)) := [xk_139_0]
/-- WrongRoomModel feed (IIIII)I -/
def xm_X11_feed : Nat := 140
def xk_140_0 : List (Nat × XI) := [(0, x0 (xaLdA 0 1)), (1, x0 (xaI 0 2)), (2, x1 (xaPutI 66 5)), (5, x0 (xaLdA 0 6)), (6, x1 (xaGetI 72 9)), (9, x0 (xaI 20 11)), (11, x1 (xaAdd 12)), (12, x0 (xaI 1100 15)), (15, xB (xcLe 20 18)), (18, x0 (xaI (-1) 19)), (19, xR xrI), (20, x0 (xaI 0 21)), (21, x0 (xaStI 6 23)), (23, x0 (xaLdI 6 25)), (25, x0 (xaI 20 27)), (27, xB (xcGe 117 30)), (30, x0 (xaLdI 6 32))]
def xk_140_1 : List (Nat × XI) := [(32, x0 (xaI 4 33)), (33, xB (xcGe 40 36)), (36, x0 (xaLdI 1 37)), (37, x0 (xaGo 76)), (40, x0 (xaLdI 6 42)), (42, x0 (xaI 8 44)), (44, xB (xcGe 51 47)), (47, x0 (xaLdI 2 48)), (48, x0 (xaGo 76)), (51, x0 (xaLdI 6 53)), (53, x0 (xaI 12 55)), (55, xB (xcGe 62 58)), (58, x0 (xaLdI 3 59)), (59, x0 (xaGo 76)), (62, x0 (xaLdI 6 64))]
def xk_140_2 : List (Nat × XI) := [(64, x0 (xaI 16 66)), (66, xB (xcGe 74 69)), (69, x0 (xaLdI 4 71)), (71, x0 (xaGo 76)), (74, x0 (xaLdI 5 76)), (76, x0 (xaStI 7 78)), (78, x0 (xaLdA 0 79)), (79, x1 (xaGetA 71 82)), (82, x0 (xaLdA 0 83)), (83, x1 (xaGetI 72 86)), (86, x0 (xaLdI 7 88)), (88, x0 (xaI 24 90)), (90, x0 (xaI 8 92)), (92, x0 (xaLdI 6 94)), (94, x0 (xaI 4 95)), (95, x1 (xaRem 96))]
def xk_140_3 : List (Nat × XI) := [(96, x1 (xaMul 97)), (97, x1 (xaSub 98)), (98, x1 (xaShr 99)), (99, x0 (xaI2B 100)), (100, x1 (xaAStB 101)), (101, x0 (xaLdA 0 102)), (102, x0 (xaDup 103)), (103, x1 (xaGetI 72 106)), (106, x0 (xaI 1 107)), (107, x1 (xaAdd 108)), (108, x1 (xaPutI 72 111)), (111, x1 (xaInc 6 1 114)), (114, x0 (xaGo 23)), (117, x0 (xaLdA 0 118)), (118, x1 (xaGetI 72 121)), (121, xR xrI)]
def xk_140 : List (List (Nat × XI)) := [xk_140_0, xk_140_1, xk_140_2, xk_140_3]
/-- WrongRoomModel town (I)I -/
def xm_X11_town : Nat := 141
def xk_141_0 : List (Nat × XI) := [(0, x0 (xaLdA 0 1)), (1, x0 (xaI 0 2)), (2, x1 (xaPutI 66 5)), (5, x0 (xaLdI 1 6)), (6, xB (xbLt 17 9)), (9, x0 (xaLdI 1 10)), (10, x0 (xaLdA 0 11)), (11, x1 (xaGetI 72 14)), (14, xB (xcLe 23 17)), (17, x0 (xaLdA 0 18)), (18, x0 (xaI 2 19)), (19, xK (2, 22, [(some 9, 142)])), (22, xR xrI), (23, x0 (xaLdA 0 24)), (24, x0 (xaLdI 1 25)), (25, x1 (xaPutI 73 28)), (28, x0 (xaLdA 0 29)), (29, x0 (xaI 0 30)), (30, x1 (xaPutI 72 33))]
def xk_141_1 : List (Nat × XI) := [(33, x0 (xaLdA 0 34)), (34, x0 (xaI 0 35)), (35, x1 (xaPutI 74 38)), (38, x0 (xaLdA 0 39)), (39, x0 (xaI 0 40)), (40, x1 (xaPutI 78 43)), (43, x0 (xaLdA 0 44)), (44, x0 (xaNewO 15 27 47)), (47, x0 (xaDup 48)), (48, xK (1, 51, [(some 15, 291)])), (51, x1 (xaPutA 70 54)), (54, x0 (xaLdA 0 55)), (55, x0 (xaI 0 56)), (56, x1 (xaPutI 75 59)), (59, x0 (xaLdA 0 60)), (60, xK (1, 63, [(some 9, 143)])), (63, x0 (xaLdA 0 64))]
def xk_141_2 : List (Nat × XI) := [(64, xK (1, 67, [(some 9, 147)])), (67, x0 (xaLdA 0 68)), (68, x1 (xaGetI 78 71)), (71, xB (xbLe 89 74)), (74, x0 (xaLdA 0 75)), (75, x0 (xaI 4 76)), (76, x1 (xaPutI 67 79)), (79, x0 (xaLdA 0 80)), (80, x0 (xaLdA 0 81)), (81, x1 (xaGetI 79 84)), (84, x1 (xaPutI 68 87)), (87, x0 (xaI (-1) 88)), (88, xR xrI), (89, x0 (xaLdA 0 90)), (90, x0 (xaLdA 0 91)), (91, x1 (xaGetA 70 94)), (94, x1 (xaPutA 69 97))]
def xk_141_3 : List (Nat × XI) := [(97, x0 (xaI 0 98)), (98, x0 (xaStI 2 99)), (99, x0 (xaLdI 2 100)), (100, x0 (xaI 16 102)), (102, xB (xcGe 118 105)), (105, x0 (xaLdA 0 106)), (106, x1 (xaGetA 81 109)), (109, x0 (xaLdI 2 110)), (110, x0 (xaI 0 111)), (111, x1 (xaAStI 112)), (112, x1 (xaInc 2 1 115)), (115, x0 (xaGo 99)), (118, x0 (xaI 0 119)), (119, x0 (xaStI 2 120)), (120, x0 (xaLdI 2 121)), (121, x0 (xaI 7 123)), (123, xB (xcGe 165 126)), (126, x0 (xaLdA 0 127)), (127, x1 (xaGetA 81 130))]
def xk_141_4 : List (Nat × XI) := [(130, x0 (xaI 0 131)), (131, x0 (xaLdI 2 132)), (132, x1 (xaAdd 133)), (133, x0 (xaLdI 2 134)), (134, x0 (xaLdA 0 135)), (135, x1 (xaGetA 69 138)), (138, x1 (xaGetI 135 141)), (141, xB (xcGe 156 144)), (144, x0 (xaLdA 0 145)), (145, x1 (xaGetA 69 148)), (148, x1 (xaGetA 146 151)), (151, x0 (xaLdI 2 152)), (152, x1 (xaALdI 0 153)), (153, x0 (xaGo 158)), (156, x0 (xaI (-2) 158)), (158, x1 (xaAStI 159)), (159, x1 (xaInc 2 1 162))]
def xk_141_5 : List (Nat × XI) := [(162, x0 (xaGo 120)), (165, x0 (xaI 0 166)), (166, x0 (xaStI 2 167)), (167, x0 (xaLdI 2 168)), (168, x0 (xaLdA 0 169)), (169, x1 (xaGetA 69 172)), (172, x1 (xaGetI 139 175)), (175, xB (xcGe 202 178)), (178, x0 (xaLdA 0 179)), (179, x1 (xaGetA 81 182)), (182, x0 (xaI 8 184)), (184, x0 (xaLdI 2 185)), (185, x1 (xaAdd 186)), (186, x0 (xaLdA 0 187)), (187, x1 (xaGetA 69 190)), (190, x1 (xaGetA 152 193))]
def xk_141_6 : List (Nat × XI) := [(193, x0 (xaLdI 2 194)), (194, x1 (xaALdI 0 195)), (195, x1 (xaAStI 196)), (196, x1 (xaInc 2 1 199)), (199, x0 (xaGo 167)), (202, x0 (xaLdA 0 203)), (203, xK (1, 206, [(some 9, 173)])), (206, x0 (xaLdA 0 207)), (207, x0 (xaI 0 208)), (208, x1 (xaPutI 84 211)), (211, x0 (xaLdA 0 212)), (212, x0 (xaI 0 213)), (213, x1 (xaPutI 85 216)), (216, x0 (xaLdA 0 217)), (217, x0 (xaLdA 0 218)), (218, x1 (xaGetA 69 221)), (221, x1 (xaGetI 135 224))]
def xk_141_7 : List (Nat × XI) := [(224, xK (2, 227, [(some 9, 174)])), (227, xR xrI)]
def xk_141 : List (List (Nat × XI)) := [xk_141_0, xk_141_1, xk_141_2, xk_141_3, xk_141_4, xk_141_5, xk_141_6, xk_141_7]
/-- WrongRoomModel refused (I)I -/
def xm_X11_refused : Nat := 142
def xk_142_0 : List (Nat × XI) := [(0, x0 (xaLdA 0 1)), (1, x0 (xaLdI 1 2)), (2, x1 (xaPutI 67 5)), (5, x0 (xaLdA 0 6)), (6, x0 (xaI (-1) 7)), (7, x1 (xaPutI 68 10)), (10, x0 (xaI (-1) 11)), (11, xR xrI)]
def xk_142 : List (List (Nat × XI)) := [xk_142_0]
/-- WrongRoomModel goesOn ()V -/
def xm_X11_goesOn : Nat := 143
def xk_143_0 : List (Nat × XI) := [(0, x0 (xaLdA 0 1)), (1, x1 (xaGetI 75 4)), (4, x0 (xaI 5 5)), (5, xB (xcNe 9 8)), (8, xR xrV), (9, x0 (xaLdA 0 10)), (10, x0 (xaLdA 0 11)), (11, x1 (xaGetI 74 14)), (14, xK (2, 17, [(some 9, 144)])), (17, x0 (xaI 32 19)), (19, xB (xcNe 35 22)), (22, x0 (xaLdA 0 23)), (23, x0 (xaDup 24)), (24, x1 (xaGetI 74 27)), (27, x0 (xaI 1 28)), (28, x1 (xaAdd 29)), (29, x1 (xaPutI 74 32))]
def xk_143_1 : List (Nat × XI) := [(32, x0 (xaGo 9)), (35, x0 (xaLdA 0 36)), (36, x0 (xaLdA 0 37)), (37, x1 (xaGetI 74 40)), (40, x1 (xaPutI 76 43)), (43, x0 (xaLdA 0 44)), (44, x0 (xaI 0 45)), (45, x1 (xaPutI 75 48)), (48, x0 (xaLdA 0 49)), (49, x0 (xaLdA 0 50)), (50, x1 (xaGetI 74 53)), (53, xK (2, 56, [(some 9, 144)])), (56, x0 (xaStI 1 57)), (57, x0 (xaI 0 58)), (58, x0 (xaStI 2 59)), (59, x0 (xaLdI 1 60)), (60, x0 (xaI (-1) 61)), (61, xB (xcNe 72 64))]
def xk_143_2 : List (Nat × XI) := [(64, x0 (xaLdA 0 65)), (65, x0 (xaI 1 66)), (66, x1 (xaPutI 75 69)), (69, x0 (xaGo 265)), (72, x0 (xaLdI 1 73)), (73, xK (1, 76, [(none, 145)])), (76, xB (xbEq 161 79)), (79, x0 (xaLdA 0 80)), (80, x0 (xaL 0 81)), (81, x1 (xaPutJ 80 84)), (84, x0 (xaLdA 0 85)), (85, x0 (xaLdA 0 86)), (86, x1 (xaGetI 74 89)), (89, xK (2, 92, [(some 9, 144)])), (92, xK (1, 95, [(none, 145)])), (95, xB (xbEq 147 98))]
def xk_143_3 : List (Nat × XI) := [(98, x0 (xaLdI 2 99)), (99, x0 (xaI 8 101)), (101, xB (xcGe 131 104)), (104, x0 (xaLdA 0 105)), (105, x0 (xaL 32 108)), (108, x0 (xaLdA 0 109)), (109, x1 (xaGetJ 80 112)), (112, x1 (xaLMul 113)), (113, x0 (xaLdA 0 114)), (114, x0 (xaLdA 0 115)), (115, x1 (xaGetI 74 118)), (118, xK (2, 121, [(some 9, 144)])), (121, x0 (xaI 97 123)), (123, x1 (xaSub 124)), (124, x0 (xaI 1 125)), (125, x1 (xaAdd 126)), (126, x0 (xaI2L 127)), (127, x1 (xaLAdd 128))]
def xk_143_4 : List (Nat × XI) := [(128, x1 (xaPutJ 80 131)), (131, x1 (xaInc 2 1 134)), (134, x0 (xaLdA 0 135)), (135, x0 (xaDup 136)), (136, x1 (xaGetI 74 139)), (139, x0 (xaI 1 140)), (140, x1 (xaAdd 141)), (141, x1 (xaPutI 74 144)), (144, x0 (xaGo 84)), (147, x0 (xaLdI 2 148)), (148, x0 (xaI 8 150)), (150, xB (xcGt 265 153)), (153, x0 (xaLdA 0 154)), (154, x0 (xaI 2 155)), (155, x1 (xaPutI 75 158)), (158, x0 (xaGo 265))]
def xk_143_5 : List (Nat × XI) := [(161, x0 (xaLdI 1 162)), (162, xK (1, 165, [(none, 146)])), (165, xB (xbEq 244 168)), (168, x0 (xaLdA 0 169)), (169, x0 (xaI 0 170)), (170, x1 (xaPutI 77 173)), (173, x0 (xaLdA 0 174)), (174, x0 (xaLdA 0 175)), (175, x1 (xaGetI 74 178)), (178, xK (2, 181, [(some 9, 144)])), (181, xK (1, 184, [(none, 146)])), (184, xB (xbEq 231 187)), (187, x0 (xaLdI 2 188)), (188, x0 (xaI 3 189)), (189, xB (xcGe 215 192))]
def xk_143_6 : List (Nat × XI) := [(192, x0 (xaLdA 0 193)), (193, x0 (xaI 10 195)), (195, x0 (xaLdA 0 196)), (196, x1 (xaGetI 77 199)), (199, x1 (xaMul 200)), (200, x0 (xaLdA 0 201)), (201, x0 (xaLdA 0 202)), (202, x1 (xaGetI 74 205)), (205, xK (2, 208, [(some 9, 144)])), (208, x1 (xaAdd 209)), (209, x0 (xaI 48 211)), (211, x1 (xaSub 212)), (212, x1 (xaPutI 77 215)), (215, x1 (xaInc 2 1 218)), (218, x0 (xaLdA 0 219)), (219, x0 (xaDup 220)), (220, x1 (xaGetI 74 223)), (223, x0 (xaI 1 224))]
def xk_143_7 : List (Nat × XI) := [(224, x1 (xaAdd 225)), (225, x1 (xaPutI 74 228)), (228, x0 (xaGo 173)), (231, x0 (xaLdI 2 232)), (232, x0 (xaI 3 233)), (233, xB (xcGt 265 236)), (236, x0 (xaLdA 0 237)), (237, x0 (xaI 3 238)), (238, x1 (xaPutI 75 241)), (241, x0 (xaGo 265)), (244, x0 (xaLdI 1 245)), (245, x0 (xaI 59 247)), (247, xB (xcNe 265 250)), (250, x0 (xaLdA 0 251)), (251, x0 (xaI 4 252)), (252, x1 (xaPutI 75 255)), (255, x0 (xaLdA 0 256))]
def xk_143_8 : List (Nat × XI) := [(256, x0 (xaDup 257)), (257, x1 (xaGetI 74 260)), (260, x0 (xaI 1 261)), (261, x1 (xaAdd 262)), (262, x1 (xaPutI 74 265)), (265, xR xrV)]
def xk_143 : List (List (Nat × XI)) := [xk_143_0, xk_143_1, xk_143_2, xk_143_3, xk_143_4, xk_143_5, xk_143_6, xk_143_7, xk_143_8]
/-- WrongRoomModel byteAt (I)I -/
def xm_X11_byteAt : Nat := 144
def xk_144_0 : List (Nat × XI) := [(0, x0 (xaLdI 1 1)), (1, x0 (xaLdA 0 2)), (2, x1 (xaGetI 73 5)), (5, xB (xcGe 21 8)), (8, x0 (xaLdA 0 9)), (9, x1 (xaGetA 71 12)), (12, x0 (xaLdI 1 13)), (13, x1 (xaALdI 1 14)), (14, x0 (xaI 255 17)), (17, x0 (xaAnd 18)), (18, x0 (xaGo 22)), (21, x0 (xaI (-1) 22)), (22, xR xrI)]
def xk_144 : List (List (Nat × XI)) := [xk_144_0]
/-- WrongRoomModel isLetter (I)Z -/
def xm_X11_isLetter : Nat := 145
def xk_145_0 : List (Nat × XI) := [(0, x0 (xaLdI 0 1)), (1, x0 (xaI 97 3)), (3, xB (xcLt 16 6)), (6, x0 (xaLdI 0 7)), (7, x0 (xaI 122 9)), (9, xB (xcGt 16 12)), (12, x0 (xaI 1 13)), (13, x0 (xaGo 17)), (16, x0 (xaI 0 17)), (17, xR xrZ)]
def xk_145 : List (List (Nat × XI)) := [xk_145_0]
/-- WrongRoomModel isDigit (I)Z -/
def xm_X11_isDigit : Nat := 146
def xk_146_0 : List (Nat × XI) := [(0, x0 (xaLdI 0 1)), (1, x0 (xaI 48 3)), (3, xB (xcLt 16 6)), (6, x0 (xaLdI 0 7)), (7, x0 (xaI 57 9)), (9, xB (xcGt 16 12)), (12, x0 (xaI 1 13)), (13, x0 (xaGo 17)), (16, x0 (xaI 0 17)), (17, xR xrZ)]
def xk_146 : List (List (Nat × XI)) := [xk_146_0]
/-- WrongRoomModel readAll ()V -/
def xm_X11_readAll : Nat := 147
def xk_147_0 : List (Nat × XI) := [(0, x0 (xaI 1 1)), (1, x0 (xaStI 1 2)), (2, x0 (xaLdI 1 3)), (3, xB (xbEq 18 6)), (6, x0 (xaLdA 0 7)), (7, xK (1, 10, [(some 9, 148)])), (10, x0 (xaLdA 0 11)), (11, xK (1, 14, [(some 9, 172)])), (14, x0 (xaStI 1 15)), (15, x0 (xaGo 2)), (18, x0 (xaLdA 0 19)), (19, x1 (xaGetI 75 22)), (22, x0 (xaI 1 23)), (23, xB (xcEq 31 26)), (26, x0 (xaLdA 0 27)), (27, x0 (xaI 1 28)), (28, xK (2, 31, [(some 9, 152)])), (31, x0 (xaLdA 0 32))]
def xk_147_1 : List (Nat × XI) := [(32, x1 (xaGetA 70 35)), (35, x1 (xaGetI 135 38)), (38, x0 (xaI 2 39)), (39, xB (xcGe 48 42)), (42, x0 (xaLdA 0 43)), (43, x0 (xaI 6 45)), (45, xK (2, 48, [(some 9, 152)])), (48, xR xrV)]
def xk_147 : List (List (Nat × XI)) := [xk_147_0, xk_147_1]
/-- WrongRoomModel readLine ()V -/
def xm_X11_readLine : Nat := 148
def xk_148_0 : List (Nat × XI) := [(0, x0 (xaLdA 0 1)), (1, x0 (xaCst 21 3)), (3, xK (2, 6, [(some 9, 149)])), (6, xB (xbEq 16 9)), (9, x0 (xaLdA 0 10)), (10, xK (1, 13, [(some 9, 151)])), (13, x0 (xaGo 133)), (16, x0 (xaLdA 0 17)), (17, x0 (xaCst 22 19)), (19, xK (2, 22, [(some 9, 149)])), (22, xB (xbEq 32 25)), (25, x0 (xaLdA 0 26)), (26, xK (1, 29, [(some 9, 157)])), (29, x0 (xaGo 133))]
def xk_148_1 : List (Nat × XI) := [(32, x0 (xaLdA 0 33)), (33, x0 (xaCst 23 35)), (35, xK (2, 38, [(some 9, 149)])), (38, xB (xbEq 48 41)), (41, x0 (xaLdA 0 42)), (42, xK (1, 45, [(some 9, 163)])), (45, x0 (xaGo 133)), (48, x0 (xaLdA 0 49)), (49, x0 (xaCst 24 51)), (51, xK (2, 54, [(some 9, 149)])), (54, xB (xbEq 64 57)), (57, x0 (xaLdA 0 58)), (58, xK (1, 61, [(some 9, 165)])), (61, x0 (xaGo 133))]
def xk_148_2 : List (Nat × XI) := [(64, x0 (xaLdA 0 65)), (65, x0 (xaCst 25 67)), (67, xK (2, 70, [(some 9, 149)])), (70, xB (xbEq 80 73)), (73, x0 (xaLdA 0 74)), (74, xK (1, 77, [(some 9, 166)])), (77, x0 (xaGo 133)), (80, x0 (xaLdA 0 81)), (81, x0 (xaCst 26 83)), (83, xK (2, 86, [(some 9, 149)])), (86, xB (xbEq 96 89)), (89, x0 (xaLdA 0 90)), (90, xK (1, 93, [(some 9, 168)])), (93, x0 (xaGo 133))]
def xk_148_3 : List (Nat × XI) := [(96, x0 (xaLdA 0 97)), (97, x0 (xaCst 27 99)), (99, xK (2, 102, [(some 9, 149)])), (102, xB (xbEq 112 105)), (105, x0 (xaLdA 0 106)), (106, xK (1, 109, [(some 9, 170)])), (109, x0 (xaGo 133)), (112, x0 (xaLdA 0 113)), (113, x0 (xaCst 28 115)), (115, xK (2, 118, [(some 9, 149)])), (118, xB (xbEq 128 121)), (121, x0 (xaLdA 0 122)), (122, xK (1, 125, [(some 9, 171)])), (125, x0 (xaGo 133))]
def xk_148_4 : List (Nat × XI) := [(128, x0 (xaLdA 0 129)), (129, x0 (xaI 1 130)), (130, xK (2, 133, [(some 9, 152)])), (133, xR xrV)]
def xk_148 : List (List (Nat × XI)) := [xk_148_0, xk_148_1, xk_148_2, xk_148_3, xk_148_4]
/-- WrongRoomModel isWord (Ljava/lang/String;)Z -/
def xm_X11_isWord : Nat := 149
def xk_149_0 : List (Nat × XI) := [(0, x0 (xaLdA 0 1)), (1, x1 (xaGetI 75 4)), (4, x0 (xaI 2 5)), (5, xB (xcNe 24 8)), (8, x0 (xaLdA 0 9)), (9, x1 (xaGetJ 80 12)), (12, x0 (xaLdA 1 13)), (13, xK (1, 16, [(none, 150)])), (16, x0 (xaLCmp 17)), (17, xB (xbNe 24 20)), (20, x0 (xaI 1 21)), (21, x0 (xaGo 25)), (24, x0 (xaI 0 25)), (25, xR xrZ)]
def xk_149 : List (List (Nat × XI)) := [xk_149_0]
/-- WrongRoomModel packed (Ljava/lang/String;)J -/
def xm_X11_packed : Nat := 150
def xk_150_0 : List (Nat × XI) := [(0, x0 (xaL 0 1)), (1, x0 (xaStJ 1 2)), (2, x0 (xaI 0 3)), (3, x0 (xaStI 3 4)), (4, x0 (xaLdI 3 5)), (5, x0 (xaLdA 0 6)), (6, xK (1, 9, [(some 16, 268)])), (9, xB (xcGe 36 12)), (12, x0 (xaL 32 15)), (15, x0 (xaLdJ 1 16)), (16, x1 (xaLMul 17)), (17, x0 (xaLdA 0 18)), (18, x0 (xaLdI 3 19)), (19, xK (2, 22, [(some 16, 270)])), (22, x0 (xaI 97 24)), (24, x1 (xaSub 25)), (25, x0 (xaI 1 26)), (26, x1 (xaAdd 27)), (27, x0 (xaI2L 28)), (28, x1 (xaLAdd 29)), (29, x0 (xaStJ 1 30)), (30, x1 (xaInc 3 1 33))]
def xk_150_1 : List (Nat × XI) := [(33, x0 (xaGo 4)), (36, x0 (xaLdJ 1 37)), (37, xR xrJ)]
def xk_150 : List (List (Nat × XI)) := [xk_150_0, xk_150_1]
/-- WrongRoomModel readTown ()V -/
def xm_X11_readTown : Nat := 151
def xk_151_0 : List (Nat × XI) := [(0, x0 (xaLdA 0 1)), (1, x1 (xaGetA 70 4)), (4, x1 (xaGetI 133 7)), (7, xB (xbLe 15 10)), (10, x0 (xaLdA 0 11)), (11, x0 (xaI 3 12)), (12, xK (2, 15, [(some 9, 152)])), (15, x0 (xaLdA 0 16)), (16, xK (1, 19, [(some 9, 143)])), (19, x0 (xaLdA 0 20)), (20, x0 (xaCst 29 22)), (22, x0 (xaI 1 23)), (23, x0 (xaI 9 25)), (25, xK (4, 28, [(some 9, 153)])), (28, x0 (xaStI 1 29)), (29, x0 (xaLdA 0 30)), (30, x0 (xaCst 30 32))]
def xk_151_1 : List (Nat × XI) := [(32, x0 (xaI 0 33)), (33, x0 (xaI 9 35)), (35, xK (4, 38, [(some 9, 153)])), (38, x0 (xaStI 2 39)), (39, x0 (xaLdA 0 40)), (40, x1 (xaGetI 75 43)), (43, x0 (xaI 5 44)), (44, xB (xcNe 48 47)), (47, xR xrV), (48, x0 (xaLdA 0 49)), (49, x1 (xaGetA 70 52)), (52, x0 (xaLdI 1 53)), (53, x1 (xaPutI 133 56)), (56, x0 (xaLdA 0 57)), (57, x1 (xaGetA 70 60)), (60, x0 (xaLdI 2 61)), (61, x1 (xaPutI 134 64))]
def xk_151_2 : List (Nat × XI) := [(64, xR xrV)]
def xk_151 : List (List (Nat × XI)) := [xk_151_0, xk_151_1, xk_151_2]
/-- WrongRoomModel flaw (I)V -/
def xm_X11_flaw : Nat := 152
def xk_152_0 : List (Nat × XI) := [(0, x0 (xaLdA 0 1)), (1, x1 (xaGetI 75 4)), (4, x0 (xaI 5 5)), (5, xB (xcNe 9 8)), (8, xR xrV), (9, x0 (xaLdA 0 10)), (10, x0 (xaLdI 1 11)), (11, x1 (xaPutI 78 14)), (14, x0 (xaLdA 0 15)), (15, x0 (xaLdA 0 16)), (16, x1 (xaGetI 76 19)), (19, x1 (xaPutI 79 22)), (22, x0 (xaLdA 0 23)), (23, x0 (xaI 5 24)), (24, x1 (xaPutI 75 27)), (27, xR xrV)]
def xk_152 : List (List (Nat × XI)) := [xk_152_0]
/-- WrongRoomModel readPart (Ljava/lang/String;II)I -/
def xm_X11_readPart : Nat := 153
def xk_153_0 : List (Nat × XI) := [(0, x0 (xaLdA 0 1)), (1, x0 (xaLdA 1 2)), (2, xK (2, 5, [(some 9, 154)])), (5, x0 (xaLdA 0 6)), (6, x0 (xaLdI 2 7)), (7, x0 (xaLdI 3 8)), (8, xK (3, 11, [(some 9, 155)])), (11, xR xrI)]
def xk_153 : List (List (Nat × XI)) := [xk_153_0]
/-- WrongRoomModel needs (Ljava/lang/String;)V -/
def xm_X11_needs : Nat := 154
def xk_154_0 : List (Nat × XI) := [(0, x0 (xaLdA 0 1)), (1, x0 (xaLdA 1 2)), (2, xK (2, 5, [(some 9, 149)])), (5, xB (xbNe 13 8)), (8, x0 (xaLdA 0 9)), (9, x0 (xaI 1 10)), (10, xK (2, 13, [(some 9, 152)])), (13, x0 (xaLdA 0 14)), (14, xK (1, 17, [(some 9, 143)])), (17, xR xrV)]
def xk_154 : List (List (Nat × XI)) := [xk_154_0]
/-- WrongRoomModel readWhole (II)I -/
def xm_X11_readWhole : Nat := 155
def xk_155_0 : List (Nat × XI) := [(0, x0 (xaLdA 0 1)), (1, x1 (xaGetI 75 4)), (4, x0 (xaI 3 5)), (5, xB (xcEq 16 8)), (8, x0 (xaLdA 0 9)), (9, x0 (xaI 1 10)), (10, xK (2, 13, [(some 9, 152)])), (13, x0 (xaGo 33)), (16, x0 (xaLdA 0 17)), (17, x1 (xaGetI 77 20)), (20, x0 (xaLdI 1 21)), (21, x0 (xaLdI 2 22)), (22, xK (3, 25, [(none, 156)])), (25, xB (xbNe 33 28)), (28, x0 (xaLdA 0 29)), (29, x0 (xaI 4 30)), (30, xK (2, 33, [(some 9, 152)]))]
def xk_155_1 : List (Nat × XI) := [(33, x0 (xaLdA 0 34)), (34, x1 (xaGetI 75 37)), (37, x0 (xaI 5 38)), (38, xB (xcNe 45 41)), (41, x0 (xaLdI 1 42)), (42, x0 (xaGo 49)), (45, x0 (xaLdA 0 46)), (46, x1 (xaGetI 77 49)), (49, x0 (xaStI 3 50)), (50, x0 (xaLdA 0 51)), (51, xK (1, 54, [(some 9, 143)])), (54, x0 (xaLdI 3 55)), (55, xR xrI)]
def xk_155 : List (List (Nat × XI)) := [xk_155_0, xk_155_1]
/-- WrongRoomModel in (III)Z -/
def xm_X11_in : Nat := 156
def xk_156_0 : List (Nat × XI) := [(0, x0 (xaLdI 0 1)), (1, x0 (xaLdI 1 2)), (2, xB (xcLt 14 5)), (5, x0 (xaLdI 0 6)), (6, x0 (xaLdI 2 7)), (7, xB (xcGt 14 10)), (10, x0 (xaI 1 11)), (11, x0 (xaGo 15)), (14, x0 (xaI 0 15)), (15, xR xrZ)]
def xk_156 : List (List (Nat × XI)) := [xk_156_0]
/-- WrongRoomModel readHouseLine ()V -/
def xm_X11_readHouseLine : Nat := 157
def xk_157_0 : List (Nat × XI) := [(0, x0 (xaLdA 0 1)), (1, x0 (xaLdA 0 2)), (2, x1 (xaGetA 70 5)), (5, x1 (xaGetI 135 8)), (8, x0 (xaI 7 10)), (10, xK (3, 13, [(some 9, 158)])), (13, x0 (xaLdA 0 14)), (14, xK (1, 17, [(some 9, 159)])), (17, x0 (xaStJ 1 18)), (18, x0 (xaLdA 0 19)), (19, x0 (xaCst 31 21)), (21, x0 (xaI 1 22)), (22, x0 (xaI 9 24)), (24, xK (4, 27, [(some 9, 153)])), (27, x0 (xaStI 3 28)), (28, x0 (xaLdA 0 29)), (29, x0 (xaCst 32 31)), (31, x0 (xaI 1 32))]
def xk_157_1 : List (Nat × XI) := [(32, x0 (xaI 99 34)), (34, xK (4, 37, [(some 9, 153)])), (37, x0 (xaStI 4 39)), (39, x0 (xaLdA 0 40)), (40, x0 (xaCst 33 43)), (43, x0 (xaI 0 44)), (44, x0 (xaI 999 47)), (47, xK (4, 50, [(some 9, 153)])), (50, x0 (xaStI 5 52)), (52, x0 (xaLdA 0 53)), (53, x0 (xaCst 34 56)), (56, xK (2, 59, [(some 9, 154)])), (59, x0 (xaLdA 0 60)), (60, xK (1, 63, [(some 9, 161)])), (63, x0 (xaStJ 6 65))]
def xk_157_2 : List (Nat × XI) := [(65, x0 (xaLdA 0 66)), (66, x1 (xaGetI 75 69)), (69, x0 (xaI 5 70)), (70, xB (xcNe 74 73)), (73, xR xrV), (74, x0 (xaLdA 0 75)), (75, x1 (xaGetA 70 78)), (78, x1 (xaGetI 135 81)), (81, x0 (xaStI 8 83)), (83, x0 (xaLdA 0 84)), (84, x0 (xaLdJ 1 85)), (85, x0 (xaI 0 86)), (86, x0 (xaLdI 8 88)), (88, xK (4, 91, [(some 9, 162)])), (91, x0 (xaLdA 0 92)), (92, x1 (xaGetA 70 95)), (95, x1 (xaGetA 143 98))]
def xk_157_3 : List (Nat × XI) := [(98, x0 (xaLdI 8 100)), (100, x0 (xaLdI 3 101)), (101, x1 (xaAStI 102)), (102, x0 (xaLdA 0 103)), (103, x1 (xaGetA 70 106)), (106, x1 (xaGetA 144 109)), (109, x0 (xaLdI 8 111)), (111, x0 (xaLdI 4 113)), (113, x1 (xaAStI 114)), (114, x0 (xaLdA 0 115)), (115, x1 (xaGetA 70 118)), (118, x1 (xaGetA 145 121)), (121, x0 (xaLdI 8 123)), (123, x0 (xaLdI 5 125)), (125, x1 (xaAStI 126)), (126, x0 (xaLdA 0 127)), (127, x1 (xaGetA 70 130))]
def xk_157_4 : List (Nat × XI) := [(130, x1 (xaGetA 149 133)), (133, x0 (xaLdI 8 135)), (135, x0 (xaLdJ 6 137)), (137, x1 (xaAStJ 138)), (138, x0 (xaLdA 0 139)), (139, x1 (xaGetA 70 142)), (142, x1 (xaGetA 146 145)), (145, x0 (xaLdI 8 147)), (147, x0 (xaI (-2) 149)), (149, x1 (xaAStI 150)), (150, x0 (xaLdA 0 151)), (151, x1 (xaGetA 70 154)), (154, x1 (xaGetA 147 157)), (157, x0 (xaLdI 8 159)), (159, x0 (xaI (-1) 160))]
def xk_157_5 : List (Nat × XI) := [(160, x1 (xaAStI 161)), (161, x0 (xaLdA 0 162)), (162, x1 (xaGetA 70 165)), (165, x0 (xaDup 166)), (166, x1 (xaGetI 135 169)), (169, x0 (xaI 1 170)), (170, x1 (xaAdd 171)), (171, x1 (xaPutI 135 174)), (174, xR xrV)]
def xk_157 : List (List (Nat × XI)) := [xk_157_0, xk_157_1, xk_157_2, xk_157_3, xk_157_4, xk_157_5]
/-- WrongRoomModel lineBegins (II)V -/
def xm_X11_lineBegins : Nat := 158
def xk_158_0 : List (Nat × XI) := [(0, x0 (xaLdI 1 1)), (1, x0 (xaLdI 2 2)), (2, xB (xcNe 10 5)), (5, x0 (xaLdA 0 6)), (6, x0 (xaI 5 7)), (7, xK (2, 10, [(some 9, 152)])), (10, x0 (xaLdA 0 11)), (11, x1 (xaGetA 70 14)), (14, x1 (xaGetI 133 17)), (17, xB (xbNe 26 20)), (20, x0 (xaLdA 0 21)), (21, x0 (xaI 6 23)), (23, xK (2, 26, [(some 9, 152)])), (26, x0 (xaLdA 0 27)), (27, xK (1, 30, [(some 9, 143)])), (30, xR xrV)]
def xk_158 : List (List (Nat × XI)) := [xk_158_0]
/-- WrongRoomModel readFresh ()J -/
def xm_X11_readFresh : Nat := 159
def xk_159_0 : List (Nat × XI) := [(0, x0 (xaLdA 0 1)), (1, xK (1, 4, [(some 9, 160)])), (4, xB (xbNe 12 7)), (7, x0 (xaLdA 0 8)), (8, x0 (xaI 1 9)), (9, xK (2, 12, [(some 9, 152)])), (12, x0 (xaLdA 0 13)), (13, x1 (xaGetA 70 16)), (16, x0 (xaLdA 0 17)), (17, x1 (xaGetJ 80 20)), (20, xK (2, 23, [(some 15, 292)])), (23, x0 (xaI (-1) 24)), (24, xB (xcEq 32 27)), (27, x0 (xaLdA 0 28)), (28, x0 (xaI 3 29)), (29, xK (2, 32, [(some 9, 152)]))]
def xk_159_1 : List (Nat × XI) := [(32, x0 (xaLdA 0 33)), (33, x1 (xaGetJ 80 36)), (36, x0 (xaStJ 1 37)), (37, x0 (xaLdA 0 38)), (38, xK (1, 41, [(some 9, 143)])), (41, x0 (xaLdJ 1 42)), (42, xR xrJ)]
def xk_159 : List (List (Nat × XI)) := [xk_159_0, xk_159_1]
/-- WrongRoomModel isName ()Z -/
def xm_X11_isName : Nat := 160
def xk_160_0 : List (Nat × XI) := [(0, x0 (xaLdA 0 1)), (1, x1 (xaGetI 75 4)), (4, x0 (xaI 2 5)), (5, xB (xcNe 44 8)), (8, x0 (xaLdA 0 9)), (9, x0 (xaCst 21 11)), (11, xK (2, 14, [(some 9, 149)])), (14, xB (xbNe 44 17)), (17, x0 (xaLdA 0 18)), (18, x0 (xaCst 22 20)), (20, xK (2, 23, [(some 9, 149)])), (23, xB (xbNe 44 26)), (26, x0 (xaLdA 0 27)), (27, x0 (xaCst 23 29)), (29, xK (2, 32, [(some 9, 149)]))]
def xk_160_1 : List (Nat × XI) := [(32, xB (xbNe 44 35)), (35, x0 (xaLdA 0 36)), (36, x0 (xaCst 24 38)), (38, xK (2, 41, [(some 9, 149)])), (41, xB (xbEq 46 44)), (44, x0 (xaI 0 45)), (45, xR xrZ), (46, x0 (xaLdA 0 47)), (47, x0 (xaCst 25 49)), (49, xK (2, 52, [(some 9, 149)])), (52, xB (xbNe 86 55)), (55, x0 (xaLdA 0 56)), (56, x0 (xaCst 26 58)), (58, xK (2, 61, [(some 9, 149)])), (61, xB (xbNe 86 64))]
def xk_160_2 : List (Nat × XI) := [(64, x0 (xaLdA 0 65)), (65, x0 (xaCst 27 67)), (67, xK (2, 70, [(some 9, 149)])), (70, xB (xbNe 86 73)), (73, x0 (xaLdA 0 74)), (74, x0 (xaCst 28 76)), (76, xK (2, 79, [(some 9, 149)])), (79, xB (xbNe 86 82)), (82, x0 (xaI 1 83)), (83, x0 (xaGo 87)), (86, x0 (xaI 0 87)), (87, xR xrZ)]
def xk_160 : List (List (Nat × XI)) := [xk_160_0, xk_160_1, xk_160_2]
/-- WrongRoomModel readWord ()J -/
def xm_X11_readWord : Nat := 161
def xk_161_0 : List (Nat × XI) := [(0, x0 (xaLdA 0 1)), (1, x1 (xaGetI 75 4)), (4, x0 (xaI 2 5)), (5, xB (xcEq 13 8)), (8, x0 (xaLdA 0 9)), (9, x0 (xaI 1 10)), (10, xK (2, 13, [(some 9, 152)])), (13, x0 (xaLdA 0 14)), (14, x1 (xaGetJ 80 17)), (17, x0 (xaStJ 1 18)), (18, x0 (xaLdA 0 19)), (19, xK (1, 22, [(some 9, 143)])), (22, x0 (xaLdJ 1 23)), (23, xR xrJ)]
def xk_161 : List (List (Nat × XI)) := [xk_161_0]
/-- WrongRoomModel names (JII)V -/
def xm_X11_names : Nat := 162
def xk_162_0 : List (Nat × XI) := [(0, x0 (xaLdA 0 1)), (1, x1 (xaGetA 70 4)), (4, x1 (xaGetA 157 7)), (7, x0 (xaLdA 0 8)), (8, x1 (xaGetA 70 11)), (11, x1 (xaGetI 142 14)), (14, x0 (xaLdJ 1 15)), (15, x1 (xaAStJ 16)), (16, x0 (xaLdA 0 17)), (17, x1 (xaGetA 70 20)), (20, x1 (xaGetA 158 23)), (23, x0 (xaLdA 0 24)), (24, x1 (xaGetA 70 27)), (27, x1 (xaGetI 142 30)), (30, x0 (xaLdI 3 31)), (31, x1 (xaAStI 32))]
def xk_162_1 : List (Nat × XI) := [(32, x0 (xaLdA 0 33)), (33, x1 (xaGetA 70 36)), (36, x1 (xaGetA 159 39)), (39, x0 (xaLdA 0 40)), (40, x1 (xaGetA 70 43)), (43, x1 (xaGetI 142 46)), (46, x0 (xaLdI 4 48)), (48, x1 (xaAStI 49)), (49, x0 (xaLdA 0 50)), (50, x1 (xaGetA 70 53)), (53, x0 (xaDup 54)), (54, x1 (xaGetI 142 57)), (57, x0 (xaI 1 58)), (58, x1 (xaAdd 59)), (59, x1 (xaPutI 142 62)), (62, xR xrV)]
def xk_162 : List (List (Nat × XI)) := [xk_162_0, xk_162_1]
/-- WrongRoomModel readWrong ()V -/
def xm_X11_readWrong : Nat := 163
def xk_163_0 : List (Nat × XI) := [(0, x0 (xaLdA 0 1)), (1, x0 (xaI 0 2)), (2, x0 (xaI 1 3)), (3, xK (3, 6, [(some 9, 158)])), (6, x0 (xaLdA 0 7)), (7, xK (1, 10, [(some 9, 164)])), (10, x0 (xaStI 1 11)), (11, x0 (xaLdA 0 12)), (12, x1 (xaGetI 75 15)), (15, x0 (xaI 5 16)), (16, xB (xcEq 38 19)), (19, x0 (xaLdA 0 20)), (20, x1 (xaGetA 70 23)), (23, x1 (xaGetA 146 26)), (26, x0 (xaLdI 1 27)), (27, x1 (xaALdI 0 28)), (28, x0 (xaI (-2) 30)), (30, xB (xcEq 38 33))]
def xk_163_1 : List (Nat × XI) := [(33, x0 (xaLdA 0 34)), (34, x0 (xaI 3 35)), (35, xK (2, 38, [(some 9, 152)])), (38, x0 (xaLdA 0 39)), (39, xK (1, 42, [(some 9, 143)])), (42, x0 (xaLdA 0 43)), (43, x0 (xaCst 35 46)), (46, xK (2, 49, [(some 9, 154)])), (49, x0 (xaLdA 0 50)), (50, xK (1, 53, [(some 9, 164)])), (53, x0 (xaStI 2 54)), (54, x0 (xaLdA 0 55)), (55, x1 (xaGetI 75 58)), (58, x0 (xaI 5 59)), (59, xB (xcEq 83 62)), (62, x0 (xaLdI 2 63)), (63, x0 (xaLdI 1 64))]
def xk_163_2 : List (Nat × XI) := [(64, xB (xcEq 78 67)), (67, x0 (xaLdA 0 68)), (68, x1 (xaGetA 70 71)), (71, x0 (xaLdI 2 72)), (72, xK (2, 75, [(some 15, 293)])), (75, xB (xbEq 83 78)), (78, x0 (xaLdA 0 79)), (79, x0 (xaI 3 80)), (80, xK (2, 83, [(some 9, 152)])), (83, x0 (xaLdA 0 84)), (84, xK (1, 87, [(some 9, 143)])), (87, x0 (xaLdA 0 88)), (88, x1 (xaGetI 75 91)), (91, x0 (xaI 5 92)), (92, xB (xcNe 96 95)), (95, xR xrV)]
def xk_163_3 : List (Nat × XI) := [(96, x0 (xaLdA 0 97)), (97, x1 (xaGetA 70 100)), (100, x1 (xaGetA 146 103)), (103, x0 (xaLdI 1 104)), (104, x0 (xaLdI 2 105)), (105, x1 (xaAStI 106)), (106, x0 (xaLdA 0 107)), (107, x1 (xaGetA 70 110)), (110, x0 (xaDup 111)), (111, x1 (xaGetI 136 114)), (114, x0 (xaI 1 115)), (115, x1 (xaAdd 116)), (116, x1 (xaPutI 136 119)), (119, xR xrV)]
def xk_163 : List (List (Nat × XI)) := [xk_163_0, xk_163_1, xk_163_2, xk_163_3]
/-- WrongRoomModel knownHouse ()I -/
def xm_X11_knownHouse : Nat := 164
def xk_164_0 : List (Nat × XI) := [(0, x0 (xaLdA 0 1)), (1, xK (1, 4, [(some 9, 160)])), (4, xB (xbNe 12 7)), (7, x0 (xaLdA 0 8)), (8, x0 (xaI 1 9)), (9, xK (2, 12, [(some 9, 152)])), (12, x0 (xaLdA 0 13)), (13, x1 (xaGetA 70 16)), (16, x0 (xaLdA 0 17)), (17, x1 (xaGetJ 80 20)), (20, xK (2, 23, [(some 15, 292)])), (23, x0 (xaStI 1 24)), (24, x0 (xaLdI 1 25)), (25, x0 (xaI (-1) 26)), (26, xB (xcEq 41 29)), (29, x0 (xaLdA 0 30)), (30, x1 (xaGetA 70 33))]
def xk_164_1 : List (Nat × XI) := [(33, x1 (xaGetA 158 36)), (36, x0 (xaLdI 1 37)), (37, x1 (xaALdI 0 38)), (38, xB (xbEq 46 41)), (41, x0 (xaLdA 0 42)), (42, x0 (xaI 2 43)), (43, xK (2, 46, [(some 9, 152)])), (46, x0 (xaLdA 0 47)), (47, x1 (xaGetI 75 50)), (50, x0 (xaI 5 51)), (51, xB (xcNe 58 54)), (54, x0 (xaI 0 55)), (55, x0 (xaGo 67)), (58, x0 (xaLdA 0 59)), (59, x1 (xaGetA 70 62)), (62, x1 (xaGetA 159 65))]
def xk_164_2 : List (Nat × XI) := [(65, x0 (xaLdI 1 66)), (66, x1 (xaALdI 0 67)), (67, xR xrI)]
def xk_164 : List (List (Nat × XI)) := [xk_164_0, xk_164_1, xk_164_2]
/-- WrongRoomModel readOpen ()V -/
def xm_X11_readOpen : Nat := 165
def xk_165_0 : List (Nat × XI) := [(0, x0 (xaLdA 0 1)), (1, x0 (xaI 0 2)), (2, x0 (xaI 1 3)), (3, xK (3, 6, [(some 9, 158)])), (6, x0 (xaLdA 0 7)), (7, xK (1, 10, [(some 9, 164)])), (10, x0 (xaStI 1 11)), (11, x0 (xaLdA 0 12)), (12, x1 (xaGetI 75 15)), (15, x0 (xaI 5 16)), (16, xB (xcEq 35 19)), (19, x0 (xaLdA 0 20)), (20, x1 (xaGetA 70 23)), (23, x0 (xaLdI 1 24)), (24, xK (2, 27, [(some 15, 294)])), (27, xB (xbEq 35 30)), (30, x0 (xaLdA 0 31)), (31, x0 (xaI 3 32))]
def xk_165_1 : List (Nat × XI) := [(32, xK (2, 35, [(some 9, 152)])), (35, x0 (xaLdA 0 36)), (36, xK (1, 39, [(some 9, 143)])), (39, x0 (xaLdA 0 40)), (40, x0 (xaCst 36 43)), (43, x0 (xaI 0 44)), (44, x0 (xaI 23 46)), (46, xK (4, 49, [(some 9, 153)])), (49, x0 (xaStI 2 50)), (50, x0 (xaLdA 0 51)), (51, x0 (xaCst 37 54)), (54, x0 (xaLdI 2 55)), (55, x0 (xaI 23 57)), (57, xK (4, 60, [(some 9, 153)])), (60, x0 (xaStI 3 61)), (61, x0 (xaLdA 0 62)), (62, x1 (xaGetI 75 65))]
def xk_165_2 : List (Nat × XI) := [(65, x0 (xaI 5 66)), (66, xB (xcNe 70 69)), (69, xR xrV), (70, x0 (xaLdA 0 71)), (71, x1 (xaGetA 70 74)), (74, x1 (xaGetA 147 77)), (77, x0 (xaLdI 1 78)), (78, x0 (xaLdI 2 79)), (79, x1 (xaAStI 80)), (80, x0 (xaLdA 0 81)), (81, x1 (xaGetA 70 84)), (84, x1 (xaGetA 148 87)), (87, x0 (xaLdI 1 88)), (88, x0 (xaLdI 3 89)), (89, x1 (xaAStI 90)), (90, x0 (xaLdA 0 91)), (91, x1 (xaGetA 70 94)), (94, x0 (xaDup 95)), (95, x1 (xaGetI 137 98))]
def xk_165_3 : List (Nat × XI) := [(98, x0 (xaI 1 99)), (99, x1 (xaAdd 100)), (100, x1 (xaPutI 137 103)), (103, xR xrV)]
def xk_165 : List (List (Nat × XI)) := [xk_165_0, xk_165_1, xk_165_2, xk_165_3]
/-- WrongRoomModel readStreet ()V -/
def xm_X11_readStreet : Nat := 166
def xk_166_0 : List (Nat × XI) := [(0, x0 (xaLdA 0 1)), (1, x0 (xaLdA 0 2)), (2, x1 (xaGetA 70 5)), (5, x1 (xaGetI 138 8)), (8, x0 (xaI 10 10)), (10, xK (3, 13, [(some 9, 158)])), (13, x0 (xaLdA 0 14)), (14, xK (1, 17, [(some 9, 167)])), (17, x0 (xaStI 1 18)), (18, x0 (xaLdA 0 19)), (19, xK (1, 22, [(some 9, 164)])), (22, x0 (xaStI 2 23)), (23, x0 (xaLdA 0 24)), (24, x1 (xaGetI 75 27)), (27, x0 (xaI 5 28)), (28, xB (xcEq 58 31)), (31, x0 (xaLdI 2 32))]
def xk_166_1 : List (Nat × XI) := [(32, x0 (xaLdI 1 33)), (33, xB (xcEq 53 36)), (36, x0 (xaLdA 0 37)), (37, x1 (xaGetA 70 40)), (40, x1 (xaGetA 150 43)), (43, x0 (xaI 7 45)), (45, x0 (xaLdI 1 46)), (46, x1 (xaMul 47)), (47, x0 (xaLdI 2 48)), (48, x1 (xaAdd 49)), (49, x1 (xaALdI 0 50)), (50, xB (xbLe 58 53)), (53, x0 (xaLdA 0 54)), (54, x0 (xaI 3 55)), (55, xK (2, 58, [(some 9, 152)])), (58, x0 (xaLdA 0 59)), (59, xK (1, 62, [(some 9, 143)])), (62, x0 (xaLdA 0 63)), (63, x0 (xaCst 38 66))]
def xk_166_2 : List (Nat × XI) := [(66, x0 (xaI 1 67)), (67, x0 (xaI 99 69)), (69, xK (4, 72, [(some 9, 153)])), (72, x0 (xaStI 3 73)), (73, x0 (xaLdA 0 74)), (74, x1 (xaGetI 75 77)), (77, x0 (xaI 5 78)), (78, xB (xcNe 82 81)), (81, xR xrV), (82, x0 (xaLdA 0 83)), (83, x1 (xaGetA 70 86)), (86, x1 (xaGetA 150 89)), (89, x0 (xaI 7 91)), (91, x0 (xaLdI 1 92)), (92, x1 (xaMul 93)), (93, x0 (xaLdI 2 94)), (94, x1 (xaAdd 95)), (95, x0 (xaLdI 3 96))]
def xk_166_3 : List (Nat × XI) := [(96, x1 (xaAStI 97)), (97, x0 (xaLdA 0 98)), (98, x1 (xaGetA 70 101)), (101, x1 (xaGetA 150 104)), (104, x0 (xaI 7 106)), (106, x0 (xaLdI 2 107)), (107, x1 (xaMul 108)), (108, x0 (xaLdI 1 109)), (109, x1 (xaAdd 110)), (110, x0 (xaLdI 3 111)), (111, x1 (xaAStI 112)), (112, x0 (xaLdA 0 113)), (113, x1 (xaGetA 70 116)), (116, x0 (xaDup 117)), (117, x1 (xaGetI 138 120)), (120, x0 (xaI 1 121)), (121, x1 (xaAdd 122)), (122, x1 (xaPutI 138 125)), (125, xR xrV)]
def xk_166 : List (List (Nat × XI)) := [xk_166_0, xk_166_1, xk_166_2, xk_166_3]
/-- WrongRoomModel readHouse ()I -/
def xm_X11_readHouse : Nat := 167
def xk_167_0 : List (Nat × XI) := [(0, x0 (xaLdA 0 1)), (1, xK (1, 4, [(some 9, 164)])), (4, x0 (xaStI 1 5)), (5, x0 (xaLdA 0 6)), (6, xK (1, 9, [(some 9, 143)])), (9, x0 (xaLdI 1 10)), (10, xR xrI)]
def xk_167 : List (List (Nat × XI)) := [xk_167_0]
/-- WrongRoomModel readPerson ()V -/
def xm_X11_readPerson : Nat := 168
def xk_168_0 : List (Nat × XI) := [(0, x0 (xaLdA 0 1)), (1, x0 (xaLdA 0 2)), (2, x1 (xaGetA 70 5)), (5, x1 (xaGetI 139 8)), (8, x0 (xaI 4 9)), (9, xK (3, 12, [(some 9, 158)])), (12, x0 (xaLdA 0 13)), (13, xK (1, 16, [(some 9, 159)])), (16, x0 (xaStJ 1 17)), (17, x0 (xaLdA 0 18)), (18, x0 (xaCst 39 21)), (21, xK (2, 24, [(some 9, 169)])), (24, x0 (xaStI 3 25)), (25, x0 (xaLdA 0 26)), (26, x0 (xaCst 40 29)), (29, xK (2, 32, [(some 9, 169)]))]
def xk_168_1 : List (Nat × XI) := [(32, x0 (xaStI 4 34)), (34, x0 (xaLdA 0 35)), (35, x1 (xaGetI 75 38)), (38, x0 (xaI 5 39)), (39, xB (xcNe 43 42)), (42, xR xrV), (43, x0 (xaLdA 0 44)), (44, x0 (xaLdJ 1 45)), (45, x0 (xaI 1 46)), (46, x0 (xaLdA 0 47)), (47, x1 (xaGetA 70 50)), (50, x1 (xaGetI 139 53)), (53, xK (4, 56, [(some 9, 162)])), (56, x0 (xaLdA 0 57)), (57, x1 (xaGetA 70 60)), (60, x1 (xaGetA 151 63)), (63, x0 (xaLdA 0 64))]
def xk_168_2 : List (Nat × XI) := [(64, x1 (xaGetA 70 67)), (67, x1 (xaGetI 139 70)), (70, x0 (xaLdI 3 71)), (71, x1 (xaAStI 72)), (72, x0 (xaLdA 0 73)), (73, x1 (xaGetA 70 76)), (76, x1 (xaGetA 152 79)), (79, x0 (xaLdA 0 80)), (80, x1 (xaGetA 70 83)), (83, x1 (xaGetI 139 86)), (86, x0 (xaLdI 4 88)), (88, x1 (xaAStI 89)), (89, x0 (xaLdA 0 90)), (90, x1 (xaGetA 70 93)), (93, x0 (xaDup 94)), (94, x1 (xaGetI 139 97))]
def xk_168_3 : List (Nat × XI) := [(97, x0 (xaI 1 98)), (98, x1 (xaAdd 99)), (99, x1 (xaPutI 139 102)), (102, xR xrV)]
def xk_168 : List (List (Nat × XI)) := [xk_168_0, xk_168_1, xk_168_2, xk_168_3]
/-- WrongRoomModel readPartHouse (Ljava/lang/String;)I -/
def xm_X11_readPartHouse : Nat := 169
def xk_169_0 : List (Nat × XI) := [(0, x0 (xaLdA 0 1)), (1, x0 (xaLdA 1 2)), (2, xK (2, 5, [(some 9, 154)])), (5, x0 (xaLdA 0 6)), (6, xK (1, 9, [(some 9, 167)])), (9, xR xrI)]
def xk_169 : List (List (Nat × XI)) := [xk_169_0]
/-- WrongRoomModel readSign ()V -/
def xm_X11_readSign : Nat := 170
def xk_170_0 : List (Nat × XI) := [(0, x0 (xaLdA 0 1)), (1, x0 (xaLdA 0 2)), (2, x1 (xaGetA 70 5)), (5, x1 (xaGetI 140 8)), (8, x0 (xaI 8 10)), (10, xK (3, 13, [(some 9, 158)])), (13, x0 (xaLdA 0 14)), (14, xK (1, 17, [(some 9, 167)])), (17, x0 (xaStI 1 18)), (18, x0 (xaLdA 0 19)), (19, xK (1, 22, [(some 9, 161)])), (22, x0 (xaStJ 2 23)), (23, x0 (xaLdA 0 24)), (24, x1 (xaGetI 75 27)), (27, x0 (xaI 5 28)), (28, xB (xcNe 32 31)), (31, xR xrV)]
def xk_170_1 : List (Nat × XI) := [(32, x0 (xaLdA 0 33)), (33, x1 (xaGetA 70 36)), (36, x1 (xaGetA 153 39)), (39, x0 (xaLdA 0 40)), (40, x1 (xaGetA 70 43)), (43, x1 (xaGetI 140 46)), (46, x0 (xaLdI 1 47)), (47, x1 (xaAStI 48)), (48, x0 (xaLdA 0 49)), (49, x1 (xaGetA 70 52)), (52, x1 (xaGetA 156 55)), (55, x0 (xaLdA 0 56)), (56, x1 (xaGetA 70 59)), (59, x1 (xaGetI 140 62)), (62, x0 (xaLdJ 2 63)), (63, x1 (xaAStJ 64))]
def xk_170_2 : List (Nat × XI) := [(64, x0 (xaLdA 0 65)), (65, x1 (xaGetA 70 68)), (68, x0 (xaDup 69)), (69, x1 (xaGetI 140 72)), (72, x0 (xaI 1 73)), (73, x1 (xaAdd 74)), (74, x1 (xaPutI 140 77)), (77, xR xrV)]
def xk_170 : List (List (Nat × XI)) := [xk_170_0, xk_170_1, xk_170_2]
/-- WrongRoomModel readNoise ()V -/
def xm_X11_readNoise : Nat := 171
def xk_171_0 : List (Nat × XI) := [(0, x0 (xaLdA 0 1)), (1, x0 (xaLdA 0 2)), (2, x1 (xaGetA 70 5)), (5, x1 (xaGetI 141 8)), (8, x0 (xaI 4 9)), (9, xK (3, 12, [(some 9, 158)])), (12, x0 (xaLdA 0 13)), (13, xK (1, 16, [(some 9, 167)])), (16, x0 (xaStI 1 17)), (17, x0 (xaLdA 0 18)), (18, x0 (xaI 1 19)), (19, x0 (xaI 9 21)), (21, xK (3, 24, [(some 9, 155)])), (24, x0 (xaStI 2 25)), (25, x0 (xaLdA 0 26)), (26, x1 (xaGetI 75 29)), (29, x0 (xaI 5 30)), (30, xB (xcNe 34 33))]
def xk_171_1 : List (Nat × XI) := [(33, xR xrV), (34, x0 (xaLdA 0 35)), (35, x1 (xaGetA 70 38)), (38, x1 (xaGetA 154 41)), (41, x0 (xaLdA 0 42)), (42, x1 (xaGetA 70 45)), (45, x1 (xaGetI 141 48)), (48, x0 (xaLdI 1 49)), (49, x1 (xaAStI 50)), (50, x0 (xaLdA 0 51)), (51, x1 (xaGetA 70 54)), (54, x1 (xaGetA 155 57)), (57, x0 (xaLdA 0 58)), (58, x1 (xaGetA 70 61)), (61, x1 (xaGetI 141 64))]
def xk_171_2 : List (Nat × XI) := [(64, x0 (xaLdI 2 65)), (65, x1 (xaAStI 66)), (66, x0 (xaLdA 0 67)), (67, x1 (xaGetA 70 70)), (70, x0 (xaDup 71)), (71, x1 (xaGetI 141 74)), (74, x0 (xaI 1 75)), (75, x1 (xaAdd 76)), (76, x1 (xaPutI 141 79)), (79, xR xrV)]
def xk_171 : List (List (Nat × XI)) := [xk_171_0, xk_171_1, xk_171_2]
/-- WrongRoomModel eatsSemicolon ()Z -/
def xm_X11_eatsSemicolon : Nat := 172
def xk_172_0 : List (Nat × XI) := [(0, x0 (xaLdA 0 1)), (1, x1 (xaGetI 75 4)), (4, x0 (xaI 4 5)), (5, xB (xcNe 12 8)), (8, x0 (xaI 1 9)), (9, x0 (xaGo 13)), (12, x0 (xaI 0 13)), (13, x0 (xaStI 1 14)), (14, x0 (xaLdI 1 15)), (15, xB (xbEq 22 18)), (18, x0 (xaLdA 0 19)), (19, xK (1, 22, [(some 9, 143)])), (22, x0 (xaLdI 1 23)), (23, xR xrZ)]
def xk_172 : List (List (Nat × XI)) := [xk_172_0]
/-- WrongRoomModel laysStreets ()V -/
def xm_X11_laysStreets : Nat := 173
def xk_173_0 : List (Nat × XI) := [(0, x0 (xaLdA 0 1)), (1, x1 (xaGetA 69 4)), (4, x1 (xaGetI 135 7)), (7, x0 (xaStI 1 8)), (8, x0 (xaI 0 9)), (9, x0 (xaStI 2 10)), (10, x0 (xaLdI 2 11)), (11, x0 (xaI 49 13)), (13, xB (xcGe 70 16)), (16, x0 (xaLdA 0 17)), (17, x1 (xaGetA 103 20)), (20, x0 (xaLdI 2 21)), (21, x0 (xaLdI 2 22)), (22, x0 (xaI 7 24)), (24, x1 (xaDiv 25)), (25, x0 (xaLdI 2 26)), (26, x0 (xaI 7 28)), (28, x1 (xaRem 29)), (29, xB (xcNe 36 32))]
def xk_173_1 : List (Nat × XI) := [(32, x0 (xaI 0 33)), (33, x0 (xaGo 63)), (36, x0 (xaLdA 0 37)), (37, x1 (xaGetA 69 40)), (40, x1 (xaGetA 150 43)), (43, x0 (xaLdI 2 44)), (44, x1 (xaALdI 0 45)), (45, xB (xbLe 60 48)), (48, x0 (xaLdA 0 49)), (49, x1 (xaGetA 69 52)), (52, x1 (xaGetA 150 55)), (55, x0 (xaLdI 2 56)), (56, x1 (xaALdI 0 57)), (57, x0 (xaGo 63)), (60, x0 (xaI 99999 63)), (63, x1 (xaAStI 64))]
def xk_173_2 : List (Nat × XI) := [(64, x1 (xaInc 2 1 67)), (67, x0 (xaGo 10)), (70, x0 (xaI 0 71)), (71, x0 (xaStI 2 72)), (72, x0 (xaLdI 2 73)), (73, x0 (xaLdI 1 74)), (74, xB (xcGe 168 77)), (77, x0 (xaI 0 78)), (78, x0 (xaStI 3 79)), (79, x0 (xaLdI 3 80)), (80, x0 (xaLdI 1 81)), (81, xB (xcGe 162 84)), (84, x0 (xaI 0 85)), (85, x0 (xaStI 4 87)), (87, x0 (xaLdI 4 89)), (89, x0 (xaLdI 1 90)), (90, xB (xcGe 156 93)), (93, x0 (xaLdA 0 94)), (94, x1 (xaGetA 103 97))]
def xk_173_3 : List (Nat × XI) := [(97, x0 (xaI 7 99)), (99, x0 (xaLdI 3 100)), (100, x1 (xaMul 101)), (101, x0 (xaLdI 2 102)), (102, x1 (xaAdd 103)), (103, x1 (xaALdI 0 104)), (104, x0 (xaLdA 0 105)), (105, x1 (xaGetA 103 108)), (108, x0 (xaI 7 110)), (110, x0 (xaLdI 2 111)), (111, x1 (xaMul 112)), (112, x0 (xaLdI 4 114)), (114, x1 (xaAdd 115)), (115, x1 (xaALdI 0 116)), (116, x1 (xaAdd 117)), (117, x0 (xaStI 5 119)), (119, x0 (xaLdI 5 121)), (121, x0 (xaLdA 0 122)), (122, x1 (xaGetA 103 125)), (125, x0 (xaI 7 127)), (127, x0 (xaLdI 3 128))]
def xk_173_4 : List (Nat × XI) := [(128, x1 (xaMul 129)), (129, x0 (xaLdI 4 131)), (131, x1 (xaAdd 132)), (132, x1 (xaALdI 0 133)), (133, xB (xcGe 150 136)), (136, x0 (xaLdA 0 137)), (137, x1 (xaGetA 103 140)), (140, x0 (xaI 7 142)), (142, x0 (xaLdI 3 143)), (143, x1 (xaMul 144)), (144, x0 (xaLdI 4 146)), (146, x1 (xaAdd 147)), (147, x0 (xaLdI 5 149)), (149, x1 (xaAStI 150)), (150, x1 (xaInc 4 1 153)), (153, x0 (xaGo 87)), (156, x1 (xaInc 3 1 159)), (159, x0 (xaGo 79))]
def xk_173_5 : List (Nat × XI) := [(162, x1 (xaInc 2 1 165)), (165, x0 (xaGo 72)), (168, xR xrV)]
def xk_173 : List (List (Nat × XI)) := [xk_173_0, xk_173_1, xk_173_2, xk_173_3, xk_173_4, xk_173_5]
/-- WrongRoomModel good (I)I -/
def xm_X11_good : Nat := 174
def xk_174_0 : List (Nat × XI) := [(0, x0 (xaLdA 0 1)), (1, x0 (xaI 0 2)), (2, x1 (xaPutI 67 5)), (5, x0 (xaLdA 0 6)), (6, x0 (xaI (-1) 7)), (7, x1 (xaPutI 68 10)), (10, x0 (xaLdI 1 11)), (11, xR xrI)]
def xk_174 : List (List (Nat × XI)) := [xk_174_0]
/-- WrongRoomModel fault ()I -/
def xm_X11_fault : Nat := 175
def xk_175_0 : List (Nat × XI) := [(0, x0 (xaLdA 0 1)), (1, x0 (xaI 0 2)), (2, x1 (xaPutI 66 5)), (5, x0 (xaLdA 0 6)), (6, x1 (xaGetI 78 9)), (9, xR xrI)]
def xk_175 : List (List (Nat × XI)) := [xk_175_0]
/-- WrongRoomModel where ()I -/
def xm_X11_where : Nat := 176
def xk_176_0 : List (Nat × XI) := [(0, x0 (xaLdA 0 1)), (1, x0 (xaI 0 2)), (2, x1 (xaPutI 66 5)), (5, x0 (xaLdA 0 6)), (6, x1 (xaGetI 68 9)), (9, xR xrI)]
def xk_176 : List (List (Nat × XI)) := [xk_176_0]
/-- WrongRoomModel house (II)I -/
def xm_X11_house : Nat := 177
def xk_177_0 : List (Nat × XI) := [(0, x0 (xaLdA 0 1)), (1, x0 (xaI 0 2)), (2, x1 (xaPutI 66 5)), (5, x0 (xaLdA 0 6)), (6, x0 (xaLdI 1 7)), (7, xK (2, 10, [(some 9, 178)])), (10, xB (xbEq 22 13)), (13, x0 (xaLdI 2 14)), (14, x0 (xaI 0 15)), (15, x0 (xaI 5 16)), (16, xK (3, 19, [(none, 156)])), (19, xB (xbNe 28 22)), (22, x0 (xaLdA 0 23)), (23, x0 (xaI 1 24)), (24, xK (2, 27, [(some 9, 142)])), (27, xR xrI), (28, x0 (xaLdI 2 29)), (29, x0 (xaSw [(0, 64), (1, 78), (2, 92), (3, 106), (4, 119)] 129))]
def xk_177_1 : List (Nat × XI) := []
def xk_177_2 : List (Nat × XI) := [(64, x0 (xaLdA 0 65)), (65, x0 (xaLdA 0 66)), (66, x1 (xaGetA 69 69)), (69, x1 (xaGetA 143 72)), (72, x0 (xaLdI 1 73)), (73, x1 (xaALdI 0 74)), (74, xK (2, 77, [(some 9, 174)])), (77, xR xrI), (78, x0 (xaLdA 0 79)), (79, x0 (xaLdA 0 80)), (80, x1 (xaGetA 69 83)), (83, x1 (xaGetA 144 86)), (86, x0 (xaLdI 1 87)), (87, x1 (xaALdI 0 88)), (88, xK (2, 91, [(some 9, 174)])), (91, xR xrI), (92, x0 (xaLdA 0 93)), (93, x0 (xaLdA 0 94)), (94, x1 (xaGetA 69 97))]
def xk_177_3 : List (Nat × XI) := [(97, x1 (xaGetA 145 100)), (100, x0 (xaLdI 1 101)), (101, x1 (xaALdI 0 102)), (102, xK (2, 105, [(some 9, 174)])), (105, xR xrI), (106, x0 (xaLdA 0 107)), (107, x0 (xaLdA 0 108)), (108, x1 (xaGetA 81 111)), (111, x0 (xaI 0 112)), (112, x0 (xaLdI 1 113)), (113, x1 (xaAdd 114)), (114, x1 (xaALdI 0 115)), (115, xK (2, 118, [(some 9, 174)])), (118, xR xrI), (119, x0 (xaLdA 0 120)), (120, x0 (xaLdA 0 121)), (121, x0 (xaLdI 1 122)), (122, xK (2, 125, [(some 9, 179)])), (125, xK (2, 128, [(some 9, 174)]))]
def xk_177_4 : List (Nat × XI) := [(128, xR xrI), (129, x0 (xaLdA 0 130)), (130, x0 (xaLdA 0 131)), (131, x1 (xaGetA 81 134)), (134, x0 (xaI 7 136)), (136, x1 (xaALdI 0 137)), (137, x0 (xaLdI 1 138)), (138, xK (2, 141, [(none, 180)])), (141, xB (xbEq 148 144)), (144, x0 (xaI 1 145)), (145, x0 (xaGo 149)), (148, x0 (xaI 0 149)), (149, xK (2, 152, [(some 9, 174)])), (152, xR xrI)]
def xk_177 : List (List (Nat × XI)) := [xk_177_0, xk_177_1, xk_177_2, xk_177_3, xk_177_4]
/-- WrongRoomModel isHouse (I)Z -/
def xm_X11_isHouse : Nat := 178
def xk_178_0 : List (Nat × XI) := [(0, x0 (xaLdA 0 1)), (1, x1 (xaGetA 69 4)), (4, xB (xbNull 26 7)), (7, x0 (xaLdI 1 8)), (8, xB (xbLt 26 11)), (11, x0 (xaLdI 1 12)), (12, x0 (xaLdA 0 13)), (13, x1 (xaGetA 69 16)), (16, x1 (xaGetI 135 19)), (19, xB (xcGe 26 22)), (22, x0 (xaI 1 23)), (23, x0 (xaGo 27)), (26, x0 (xaI 0 27)), (27, xR xrZ)]
def xk_178 : List (List (Nat × XI)) := [xk_178_0]
/-- WrongRoomModel whose (I)I -/
def xm_X11_whose : Nat := 179
def xk_179_0 : List (Nat × XI) := [(0, x0 (xaI 0 1)), (1, x0 (xaStI 2 2)), (2, x0 (xaLdI 2 3)), (3, x0 (xaLdA 0 4)), (4, x1 (xaGetA 69 7)), (7, x1 (xaGetI 135 10)), (10, xB (xcGe 33 13)), (13, x0 (xaLdA 0 14)), (14, x1 (xaGetA 81 17)), (17, x0 (xaI 0 18)), (18, x0 (xaLdI 2 19)), (19, x1 (xaAdd 20)), (20, x1 (xaALdI 0 21)), (21, x0 (xaLdI 1 22)), (22, xB (xcNe 27 25)), (25, x0 (xaLdI 2 26)), (26, xR xrI), (27, x1 (xaInc 2 1 30)), (30, x0 (xaGo 2))]
def xk_179_1 : List (Nat × XI) := [(33, x0 (xaI (-2) 35)), (35, xR xrI)]
def xk_179 : List (List (Nat × XI)) := [xk_179_0, xk_179_1]
/-- WrongRoomModel bit (II)Z -/
def xm_X11_bit : Nat := 180
def xk_180_0 : List (Nat × XI) := [(0, x0 (xaLdI 0 1)), (1, x0 (xaLdI 1 2)), (2, x1 (xaShr 3)), (3, x0 (xaI 1 4)), (4, x0 (xaAnd 5)), (5, x0 (xaI 1 6)), (6, xB (xcNe 13 9)), (9, x0 (xaI 1 10)), (10, x0 (xaGo 14)), (13, x0 (xaI 0 14)), (14, xR xrZ)]
def xk_180 : List (List (Nat × XI)) := [xk_180_0]
/-- WrongRoomModel open (II)I -/
def xm_X11_open : Nat := 181
def xk_181_0 : List (Nat × XI) := [(0, x0 (xaLdA 0 1)), (1, x0 (xaI 0 2)), (2, x1 (xaPutI 66 5)), (5, x0 (xaLdA 0 6)), (6, x0 (xaLdI 1 7)), (7, xK (2, 10, [(some 9, 178)])), (10, xB (xbNe 19 13)), (13, x0 (xaLdA 0 14)), (14, x0 (xaI 1 15)), (15, xK (2, 18, [(some 9, 142)])), (18, xR xrI), (19, x0 (xaLdI 2 20)), (20, x0 (xaI 0 21)), (21, x0 (xaI 1439 24)), (24, xK (3, 27, [(none, 156)])), (27, xB (xbEq 51 30)), (30, x0 (xaLdA 0 31)), (31, x0 (xaLdA 0 32))]
def xk_181_1 : List (Nat × XI) := [(32, x0 (xaLdI 1 33)), (33, x0 (xaLdI 2 34)), (34, xK (3, 37, [(some 9, 182)])), (37, xB (xbEq 44 40)), (40, x0 (xaI 1 41)), (41, x0 (xaGo 45)), (44, x0 (xaI 0 45)), (45, xK (2, 48, [(some 9, 174)])), (48, x0 (xaGo 56)), (51, x0 (xaLdA 0 52)), (52, x0 (xaI 2 53)), (53, xK (2, 56, [(some 9, 142)])), (56, xR xrI)]
def xk_181 : List (List (Nat × XI)) := [xk_181_0, xk_181_1]
/-- WrongRoomModel isOpenAt (II)Z -/
def xm_X11_isOpenAt : Nat := 182
def xk_182_0 : List (Nat × XI) := [(0, x0 (xaLdA 0 1)), (1, x1 (xaGetA 81 4)), (4, x0 (xaI 0 5)), (5, x0 (xaLdI 1 6)), (6, x1 (xaAdd 7)), (7, x1 (xaALdI 0 8)), (8, x0 (xaI (-2) 10)), (10, xB (xcEq 47 13)), (13, x0 (xaLdA 0 14)), (14, x1 (xaGetA 81 17)), (17, x0 (xaI 7 19)), (19, x1 (xaALdI 0 20)), (20, x0 (xaLdI 1 21)), (21, xK (2, 24, [(none, 180)])), (24, xB (xbNe 47 27)), (27, x0 (xaLdA 0 28)), (28, x1 (xaGetA 69 31)), (31, x0 (xaLdI 1 32))]
def xk_182_1 : List (Nat × XI) := [(32, x0 (xaLdI 2 33)), (33, x0 (xaI 1440 36)), (36, x1 (xaRem 37)), (37, xK (3, 40, [(some 15, 295)])), (40, xB (xbEq 47 43)), (43, x0 (xaI 1 44)), (44, x0 (xaGo 48)), (47, x0 (xaI 0 48)), (48, xR xrZ)]
def xk_182 : List (List (Nat × XI)) := [xk_182_0, xk_182_1]
/-- WrongRoomModel street (II)I -/
def xm_X11_street : Nat := 183
def xk_183_0 : List (Nat × XI) := [(0, x0 (xaLdA 0 1)), (1, x0 (xaI 0 2)), (2, x1 (xaPutI 66 5)), (5, x0 (xaLdA 0 6)), (6, x0 (xaLdI 1 7)), (7, xK (2, 10, [(some 9, 178)])), (10, xB (xbEq 26 13)), (13, x0 (xaLdA 0 14)), (14, x0 (xaLdI 2 15)), (15, xK (2, 18, [(some 9, 178)])), (18, xB (xbEq 26 21)), (21, x0 (xaLdI 1 22)), (22, x0 (xaLdI 2 23)), (23, xB (xcNe 32 26)), (26, x0 (xaLdA 0 27)), (27, x0 (xaI 1 28)), (28, xK (2, 31, [(some 9, 142)])), (31, xR xrI)]
def xk_183_1 : List (Nat × XI) := [(32, x0 (xaLdA 0 33)), (33, x0 (xaLdA 0 34)), (34, x1 (xaGetA 69 37)), (37, x1 (xaGetA 150 40)), (40, x0 (xaI 7 42)), (42, x0 (xaLdI 1 43)), (43, x1 (xaMul 44)), (44, x0 (xaLdI 2 45)), (45, x1 (xaAdd 46)), (46, x1 (xaALdI 0 47)), (47, xB (xbNe 55 50)), (50, x0 (xaI (-2) 52)), (52, x0 (xaGo 69)), (55, x0 (xaLdA 0 56)), (56, x1 (xaGetA 69 59)), (59, x1 (xaGetA 150 62)), (62, x0 (xaI 7 64))]
def xk_183_2 : List (Nat × XI) := [(64, x0 (xaLdI 1 65)), (65, x1 (xaMul 66)), (66, x0 (xaLdI 2 67)), (67, x1 (xaAdd 68)), (68, x1 (xaALdI 0 69)), (69, xK (2, 72, [(some 9, 174)])), (72, xR xrI)]
def xk_183 : List (List (Nat × XI)) := [xk_183_0, xk_183_1, xk_183_2]
/-- WrongRoomModel person (II)I -/
def xm_X11_person : Nat := 184
def xk_184_0 : List (Nat × XI) := [(0, x0 (xaLdA 0 1)), (1, x0 (xaI 0 2)), (2, x1 (xaPutI 66 5)), (5, x0 (xaLdA 0 6)), (6, x0 (xaLdI 1 7)), (7, xK (2, 10, [(some 9, 185)])), (10, xB (xbEq 22 13)), (13, x0 (xaLdI 2 14)), (14, x0 (xaI 0 15)), (15, x0 (xaI 2 16)), (16, xK (3, 19, [(none, 156)])), (19, xB (xbNe 28 22)), (22, x0 (xaLdA 0 23)), (23, x0 (xaI 1 24)), (24, xK (2, 27, [(some 9, 142)])), (27, xR xrI), (28, x0 (xaLdA 0 29)), (29, x0 (xaLdI 2 30)), (30, xB (xbNe 45 33))]
def xk_184_1 : List (Nat × XI) := [(33, x0 (xaLdA 0 34)), (34, x1 (xaGetA 69 37)), (37, x1 (xaGetA 151 40)), (40, x0 (xaLdI 1 41)), (41, x1 (xaALdI 0 42)), (42, x0 (xaGo 71)), (45, x0 (xaLdI 2 46)), (46, x0 (xaI 1 47)), (47, xB (xcNe 62 50)), (50, x0 (xaLdA 0 51)), (51, x1 (xaGetA 81 54)), (54, x0 (xaI 8 56)), (56, x0 (xaLdI 1 57)), (57, x1 (xaAdd 58)), (58, x1 (xaALdI 0 59)), (59, x0 (xaGo 71)), (62, x0 (xaLdA 0 63)), (63, x1 (xaGetA 81 66))]
def xk_184_2 : List (Nat × XI) := [(66, x0 (xaI 12 68)), (68, x0 (xaLdI 1 69)), (69, x1 (xaAdd 70)), (70, x1 (xaALdI 0 71)), (71, xK (2, 74, [(some 9, 174)])), (74, xR xrI)]
def xk_184 : List (List (Nat × XI)) := [xk_184_0, xk_184_1, xk_184_2]
/-- WrongRoomModel isPerson (I)Z -/
def xm_X11_isPerson : Nat := 185
def xk_185_0 : List (Nat × XI) := [(0, x0 (xaLdA 0 1)), (1, x1 (xaGetA 69 4)), (4, xB (xbNull 26 7)), (7, x0 (xaLdI 1 8)), (8, xB (xbLt 26 11)), (11, x0 (xaLdI 1 12)), (12, x0 (xaLdA 0 13)), (13, x1 (xaGetA 69 16)), (16, x1 (xaGetI 139 19)), (19, xB (xcGe 26 22)), (22, x0 (xaI 1 23)), (23, x0 (xaGo 27)), (26, x0 (xaI 0 27)), (27, xR xrZ)]
def xk_185 : List (List (Nat × XI)) := [xk_185_0]
/-- WrongRoomModel candle (I)I -/
def xm_X11_candle : Nat := 186
def xk_186_0 : List (Nat × XI) := [(0, x0 (xaLdA 0 1)), (1, x0 (xaI 0 2)), (2, x1 (xaPutI 66 5)), (5, x0 (xaLdA 0 6)), (6, x0 (xaLdI 1 7)), (7, xK (2, 10, [(some 9, 178)])), (10, xB (xbNe 19 13)), (13, x0 (xaLdA 0 14)), (14, x0 (xaI 1 15)), (15, xK (2, 18, [(some 9, 142)])), (18, xR xrI), (19, x0 (xaI 1 20)), (20, x0 (xaStI 2 21)), (21, x0 (xaLdA 0 22)), (22, x1 (xaGetA 81 25)), (25, x0 (xaI 0 26)), (26, x0 (xaLdI 1 27)), (27, x1 (xaAdd 28)), (28, x1 (xaALdI 0 29)), (29, x0 (xaStI 3 30)), (30, x0 (xaLdI 3 31)), (31, x0 (xaI (-2) 33))]
def xk_186_1 : List (Nat × XI) := [(33, xB (xcEq 56 36)), (36, x0 (xaLdI 3 37)), (37, x0 (xaLdI 1 38)), (38, xB (xcEq 56 41)), (41, x0 (xaLdA 0 42)), (42, x1 (xaGetA 81 45)), (45, x0 (xaI 0 46)), (46, x0 (xaLdI 3 47)), (47, x1 (xaAdd 48)), (48, x1 (xaALdI 0 49)), (49, x0 (xaStI 3 50)), (50, x1 (xaInc 2 1 53)), (53, x0 (xaGo 30)), (56, x0 (xaLdA 0 57)), (57, x0 (xaLdI 3 58)), (58, x0 (xaI (-2) 60)), (60, xB (xcNe 68 63)), (63, x0 (xaI (-2) 65))]
def xk_186_2 : List (Nat × XI) := [(65, x0 (xaGo 69)), (68, x0 (xaLdI 2 69)), (69, xK (2, 72, [(some 9, 174)])), (72, xR xrI)]
def xk_186 : List (List (Nat × XI)) := [xk_186_0, xk_186_1, xk_186_2]
/-- WrongRoomModel candleAt (II)I -/
def xm_X11_candleAt : Nat := 187
def xk_187_0 : List (Nat × XI) := [(0, x0 (xaLdA 0 1)), (1, x0 (xaI 0 2)), (2, x1 (xaPutI 66 5)), (5, x0 (xaLdA 0 6)), (6, x0 (xaLdI 1 7)), (7, xK (2, 10, [(some 9, 178)])), (10, xB (xbNe 19 13)), (13, x0 (xaLdA 0 14)), (14, x0 (xaI 1 15)), (15, xK (2, 18, [(some 9, 142)])), (18, xR xrI), (19, x0 (xaLdI 2 20)), (20, x0 (xaI 0 21)), (21, x0 (xaI 9 23)), (23, xK (3, 26, [(none, 156)])), (26, xB (xbNe 35 29)), (29, x0 (xaLdA 0 30)), (30, x0 (xaI 2 31)), (31, xK (2, 34, [(some 9, 142)]))]
def xk_187_1 : List (Nat × XI) := [(34, xR xrI), (35, x0 (xaLdI 1 36)), (36, x0 (xaStI 3 37)), (37, x0 (xaI 0 38)), (38, x0 (xaStI 4 40)), (40, x0 (xaLdI 4 42)), (42, x0 (xaLdI 2 43)), (43, xB (xcGe 67 46)), (46, x0 (xaLdI 3 47)), (47, x0 (xaI (-2) 49)), (49, xB (xcEq 67 52)), (52, x0 (xaLdA 0 53)), (53, x1 (xaGetA 81 56)), (56, x0 (xaI 0 57)), (57, x0 (xaLdI 3 58)), (58, x1 (xaAdd 59)), (59, x1 (xaALdI 0 60)), (60, x0 (xaStI 3 61)), (61, x1 (xaInc 4 1 64))]
def xk_187_2 : List (Nat × XI) := [(64, x0 (xaGo 40)), (67, x0 (xaLdA 0 68)), (68, x0 (xaLdI 3 69)), (69, xK (2, 72, [(some 9, 174)])), (72, xR xrI)]
def xk_187 : List (List (Nat × XI)) := [xk_187_0, xk_187_1, xk_187_2]
/-- WrongRoomModel mutual ()I -/
def xm_X11_mutual : Nat := 188
def xk_188_0 : List (Nat × XI) := [(0, x0 (xaLdA 0 1)), (1, x0 (xaI 0 2)), (2, x1 (xaPutI 66 5)), (5, x0 (xaLdA 0 6)), (6, x1 (xaGetA 69 9)), (9, xB (xbNonN 18 12)), (12, x0 (xaLdA 0 13)), (13, x0 (xaI 1 14)), (14, xK (2, 17, [(some 9, 142)])), (17, xR xrI), (18, x0 (xaLdA 0 19)), (19, xK (1, 22, [(some 9, 189)])), (22, x0 (xaLdA 0 23)), (23, x0 (xaLdA 0 24)), (24, x1 (xaGetA 86 27)), (27, xK (1, 30, [(none, 190)])), (30, xK (2, 33, [(some 9, 174)]))]
def xk_188_1 : List (Nat × XI) := [(33, xR xrI)]
def xk_188 : List (List (Nat × XI)) := [xk_188_0, xk_188_1]
/-- WrongRoomModel tries ()V -/
def xm_X11_tries : Nat := 189
def xk_189_0 : List (Nat × XI) := [(0, x0 (xaI 0 1)), (1, x0 (xaStI 1 2)), (2, x0 (xaLdI 1 3)), (3, x0 (xaI 7 5)), (5, xB (xcGe 28 8)), (8, x0 (xaLdA 0 9)), (9, x1 (xaGetA 86 12)), (12, x0 (xaLdI 1 13)), (13, x0 (xaLdA 0 14)), (14, x1 (xaGetA 81 17)), (17, x0 (xaI 0 18)), (18, x0 (xaLdI 1 19)), (19, x1 (xaAdd 20)), (20, x1 (xaALdI 0 21)), (21, x1 (xaAStI 22)), (22, x1 (xaInc 1 1 25)), (25, x0 (xaGo 2)), (28, xR xrV)]
def xk_189 : List (List (Nat × XI)) := [xk_189_0]
/-- WrongRoomModel pairedIn ([I)I -/
def xm_X11_pairedIn : Nat := 190
def xk_190_0 : List (Nat × XI) := [(0, x0 (xaI 0 1)), (1, x0 (xaStI 1 2)), (2, x0 (xaI 0 3)), (3, x0 (xaStI 2 4)), (4, x0 (xaLdI 2 5)), (5, x0 (xaI 7 7)), (7, xB (xcGe 43 10)), (10, x0 (xaLdI 1 11)), (11, x0 (xaLdA 0 12)), (12, x0 (xaLdI 2 13)), (13, x1 (xaALdI 0 14)), (14, x0 (xaI (-2) 16)), (16, xB (xcEq 34 19)), (19, x0 (xaLdA 0 20)), (20, x0 (xaLdA 0 21)), (21, x0 (xaLdI 2 22)), (22, x1 (xaALdI 0 23)), (23, x1 (xaALdI 0 24)), (24, x0 (xaLdI 2 25)), (25, xB (xcNe 34 28)), (28, x0 (xaI 1 29)), (29, x0 (xaLdI 2 30)), (30, x1 (xaShl 31)), (31, x0 (xaGo 35))]
def xk_190_1 : List (Nat × XI) := [(34, x0 (xaI 0 35)), (35, x0 (xaOr 36)), (36, x0 (xaStI 1 37)), (37, x1 (xaInc 2 1 40)), (40, x0 (xaGo 4)), (43, x0 (xaLdI 1 44)), (44, xR xrI)]
def xk_190 : List (List (Nat × XI)) := [xk_190_0, xk_190_1]
/-- WrongRoomModel judge ()I -/
def xm_X11_judge : Nat := 191
def xk_191_0 : List (Nat × XI) := [(0, x0 (xaLdA 0 1)), (1, x0 (xaI 0 2)), (2, x1 (xaPutI 66 5)), (5, x0 (xaLdA 0 6)), (6, x1 (xaGetA 69 9)), (9, xB (xbNonN 18 12)), (12, x0 (xaLdA 0 13)), (13, x0 (xaI 1 14)), (14, xK (2, 17, [(some 9, 142)])), (17, xR xrI), (18, x0 (xaI 0 19)), (19, x0 (xaStI 1 20)), (20, x0 (xaLdI 1 21)), (21, x0 (xaLdA 0 22)), (22, x1 (xaGetA 69 25)), (25, x1 (xaGetI 140 28)), (28, xB (xcGe 88 31)), (31, x0 (xaLdA 0 32))]
def xk_191_1 : List (Nat × XI) := [(32, x1 (xaGetA 81 35)), (35, x0 (xaI 0 36)), (36, x0 (xaLdA 0 37)), (37, x1 (xaGetA 69 40)), (40, x1 (xaGetA 153 43)), (43, x0 (xaLdI 1 44)), (44, x1 (xaALdI 0 45)), (45, x1 (xaAdd 46)), (46, x1 (xaALdI 0 47)), (47, x0 (xaStI 2 48)), (48, x0 (xaLdI 2 49)), (49, x0 (xaI (-2) 51)), (51, xB (xcEq 76 54)), (54, x0 (xaLdA 0 55)), (55, x1 (xaGetA 69 58)), (58, x1 (xaGetA 149 61)), (61, x0 (xaLdI 2 62)), (62, x1 (xaALdJ 63)), (63, x0 (xaLdA 0 64))]
def xk_191_2 : List (Nat × XI) := [(64, x1 (xaGetA 69 67)), (67, x1 (xaGetA 156 70)), (70, x0 (xaLdI 1 71)), (71, x1 (xaALdJ 72)), (72, x0 (xaLCmp 73)), (73, xB (xbEq 82 76)), (76, x0 (xaLdA 0 77)), (77, x0 (xaLdI 1 78)), (78, xK (2, 81, [(some 9, 174)])), (81, xR xrI), (82, x1 (xaInc 1 1 85)), (85, x0 (xaGo 20)), (88, x0 (xaLdA 0 89)), (89, x0 (xaI (-2) 91)), (91, xK (2, 94, [(some 9, 174)])), (94, xR xrI)]
def xk_191 : List (List (Nat × XI)) := [xk_191_0, xk_191_1, xk_191_2]
/-- WrongRoomModel way (III)I -/
def xm_X11_way : Nat := 192
def xk_192_0 : List (Nat × XI) := [(0, x0 (xaLdA 0 1)), (1, x0 (xaI 0 2)), (2, x1 (xaPutI 66 5)), (5, x0 (xaLdA 0 6)), (6, x0 (xaLdA 0 7)), (7, x0 (xaLdI 1 8)), (8, xK (2, 11, [(some 9, 178)])), (11, xB (xbEq 26 14)), (14, x0 (xaLdA 0 15)), (15, x0 (xaLdI 2 16)), (16, xK (2, 19, [(some 9, 178)])), (19, xB (xbEq 26 22)), (22, x0 (xaI 1 23)), (23, x0 (xaGo 27)), (26, x0 (xaI 0 27)), (27, x0 (xaLdI 3 28)), (28, xK (3, 31, [(some 9, 193)])), (31, x0 (xaStI 4 33))]
def xk_192_1 : List (Nat × XI) := [(33, x0 (xaLdI 4 35)), (35, xB (xbLe 47 38)), (38, x0 (xaLdA 0 39)), (39, x0 (xaLdI 4 41)), (41, xK (2, 44, [(some 9, 142)])), (44, x0 (xaGo 59)), (47, x0 (xaLdA 0 48)), (48, x0 (xaLdA 0 49)), (49, x0 (xaLdI 1 50)), (50, x0 (xaLdI 2 51)), (51, x0 (xaLdI 3 52)), (52, x0 (xaI 1 53)), (53, xK (5, 56, [(some 9, 194)])), (56, xK (2, 59, [(some 9, 174)])), (59, xR xrI)]
def xk_192 : List (List (Nat × XI)) := [xk_192_0, xk_192_1]
/-- WrongRoomModel refusesWay (ZI)I -/
def xm_X11_refusesWay : Nat := 193
def xk_193_0 : List (Nat × XI) := [(0, x0 (xaLdI 1 1)), (1, xB (xbNe 8 4)), (4, x0 (xaI 1 5)), (5, x0 (xaGo 24)), (8, x0 (xaLdI 2 9)), (9, x0 (xaI 0 10)), (10, x0 (xaI 1439 13)), (13, xK (3, 16, [(none, 156)])), (16, xB (xbEq 23 19)), (19, x0 (xaI 0 20)), (20, x0 (xaGo 24)), (23, x0 (xaI 2 24)), (24, xR xrI)]
def xk_193 : List (List (Nat × XI)) := [xk_193_0]
/-- WrongRoomModel soonest (IIIZ)I -/
def xm_X11_soonest : Nat := 194
def xk_194_0 : List (Nat × XI) := [(0, x0 (xaLdA 0 1)), (1, x0 (xaLdI 1 2)), (2, x0 (xaLdI 2 3)), (3, x0 (xaLdI 3 4)), (4, x0 (xaLdI 4 6)), (6, xK (5, 9, [(some 9, 195)])), (9, x0 (xaLdA 0 10)), (10, x1 (xaGetI 89 13)), (13, xB (xbNe 21 16)), (16, x0 (xaI (-2) 18)), (18, x0 (xaGo 27)), (21, x0 (xaLdA 0 22)), (22, x1 (xaGetI 90 25)), (25, x0 (xaLdI 3 26)), (26, x1 (xaSub 27)), (27, xR xrI)]
def xk_194 : List (List (Nat × XI)) := [xk_194_0]
/-- WrongRoomModel ways (IIIZ)V -/
def xm_X11_ways : Nat := 195
def xk_195_0 : List (Nat × XI) := [(0, x0 (xaLdA 0 1)), (1, x0 (xaI 0 2)), (2, x1 (xaPutI 89 5)), (5, x0 (xaLdA 0 6)), (6, x0 (xaI 99999 9)), (9, x1 (xaPutI 90 12)), (12, x0 (xaLdA 0 13)), (13, x1 (xaGetA 87 16)), (16, x0 (xaI 0 17)), (17, x0 (xaLdI 1 18)), (18, x1 (xaAStI 19)), (19, x0 (xaLdA 0 20)), (20, x1 (xaGetA 91 23)), (23, x0 (xaI 0 24)), (24, x0 (xaLdI 3 25)), (25, x1 (xaAStI 26)), (26, x0 (xaLdI 1 27)), (27, x0 (xaLdI 2 28)), (28, xB (xcNe 37 31)), (31, x0 (xaLdA 0 32))]
def xk_195_1 : List (Nat × XI) := [(32, x0 (xaI 1 33)), (33, xK (2, 36, [(some 9, 196)])), (36, xR xrV), (37, x0 (xaI 1 38)), (38, x0 (xaLdI 1 39)), (39, x1 (xaShl 40)), (40, x0 (xaStI 5 42)), (42, x0 (xaI 1 43)), (43, x0 (xaStI 6 45)), (45, x0 (xaLdA 0 46)), (46, x1 (xaGetA 87 49)), (49, x0 (xaI 1 50)), (50, x0 (xaI (-1) 51)), (51, x1 (xaAStI 52)), (52, x0 (xaLdI 6 54)), (54, xB (xbLe 239 57)), (57, x0 (xaLdA 0 58)), (58, x1 (xaGetA 87 61)), (61, x0 (xaLdI 6 63)), (63, x1 (xaALdI 0 64))]
def xk_195_2 : List (Nat × XI) := [(64, x0 (xaI (-1) 65)), (65, xB (xcEq 84 68)), (68, x0 (xaLdI 5 70)), (70, x0 (xaI 1 71)), (71, x0 (xaLdA 0 72)), (72, x1 (xaGetA 87 75)), (75, x0 (xaLdI 6 77)), (77, x1 (xaALdI 0 78)), (78, x1 (xaShl 79)), (79, x0 (xaI (-1) 80)), (80, x0 (xaXor 81)), (81, x0 (xaAnd 82)), (82, x0 (xaStI 5 84)), (84, x0 (xaLdA 0 85)), (85, x1 (xaGetA 87 88)), (88, x0 (xaLdI 6 90)), (90, x0 (xaDup2 91)), (91, x1 (xaALdI 0 92)), (92, x0 (xaI 1 93)), (93, x1 (xaAdd 94)), (94, x1 (xaAStI 95)), (95, x0 (xaLdA 0 96))]
def xk_195_3 : List (Nat × XI) := [(96, x1 (xaGetA 87 99)), (99, x0 (xaLdI 6 101)), (101, x1 (xaALdI 0 102)), (102, x0 (xaLdA 0 103)), (103, x1 (xaGetA 69 106)), (106, x1 (xaGetI 135 109)), (109, xB (xcGe 152 112)), (112, x0 (xaLdI 5 114)), (114, x0 (xaLdA 0 115)), (115, x1 (xaGetA 87 118)), (118, x0 (xaLdI 6 120)), (120, x1 (xaALdI 0 121)), (121, xK (2, 124, [(none, 180)])), (124, xB (xbNe 138 127)), (127, x0 (xaLdA 0 128))]
def xk_195_4 : List (Nat × XI) := [(128, x0 (xaLdI 6 130)), (130, x0 (xaLdI 4 132)), (132, xK (3, 135, [(some 9, 197)])), (135, xB (xbNe 152 138)), (138, x0 (xaLdA 0 139)), (139, x1 (xaGetA 87 142)), (142, x0 (xaLdI 6 144)), (144, x0 (xaDup2 145)), (145, x1 (xaALdI 0 146)), (146, x0 (xaI 1 147)), (147, x1 (xaAdd 148)), (148, x1 (xaAStI 149)), (149, x0 (xaGo 95)), (152, x0 (xaLdA 0 153)), (153, x1 (xaGetA 87 156)), (156, x0 (xaLdI 6 158)), (158, x1 (xaALdI 0 159)), (159, x0 (xaLdA 0 160))]
def xk_195_5 : List (Nat × XI) := [(160, x1 (xaGetA 69 163)), (163, x1 (xaGetI 135 166)), (166, xB (xcLt 175 169)), (169, x1 (xaInc 6 (-1) 172)), (172, x0 (xaGo 52)), (175, x0 (xaLdI 5 177)), (177, x0 (xaI 1 178)), (178, x0 (xaLdA 0 179)), (179, x1 (xaGetA 87 182)), (182, x0 (xaLdI 6 184)), (184, x1 (xaALdI 0 185)), (185, x1 (xaShl 186)), (186, x0 (xaOr 187)), (187, x0 (xaStI 5 189)), (189, x0 (xaLdA 0 190)), (190, x1 (xaGetA 87 193))]
def xk_195_6 : List (Nat × XI) := [(193, x0 (xaLdI 6 195)), (195, x1 (xaALdI 0 196)), (196, x0 (xaLdI 2 197)), (197, xB (xcNe 211 200)), (200, x0 (xaLdA 0 201)), (201, x0 (xaLdI 6 203)), (203, x0 (xaI 1 204)), (204, x1 (xaAdd 205)), (205, xK (2, 208, [(some 9, 196)])), (208, x0 (xaGo 52)), (211, x0 (xaLdI 6 213)), (213, x0 (xaI 1 214)), (214, x1 (xaAdd 215)), (215, x0 (xaLdA 0 216)), (216, x1 (xaGetA 69 219)), (219, x1 (xaGetI 135 222)), (222, xB (xcGe 52 225))]
def xk_195_7 : List (Nat × XI) := [(225, x1 (xaInc 6 1 228)), (228, x0 (xaLdA 0 229)), (229, x1 (xaGetA 87 232)), (232, x0 (xaLdI 6 234)), (234, x0 (xaI (-1) 235)), (235, x1 (xaAStI 236)), (236, x0 (xaGo 52)), (239, xR xrV)]
def xk_195 : List (List (Nat × XI)) := [xk_195_0, xk_195_1, xk_195_2, xk_195_3, xk_195_4, xk_195_5, xk_195_6, xk_195_7]
/-- WrongRoomModel ends (I)V -/
def xm_X11_ends : Nat := 196
def xk_196_0 : List (Nat × XI) := [(0, x0 (xaLdA 0 1)), (1, x1 (xaGetA 91 4)), (4, x0 (xaLdI 1 5)), (5, x0 (xaI 1 6)), (6, x1 (xaSub 7)), (7, x1 (xaALdI 0 8)), (8, x0 (xaLdA 0 9)), (9, x1 (xaGetI 90 12)), (12, xB (xcLt 16 15)), (15, xR xrV), (16, x0 (xaLdA 0 17)), (17, x0 (xaLdA 0 18)), (18, x1 (xaGetA 91 21)), (21, x0 (xaLdI 1 22)), (22, x0 (xaI 1 23)), (23, x1 (xaSub 24)), (24, x1 (xaALdI 0 25)), (25, x1 (xaPutI 90 28)), (28, x0 (xaLdA 0 29)), (29, x0 (xaLdI 1 30)), (30, x1 (xaPutI 89 33))]
def xk_196_1 : List (Nat × XI) := [(33, x0 (xaI 0 34)), (34, x0 (xaStI 2 35)), (35, x0 (xaLdI 2 36)), (36, x0 (xaLdI 1 37)), (37, xB (xcGe 58 40)), (40, x0 (xaLdA 0 41)), (41, x1 (xaGetA 88 44)), (44, x0 (xaLdI 2 45)), (45, x0 (xaLdA 0 46)), (46, x1 (xaGetA 87 49)), (49, x0 (xaLdI 2 50)), (50, x1 (xaALdI 0 51)), (51, x1 (xaAStI 52)), (52, x1 (xaInc 2 1 55)), (55, x0 (xaGo 35)), (58, xR xrV)]
def xk_196 : List (List (Nat × XI)) := [xk_196_0, xk_196_1]
/-- WrongRoomModel canStep (IZ)Z -/
def xm_X11_canStep : Nat := 197
def xk_197_0 : List (Nat × XI) := [(0, x0 (xaLdA 0 1)), (1, x1 (xaGetA 91 4)), (4, x0 (xaLdI 1 5)), (5, x0 (xaLdA 0 6)), (6, x0 (xaLdA 0 7)), (7, x1 (xaGetA 87 10)), (10, x0 (xaLdI 1 11)), (11, x0 (xaI 1 12)), (12, x1 (xaSub 13)), (13, x1 (xaALdI 0 14)), (14, x0 (xaLdA 0 15)), (15, x1 (xaGetA 87 18)), (18, x0 (xaLdI 1 19)), (19, x1 (xaALdI 0 20)), (20, x0 (xaLdA 0 21)), (21, x1 (xaGetA 91 24)), (24, x0 (xaLdI 1 25)), (25, x0 (xaI 1 26)), (26, x1 (xaSub 27)), (27, x1 (xaALdI 0 28)), (28, x0 (xaLdI 2 29)), (29, xK (5, 32, [(some 9, 198)]))]
def xk_197_1 : List (Nat × XI) := [(32, x1 (xaAStI 33)), (33, x0 (xaLdA 0 34)), (34, x1 (xaGetA 91 37)), (37, x0 (xaLdI 1 38)), (38, x1 (xaALdI 0 39)), (39, x0 (xaI 99999 42)), (42, xB (xcGe 49 45)), (45, x0 (xaI 1 46)), (46, x0 (xaGo 50)), (49, x0 (xaI 0 50)), (50, xR xrZ)]
def xk_197 : List (List (Nat × XI)) := [xk_197_0, xk_197_1]
/-- WrongRoomModel steps (IIIZ)I -/
def xm_X11_steps : Nat := 198
def xk_198_0 : List (Nat × XI) := [(0, x0 (xaI 99999 3)), (3, x0 (xaStI 5 5)), (5, x0 (xaLdA 0 6)), (6, x1 (xaGetA 69 9)), (9, x1 (xaGetA 150 12)), (12, x0 (xaI 7 14)), (14, x0 (xaLdI 1 15)), (15, x1 (xaMul 16)), (16, x0 (xaLdI 2 17)), (17, x1 (xaAdd 18)), (18, x1 (xaALdI 0 19)), (19, xB (xbLe 40 22)), (22, x0 (xaLdI 3 23)), (23, x0 (xaLdA 0 24)), (24, x1 (xaGetA 69 27)), (27, x1 (xaGetA 150 30)), (30, x0 (xaI 7 32))]
def xk_198_1 : List (Nat × XI) := [(32, x0 (xaLdI 1 33)), (33, x1 (xaMul 34)), (34, x0 (xaLdI 2 35)), (35, x1 (xaAdd 36)), (36, x1 (xaALdI 0 37)), (37, x1 (xaAdd 38)), (38, x0 (xaStI 5 40)), (40, x0 (xaLdI 4 42)), (42, xB (xbEq 71 45)), (45, x0 (xaLdA 0 46)), (46, x1 (xaGetA 81 49)), (49, x0 (xaI 0 50)), (50, x0 (xaLdI 1 51)), (51, x1 (xaAdd 52)), (52, x1 (xaALdI 0 53)), (53, x0 (xaLdI 2 54)), (54, xB (xcNe 71 57)), (57, x0 (xaLdA 0 58)), (58, x1 (xaGetA 81 61)), (61, x0 (xaI 7 63)), (63, x1 (xaALdI 0 64))]
def xk_198_2 : List (Nat × XI) := [(64, x0 (xaLdI 1 65)), (65, xK (2, 68, [(none, 180)])), (68, xB (xbEq 74 71)), (71, x0 (xaLdI 5 73)), (73, xR xrI), (74, x0 (xaLdI 3 75)), (75, x0 (xaStI 6 77)), (77, x0 (xaLdA 0 78)), (78, x1 (xaGetA 69 81)), (81, x0 (xaLdI 1 82)), (82, x0 (xaLdI 6 84)), (84, x0 (xaI 1440 87)), (87, x1 (xaRem 88)), (88, xK (3, 91, [(some 15, 295)])), (91, xB (xbNe 110 94)), (94, x0 (xaLdI 6 96))]
def xk_198_3 : List (Nat × XI) := [(96, x0 (xaI 60 98)), (98, x0 (xaLdI 6 100)), (100, x0 (xaI 60 102)), (102, x1 (xaRem 103)), (103, x1 (xaSub 104)), (104, x1 (xaAdd 105)), (105, x0 (xaStI 6 107)), (107, x0 (xaGo 77)), (110, x0 (xaLdI 6 112)), (112, x0 (xaLdA 0 113)), (113, x1 (xaGetA 69 116)), (116, x1 (xaGetI 133 119)), (119, x1 (xaAdd 120)), (120, x0 (xaLdI 5 122)), (122, xB (xcGe 138 125)), (125, x0 (xaLdI 6 127)), (127, x0 (xaLdA 0 128))]
def xk_198_4 : List (Nat × XI) := [(128, x1 (xaGetA 69 131)), (131, x1 (xaGetI 133 134)), (134, x1 (xaAdd 135)), (135, x0 (xaGo 140)), (138, x0 (xaLdI 5 140)), (140, xR xrI)]
def xk_198 : List (List (Nat × XI)) := [xk_198_0, xk_198_1, xk_198_2, xk_198_3, xk_198_4]
/-- WrongRoomModel wayAt (IIII)I -/
def xm_X11_wayAt : Nat := 199
def xk_199_0 : List (Nat × XI) := [(0, x0 (xaLdA 0 1)), (1, x0 (xaI 0 2)), (2, x1 (xaPutI 66 5)), (5, x0 (xaLdA 0 6)), (6, x0 (xaLdA 0 7)), (7, x0 (xaLdI 1 8)), (8, xK (2, 11, [(some 9, 178)])), (11, xB (xbEq 26 14)), (14, x0 (xaLdA 0 15)), (15, x0 (xaLdI 2 16)), (16, xK (2, 19, [(some 9, 178)])), (19, xB (xbEq 26 22)), (22, x0 (xaI 1 23)), (23, x0 (xaGo 27)), (26, x0 (xaI 0 27)), (27, x0 (xaLdI 3 28)), (28, xK (3, 31, [(some 9, 193)])), (31, x0 (xaStI 5 33))]
def xk_199_1 : List (Nat × XI) := [(33, x0 (xaLdI 5 35)), (35, xB (xbLe 45 38)), (38, x0 (xaLdA 0 39)), (39, x0 (xaLdI 5 41)), (41, xK (2, 44, [(some 9, 142)])), (44, xR xrI), (45, x0 (xaLdA 0 46)), (46, x0 (xaLdI 1 47)), (47, x0 (xaLdI 2 48)), (48, x0 (xaLdI 3 49)), (49, x0 (xaI 1 50)), (50, xK (5, 53, [(some 9, 194)])), (53, x0 (xaPop 54)), (54, x0 (xaLdI 4 56)), (56, xB (xbLt 82 59)), (59, x0 (xaLdI 4 61)), (61, x0 (xaLdA 0 62)), (62, x1 (xaGetI 89 65))]
def xk_199_2 : List (Nat × XI) := [(65, xB (xcGe 82 68)), (68, x0 (xaLdA 0 69)), (69, x0 (xaLdA 0 70)), (70, x1 (xaGetA 88 73)), (73, x0 (xaLdI 4 75)), (75, x1 (xaALdI 0 76)), (76, xK (2, 79, [(some 9, 174)])), (79, x0 (xaGo 87)), (82, x0 (xaLdA 0 83)), (83, x0 (xaI 1 84)), (84, xK (2, 87, [(some 9, 142)])), (87, xR xrI)]
def xk_199 : List (List (Nat × XI)) := [xk_199_0, xk_199_1, xk_199_2]
/-- WrongRoomModel saves (III)I -/
def xm_X11_saves : Nat := 200
def xk_200_0 : List (Nat × XI) := [(0, x0 (xaLdA 0 1)), (1, x0 (xaI 0 2)), (2, x1 (xaPutI 66 5)), (5, x0 (xaLdA 0 6)), (6, x0 (xaLdA 0 7)), (7, x0 (xaLdI 1 8)), (8, xK (2, 11, [(some 9, 178)])), (11, xB (xbEq 26 14)), (14, x0 (xaLdA 0 15)), (15, x0 (xaLdI 2 16)), (16, xK (2, 19, [(some 9, 178)])), (19, xB (xbEq 26 22)), (22, x0 (xaI 1 23)), (23, x0 (xaGo 27)), (26, x0 (xaI 0 27)), (27, x0 (xaLdI 3 28)), (28, xK (3, 31, [(some 9, 193)])), (31, x0 (xaStI 4 33))]
def xk_200_1 : List (Nat × XI) := [(33, x0 (xaLdI 4 35)), (35, xB (xbLe 45 38)), (38, x0 (xaLdA 0 39)), (39, x0 (xaLdI 4 41)), (41, xK (2, 44, [(some 9, 142)])), (44, xR xrI), (45, x0 (xaLdA 0 46)), (46, x0 (xaLdI 1 47)), (47, x0 (xaLdI 2 48)), (48, x0 (xaLdI 3 49)), (49, x0 (xaI 0 50)), (50, xK (5, 53, [(some 9, 194)])), (53, x0 (xaStI 5 55)), (55, x0 (xaLdA 0 56)), (56, x0 (xaLdI 5 58)), (58, x0 (xaI (-2) 60)), (60, xB (xcNe 68 63)), (63, x0 (xaI (-2) 65))]
def xk_200_2 : List (Nat × XI) := [(65, x0 (xaGo 79)), (68, x0 (xaLdI 5 70)), (70, x0 (xaLdA 0 71)), (71, x0 (xaLdI 1 72)), (72, x0 (xaLdI 2 73)), (73, x0 (xaLdI 3 74)), (74, x0 (xaI 1 75)), (75, xK (5, 78, [(some 9, 194)])), (78, x1 (xaSub 79)), (79, xK (2, 82, [(some 9, 174)])), (82, xR xrI)]
def xk_200 : List (List (Nat × XI)) := [xk_200_0, xk_200_1, xk_200_2]
/-- WrongRoomModel farthest (II)I -/
def xm_X11_farthest : Nat := 201
def xk_201_0 : List (Nat × XI) := [(0, x0 (xaLdA 0 1)), (1, x0 (xaI 0 2)), (2, x1 (xaPutI 66 5)), (5, x0 (xaLdA 0 6)), (6, x0 (xaLdA 0 7)), (7, x0 (xaLdI 1 8)), (8, xK (2, 11, [(some 9, 178)])), (11, x0 (xaLdI 2 12)), (12, xK (3, 15, [(some 9, 193)])), (15, x0 (xaStI 3 16)), (16, x0 (xaLdI 3 17)), (17, xB (xbLe 26 20)), (20, x0 (xaLdA 0 21)), (21, x0 (xaLdI 3 22)), (22, xK (2, 25, [(some 9, 142)])), (25, xR xrI), (26, x0 (xaLdI 1 27)), (27, x0 (xaStI 4 29)), (29, x0 (xaI 0 30)), (30, x0 (xaStI 5 32))]
def xk_201_1 : List (Nat × XI) := [(32, x0 (xaI 0 33)), (33, x0 (xaStI 6 35)), (35, x0 (xaLdI 6 37)), (37, x0 (xaLdA 0 38)), (38, x1 (xaGetA 69 41)), (41, x1 (xaGetI 135 44)), (44, xB (xcGe 82 47)), (47, x0 (xaLdA 0 48)), (48, x0 (xaLdI 1 49)), (49, x0 (xaLdI 6 51)), (51, x0 (xaLdI 2 52)), (52, x0 (xaI 1 53)), (53, xK (5, 56, [(some 9, 194)])), (56, x0 (xaStI 7 58)), (58, x0 (xaLdI 7 60)), (60, x0 (xaLdI 5 62)), (62, xB (xcGt 68 65))]
def xk_201_2 : List (Nat × XI) := [(65, x0 (xaGo 76)), (68, x0 (xaLdI 7 70)), (70, x0 (xaStI 5 72)), (72, x0 (xaLdI 6 74)), (74, x0 (xaStI 4 76)), (76, x1 (xaInc 6 1 79)), (79, x0 (xaGo 35)), (82, x0 (xaLdA 0 83)), (83, x0 (xaLdI 4 85)), (85, xK (2, 88, [(some 9, 174)])), (88, xR xrI)]
def xk_201 : List (List (Nat × XI)) := [xk_201_0, xk_201_1, xk_201_2]
/-- WrongRoomModel homeIn (I)I -/
def xm_X11_homeIn : Nat := 202
def xk_202_0 : List (Nat × XI) := [(0, x0 (xaLdA 0 1)), (1, x0 (xaI 0 2)), (2, x1 (xaPutI 66 5)), (5, x0 (xaLdA 0 6)), (6, x0 (xaLdI 1 7)), (7, xK (2, 10, [(some 9, 185)])), (10, xB (xbEq 56 13)), (13, x0 (xaLdA 0 14)), (14, x0 (xaLdA 0 15)), (15, x0 (xaLdA 0 16)), (16, x1 (xaGetA 81 19)), (19, x0 (xaI 8 21)), (21, x0 (xaLdI 1 22)), (22, x1 (xaAdd 23)), (23, x1 (xaALdI 0 24)), (24, x0 (xaLdA 0 25)), (25, x1 (xaGetA 69 28)), (28, x1 (xaGetA 151 31)), (31, x0 (xaLdI 1 32))]
def xk_202_1 : List (Nat × XI) := [(32, x1 (xaALdI 0 33)), (33, x0 (xaLdA 0 34)), (34, x1 (xaGetA 81 37)), (37, x0 (xaI 12 39)), (39, x0 (xaLdI 1 40)), (40, x1 (xaAdd 41)), (41, x1 (xaALdI 0 42)), (42, x0 (xaI 1440 45)), (45, x1 (xaRem 46)), (46, x0 (xaI 1 47)), (47, xK (5, 50, [(some 9, 194)])), (50, xK (2, 53, [(some 9, 174)])), (53, x0 (xaGo 61)), (56, x0 (xaLdA 0 57)), (57, x0 (xaI 1 58)), (58, xK (2, 61, [(some 9, 142)])), (61, xR xrI)]
def xk_202 : List (List (Nat × XI)) := [xk_202_0, xk_202_1]
/-- WrongRoomModel fits ()I -/
def xm_X11_fits : Nat := 203
def xk_203_0 : List (Nat × XI) := [(0, x0 (xaLdA 0 1)), (1, x0 (xaI 0 2)), (2, x1 (xaPutI 66 5)), (5, x0 (xaLdA 0 6)), (6, x1 (xaGetA 69 9)), (9, xB (xbNonN 18 12)), (12, x0 (xaLdA 0 13)), (13, x0 (xaI 1 14)), (14, xK (2, 17, [(some 9, 142)])), (17, xR xrI), (18, x0 (xaLdA 0 19)), (19, xK (1, 22, [(some 9, 204)])), (22, x0 (xaLdA 0 23)), (23, x0 (xaLdA 0 24)), (24, x1 (xaGetI 97 27)), (27, xK (2, 30, [(some 9, 174)])), (30, xR xrI)]
def xk_203 : List (List (Nat × XI)) := [xk_203_0]
/-- WrongRoomModel fitting ()V -/
def xm_X11_fitting : Nat := 204
def xk_204_0 : List (Nat × XI) := [(0, x0 (xaLdA 0 1)), (1, x0 (xaI 0 2)), (2, x1 (xaPutI 96 5)), (5, x0 (xaLdA 0 6)), (6, x0 (xaI 0 7)), (7, x1 (xaPutI 97 10)), (10, x0 (xaI 0 11)), (11, x0 (xaStI 1 12)), (12, x0 (xaLdI 1 13)), (13, x0 (xaI 49 15)), (15, xB (xcGe 31 18)), (18, x0 (xaLdA 0 19)), (19, x1 (xaGetA 95 22)), (22, x0 (xaLdI 1 23)), (23, x0 (xaI 0 24)), (24, x1 (xaAStI 25)), (25, x1 (xaInc 1 1 28)), (28, x0 (xaGo 12)), (31, x0 (xaI 0 32))]
def xk_204_1 : List (Nat × XI) := [(32, x0 (xaStI 1 33)), (33, x0 (xaLdI 1 34)), (34, x0 (xaLdA 0 35)), (35, x1 (xaGetA 69 38)), (38, x1 (xaGetI 135 41)), (41, xB (xcGe 98 44)), (44, x0 (xaLdA 0 45)), (45, x1 (xaGetA 93 48)), (48, x0 (xaLdI 1 49)), (49, x0 (xaLdA 0 50)), (50, x1 (xaGetA 81 53)), (53, x0 (xaI 0 54)), (54, x0 (xaLdI 1 55)), (55, x1 (xaAdd 56)), (56, x1 (xaALdI 0 57)), (57, x1 (xaAStI 58)), (58, x0 (xaLdA 0 59)), (59, x1 (xaGetA 93 62)), (62, x0 (xaLdI 1 63)), (63, x1 (xaALdI 0 64))]
def xk_204_2 : List (Nat × XI) := [(64, x0 (xaI (-2) 66)), (66, xB (xcEq 72 69)), (69, x0 (xaGo 92)), (72, x0 (xaLdA 0 73)), (73, x1 (xaGetA 92 76)), (76, x0 (xaLdA 0 77)), (77, x1 (xaGetI 96 80)), (80, x0 (xaLdI 1 81)), (81, x1 (xaAStI 82)), (82, x0 (xaLdA 0 83)), (83, x0 (xaDup 84)), (84, x1 (xaGetI 96 87)), (87, x0 (xaI 1 88)), (88, x1 (xaAdd 89)), (89, x1 (xaPutI 96 92)), (92, x1 (xaInc 1 1 95)), (95, x0 (xaGo 33))]
def xk_204_3 : List (Nat × XI) := [(98, x0 (xaLdA 0 99)), (99, x1 (xaGetI 96 102)), (102, xB (xbNe 110 105)), (105, x0 (xaLdA 0 106)), (106, xK (1, 109, [(some 9, 205)])), (109, xR xrV), (110, x0 (xaI 0 111)), (111, x0 (xaStI 1 112)), (112, x0 (xaLdA 0 113)), (113, x1 (xaGetA 93 116)), (116, x0 (xaLdA 0 117)), (117, x1 (xaGetA 92 120)), (120, x0 (xaI 0 121)), (121, x1 (xaALdI 0 122)), (122, x0 (xaI (-1) 123)), (123, x1 (xaAStI 124)), (124, x0 (xaLdI 1 125)), (125, xB (xbLt 247 128))]
def xk_204_4 : List (Nat × XI) := [(128, x0 (xaLdA 0 129)), (129, x1 (xaGetA 92 132)), (132, x0 (xaLdI 1 133)), (133, x1 (xaALdI 0 134)), (134, x0 (xaStI 2 135)), (135, x0 (xaLdA 0 136)), (136, x1 (xaGetA 93 139)), (139, x0 (xaLdI 2 140)), (140, x0 (xaDup2 141)), (141, x1 (xaALdI 0 142)), (142, x0 (xaI 1 143)), (143, x1 (xaAdd 144)), (144, x1 (xaAStI 145)), (145, x0 (xaLdA 0 146)), (146, x1 (xaGetA 93 149)), (149, x0 (xaLdI 2 150)), (150, x1 (xaALdI 0 151)), (151, x0 (xaLdA 0 152)), (152, x1 (xaGetA 69 155)), (155, x1 (xaGetI 135 158)), (158, xB (xcGe 182 161))]
def xk_204_5 : List (Nat × XI) := [(161, x0 (xaLdA 0 162)), (162, x0 (xaLdI 2 163)), (163, xK (2, 166, [(some 9, 206)])), (166, xB (xbNe 182 169)), (169, x0 (xaLdA 0 170)), (170, x1 (xaGetA 93 173)), (173, x0 (xaLdI 2 174)), (174, x0 (xaDup2 175)), (175, x1 (xaALdI 0 176)), (176, x0 (xaI 1 177)), (177, x1 (xaAdd 178)), (178, x1 (xaAStI 179)), (179, x0 (xaGo 145)), (182, x0 (xaLdA 0 183)), (183, x1 (xaGetA 93 186)), (186, x0 (xaLdI 2 187)), (187, x1 (xaALdI 0 188)), (188, x0 (xaLdA 0 189)), (189, x1 (xaGetA 69 192))]
def xk_204_6 : List (Nat × XI) := [(192, x1 (xaGetI 135 195)), (195, xB (xcLt 212 198)), (198, x0 (xaLdA 0 199)), (199, x1 (xaGetA 93 202)), (202, x0 (xaLdI 2 203)), (203, x0 (xaI (-2) 205)), (205, x1 (xaAStI 206)), (206, x1 (xaInc 1 (-1) 209)), (209, x0 (xaGo 244)), (212, x0 (xaLdI 1 213)), (213, x0 (xaI 1 214)), (214, x1 (xaAdd 215)), (215, x0 (xaLdA 0 216)), (216, x1 (xaGetI 96 219)), (219, xB (xcGe 240 222)), (222, x1 (xaInc 1 1 225))]
def xk_204_7 : List (Nat × XI) := [(225, x0 (xaLdA 0 226)), (226, x1 (xaGetA 93 229)), (229, x0 (xaLdA 0 230)), (230, x1 (xaGetA 92 233)), (233, x0 (xaLdI 1 234)), (234, x1 (xaALdI 0 235)), (235, x0 (xaI (-1) 236)), (236, x1 (xaAStI 237)), (237, x0 (xaGo 244)), (240, x0 (xaLdA 0 241)), (241, xK (1, 244, [(some 9, 205)])), (244, x0 (xaGo 124)), (247, xR xrV)]
def xk_204 : List (List (Nat × XI)) := [xk_204_0, xk_204_1, xk_204_2, xk_204_3, xk_204_4, xk_204_5, xk_204_6, xk_204_7]
/-- WrongRoomModel countsRow ()V -/
def xm_X11_countsRow : Nat := 205
def xk_205_0 : List (Nat × XI) := [(0, x0 (xaI 0 1)), (1, x0 (xaStI 1 2)), (2, x0 (xaLdI 1 3)), (3, x0 (xaLdA 0 4)), (4, x1 (xaGetA 69 7)), (7, x1 (xaGetI 135 10)), (10, xB (xcGe 58 13)), (13, x0 (xaLdA 0 14)), (14, x1 (xaGetA 95 17)), (17, x0 (xaI 7 19)), (19, x0 (xaLdI 1 20)), (20, x1 (xaMul 21)), (21, x0 (xaLdA 0 22)), (22, x1 (xaGetA 93 25)), (25, x0 (xaLdI 1 26)), (26, x1 (xaALdI 0 27)), (27, x1 (xaAdd 28)), (28, x0 (xaDup2 29)), (29, x1 (xaALdI 0 30)), (30, x0 (xaI 1 31)), (31, x1 (xaAdd 32))]
def xk_205_1 : List (Nat × XI) := [(32, x1 (xaAStI 33)), (33, x0 (xaLdA 0 34)), (34, x1 (xaGetI 97 37)), (37, xB (xbNe 52 40)), (40, x0 (xaLdA 0 41)), (41, x1 (xaGetA 94 44)), (44, x0 (xaLdI 1 45)), (45, x0 (xaLdA 0 46)), (46, x1 (xaGetA 93 49)), (49, x0 (xaLdI 1 50)), (50, x1 (xaALdI 0 51)), (51, x1 (xaAStI 52)), (52, x1 (xaInc 1 1 55)), (55, x0 (xaGo 2)), (58, x0 (xaLdA 0 59)), (59, x0 (xaDup 60)), (60, x1 (xaGetI 97 63)), (63, x0 (xaI 1 64))]
def xk_205_2 : List (Nat × XI) := [(64, x1 (xaAdd 65)), (65, x1 (xaPutI 97 68)), (68, xR xrV)]
def xk_205 : List (List (Nat × XI)) := [xk_205_0, xk_205_1, xk_205_2]
/-- WrongRoomModel isFitting (I)Z -/
def xm_X11_isFitting : Nat := 206
def xk_206_0 : List (Nat × XI) := [(0, x0 (xaI 0 1)), (1, x0 (xaStI 2 2)), (2, x0 (xaLdI 2 3)), (3, x0 (xaLdA 0 4)), (4, x1 (xaGetA 69 7)), (7, x1 (xaGetI 135 10)), (10, xB (xcGe 41 13)), (13, x0 (xaLdI 2 14)), (14, x0 (xaLdI 1 15)), (15, xB (xcEq 35 18)), (18, x0 (xaLdA 0 19)), (19, x1 (xaGetA 93 22)), (22, x0 (xaLdI 2 23)), (23, x1 (xaALdI 0 24)), (24, x0 (xaLdA 0 25)), (25, x1 (xaGetA 93 28)), (28, x0 (xaLdI 1 29)), (29, x1 (xaALdI 0 30)), (30, xB (xcNe 35 33))]
def xk_206_1 : List (Nat × XI) := [(33, x0 (xaI 0 34)), (34, xR xrZ), (35, x1 (xaInc 2 1 38)), (38, x0 (xaGo 2)), (41, x0 (xaLdA 0 42)), (42, x1 (xaGetA 69 45)), (45, x0 (xaLdI 1 46)), (46, x0 (xaLdA 0 47)), (47, x1 (xaGetA 93 50)), (50, x0 (xaLdI 1 51)), (51, x1 (xaALdI 0 52)), (52, xK (3, 55, [(some 15, 296)])), (55, xR xrZ)]
def xk_206 : List (List (Nat × XI)) := [xk_206_0, xk_206_1]
/-- WrongRoomModel could (I)I -/
def xm_X11_could : Nat := 207
def xk_207_0 : List (Nat × XI) := [(0, x0 (xaLdA 0 1)), (1, x0 (xaI 0 2)), (2, x1 (xaPutI 66 5)), (5, x0 (xaLdA 0 6)), (6, x0 (xaLdI 1 7)), (7, xK (2, 10, [(some 9, 178)])), (10, xB (xbNe 19 13)), (13, x0 (xaLdA 0 14)), (14, x0 (xaI 1 15)), (15, xK (2, 18, [(some 9, 142)])), (18, xR xrI), (19, x0 (xaLdA 0 20)), (20, xK (1, 23, [(some 9, 204)])), (23, x0 (xaI 0 24)), (24, x0 (xaStI 2 25)), (25, x0 (xaI 0 26)), (26, x0 (xaStI 3 27)), (27, x0 (xaLdI 3 28)), (28, x0 (xaLdA 0 29)), (29, x1 (xaGetA 69 32))]
def xk_207_1 : List (Nat × XI) := [(32, x1 (xaGetI 135 35)), (35, xB (xcGe 68 38)), (38, x0 (xaLdI 2 39)), (39, x0 (xaLdA 0 40)), (40, x1 (xaGetA 95 43)), (43, x0 (xaI 7 45)), (45, x0 (xaLdI 1 46)), (46, x1 (xaMul 47)), (47, x0 (xaLdI 3 48)), (48, x1 (xaAdd 49)), (49, x1 (xaALdI 0 50)), (50, xB (xbLe 59 53)), (53, x0 (xaI 1 54)), (54, x0 (xaLdI 3 55)), (55, x1 (xaShl 56)), (56, x0 (xaGo 60)), (59, x0 (xaI 0 60)), (60, x0 (xaOr 61)), (61, x0 (xaStI 2 62)), (62, x1 (xaInc 3 1 65))]
def xk_207_2 : List (Nat × XI) := [(65, x0 (xaGo 27)), (68, x0 (xaLdA 0 69)), (69, x0 (xaLdI 2 70)), (70, xK (2, 73, [(some 9, 174)])), (73, xR xrI)]
def xk_207 : List (List (Nat × XI)) := [xk_207_0, xk_207_1, xk_207_2]
/-- WrongRoomModel surely (I)I -/
def xm_X11_surely : Nat := 208
def xk_208_0 : List (Nat × XI) := [(0, x0 (xaLdA 0 1)), (1, x0 (xaI 0 2)), (2, x1 (xaPutI 66 5)), (5, x0 (xaLdA 0 6)), (6, x0 (xaLdI 1 7)), (7, xK (2, 10, [(some 9, 178)])), (10, xB (xbNe 19 13)), (13, x0 (xaLdA 0 14)), (14, x0 (xaI 1 15)), (15, xK (2, 18, [(some 9, 142)])), (18, xR xrI), (19, x0 (xaLdA 0 20)), (20, xK (1, 23, [(some 9, 204)])), (23, x0 (xaI 0 24)), (24, x0 (xaStI 2 25)), (25, x0 (xaLdI 2 26)), (26, x0 (xaLdA 0 27)), (27, x1 (xaGetA 69 30)), (30, x1 (xaGetI 135 33))]
def xk_208_1 : List (Nat × XI) := [(33, xB (xcGe 73 36)), (36, x0 (xaLdA 0 37)), (37, x1 (xaGetI 97 40)), (40, xB (xbLe 67 43)), (43, x0 (xaLdA 0 44)), (44, x1 (xaGetA 95 47)), (47, x0 (xaI 7 49)), (49, x0 (xaLdI 1 50)), (50, x1 (xaMul 51)), (51, x0 (xaLdI 2 52)), (52, x1 (xaAdd 53)), (53, x1 (xaALdI 0 54)), (54, x0 (xaLdA 0 55)), (55, x1 (xaGetI 97 58)), (58, xB (xcNe 67 61)), (61, x0 (xaLdA 0 62)), (62, x0 (xaLdI 2 63)), (63, xK (2, 66, [(some 9, 174)]))]
def xk_208_2 : List (Nat × XI) := [(66, xR xrI), (67, x1 (xaInc 2 1 70)), (70, x0 (xaGo 25)), (73, x0 (xaLdA 0 74)), (74, x0 (xaI (-2) 76)), (76, xK (2, 79, [(some 9, 174)])), (79, xR xrI)]
def xk_208 : List (List (Nat × XI)) := [xk_208_0, xk_208_1, xk_208_2]
/-- WrongRoomModel firstOf (I)I -/
def xm_X11_firstOf : Nat := 209
def xk_209_0 : List (Nat × XI) := [(0, x0 (xaLdA 0 1)), (1, x0 (xaI 0 2)), (2, x1 (xaPutI 66 5)), (5, x0 (xaLdA 0 6)), (6, x0 (xaLdI 1 7)), (7, xK (2, 10, [(some 9, 178)])), (10, xB (xbNe 19 13)), (13, x0 (xaLdA 0 14)), (14, x0 (xaI 1 15)), (15, xK (2, 18, [(some 9, 142)])), (18, xR xrI), (19, x0 (xaLdA 0 20)), (20, xK (1, 23, [(some 9, 204)])), (23, x0 (xaLdA 0 24)), (24, x0 (xaLdA 0 25)), (25, x1 (xaGetI 97 28)), (28, xB (xbNe 36 31)), (31, x0 (xaI (-2) 33))]
def xk_209_1 : List (Nat × XI) := [(33, x0 (xaGo 42)), (36, x0 (xaLdA 0 37)), (37, x1 (xaGetA 94 40)), (40, x0 (xaLdI 1 41)), (41, x1 (xaALdI 0 42)), (42, xK (2, 45, [(some 9, 174)])), (45, xR xrI)]
def xk_209 : List (List (Nat × XI)) := [xk_209_0, xk_209_1]
/-- WrongRoomModel ask ()I -/
def xm_X11_ask : Nat := 210
def xk_210_0 : List (Nat × XI) := [(0, x0 (xaLdA 0 1)), (1, x0 (xaI 0 2)), (2, x1 (xaPutI 66 5)), (5, x0 (xaLdA 0 6)), (6, x1 (xaGetA 69 9)), (9, xB (xbNonN 20 12)), (12, x0 (xaLdA 0 13)), (13, x0 (xaI 1 14)), (14, xK (2, 17, [(some 9, 142)])), (17, x0 (xaGo 28)), (20, x0 (xaLdA 0 21)), (21, x0 (xaLdA 0 22)), (22, xK (1, 25, [(some 9, 211)])), (25, xK (2, 28, [(some 9, 174)])), (28, xR xrI)]
def xk_210 : List (List (Nat × XI)) := [xk_210_0]
/-- WrongRoomModel asks ()I -/
def xm_X11_asks : Nat := 211
def xk_211_0 : List (Nat × XI) := [(0, x0 (xaLdA 0 1)), (1, xK (1, 4, [(some 9, 204)])), (4, x0 (xaI (-2) 6)), (6, x0 (xaStI 1 7)), (7, x0 (xaLdA 0 8)), (8, x0 (xaI (-2) 10)), (10, x1 (xaPutI 98 13)), (13, x0 (xaI 0 14)), (14, x0 (xaStI 2 15)), (15, x0 (xaLdI 2 16)), (16, x0 (xaLdA 0 17)), (17, x1 (xaGetI 96 20)), (20, xB (xcGe 127 23)), (23, x0 (xaLdA 0 24)), (24, x1 (xaGetI 97 27)), (27, xB (xbLe 127 30)), (30, x0 (xaI 0 31)), (31, x0 (xaStI 3 32))]
def xk_211_1 : List (Nat × XI) := [(32, x0 (xaI 0 33)), (33, x0 (xaStI 4 35)), (35, x0 (xaLdI 4 37)), (37, x0 (xaLdA 0 38)), (38, x1 (xaGetA 69 41)), (41, x1 (xaGetI 135 44)), (44, xB (xcGe 92 47)), (47, x0 (xaLdA 0 48)), (48, x1 (xaGetA 95 51)), (51, x0 (xaI 7 53)), (53, x0 (xaLdA 0 54)), (54, x1 (xaGetA 92 57)), (57, x0 (xaLdI 2 58)), (58, x1 (xaALdI 0 59)), (59, x1 (xaMul 60)), (60, x0 (xaLdI 4 62)), (62, x1 (xaAdd 63)), (63, x1 (xaALdI 0 64))]
def xk_211_2 : List (Nat × XI) := [(64, x0 (xaLdI 3 65)), (65, xB (xcLe 86 68)), (68, x0 (xaLdA 0 69)), (69, x1 (xaGetA 95 72)), (72, x0 (xaI 7 74)), (74, x0 (xaLdA 0 75)), (75, x1 (xaGetA 92 78)), (78, x0 (xaLdI 2 79)), (79, x1 (xaALdI 0 80)), (80, x1 (xaMul 81)), (81, x0 (xaLdI 4 83)), (83, x1 (xaAdd 84)), (84, x1 (xaALdI 0 85)), (85, x0 (xaStI 3 86)), (86, x1 (xaInc 4 1 89)), (89, x0 (xaGo 35)), (92, x0 (xaLdI 1 93)), (93, x0 (xaI (-2) 95)), (95, xB (xcEq 109 98))]
def xk_211_3 : List (Nat × XI) := [(98, x0 (xaLdI 3 99)), (99, x0 (xaLdA 0 100)), (100, x1 (xaGetI 98 103)), (103, xB (xcLt 109 106)), (106, x0 (xaGo 121)), (109, x0 (xaLdA 0 110)), (110, x1 (xaGetA 92 113)), (113, x0 (xaLdI 2 114)), (114, x1 (xaALdI 0 115)), (115, x0 (xaStI 1 116)), (116, x0 (xaLdA 0 117)), (117, x0 (xaLdI 3 118)), (118, x1 (xaPutI 98 121)), (121, x1 (xaInc 2 1 124)), (124, x0 (xaGo 15)), (127, x0 (xaLdI 1 128))]
def xk_211_4 : List (Nat × XI) := [(128, xR xrI)]
def xk_211 : List (List (Nat × XI)) := [xk_211_0, xk_211_1, xk_211_2, xk_211_3, xk_211_4]
/-- WrongRoomModel askLeaves ()I -/
def xm_X11_askLeaves : Nat := 212
def xk_212_0 : List (Nat × XI) := [(0, x0 (xaLdA 0 1)), (1, x0 (xaI 0 2)), (2, x1 (xaPutI 66 5)), (5, x0 (xaLdA 0 6)), (6, x1 (xaGetA 69 9)), (9, xB (xbNonN 18 12)), (12, x0 (xaLdA 0 13)), (13, x0 (xaI 1 14)), (14, xK (2, 17, [(some 9, 142)])), (17, xR xrI), (18, x0 (xaLdA 0 19)), (19, xK (1, 22, [(some 9, 211)])), (22, x0 (xaPop 23)), (23, x0 (xaLdA 0 24)), (24, x0 (xaLdA 0 25)), (25, x1 (xaGetI 98 28)), (28, xK (2, 31, [(some 9, 174)])), (31, xR xrI)]
def xk_212 : List (List (Nat × XI)) := [xk_212_0]
/-- WrongRoomModel owes (IZ)J -/
def xm_X11_owes : Nat := 213
def xk_213_0 : List (Nat × XI) := [(0, x0 (xaLdA 0 1)), (1, x0 (xaI 0 2)), (2, x1 (xaPutI 66 5)), (5, x0 (xaLdA 0 6)), (6, x0 (xaLdI 1 7)), (7, xK (2, 10, [(some 9, 178)])), (10, xB (xbEq 33 13)), (13, x0 (xaLdA 0 14)), (14, x0 (xaLdA 0 15)), (15, x0 (xaLdI 1 16)), (16, xK (2, 19, [(some 9, 214)])), (19, x0 (xaI2L 20)), (20, x0 (xaLdA 0 21)), (21, x0 (xaLdI 1 22)), (22, xK (2, 25, [(some 9, 215)])), (25, x0 (xaI2L 26)), (26, x0 (xaLdI 2 27)), (27, xK (4, 30, [(some 9, 216)])), (30, x0 (xaGo 39))]
def xk_213_1 : List (Nat × XI) := [(33, x0 (xaLdA 0 34)), (34, x0 (xaI 1 35)), (35, xK (2, 38, [(some 9, 142)])), (38, x0 (xaI2L 39)), (39, xR xrJ)]
def xk_213 : List (List (Nat × XI)) := [xk_213_0, xk_213_1]
/-- WrongRoomModel owedBy (I)I -/
def xm_X11_owedBy : Nat := 214
def xk_214_0 : List (Nat × XI) := [(0, x0 (xaLdA 0 1)), (1, x0 (xaLdI 1 2)), (2, xK (2, 5, [(some 9, 179)])), (5, x0 (xaStI 2 6)), (6, x0 (xaLdI 2 7)), (7, x0 (xaI (-2) 9)), (9, xB (xcNe 16 12)), (12, x0 (xaI 0 13)), (13, x0 (xaGo 25)), (16, x0 (xaLdA 0 17)), (17, x1 (xaGetA 69 20)), (20, x1 (xaGetA 145 23)), (23, x0 (xaLdI 2 24)), (24, x1 (xaALdI 0 25)), (25, xR xrI)]
def xk_214 : List (List (Nat × XI)) := [xk_214_0]
/-- WrongRoomModel partsBy (I)I -/
def xm_X11_partsBy : Nat := 215
def xk_215_0 : List (Nat × XI) := [(0, x0 (xaLdA 0 1)), (1, x0 (xaLdI 1 2)), (2, xK (2, 5, [(some 9, 179)])), (5, x0 (xaStI 2 6)), (6, x0 (xaLdI 2 7)), (7, x0 (xaI (-2) 9)), (9, xB (xcNe 16 12)), (12, x0 (xaI 1 13)), (13, x0 (xaGo 27)), (16, x0 (xaLdA 0 17)), (17, x1 (xaGetA 69 20)), (20, x1 (xaGetA 143 23)), (23, x0 (xaLdI 2 24)), (24, x1 (xaALdI 0 25)), (25, x0 (xaI 1 26)), (26, x1 (xaAdd 27)), (27, xR xrI)]
def xk_215 : List (List (Nat × XI)) := [xk_215_0]
/-- WrongRoomModel fraction (JJZ)J -/
def xm_X11_fraction : Nat := 216
def xk_216_0 : List (Nat × XI) := [(0, x0 (xaLdA 0 1)), (1, x0 (xaI 0 2)), (2, xK (2, 5, [(some 9, 174)])), (5, x0 (xaPop 6)), (6, x0 (xaLdI 5 8)), (8, xB (xbEq 15 11)), (11, x0 (xaLdJ 3 12)), (12, x0 (xaGo 16)), (15, x0 (xaLdJ 1 16)), (16, x0 (xaLdJ 1 17)), (17, x0 (xaLdJ 3 18)), (18, xK (2, 21, [(none, 217)])), (21, x1 (xaLDiv 22)), (22, xR xrJ)]
def xk_216 : List (List (Nat × XI)) := [xk_216_0]
/-- WrongRoomModel common (JJ)J -/
def xm_X11_common : Nat := 217
def xk_217_0 : List (Nat × XI) := [(0, x0 (xaLdJ 0 1)), (1, x0 (xaL 0 2)), (2, x0 (xaLCmp 3)), (3, xB (xbGe 11 6)), (6, x0 (xaLdJ 0 7)), (7, x1 (xaLNeg 8)), (8, x0 (xaGo 12)), (11, x0 (xaLdJ 0 12)), (12, x0 (xaStJ 4 14)), (14, x0 (xaLdJ 2 15)), (15, x0 (xaStJ 6 17)), (17, x0 (xaLdJ 6 19)), (19, x0 (xaL 0 20)), (20, x0 (xaLCmp 21)), (21, xB (xbEq 42 24)), (24, x0 (xaLdJ 4 26)), (26, x0 (xaLdJ 6 28)), (28, x1 (xaLRem 29)), (29, x0 (xaStJ 8 31)), (31, x0 (xaLdJ 6 33))]
def xk_217_1 : List (Nat × XI) := [(33, x0 (xaStJ 4 35)), (35, x0 (xaLdJ 8 37)), (37, x0 (xaStJ 6 39)), (39, x0 (xaGo 17)), (42, x0 (xaLdJ 4 44)), (44, xR xrJ)]
def xk_217 : List (List (Nat × XI)) := [xk_217_0, xk_217_1]
/-- WrongRoomModel net (IZ)J -/
def xm_X11_net : Nat := 218
def xk_218_0 : List (Nat × XI) := [(0, x0 (xaLdA 0 1)), (1, x0 (xaI 0 2)), (2, x1 (xaPutI 66 5)), (5, x0 (xaLdA 0 6)), (6, x0 (xaLdI 1 7)), (7, xK (2, 10, [(some 9, 178)])), (10, xB (xbNe 23 13)), (13, x0 (xaLdA 0 14)), (14, x0 (xaI 1 15)), (15, xK (2, 18, [(some 9, 142)])), (18, x0 (xaPop 19)), (19, x0 (xaL (-9223372036854775808) 22)), (22, xR xrJ), (23, x0 (xaLdA 0 24)), (24, x1 (xaGetA 69 27)), (27, x1 (xaGetA 143 30)), (30, x0 (xaLdI 1 31)), (31, x1 (xaALdI 0 32))]
def xk_218_1 : List (Nat × XI) := [(32, x0 (xaI 1 33)), (33, x1 (xaAdd 34)), (34, x0 (xaI2L 35)), (35, x0 (xaStJ 3 36)), (36, x0 (xaLdA 0 37)), (37, x1 (xaGetA 81 40)), (40, x0 (xaI 0 41)), (41, x0 (xaLdI 1 42)), (42, x1 (xaAdd 43)), (43, x1 (xaALdI 0 44)), (44, x0 (xaI (-2) 46)), (46, xB (xcNe 53 49)), (49, x0 (xaL 0 50)), (50, x0 (xaGo 63)), (53, x0 (xaLdA 0 54)), (54, x1 (xaGetA 69 57)), (57, x1 (xaGetA 145 60)), (60, x0 (xaLdI 1 61)), (61, x1 (xaALdI 0 62)), (62, x0 (xaI2L 63)), (63, x0 (xaStJ 5 65))]
def xk_218_2 : List (Nat × XI) := [(65, x0 (xaLdA 0 66)), (66, x0 (xaLdJ 5 68)), (68, x0 (xaLdA 0 69)), (69, x0 (xaLdI 1 70)), (70, xK (2, 73, [(some 9, 215)])), (73, x0 (xaI2L 74)), (74, x1 (xaLMul 75)), (75, x0 (xaLdA 0 76)), (76, x0 (xaLdI 1 77)), (77, xK (2, 80, [(some 9, 214)])), (80, x0 (xaI2L 81)), (81, x0 (xaLdJ 3 82)), (82, x1 (xaLMul 83)), (83, x1 (xaLSub 84)), (84, x0 (xaLdJ 3 85)), (85, x0 (xaLdA 0 86)), (86, x0 (xaLdI 1 87)), (87, xK (2, 90, [(some 9, 215)])), (90, x0 (xaI2L 91)), (91, x1 (xaLMul 92)), (92, x0 (xaLdI 2 93)), (93, xK (4, 96, [(some 9, 216)]))]
def xk_218_3 : List (Nat × XI) := [(96, xR xrJ)]
def xk_218 : List (List (Nat × XI)) := [xk_218_0, xk_218_1, xk_218_2, xk_218_3]
/-- WrongRoomModel debtor ()I -/
def xm_X11_debtor : Nat := 219
def xk_219_0 : List (Nat × XI) := [(0, x0 (xaLdA 0 1)), (1, x0 (xaI 0 2)), (2, x1 (xaPutI 66 5)), (5, x0 (xaLdA 0 6)), (6, x1 (xaGetA 69 9)), (9, xB (xbNonN 18 12)), (12, x0 (xaLdA 0 13)), (13, x0 (xaI 1 14)), (14, xK (2, 17, [(some 9, 142)])), (17, xR xrI), (18, x0 (xaI (-2) 20)), (20, x0 (xaStI 1 21)), (21, x0 (xaI 0 22)), (22, x0 (xaStI 2 23)), (23, x0 (xaLdI 2 24)), (24, x0 (xaLdA 0 25)), (25, x1 (xaGetA 69 28)), (28, x1 (xaGetI 135 31)), (31, xB (xcGe 84 34))]
def xk_219_1 : List (Nat × XI) := [(34, x0 (xaLdA 0 35)), (35, x0 (xaLdI 2 36)), (36, xK (2, 39, [(some 9, 214)])), (39, xB (xbNe 45 42)), (42, x0 (xaGo 78)), (45, x0 (xaLdI 1 46)), (46, x0 (xaI (-2) 48)), (48, xB (xcEq 76 51)), (51, x0 (xaLdA 0 52)), (52, x0 (xaLdI 2 53)), (53, xK (2, 56, [(some 9, 214)])), (56, x0 (xaLdA 0 57)), (57, x0 (xaLdI 1 58)), (58, xK (2, 61, [(some 9, 215)])), (61, x1 (xaMul 62)), (62, x0 (xaLdA 0 63)), (63, x0 (xaLdI 1 64))]
def xk_219_2 : List (Nat × XI) := [(64, xK (2, 67, [(some 9, 214)])), (67, x0 (xaLdA 0 68)), (68, x0 (xaLdI 2 69)), (69, xK (2, 72, [(some 9, 215)])), (72, x1 (xaMul 73)), (73, xB (xcLe 78 76)), (76, x0 (xaLdI 2 77)), (77, x0 (xaStI 1 78)), (78, x1 (xaInc 2 1 81)), (81, x0 (xaGo 23)), (84, x0 (xaLdA 0 85)), (85, x0 (xaLdI 1 86)), (86, xK (2, 89, [(some 9, 174)])), (89, xR xrI)]
def xk_219 : List (List (Nat × XI)) := [xk_219_0, xk_219_1, xk_219_2]
/-- WrongRoomModel paired ()I -/
def xm_X11_paired : Nat := 220
def xk_220_0 : List (Nat × XI) := [(0, x0 (xaLdA 0 1)), (1, x0 (xaI 0 2)), (2, x1 (xaPutI 66 5)), (5, x0 (xaLdA 0 6)), (6, x1 (xaGetA 69 9)), (9, xB (xbNonN 18 12)), (12, x0 (xaLdA 0 13)), (13, x0 (xaI 1 14)), (14, xK (2, 17, [(some 9, 142)])), (17, xR xrI), (18, x0 (xaLdA 0 19)), (19, xK (1, 22, [(some 9, 221)])), (22, x0 (xaLdA 0 23)), (23, x0 (xaLdA 0 24)), (24, x1 (xaGetI 101 27)), (27, xK (2, 30, [(some 9, 174)])), (30, xR xrI)]
def xk_220 : List (List (Nat × XI)) := [xk_220_0]
/-- WrongRoomModel seeks ()V -/
def xm_X11_seeks : Nat := 221
def xk_221_0 : List (Nat × XI) := [(0, x0 (xaLdA 0 1)), (1, x0 (xaI (-1) 2)), (2, x1 (xaPutI 101 5)), (5, x0 (xaI 0 6)), (6, x0 (xaStI 1 7)), (7, x0 (xaLdI 1 8)), (8, x0 (xaI 3 9)), (9, xB (xcGt 23 12)), (12, x0 (xaLdA 0 13)), (13, x0 (xaLdI 1 14)), (14, xK (2, 17, [(some 9, 222)])), (17, x1 (xaInc 1 1 20)), (20, x0 (xaGo 7)), (23, xR xrV)]
def xk_221 : List (List (Nat × XI)) := [xk_221_0]
/-- WrongRoomModel seeksOf (I)V -/
def xm_X11_seeksOf : Nat := 222
def xk_222_0 : List (Nat × XI) := [(0, x0 (xaI 0 1)), (1, x0 (xaStI 2 2)), (2, x0 (xaLdI 2 3)), (3, x0 (xaLdI 1 4)), (4, xB (xcGe 20 7)), (7, x0 (xaLdA 0 8)), (8, x1 (xaGetA 99 11)), (11, x0 (xaLdI 2 12)), (12, x0 (xaI 0 13)), (13, x1 (xaAStI 14)), (14, x1 (xaInc 2 1 17)), (17, x0 (xaGo 2)), (20, x0 (xaI 1 21)), (21, x0 (xaStI 2 22)), (22, x0 (xaLdI 2 23)), (23, xB (xbEq 108 26)), (26, x0 (xaLdA 0 27)), (27, xK (1, 30, [(some 9, 189)])), (30, x0 (xaLdA 0 31)), (31, x0 (xaLdI 1 32))]
def xk_222_1 : List (Nat × XI) := [(32, xK (2, 35, [(some 9, 223)])), (35, xB (xbEq 99 38)), (38, x0 (xaLdA 0 39)), (39, x1 (xaGetA 86 42)), (42, xK (1, 45, [(none, 190)])), (45, xK (1, 48, [(none, 226)])), (48, x0 (xaLdA 0 49)), (49, x1 (xaGetI 101 52)), (52, xB (xcLe 99 55)), (55, x0 (xaLdA 0 56)), (56, x0 (xaLdA 0 57)), (57, x1 (xaGetA 86 60)), (60, xK (1, 63, [(none, 190)])), (63, xK (1, 66, [(none, 226)]))]
def xk_222_2 : List (Nat × XI) := [(66, x1 (xaPutI 101 69)), (69, x0 (xaLdA 0 70)), (70, x0 (xaLdI 1 71)), (71, x1 (xaPutI 102 74)), (74, x0 (xaI 0 75)), (75, x0 (xaStI 3 76)), (76, x0 (xaLdI 3 77)), (77, x0 (xaLdI 1 78)), (78, xB (xcGe 99 81)), (81, x0 (xaLdA 0 82)), (82, x1 (xaGetA 100 85)), (85, x0 (xaLdI 3 86)), (86, x0 (xaLdA 0 87)), (87, x1 (xaGetA 99 90)), (90, x0 (xaLdI 3 91)), (91, x1 (xaALdI 0 92)), (92, x1 (xaAStI 93)), (93, x1 (xaInc 3 1 96))]
def xk_222_3 : List (Nat × XI) := [(96, x0 (xaGo 76)), (99, x0 (xaLdA 0 100)), (100, x0 (xaLdI 1 101)), (101, xK (2, 104, [(some 9, 227)])), (104, x0 (xaStI 2 105)), (105, x0 (xaGo 22)), (108, xR xrV)]
def xk_222 : List (List (Nat × XI)) := [xk_222_0, xk_222_1, xk_222_2, xk_222_3]
/-- WrongRoomModel areDone (I)Z -/
def xm_X11_areDone : Nat := 223
def xk_223_0 : List (Nat × XI) := [(0, x0 (xaI 0 1)), (1, x0 (xaStI 2 2)), (2, x0 (xaLdI 2 3)), (3, x0 (xaLdI 1 4)), (4, xB (xcGe 77 7)), (7, x0 (xaLdA 0 8)), (8, x1 (xaGetA 99 11)), (11, x0 (xaLdI 2 12)), (12, x1 (xaALdI 0 13)), (13, x0 (xaI 7 15)), (15, x1 (xaDiv 16)), (16, x0 (xaStI 3 17)), (17, x0 (xaLdA 0 18)), (18, x1 (xaGetA 99 21)), (21, x0 (xaLdI 2 22)), (22, x1 (xaALdI 0 23)), (23, x0 (xaI 7 25)), (25, x1 (xaRem 26)), (26, x0 (xaStI 4 28)), (28, x0 (xaLdI 3 29)), (29, x0 (xaLdI 4 31)), (31, xB (xcGe 59 34))]
def xk_223_1 : List (Nat × XI) := [(34, x0 (xaLdI 4 36)), (36, x0 (xaLdA 0 37)), (37, x1 (xaGetA 69 40)), (40, x1 (xaGetI 135 43)), (43, xB (xcGe 59 46)), (46, x0 (xaLdA 0 47)), (47, x1 (xaGetA 86 50)), (50, x0 (xaLdI 3 51)), (51, x0 (xaLdI 4 53)), (53, xK (3, 56, [(none, 224)])), (56, xB (xbNe 61 59)), (59, x0 (xaI 0 60)), (60, xR xrZ), (61, x0 (xaLdA 0 62)), (62, x1 (xaGetA 86 65))]
def xk_223_2 : List (Nat × XI) := [(65, x0 (xaLdI 3 66)), (66, x0 (xaLdI 4 68)), (68, xK (3, 71, [(none, 225)])), (71, x1 (xaInc 2 1 74)), (74, x0 (xaGo 2)), (77, x0 (xaI 1 78)), (78, xR xrZ)]
def xk_223 : List (List (Nat × XI)) := [xk_223_0, xk_223_1, xk_223_2]
/-- WrongRoomModel canExchange ([III)Z -/
def xm_X11_canExchange : Nat := 224
def xk_224_0 : List (Nat × XI) := [(0, x0 (xaLdI 1 1)), (1, x0 (xaLdI 2 2)), (2, xB (xcEq 39 5)), (5, x0 (xaLdA 0 6)), (6, x0 (xaLdI 1 7)), (7, x1 (xaALdI 0 8)), (8, x0 (xaI (-2) 10)), (10, xB (xcEq 39 13)), (13, x0 (xaLdA 0 14)), (14, x0 (xaLdI 2 15)), (15, x1 (xaALdI 0 16)), (16, x0 (xaI (-2) 18)), (18, xB (xcEq 39 21)), (21, x0 (xaLdA 0 22)), (22, x0 (xaLdI 1 23)), (23, x1 (xaALdI 0 24)), (24, x0 (xaLdI 2 25)), (25, xB (xcEq 39 28)), (28, x0 (xaLdA 0 29)), (29, x0 (xaLdI 2 30)), (30, x1 (xaALdI 0 31)), (31, x0 (xaLdI 1 32))]
def xk_224_1 : List (Nat × XI) := [(32, xB (xcEq 39 35)), (35, x0 (xaI 1 36)), (36, x0 (xaGo 40)), (39, x0 (xaI 0 40)), (40, xR xrZ)]
def xk_224 : List (List (Nat × XI)) := [xk_224_0, xk_224_1]
/-- WrongRoomModel exchanges ([III)V -/
def xm_X11_exchanges : Nat := 225
def xk_225_0 : List (Nat × XI) := [(0, x0 (xaLdA 0 1)), (1, x0 (xaLdI 1 2)), (2, x1 (xaALdI 0 3)), (3, x0 (xaStI 3 4)), (4, x0 (xaLdA 0 5)), (5, x0 (xaLdI 1 6)), (6, x0 (xaLdA 0 7)), (7, x0 (xaLdI 2 8)), (8, x1 (xaALdI 0 9)), (9, x1 (xaAStI 10)), (10, x0 (xaLdA 0 11)), (11, x0 (xaLdI 2 12)), (12, x0 (xaLdI 3 13)), (13, x1 (xaAStI 14)), (14, xR xrV)]
def xk_225 : List (List (Nat × XI)) := [xk_225_0]
/-- WrongRoomModel bits (I)I -/
def xm_X11_bits : Nat := 226
def xk_226_0 : List (Nat × XI) := [(0, x0 (xaI 0 1)), (1, x0 (xaStI 1 2)), (2, x0 (xaLdI 0 3)), (3, x0 (xaStI 2 4)), (4, x0 (xaLdI 2 5)), (5, xB (xbEq 20 8)), (8, x1 (xaInc 1 1 11)), (11, x0 (xaLdI 2 12)), (12, x0 (xaLdI 2 13)), (13, x0 (xaI 1 14)), (14, x1 (xaSub 15)), (15, x0 (xaAnd 16)), (16, x0 (xaStI 2 17)), (17, x0 (xaGo 4)), (20, x0 (xaLdI 1 21)), (21, xR xrI)]
def xk_226 : List (List (Nat × XI)) := [xk_226_0]
/-- WrongRoomModel nextPairs (I)Z -/
def xm_X11_nextPairs : Nat := 227
def xk_227_0 : List (Nat × XI) := [(0, x0 (xaLdI 1 1)), (1, x0 (xaI 1 2)), (2, x1 (xaSub 3)), (3, x0 (xaStI 2 4)), (4, x0 (xaLdI 2 5)), (5, xB (xbLt 44 8)), (8, x0 (xaLdA 0 9)), (9, x1 (xaGetA 99 12)), (12, x0 (xaLdI 2 13)), (13, x0 (xaDup2 14)), (14, x1 (xaALdI 0 15)), (15, x0 (xaI 1 16)), (16, x1 (xaAdd 17)), (17, x1 (xaAStI 18)), (18, x0 (xaLdA 0 19)), (19, x1 (xaGetA 99 22)), (22, x0 (xaLdI 2 23)), (23, x1 (xaALdI 0 24)), (24, x0 (xaI 49 26)), (26, xB (xcGe 31 29)), (29, x0 (xaI 1 30)), (30, xR xrZ), (31, x0 (xaLdA 0 32))]
def xk_227_1 : List (Nat × XI) := [(32, x1 (xaGetA 99 35)), (35, x0 (xaLdI 2 36)), (36, x0 (xaI 0 37)), (37, x1 (xaAStI 38)), (38, x1 (xaInc 2 (-1) 41)), (41, x0 (xaGo 4)), (44, x0 (xaI 0 45)), (45, xR xrZ)]
def xk_227 : List (List (Nat × XI)) := [xk_227_0, xk_227_1]
/-- WrongRoomModel fewest ()I -/
def xm_X11_fewest : Nat := 228
def xk_228_0 : List (Nat × XI) := [(0, x0 (xaLdA 0 1)), (1, x0 (xaI 0 2)), (2, x1 (xaPutI 66 5)), (5, x0 (xaLdA 0 6)), (6, x1 (xaGetA 69 9)), (9, xB (xbNonN 18 12)), (12, x0 (xaLdA 0 13)), (13, x0 (xaI 1 14)), (14, xK (2, 17, [(some 9, 142)])), (17, xR xrI), (18, x0 (xaLdA 0 19)), (19, xK (1, 22, [(some 9, 221)])), (22, x0 (xaLdA 0 23)), (23, x0 (xaLdA 0 24)), (24, x1 (xaGetI 102 27)), (27, xK (2, 30, [(some 9, 174)])), (30, xR xrI)]
def xk_228 : List (List (Nat × XI)) := [xk_228_0]
/-- WrongRoomModel exchangeAt (I)I -/
def xm_X11_exchangeAt : Nat := 229
def xk_229_0 : List (Nat × XI) := [(0, x0 (xaLdA 0 1)), (1, x0 (xaI 0 2)), (2, x1 (xaPutI 66 5)), (5, x0 (xaLdA 0 6)), (6, x1 (xaGetA 69 9)), (9, xB (xbNonN 18 12)), (12, x0 (xaLdA 0 13)), (13, x0 (xaI 1 14)), (14, xK (2, 17, [(some 9, 142)])), (17, xR xrI), (18, x0 (xaLdA 0 19)), (19, xK (1, 22, [(some 9, 221)])), (22, x0 (xaLdI 1 23)), (23, xB (xbLt 63 26)), (26, x0 (xaLdI 1 27)), (27, x0 (xaLdA 0 28)), (28, x1 (xaGetI 102 31)), (31, xB (xcGe 63 34))]
def xk_229_1 : List (Nat × XI) := [(34, x0 (xaLdA 0 35)), (35, x0 (xaI 10 37)), (37, x0 (xaLdA 0 38)), (38, x1 (xaGetA 100 41)), (41, x0 (xaLdI 1 42)), (42, x1 (xaALdI 0 43)), (43, x0 (xaI 7 45)), (45, x1 (xaDiv 46)), (46, x1 (xaMul 47)), (47, x0 (xaLdA 0 48)), (48, x1 (xaGetA 100 51)), (51, x0 (xaLdI 1 52)), (52, x1 (xaALdI 0 53)), (53, x0 (xaI 7 55)), (55, x1 (xaRem 56)), (56, x1 (xaAdd 57)), (57, xK (2, 60, [(some 9, 174)])), (60, x0 (xaGo 68)), (63, x0 (xaLdA 0 64))]
def xk_229_2 : List (Nat × XI) := [(64, x0 (xaI 1 65)), (65, xK (2, 68, [(some 9, 142)])), (68, xR xrI)]
def xk_229 : List (List (Nat × XI)) := [xk_229_0, xk_229_1, xk_229_2]
/-- WrongRoomModel stands (I)I -/
def xm_X11_stands : Nat := 230
def xk_230_0 : List (Nat × XI) := [(0, x0 (xaLdA 0 1)), (1, x0 (xaI 0 2)), (2, x1 (xaPutI 66 5)), (5, x0 (xaLdA 0 6)), (6, x1 (xaGetA 69 9)), (9, xB (xbNonN 18 12)), (12, x0 (xaLdA 0 13)), (13, x0 (xaI 1 14)), (14, xK (2, 17, [(some 9, 142)])), (17, xR xrI), (18, x0 (xaLdI 1 19)), (19, x0 (xaI 0 20)), (20, x0 (xaI 999 23)), (23, xK (3, 26, [(none, 156)])), (26, xB (xbNe 35 29)), (29, x0 (xaLdA 0 30)), (30, x0 (xaI 2 31)), (31, xK (2, 34, [(some 9, 142)]))]
def xk_230_1 : List (Nat × XI) := [(34, xR xrI), (35, x0 (xaI (-1) 36)), (36, x0 (xaStI 2 37)), (37, x0 (xaI 1 38)), (38, x0 (xaStI 3 39)), (39, x0 (xaLdI 3 40)), (40, x0 (xaI 1 41)), (41, x0 (xaLdA 0 42)), (42, x1 (xaGetA 69 45)), (45, x1 (xaGetI 135 48)), (48, x1 (xaShl 49)), (49, xB (xcGe 85 52)), (52, x0 (xaLdI 2 53)), (53, x0 (xaI (-1) 54)), (54, xB (xcEq 68 57)), (57, x0 (xaLdI 3 58)), (58, xK (1, 61, [(none, 226)])), (61, x0 (xaLdI 2 62)), (62, xK (1, 65, [(none, 226)]))]
def xk_230_2 : List (Nat × XI) := [(65, xB (xcGe 79 68)), (68, x0 (xaLdA 0 69)), (69, x0 (xaLdI 3 70)), (70, x0 (xaLdI 1 71)), (71, xK (3, 74, [(some 9, 231)])), (74, xB (xbEq 79 77)), (77, x0 (xaLdI 3 78)), (78, x0 (xaStI 2 79)), (79, x1 (xaInc 3 1 82)), (82, x0 (xaGo 39)), (85, x0 (xaLdA 0 86)), (86, x0 (xaLdI 2 87)), (87, xK (2, 90, [(some 9, 174)])), (90, xR xrI)]
def xk_230 : List (List (Nat × XI)) := [xk_230_0, xk_230_1, xk_230_2]
/-- WrongRoomModel isStand (II)Z -/
def xm_X11_isStand : Nat := 231
def xk_231_0 : List (Nat × XI) := [(0, x0 (xaI 0 1)), (1, x0 (xaStI 3 2)), (2, x0 (xaLdI 3 3)), (3, x0 (xaLdA 0 4)), (4, x1 (xaGetA 69 7)), (7, x1 (xaGetI 135 10)), (10, xB (xcGe 87 13)), (13, x0 (xaI 0 14)), (14, x0 (xaStI 4 16)), (16, x0 (xaI 0 17)), (17, x0 (xaStI 5 19)), (19, x0 (xaLdI 5 21)), (21, x0 (xaLdA 0 22)), (22, x1 (xaGetA 69 25)), (25, x1 (xaGetI 135 28)), (28, xB (xcGe 74 31)), (31, x0 (xaLdI 4 33))]
def xk_231_1 : List (Nat × XI) := [(33, xB (xbNe 61 36)), (36, x0 (xaLdI 1 37)), (37, x0 (xaLdI 5 39)), (39, xK (2, 42, [(none, 180)])), (42, xB (xbEq 65 45)), (45, x0 (xaLdA 0 46)), (46, x1 (xaGetA 103 49)), (49, x0 (xaI 7 51)), (51, x0 (xaLdI 5 53)), (53, x1 (xaMul 54)), (54, x0 (xaLdI 3 55)), (55, x1 (xaAdd 56)), (56, x1 (xaALdI 0 57)), (57, x0 (xaLdI 2 58)), (58, xB (xcGt 65 61)), (61, x0 (xaI 1 62)), (62, x0 (xaGo 66))]
def xk_231_2 : List (Nat × XI) := [(65, x0 (xaI 0 66)), (66, x0 (xaStI 4 68)), (68, x1 (xaInc 5 1 71)), (71, x0 (xaGo 19)), (74, x0 (xaLdI 4 76)), (76, xB (xbNe 81 79)), (79, x0 (xaI 0 80)), (80, xR xrZ), (81, x1 (xaInc 3 1 84)), (84, x0 (xaGo 2)), (87, x0 (xaI 1 88)), (88, xR xrZ)]
def xk_231 : List (List (Nat × XI)) := [xk_231_0, xk_231_1, xk_231_2]
/-- WrongRoomModel gain (IIIIZ)I -/
def xm_X11_gain : Nat := 232
def xk_232_0 : List (Nat × XI) := [(0, x0 (xaLdA 0 1)), (1, x0 (xaI 0 2)), (2, x1 (xaPutI 66 5)), (5, x0 (xaLdA 0 6)), (6, x0 (xaLdI 1 7)), (7, xK (2, 10, [(some 9, 178)])), (10, xB (xbEq 26 13)), (13, x0 (xaLdA 0 14)), (14, x0 (xaLdI 3 15)), (15, xK (2, 18, [(some 9, 178)])), (18, xB (xbEq 26 21)), (21, x0 (xaLdI 1 22)), (22, x0 (xaLdI 3 23)), (23, xB (xcNe 32 26)), (26, x0 (xaLdA 0 27)), (27, x0 (xaI 1 28)), (28, xK (2, 31, [(some 9, 142)])), (31, xR xrI)]
def xk_232_1 : List (Nat × XI) := [(32, x0 (xaLdI 2 33)), (33, x0 (xaI 0 34)), (34, x0 (xaI 9 36)), (36, xK (3, 39, [(none, 156)])), (39, xB (xbEq 53 42)), (42, x0 (xaLdI 4 44)), (44, x0 (xaI 0 45)), (45, x0 (xaI 9 47)), (47, xK (3, 50, [(none, 156)])), (50, xB (xbNe 59 53)), (53, x0 (xaLdA 0 54)), (54, x0 (xaI 2 55)), (55, xK (2, 58, [(some 9, 142)])), (58, xR xrI), (59, x0 (xaLdA 0 60)), (60, x0 (xaLdI 5 62)), (62, xB (xbEq 80 65))]
def xk_232_2 : List (Nat × XI) := [(65, x0 (xaLdI 4 67)), (67, x0 (xaLdA 0 68)), (68, x0 (xaLdI 3 69)), (69, x0 (xaLdI 4 71)), (71, x0 (xaLdI 1 72)), (72, x0 (xaLdI 2 73)), (73, xK (5, 76, [(some 9, 233)])), (76, x1 (xaMul 77)), (77, x0 (xaGo 91)), (80, x0 (xaLdI 2 81)), (81, x0 (xaLdA 0 82)), (82, x0 (xaLdI 1 83)), (83, x0 (xaLdI 2 84)), (84, x0 (xaLdI 3 85)), (85, x0 (xaLdI 4 87)), (87, xK (5, 90, [(some 9, 233)])), (90, x1 (xaMul 91)), (91, xK (2, 94, [(some 9, 174)])), (94, xR xrI)]
def xk_232 : List (List (Nat × XI)) := [xk_232_0, xk_232_1, xk_232_2]
/-- WrongRoomModel tenants (IIII)I -/
def xm_X11_tenants : Nat := 233
def xk_233_0 : List (Nat × XI) := [(0, x0 (xaLdA 0 1)), (1, x1 (xaGetA 69 4)), (4, x1 (xaGetA 143 7)), (7, x0 (xaLdI 1 8)), (8, x1 (xaALdI 0 9)), (9, x0 (xaLdA 0 10)), (10, x1 (xaGetA 69 13)), (13, x1 (xaGetA 143 16)), (16, x0 (xaLdI 3 17)), (17, x1 (xaALdI 0 18)), (18, x1 (xaAdd 19)), (19, x0 (xaStI 5 21)), (21, x0 (xaLdA 0 22)), (22, x0 (xaLdI 1 23)), (23, x0 (xaLdI 2 24)), (24, xK (3, 27, [(some 9, 234)])), (27, x0 (xaLdA 0 28)), (28, x0 (xaLdI 3 29)), (29, x0 (xaLdI 4 31)), (31, xK (3, 34, [(some 9, 234)]))]
def xk_233_1 : List (Nat × XI) := [(34, x1 (xaSub 35)), (35, x0 (xaStI 6 37)), (37, x0 (xaLdI 6 39)), (39, x0 (xaLdA 0 40)), (40, x1 (xaGetA 69 43)), (43, x1 (xaGetI 134 46)), (46, xB (xcLe 54 49)), (49, x0 (xaLdI 5 51)), (51, x0 (xaGo 75)), (54, x0 (xaLdI 6 56)), (56, x0 (xaLdA 0 57)), (57, x1 (xaGetA 69 60)), (60, x1 (xaGetI 134 63)), (63, x1 (xaNeg 64))]
def xk_233_2 : List (Nat × XI) := [(64, xB (xcGe 71 67)), (67, x0 (xaI 0 68)), (68, x0 (xaGo 75)), (71, x0 (xaLdI 5 73)), (73, x0 (xaI 2 74)), (74, x1 (xaDiv 75)), (75, xR xrI)]
def xk_233 : List (List (Nat × XI)) := [xk_233_0, xk_233_1, xk_233_2]
/-- WrongRoomModel worthOf (II)I -/
def xm_X11_worthOf : Nat := 234
def xk_234_0 : List (Nat × XI) := [(0, x0 (xaLdA 0 1)), (1, xK (1, 4, [(some 9, 189)])), (4, x0 (xaLdA 0 5)), (5, x1 (xaGetA 69 8)), (8, x1 (xaGetA 143 11)), (11, x0 (xaLdI 1 12)), (12, x1 (xaALdI 0 13)), (13, x0 (xaLdA 0 14)), (14, x1 (xaGetA 86 17)), (17, xK (1, 20, [(none, 190)])), (20, x0 (xaLdI 1 21)), (21, xK (2, 24, [(none, 180)])), (24, xB (xbEq 31 27)), (27, x0 (xaI 2 28)), (28, x0 (xaGo 32)), (31, x0 (xaI 0 32))]
def xk_234_1 : List (Nat × XI) := [(32, x1 (xaAdd 33)), (33, x0 (xaLdI 2 34)), (34, x1 (xaSub 35)), (35, xR xrI)]
def xk_234 : List (List (Nat × XI)) := [xk_234_0, xk_234_1]
/-- WrongRoomModel rests (II)I -/
def xm_X11_rests : Nat := 235
def xk_235_0 : List (Nat × XI) := [(0, x0 (xaLdA 0 1)), (1, x0 (xaI 0 2)), (2, x1 (xaPutI 66 5)), (5, x0 (xaLdA 0 6)), (6, x0 (xaLdI 1 7)), (7, xK (2, 10, [(some 9, 178)])), (10, xB (xbEq 26 13)), (13, x0 (xaLdA 0 14)), (14, x0 (xaLdI 2 15)), (15, xK (2, 18, [(some 9, 178)])), (18, xB (xbEq 26 21)), (21, x0 (xaLdI 1 22)), (22, x0 (xaLdI 2 23)), (23, xB (xcNe 32 26)), (26, x0 (xaLdA 0 27)), (27, x0 (xaI 1 28)), (28, xK (2, 31, [(some 9, 142)])), (31, xR xrI)]
def xk_235_1 : List (Nat × XI) := [(32, x0 (xaI 0 33)), (33, x0 (xaStI 3 34)), (34, x0 (xaI 0 35)), (35, x0 (xaStI 4 37)), (37, x0 (xaLdI 4 39)), (39, x0 (xaI 100 41)), (41, xB (xcGe 77 44)), (44, x0 (xaLdI 3 45)), (45, x0 (xaLdA 0 46)), (46, x0 (xaLdI 1 47)), (47, x0 (xaLdI 2 48)), (48, x0 (xaLdI 4 50)), (50, x0 (xaI 10 52)), (52, x1 (xaDiv 53)), (53, x0 (xaLdI 4 55)), (55, x0 (xaI 10 57)), (57, x1 (xaRem 58)), (58, xK (5, 61, [(some 9, 236)])), (61, xB (xbEq 68 64))]
def xk_235_2 : List (Nat × XI) := [(64, x0 (xaI 1 65)), (65, x0 (xaGo 69)), (68, x0 (xaI 0 69)), (69, x1 (xaAdd 70)), (70, x0 (xaStI 3 71)), (71, x1 (xaInc 4 1 74)), (74, x0 (xaGo 37)), (77, x0 (xaLdA 0 78)), (78, x0 (xaLdI 3 79)), (79, xK (2, 82, [(some 9, 174)])), (82, xR xrI)]
def xk_235 : List (List (Nat × XI)) := [xk_235_0, xk_235_1, xk_235_2]
/-- WrongRoomModel isRest (IIII)Z -/
def xm_X11_isRest : Nat := 236
def xk_236_0 : List (Nat × XI) := [(0, x0 (xaLdI 3 1)), (1, x0 (xaLdA 0 2)), (2, x0 (xaLdI 1 3)), (3, x0 (xaLdI 3 4)), (4, x0 (xaLdI 2 5)), (5, x0 (xaLdI 4 7)), (7, xK (5, 10, [(some 9, 233)])), (10, x1 (xaMul 11)), (11, x0 (xaStI 5 13)), (13, x0 (xaLdI 4 15)), (15, x0 (xaLdA 0 16)), (16, x0 (xaLdI 2 17)), (17, x0 (xaLdI 4 19)), (19, x0 (xaLdI 1 20)), (20, x0 (xaLdI 3 21)), (21, xK (5, 24, [(some 9, 233)])), (24, x1 (xaMul 25)), (25, x0 (xaStI 6 27)), (27, x0 (xaI 0 28)), (28, x0 (xaStI 7 30)), (30, x0 (xaLdI 7 32))]
def xk_236_1 : List (Nat × XI) := [(32, x0 (xaI 10 34)), (34, xB (xcGe 80 37)), (37, x0 (xaLdI 7 39)), (39, x0 (xaLdA 0 40)), (40, x0 (xaLdI 1 41)), (41, x0 (xaLdI 7 43)), (43, x0 (xaLdI 2 44)), (44, x0 (xaLdI 4 46)), (46, xK (5, 49, [(some 9, 233)])), (49, x1 (xaMul 50)), (50, x0 (xaLdI 5 52)), (52, xB (xcGt 72 55)), (55, x0 (xaLdI 7 57)), (57, x0 (xaLdA 0 58)), (58, x0 (xaLdI 2 59)), (59, x0 (xaLdI 7 61)), (61, x0 (xaLdI 1 62)), (62, x0 (xaLdI 3 63)), (63, xK (5, 66, [(some 9, 233)]))]
def xk_236_2 : List (Nat × XI) := [(66, x1 (xaMul 67)), (67, x0 (xaLdI 6 69)), (69, xB (xcLe 74 72)), (72, x0 (xaI 0 73)), (73, xR xrZ), (74, x1 (xaInc 7 1 77)), (77, x0 (xaGo 30)), (80, x0 (xaI 1 81)), (81, xR xrZ)]
def xk_236 : List (List (Nat × XI)) := [xk_236_0, xk_236_1, xk_236_2]
/-- WrongRoomModel rest (II)I -/
def xm_X11_rest : Nat := 237
def xk_237_0 : List (Nat × XI) := [(0, x0 (xaLdA 0 1)), (1, x0 (xaI 0 2)), (2, x1 (xaPutI 66 5)), (5, x0 (xaLdA 0 6)), (6, x0 (xaLdI 1 7)), (7, xK (2, 10, [(some 9, 178)])), (10, xB (xbEq 26 13)), (13, x0 (xaLdA 0 14)), (14, x0 (xaLdI 2 15)), (15, xK (2, 18, [(some 9, 178)])), (18, xB (xbEq 26 21)), (21, x0 (xaLdI 1 22)), (22, x0 (xaLdI 2 23)), (23, xB (xcNe 32 26)), (26, x0 (xaLdA 0 27)), (27, x0 (xaI 1 28)), (28, xK (2, 31, [(some 9, 142)])), (31, xR xrI)]
def xk_237_1 : List (Nat × XI) := [(32, x0 (xaI 0 33)), (33, x0 (xaStI 3 34)), (34, x0 (xaLdI 3 35)), (35, x0 (xaI 100 37)), (37, xB (xcGe 69 40)), (40, x0 (xaLdA 0 41)), (41, x0 (xaLdI 1 42)), (42, x0 (xaLdI 2 43)), (43, x0 (xaLdI 3 44)), (44, x0 (xaI 10 46)), (46, x1 (xaDiv 47)), (47, x0 (xaLdI 3 48)), (48, x0 (xaI 10 50)), (50, x1 (xaRem 51)), (51, xK (5, 54, [(some 9, 236)])), (54, xB (xbEq 63 57)), (57, x0 (xaLdA 0 58)), (58, x0 (xaLdI 3 59)), (59, xK (2, 62, [(some 9, 174)])), (62, xR xrI), (63, x1 (xaInc 3 1 66))]
def xk_237_2 : List (Nat × XI) := [(66, x0 (xaGo 34)), (69, x0 (xaLdA 0 70)), (70, x0 (xaI (-2) 72)), (72, xK (2, 75, [(some 9, 174)])), (75, xR xrI)]
def xk_237 : List (List (Nat × XI)) := [xk_237_0, xk_237_1, xk_237_2]
/-- WrongRoomModel builders (II)I -/
def xm_X11_builders : Nat := 238
def xk_238_0 : List (Nat × XI) := [(0, x0 (xaLdA 0 1)), (1, x0 (xaI 0 2)), (2, x1 (xaPutI 66 5)), (5, x0 (xaLdA 0 6)), (6, x0 (xaLdA 0 7)), (7, x1 (xaGetA 69 10)), (10, xB (xbNull 17 13)), (13, x0 (xaI 1 14)), (14, x0 (xaGo 18)), (17, x0 (xaI 0 18)), (18, x0 (xaLdI 1 19)), (19, x0 (xaLdI 2 20)), (20, xK (4, 23, [(some 9, 239)])), (23, x0 (xaStI 3 24)), (24, x0 (xaLdI 3 25)), (25, xB (xbLe 36 28)), (28, x0 (xaLdA 0 29)), (29, x0 (xaLdI 3 30)), (30, xK (2, 33, [(some 9, 142)]))]
def xk_238_1 : List (Nat × XI) := [(33, x0 (xaGo 50)), (36, x0 (xaLdA 0 37)), (37, x0 (xaLdA 0 38)), (38, x1 (xaGetA 86 41)), (41, xK (1, 44, [(none, 190)])), (44, xK (1, 47, [(none, 226)])), (47, xK (2, 50, [(some 9, 174)])), (50, xR xrI)]
def xk_238 : List (List (Nat × XI)) := [xk_238_0, xk_238_1]
/-- WrongRoomModel builds (ZII)I -/
def xm_X11_builds : Nat := 239
def xk_239_0 : List (Nat × XI) := [(0, x0 (xaLdI 1 1)), (1, xB (xbNe 6 4)), (4, x0 (xaI 1 5)), (5, xR xrI), (6, x0 (xaLdI 2 7)), (7, x0 (xaI 0 8)), (8, x0 (xaI 65536 11)), (11, xK (3, 14, [(none, 156)])), (14, xB (xbEq 27 17)), (17, x0 (xaLdI 3 18)), (18, x0 (xaI 0 19)), (19, x0 (xaI 60 21)), (21, xK (3, 24, [(none, 156)])), (24, xB (xbNe 29 27)), (27, x0 (xaI 2 28)), (28, xR xrI), (29, x0 (xaLdA 0 30)), (30, x0 (xaLdI 2 31)), (31, x1 (xaPutI 104 34))]
def xk_239_1 : List (Nat × XI) := [(34, x0 (xaLdA 0 35)), (35, xK (1, 38, [(some 9, 189)])), (38, x0 (xaI 0 39)), (39, x0 (xaStI 4 41)), (41, x0 (xaLdI 4 43)), (43, x0 (xaLdI 3 44)), (44, xB (xcGe 90 47)), (47, x0 (xaLdA 0 48)), (48, xK (1, 51, [(some 9, 240)])), (51, x0 (xaStI 5 53)), (53, x0 (xaLdA 0 54)), (54, xK (1, 57, [(some 9, 240)])), (57, x0 (xaStI 6 59)), (59, x0 (xaLdA 0 60)), (60, x1 (xaGetA 86 63)), (63, x0 (xaLdI 5 65))]
def xk_239_2 : List (Nat × XI) := [(65, x0 (xaLdI 6 67)), (67, xK (3, 70, [(none, 224)])), (70, xB (xbEq 84 73)), (73, x0 (xaLdA 0 74)), (74, x1 (xaGetA 86 77)), (77, x0 (xaLdI 5 79)), (79, x0 (xaLdI 6 81)), (81, xK (3, 84, [(none, 225)])), (84, x1 (xaInc 4 1 87)), (87, x0 (xaGo 41)), (90, x0 (xaI 0 91)), (91, xR xrI)]
def xk_239 : List (List (Nat × XI)) := [xk_239_0, xk_239_1, xk_239_2]
/-- WrongRoomModel drawn ()I -/
def xm_X11_drawn : Nat := 240
def xk_240_0 : List (Nat × XI) := [(0, x0 (xaLdA 0 1)), (1, x0 (xaL 75 4)), (4, x0 (xaLdA 0 5)), (5, x1 (xaGetI 104 8)), (8, x0 (xaI2L 9)), (9, x1 (xaLMul 10)), (10, x0 (xaL 74 13)), (13, x1 (xaLAdd 14)), (14, x0 (xaL 65537 17)), (17, x1 (xaLRem 18)), (18, x1 (xaL2I 19)), (19, x1 (xaPutI 104 22)), (22, x0 (xaLdA 0 23)), (23, x1 (xaGetI 104 26)), (26, x0 (xaLdA 0 27)), (27, x1 (xaGetA 69 30)), (30, x1 (xaGetI 135 33))]
def xk_240_1 : List (Nat × XI) := [(33, x1 (xaRem 34)), (34, xR xrI)]
def xk_240 : List (List (Nat × XI)) := [xk_240_0, xk_240_1]
/-- WrongRoomModel builtOf (III)I -/
def xm_X11_builtOf : Nat := 241
def xk_241_0 : List (Nat × XI) := [(0, x0 (xaLdA 0 1)), (1, x0 (xaI 0 2)), (2, x1 (xaPutI 66 5)), (5, x0 (xaLdA 0 6)), (6, x0 (xaLdA 0 7)), (7, x0 (xaLdI 1 8)), (8, xK (2, 11, [(some 9, 178)])), (11, x0 (xaLdI 2 12)), (12, x0 (xaLdI 3 13)), (13, xK (4, 16, [(some 9, 239)])), (16, x0 (xaStI 4 18)), (18, x0 (xaLdI 4 20)), (20, xB (xbLe 32 23)), (23, x0 (xaLdA 0 24)), (24, x0 (xaLdI 4 26)), (26, xK (2, 29, [(some 9, 142)])), (29, x0 (xaGo 42))]
def xk_241_1 : List (Nat × XI) := [(32, x0 (xaLdA 0 33)), (33, x0 (xaLdA 0 34)), (34, x1 (xaGetA 86 37)), (37, x0 (xaLdI 1 38)), (38, x1 (xaALdI 0 39)), (39, xK (2, 42, [(some 9, 174)])), (42, xR xrI)]
def xk_241 : List (List (Nat × XI)) := [xk_241_0, xk_241_1]
/-- WrongRoomModel exchange (II)Z -/
def xm_X11_exchange : Nat := 242
def xk_242_0 : List (Nat × XI) := [(0, x0 (xaLdA 0 1)), (1, x0 (xaI 0 2)), (2, x1 (xaPutI 66 5)), (5, x0 (xaLdA 0 6)), (6, x0 (xaLdI 1 7)), (7, xK (2, 10, [(some 9, 178)])), (10, xB (xbEq 26 13)), (13, x0 (xaLdA 0 14)), (14, x0 (xaLdI 2 15)), (15, xK (2, 18, [(some 9, 178)])), (18, xB (xbEq 26 21)), (21, x0 (xaLdI 1 22)), (22, x0 (xaLdI 2 23)), (23, xB (xcNe 32 26)), (26, x0 (xaLdA 0 27)), (27, x0 (xaI 1 28)), (28, xK (2, 31, [(some 9, 243)])), (31, xR xrZ)]
def xk_242_1 : List (Nat × XI) := [(32, x0 (xaLdA 0 33)), (33, xK (1, 36, [(some 9, 189)])), (36, x0 (xaLdA 0 37)), (37, x1 (xaGetA 86 40)), (40, x0 (xaLdI 1 41)), (41, x0 (xaLdI 2 42)), (42, xK (3, 45, [(none, 224)])), (45, xB (xbNe 54 48)), (48, x0 (xaLdA 0 49)), (49, x0 (xaI 5 50)), (50, xK (2, 53, [(some 9, 243)])), (53, xR xrZ), (54, x0 (xaLdA 0 55)), (55, xK (1, 58, [(some 9, 244)])), (58, x0 (xaLdA 0 59)), (59, x1 (xaGetA 81 62)), (62, x0 (xaI 0 63)), (63, x0 (xaLdI 1 64))]
def xk_242_2 : List (Nat × XI) := [(64, x1 (xaAdd 65)), (65, x0 (xaLdA 0 66)), (66, x1 (xaGetA 86 69)), (69, x0 (xaLdI 2 70)), (70, x1 (xaALdI 0 71)), (71, x1 (xaAStI 72)), (72, x0 (xaLdA 0 73)), (73, x1 (xaGetA 81 76)), (76, x0 (xaI 0 77)), (77, x0 (xaLdI 2 78)), (78, x1 (xaAdd 79)), (79, x0 (xaLdA 0 80)), (80, x1 (xaGetA 86 83)), (83, x0 (xaLdI 1 84)), (84, x1 (xaALdI 0 85)), (85, x1 (xaAStI 86)), (86, x0 (xaLdA 0 87)), (87, xK (1, 90, [(some 9, 245)])), (90, xR xrZ)]
def xk_242 : List (List (Nat × XI)) := [xk_242_0, xk_242_1, xk_242_2]
/-- WrongRoomModel denied (I)Z -/
def xm_X11_denied : Nat := 243
def xk_243_0 : List (Nat × XI) := [(0, x0 (xaLdA 0 1)), (1, x0 (xaLdI 1 2)), (2, xK (2, 5, [(some 9, 142)])), (5, x0 (xaPop 6)), (6, x0 (xaI 0 7)), (7, xR xrZ)]
def xk_243 : List (List (Nat × XI)) := [xk_243_0]
/-- WrongRoomModel remembers ()V -/
def xm_X11_remembers : Nat := 244
def xk_244_0 : List (Nat × XI) := [(0, x0 (xaLdA 0 1)), (1, x1 (xaGetI 84 4)), (4, x0 (xaI 16 6)), (6, xB (xcNe 49 9)), (9, x0 (xaI 0 10)), (10, x0 (xaStI 1 11)), (11, x0 (xaLdI 1 12)), (12, x0 (xaI 240 15)), (15, xB (xcGe 39 18)), (18, x0 (xaLdA 0 19)), (19, x1 (xaGetA 82 22)), (22, x0 (xaLdI 1 23)), (23, x0 (xaLdA 0 24)), (24, x1 (xaGetA 82 27)), (27, x0 (xaLdI 1 28)), (28, x0 (xaI 16 30)), (30, x1 (xaAdd 31)), (31, x1 (xaALdI 0 32))]
def xk_244_1 : List (Nat × XI) := [(32, x1 (xaAStI 33)), (33, x1 (xaInc 1 1 36)), (36, x0 (xaGo 11)), (39, x0 (xaLdA 0 40)), (40, x0 (xaDup 41)), (41, x1 (xaGetI 84 44)), (44, x0 (xaI 1 45)), (45, x1 (xaSub 46)), (46, x1 (xaPutI 84 49)), (49, x0 (xaI 0 50)), (50, x0 (xaStI 1 51)), (51, x0 (xaLdI 1 52)), (52, x0 (xaI 16 54)), (54, xB (xcGe 83 57)), (57, x0 (xaLdA 0 58)), (58, x1 (xaGetA 82 61)), (61, x0 (xaI 16 63)), (63, x0 (xaLdA 0 64))]
def xk_244_2 : List (Nat × XI) := [(64, x1 (xaGetI 84 67)), (67, x1 (xaMul 68)), (68, x0 (xaLdI 1 69)), (69, x1 (xaAdd 70)), (70, x0 (xaLdA 0 71)), (71, x1 (xaGetA 81 74)), (74, x0 (xaLdI 1 75)), (75, x1 (xaALdI 0 76)), (76, x1 (xaAStI 77)), (77, x1 (xaInc 1 1 80)), (80, x0 (xaGo 51)), (83, x0 (xaLdA 0 84)), (84, x0 (xaDup 85)), (85, x1 (xaGetI 84 88)), (88, x0 (xaI 1 89)), (89, x1 (xaAdd 90)), (90, x1 (xaPutI 84 93)), (93, xR xrV)]
def xk_244 : List (List (Nat × XI)) := [xk_244_0, xk_244_1, xk_244_2]
/-- WrongRoomModel granted ()Z -/
def xm_X11_granted : Nat := 245
def xk_245_0 : List (Nat × XI) := [(0, x0 (xaLdA 0 1)), (1, x0 (xaI 0 2)), (2, xK (2, 5, [(some 9, 174)])), (5, x0 (xaPop 6)), (6, x0 (xaI 1 7)), (7, xR xrZ)]
def xk_245 : List (List (Nat × XI)) := [xk_245_0]
/-- WrongRoomModel shut (IZ)Z -/
def xm_X11_shut : Nat := 246
def xk_246_0 : List (Nat × XI) := [(0, x0 (xaLdA 0 1)), (1, x0 (xaI 0 2)), (2, x1 (xaPutI 66 5)), (5, x0 (xaLdA 0 6)), (6, x0 (xaLdI 1 7)), (7, xK (2, 10, [(some 9, 178)])), (10, xB (xbNe 19 13)), (13, x0 (xaLdA 0 14)), (14, x0 (xaI 1 15)), (15, xK (2, 18, [(some 9, 243)])), (18, xR xrZ), (19, x0 (xaLdA 0 20)), (20, x1 (xaGetA 81 23)), (23, x0 (xaI 7 25)), (25, x1 (xaALdI 0 26)), (26, x0 (xaLdI 1 27)), (27, xK (2, 30, [(none, 180)])), (30, x0 (xaLdI 2 31)), (31, xB (xcNe 40 34))]
def xk_246_1 : List (Nat × XI) := [(34, x0 (xaLdA 0 35)), (35, x0 (xaI 5 36)), (36, xK (2, 39, [(some 9, 243)])), (39, xR xrZ), (40, x0 (xaLdA 0 41)), (41, xK (1, 44, [(some 9, 244)])), (44, x0 (xaLdA 0 45)), (45, x1 (xaGetA 81 48)), (48, x0 (xaI 7 50)), (50, x0 (xaDup2 51)), (51, x1 (xaALdI 0 52)), (52, x0 (xaI 1 53)), (53, x0 (xaLdI 1 54)), (54, x1 (xaShl 55)), (55, x0 (xaXor 56)), (56, x1 (xaAStI 57)), (57, x0 (xaLdA 0 58)), (58, xK (1, 61, [(some 9, 245)])), (61, xR xrZ)]
def xk_246 : List (List (Nat × XI)) := [xk_246_0, xk_246_1]
/-- WrongRoomModel go (II)I -/
def xm_X11_go : Nat := 247
def xk_247_0 : List (Nat × XI) := [(0, x0 (xaLdA 0 1)), (1, x0 (xaI 0 2)), (2, x1 (xaPutI 66 5)), (5, x0 (xaLdA 0 6)), (6, x0 (xaLdI 1 7)), (7, xK (2, 10, [(some 9, 185)])), (10, xB (xbEq 21 13)), (13, x0 (xaLdA 0 14)), (14, x0 (xaLdI 2 15)), (15, xK (2, 18, [(some 9, 178)])), (18, xB (xbNe 27 21)), (21, x0 (xaLdA 0 22)), (22, x0 (xaI 1 23)), (23, xK (2, 26, [(some 9, 142)])), (26, xR xrI), (27, x0 (xaLdA 0 28)), (28, x1 (xaGetA 81 31)), (31, x0 (xaI 8 33))]
def xk_247_1 : List (Nat × XI) := [(33, x0 (xaLdI 1 34)), (34, x1 (xaAdd 35)), (35, x1 (xaALdI 0 36)), (36, x0 (xaStI 3 37)), (37, x0 (xaLdA 0 38)), (38, x1 (xaGetA 69 41)), (41, x1 (xaGetA 150 44)), (44, x0 (xaI 7 46)), (46, x0 (xaLdI 3 47)), (47, x1 (xaMul 48)), (48, x0 (xaLdI 2 49)), (49, x1 (xaAdd 50)), (50, x1 (xaALdI 0 51)), (51, x0 (xaStI 4 53)), (53, x0 (xaLdA 0 54)), (54, x1 (xaGetA 81 57)), (57, x0 (xaI 0 58)), (58, x0 (xaLdI 3 59)), (59, x1 (xaAdd 60)), (60, x1 (xaALdI 0 61)), (61, x0 (xaLdI 2 62)), (62, xB (xcNe 112 65))]
def xk_247_2 : List (Nat × XI) := [(65, x0 (xaLdA 0 66)), (66, x0 (xaLdI 3 67)), (67, x0 (xaLdA 0 68)), (68, x1 (xaGetA 81 71)), (71, x0 (xaI 12 73)), (73, x0 (xaLdI 1 74)), (74, x1 (xaAdd 75)), (75, x1 (xaALdI 0 76)), (76, x0 (xaI 1440 79)), (79, x1 (xaRem 80)), (80, xK (3, 83, [(some 9, 182)])), (83, xB (xbEq 112 86)), (86, x0 (xaLdI 4 88)), (88, xB (xbEq 103 91)), (91, x0 (xaLdA 0 92)), (92, x1 (xaGetA 69 95)), (95, x1 (xaGetI 133 98))]
def xk_247_3 : List (Nat × XI) := [(98, x0 (xaLdI 4 100)), (100, xB (xcGe 112 103)), (103, x0 (xaLdA 0 104)), (104, x1 (xaGetA 69 107)), (107, x1 (xaGetI 133 110)), (110, x0 (xaStI 4 112)), (112, x0 (xaLdI 3 113)), (113, x0 (xaLdI 2 114)), (114, xB (xcEq 122 117)), (117, x0 (xaLdI 4 119)), (119, xB (xbNe 128 122)), (122, x0 (xaLdA 0 123)), (123, x0 (xaI 5 124)), (124, xK (2, 127, [(some 9, 142)])), (127, xR xrI)]
def xk_247_4 : List (Nat × XI) := [(128, x0 (xaLdA 0 129)), (129, xK (1, 132, [(some 9, 244)])), (132, x0 (xaLdA 0 133)), (133, x1 (xaGetA 81 136)), (136, x0 (xaI 8 138)), (138, x0 (xaLdI 1 139)), (139, x1 (xaAdd 140)), (140, x0 (xaLdI 2 141)), (141, x1 (xaAStI 142)), (142, x0 (xaLdA 0 143)), (143, x1 (xaGetA 81 146)), (146, x0 (xaI 12 148)), (148, x0 (xaLdI 1 149)), (149, x1 (xaAdd 150)), (150, x0 (xaDup2 151)), (151, x1 (xaALdI 0 152)), (152, x0 (xaLdI 4 154)), (154, x1 (xaAdd 155)), (155, x1 (xaAStI 156)), (156, x0 (xaLdA 0 157)), (157, x0 (xaLdA 0 158)), (158, x1 (xaGetA 81 161))]
def xk_247_5 : List (Nat × XI) := [(161, x0 (xaI 12 163)), (163, x0 (xaLdI 1 164)), (164, x1 (xaAdd 165)), (165, x1 (xaALdI 0 166)), (166, xK (2, 169, [(some 9, 174)])), (169, xR xrI)]
def xk_247 : List (List (Nat × XI)) := [xk_247_0, xk_247_1, xk_247_2, xk_247_3, xk_247_4, xk_247_5]
/-- WrongRoomModel waits (II)I -/
def xm_X11_waits : Nat := 248
def xk_248_0 : List (Nat × XI) := [(0, x0 (xaLdA 0 1)), (1, x0 (xaI 0 2)), (2, x1 (xaPutI 66 5)), (5, x0 (xaLdA 0 6)), (6, x0 (xaLdI 1 7)), (7, xK (2, 10, [(some 9, 185)])), (10, xB (xbNe 19 13)), (13, x0 (xaLdA 0 14)), (14, x0 (xaI 1 15)), (15, xK (2, 18, [(some 9, 142)])), (18, xR xrI), (19, x0 (xaLdI 2 20)), (20, x0 (xaI 1 21)), (21, x0 (xaI 999 24)), (24, xK (3, 27, [(none, 156)])), (27, xB (xbNe 36 30)), (30, x0 (xaLdA 0 31)), (31, x0 (xaI 2 32))]
def xk_248_1 : List (Nat × XI) := [(32, xK (2, 35, [(some 9, 142)])), (35, xR xrI), (36, x0 (xaLdA 0 37)), (37, xK (1, 40, [(some 9, 244)])), (40, x0 (xaLdA 0 41)), (41, x1 (xaGetA 81 44)), (44, x0 (xaI 12 46)), (46, x0 (xaLdI 1 47)), (47, x1 (xaAdd 48)), (48, x0 (xaDup2 49)), (49, x1 (xaALdI 0 50)), (50, x0 (xaLdI 2 51)), (51, x1 (xaAdd 52)), (52, x1 (xaAStI 53)), (53, x0 (xaLdA 0 54)), (54, x0 (xaLdA 0 55)), (55, x1 (xaGetA 81 58)), (58, x0 (xaI 12 60)), (60, x0 (xaLdI 1 61)), (61, x1 (xaAdd 62)), (62, x1 (xaALdI 0 63)), (63, xK (2, 66, [(some 9, 174)]))]
def xk_248_2 : List (Nat × XI) := [(66, xR xrI)]
def xk_248 : List (List (Nat × XI)) := [xk_248_0, xk_248_1, xk_248_2]
/-- WrongRoomModel undo ()Z -/
def xm_X11_undo : Nat := 249
def xk_249_0 : List (Nat × XI) := [(0, x0 (xaLdA 0 1)), (1, x0 (xaI 0 2)), (2, x1 (xaPutI 66 5)), (5, x0 (xaLdA 0 6)), (6, x1 (xaGetA 69 9)), (9, xB (xbNull 19 12)), (12, x0 (xaLdA 0 13)), (13, x1 (xaGetI 84 16)), (16, xB (xbNe 26 19)), (19, x0 (xaLdA 0 20)), (20, x0 (xaI 6 22)), (22, xK (2, 25, [(some 9, 243)])), (25, xR xrZ), (26, x0 (xaLdA 0 27)), (27, x0 (xaDup 28)), (28, x1 (xaGetI 84 31)), (31, x0 (xaI 1 32))]
def xk_249_1 : List (Nat × XI) := [(32, x1 (xaSub 33)), (33, x1 (xaPutI 84 36)), (36, x0 (xaI 0 37)), (37, x0 (xaStI 1 38)), (38, x0 (xaLdI 1 39)), (39, x0 (xaI 16 41)), (41, xB (xcGe 70 44)), (44, x0 (xaLdA 0 45)), (45, x1 (xaGetA 81 48)), (48, x0 (xaLdI 1 49)), (49, x0 (xaLdA 0 50)), (50, x1 (xaGetA 82 53)), (53, x0 (xaI 16 55)), (55, x0 (xaLdA 0 56)), (56, x1 (xaGetI 84 59)), (59, x1 (xaMul 60)), (60, x0 (xaLdI 1 61)), (61, x1 (xaAdd 62)), (62, x1 (xaALdI 0 63)), (63, x1 (xaAStI 64))]
def xk_249_2 : List (Nat × XI) := [(64, x1 (xaInc 1 1 67)), (67, x0 (xaGo 38)), (70, x0 (xaLdA 0 71)), (71, xK (1, 74, [(some 9, 245)])), (74, xR xrZ)]
def xk_249 : List (List (Nat × XI)) := [xk_249_0, xk_249_1, xk_249_2]
/-- WrongRoomModel mark ()I -/
def xm_X11_mark : Nat := 250
def xk_250_0 : List (Nat × XI) := [(0, x0 (xaLdA 0 1)), (1, x0 (xaI 0 2)), (2, x1 (xaPutI 66 5)), (5, x0 (xaLdA 0 6)), (6, x1 (xaGetA 69 9)), (9, xB (xbNonN 18 12)), (12, x0 (xaLdA 0 13)), (13, x0 (xaI 1 14)), (14, xK (2, 17, [(some 9, 142)])), (17, xR xrI), (18, x0 (xaLdA 0 19)), (19, x1 (xaGetI 85 22)), (22, x0 (xaI 3 23)), (23, xB (xcNe 32 26)), (26, x0 (xaLdA 0 27)), (27, x0 (xaI 3 28)), (28, xK (2, 31, [(some 9, 142)])), (31, xR xrI)]
def xk_250_1 : List (Nat × XI) := [(32, x0 (xaI 0 33)), (33, x0 (xaStI 1 34)), (34, x0 (xaLdI 1 35)), (35, x0 (xaI 16 37)), (37, xB (xcGe 66 40)), (40, x0 (xaLdA 0 41)), (41, x1 (xaGetA 83 44)), (44, x0 (xaI 16 46)), (46, x0 (xaLdA 0 47)), (47, x1 (xaGetI 85 50)), (50, x1 (xaMul 51)), (51, x0 (xaLdI 1 52)), (52, x1 (xaAdd 53)), (53, x0 (xaLdA 0 54)), (54, x1 (xaGetA 81 57)), (57, x0 (xaLdI 1 58)), (58, x1 (xaALdI 0 59)), (59, x1 (xaAStI 60)), (60, x1 (xaInc 1 1 63)), (63, x0 (xaGo 34))]
def xk_250_2 : List (Nat × XI) := [(66, x0 (xaLdA 0 67)), (67, x0 (xaDup 68)), (68, x1 (xaGetI 85 71)), (71, x0 (xaI 1 72)), (72, x1 (xaAdd 73)), (73, x1 (xaPutI 85 76)), (76, x0 (xaLdA 0 77)), (77, x0 (xaLdA 0 78)), (78, x1 (xaGetI 85 81)), (81, x0 (xaI 1 82)), (82, x1 (xaSub 83)), (83, xK (2, 86, [(some 9, 174)])), (86, xR xrI)]
def xk_250 : List (List (Nat × XI)) := [xk_250_0, xk_250_1, xk_250_2]
/-- WrongRoomModel back (I)Z -/
def xm_X11_back : Nat := 251
def xk_251_0 : List (Nat × XI) := [(0, x0 (xaLdA 0 1)), (1, x0 (xaI 0 2)), (2, x1 (xaPutI 66 5)), (5, x0 (xaLdA 0 6)), (6, x1 (xaGetA 69 9)), (9, xB (xbNull 24 12)), (12, x0 (xaLdI 1 13)), (13, xB (xbLt 24 16)), (16, x0 (xaLdI 1 17)), (17, x0 (xaLdA 0 18)), (18, x1 (xaGetI 85 21)), (21, xB (xcLt 30 24)), (24, x0 (xaLdA 0 25)), (25, x0 (xaI 1 26)), (26, xK (2, 29, [(some 9, 243)])), (29, xR xrZ), (30, x0 (xaI 0 31)), (31, x0 (xaStI 2 32))]
def xk_251_1 : List (Nat × XI) := [(32, x0 (xaLdI 2 33)), (33, x0 (xaI 16 35)), (35, xB (xcGe 61 38)), (38, x0 (xaLdA 0 39)), (39, x1 (xaGetA 81 42)), (42, x0 (xaLdI 2 43)), (43, x0 (xaLdA 0 44)), (44, x1 (xaGetA 83 47)), (47, x0 (xaI 16 49)), (49, x0 (xaLdI 1 50)), (50, x1 (xaMul 51)), (51, x0 (xaLdI 2 52)), (52, x1 (xaAdd 53)), (53, x1 (xaALdI 0 54)), (54, x1 (xaAStI 55)), (55, x1 (xaInc 2 1 58)), (58, x0 (xaGo 32)), (61, x0 (xaLdA 0 62)), (62, x0 (xaI 0 63)), (63, x1 (xaPutI 84 66))]
def xk_251_2 : List (Nat × XI) := [(66, x0 (xaLdA 0 67)), (67, xK (1, 70, [(some 9, 245)])), (70, xR xrZ)]
def xk_251 : List (List (Nat × XI)) := [xk_251_0, xk_251_1, xk_251_2]
/-- WrongRoomModel led (I)I -/
def xm_X11_led : Nat := 252
def xk_252_0 : List (Nat × XI) := [(0, x0 (xaLdA 0 1)), (1, x0 (xaI 0 2)), (2, x1 (xaPutI 66 5)), (5, x0 (xaI 0 6)), (6, x0 (xaStI 2 7)), (7, x0 (xaI 0 8)), (8, x0 (xaStI 3 9)), (9, x0 (xaLdA 0 10)), (10, x1 (xaGetA 69 13)), (13, xB (xbNull 67 16)), (16, x0 (xaLdI 3 17)), (17, x0 (xaLdA 0 18)), (18, x1 (xaGetA 69 21)), (21, x1 (xaGetI 139 24)), (24, xB (xcGe 67 27)), (27, x0 (xaLdA 0 28)), (28, x1 (xaGetA 81 31)), (31, x0 (xaI 8 33))]
def xk_252_1 : List (Nat × XI) := [(33, x0 (xaLdI 3 34)), (34, x1 (xaAdd 35)), (35, x1 (xaALdI 0 36)), (36, x0 (xaLdA 0 37)), (37, x1 (xaGetA 69 40)), (40, x1 (xaGetA 151 43)), (43, x0 (xaLdI 3 44)), (44, x1 (xaALdI 0 45)), (45, xB (xcEq 51 48)), (48, x0 (xaGo 61)), (51, x0 (xaLdI 2 52)), (52, x0 (xaLdI 1 53)), (53, xB (xcNe 58 56)), (56, x0 (xaLdI 3 57)), (57, xR xrI), (58, x1 (xaInc 2 1 61)), (61, x1 (xaInc 3 1 64))]
def xk_252_2 : List (Nat × XI) := [(64, x0 (xaGo 9)), (67, x0 (xaLdA 0 68)), (68, x0 (xaI 1 69)), (69, x1 (xaPutI 66 72)), (72, x0 (xaI 0 73)), (73, xR xrI)]
def xk_252 : List (List (Nat × XI)) := [xk_252_0, xk_252_1, xk_252_2]
/-- WrongRoomModel size (I)I -/
def xm_X11_size : Nat := 253
def xk_253_0 : List (Nat × XI) := [(0, x0 (xaLdA 0 1)), (1, x0 (xaI 0 2)), (2, x1 (xaPutI 66 5)), (5, x0 (xaLdI 1 6)), (6, x0 (xaI 12 8)), (8, xB (xcNe 16 11)), (11, x0 (xaLdA 0 12)), (12, x1 (xaGetI 72 15)), (15, xR xrI), (16, x0 (xaLdI 1 17)), (17, x0 (xaI 0 18)), (18, x0 (xaI 11 20)), (20, xK (3, 23, [(none, 156)])), (23, xB (xbNe 28 26)), (26, x0 (xaI (-1) 27)), (27, xR xrI), (28, x0 (xaLdA 0 29)), (29, x1 (xaGetA 69 32))]
def xk_253_1 : List (Nat × XI) := [(32, xB (xbNonN 37 35)), (35, x0 (xaI 0 36)), (36, xR xrI), (37, x0 (xaLdI 1 38)), (38, x0 (xaSw [(0, 96), (1, 104), (2, 112), (3, 120), (4, 125), (5, 133), (6, 141), (7, 149), (8, 157), (9, 165), (10, 176)] 181))]
def xk_253_2 : List (Nat × XI) := []
def xk_253_3 : List (Nat × XI) := [(96, x0 (xaLdA 0 97)), (97, x1 (xaGetA 69 100)), (100, x1 (xaGetI 133 103)), (103, xR xrI), (104, x0 (xaLdA 0 105)), (105, x1 (xaGetA 69 108)), (108, x1 (xaGetI 134 111)), (111, xR xrI), (112, x0 (xaLdA 0 113)), (113, x1 (xaGetA 69 116)), (116, x1 (xaGetI 135 119)), (119, xR xrI), (120, x0 (xaLdA 0 121)), (121, xK (1, 124, [(some 9, 254)])), (124, xR xrI), (125, x0 (xaLdA 0 126)), (126, x1 (xaGetA 69 129))]
def xk_253_4 : List (Nat × XI) := [(129, x1 (xaGetI 137 132)), (132, xR xrI), (133, x0 (xaLdA 0 134)), (134, x1 (xaGetA 69 137)), (137, x1 (xaGetI 138 140)), (140, xR xrI), (141, x0 (xaLdA 0 142)), (142, x1 (xaGetA 69 145)), (145, x1 (xaGetI 139 148)), (148, xR xrI), (149, x0 (xaLdA 0 150)), (150, x1 (xaGetA 69 153)), (153, x1 (xaGetI 140 156)), (156, xR xrI), (157, x0 (xaLdA 0 158)), (158, x1 (xaGetA 69 161))]
def xk_253_5 : List (Nat × XI) := [(161, x1 (xaGetI 141 164)), (164, xR xrI), (165, x0 (xaLdA 0 166)), (166, x1 (xaGetA 81 169)), (169, x0 (xaI 7 171)), (171, x1 (xaALdI 0 172)), (172, xK (1, 175, [(none, 226)])), (175, xR xrI), (176, x0 (xaLdA 0 177)), (177, x1 (xaGetI 84 180)), (180, xR xrI), (181, x0 (xaLdA 0 182)), (182, x1 (xaGetI 85 185)), (185, xR xrI)]
def xk_253 : List (List (Nat × XI)) := [xk_253_0, xk_253_1, xk_253_2, xk_253_3, xk_253_4, xk_253_5]
/-- WrongRoomModel known ()I -/
def xm_X11_known : Nat := 254
def xk_254_0 : List (Nat × XI) := [(0, x0 (xaI 0 1)), (1, x0 (xaStI 1 2)), (2, x0 (xaI 0 3)), (3, x0 (xaStI 2 4)), (4, x0 (xaLdI 2 5)), (5, x0 (xaLdA 0 6)), (6, x1 (xaGetA 69 9)), (9, x1 (xaGetI 135 12)), (12, xB (xcGe 42 15)), (15, x0 (xaLdI 1 16)), (16, x0 (xaLdA 0 17)), (17, x1 (xaGetA 81 20)), (20, x0 (xaI 0 21)), (21, x0 (xaLdI 2 22)), (22, x1 (xaAdd 23)), (23, x1 (xaALdI 0 24)), (24, x0 (xaI (-2) 26)), (26, xB (xcNe 33 29)), (29, x0 (xaI 0 30)), (30, x0 (xaGo 34))]
def xk_254_1 : List (Nat × XI) := [(33, x0 (xaI 1 34)), (34, x1 (xaAdd 35)), (35, x0 (xaStI 1 36)), (36, x1 (xaInc 2 1 39)), (39, x0 (xaGo 4)), (42, x0 (xaLdI 1 43)), (43, xR xrI)]
def xk_254 : List (List (Nat × XI)) := [xk_254_0, xk_254_1]
/-- WrongRoomModel trouble ()I -/
def xm_X11_trouble : Nat := 255
def xk_255_0 : List (Nat × XI) := [(0, x0 (xaLdA 0 1)), (1, x0 (xaI 0 2)), (2, x1 (xaPutI 66 5)), (5, x0 (xaLdA 0 6)), (6, x1 (xaGetI 67 9)), (9, xR xrI)]
def xk_255 : List (List (Nat × XI)) := [xk_255_0]
/-- WrongRoom$Town <init> ()V -/
def xm_X12_init : Nat := 256
def xk_256_0 : List (Nat × XI) := [(0, x0 (xaLdA 0 1)), (1, x1 (xaObj 4)), (4, x0 (xaLdA 0 5)), (5, x0 (xaI 7 7)), (7, x1 (xaNewA 5 10)), (10, x1 (xaPutA 105 13)), (13, x0 (xaLdA 0 14)), (14, x0 (xaI 4 15)), (15, x1 (xaNewA 6 18)), (18, x1 (xaPutA 106 21)), (21, x0 (xaLdA 0 22)), (22, x0 (xaI 12 24)), (24, x1 (xaNewA 7 27)), (27, x1 (xaPutA 107 30)), (30, x0 (xaLdA 0 31)), (31, x0 (xaI 49 33))]
def xk_256_1 : List (Nat × XI) := [(33, x1 (xaNewA 0 35)), (35, x1 (xaPutA 108 38)), (38, xR xrV)]
def xk_256 : List (List (Nat × XI)) := [xk_256_0, xk_256_1]
/-- WrongRoom$Town find (Ljava/lang/String;)LWrongRoom$Named; -/
def xm_X12_find : Nat := 257
def xk_257_0 : List (Nat × XI) := [(0, x0 (xaI 0 1)), (1, x0 (xaStI 2 2)), (2, x0 (xaLdI 2 3)), (3, x0 (xaLdA 0 4)), (4, x1 (xaGetI 111 7)), (7, xB (xcGe 39 10)), (10, x0 (xaLdA 0 11)), (11, x1 (xaGetA 105 14)), (14, x0 (xaLdI 2 15)), (15, x1 (xaALdA 16)), (16, x1 (xaGetA 117 19)), (19, x0 (xaLdA 1 20)), (20, xK (2, 23, [(some 16, 267)])), (23, xB (xbEq 33 26)), (26, x0 (xaLdA 0 27)), (27, x1 (xaGetA 105 30)), (30, x0 (xaLdI 2 31)), (31, x1 (xaALdA 32))]
def xk_257_1 : List (Nat × XI) := [(32, xR xrA), (33, x1 (xaInc 2 1 36)), (36, x0 (xaGo 2)), (39, x0 (xaI 0 40)), (40, x0 (xaStI 2 41)), (41, x0 (xaLdI 2 42)), (42, x0 (xaLdA 0 43)), (43, x1 (xaGetI 114 46)), (46, xB (xcGe 78 49)), (49, x0 (xaLdA 0 50)), (50, x1 (xaGetA 106 53)), (53, x0 (xaLdI 2 54)), (54, x1 (xaALdA 55)), (55, x1 (xaGetA 117 58)), (58, x0 (xaLdA 1 59)), (59, xK (2, 62, [(some 16, 267)])), (62, xB (xbEq 72 65))]
def xk_257_2 : List (Nat × XI) := [(65, x0 (xaLdA 0 66)), (66, x1 (xaGetA 106 69)), (69, x0 (xaLdI 2 70)), (70, x1 (xaALdA 71)), (71, xR xrA), (72, x1 (xaInc 2 1 75)), (75, x0 (xaGo 41)), (78, x0 (xaNull 79)), (79, xR xrA)]
def xk_257 : List (List (Nat × XI)) := [xk_257_0, xk_257_1, xk_257_2]
/-- WrongRoom$Town street (II)I -/
def xm_X12_street : Nat := 258
def xk_258_0 : List (Nat × XI) := [(0, x0 (xaLdA 0 1)), (1, x1 (xaGetA 108 4)), (4, x0 (xaI 7 6)), (6, x0 (xaLdI 1 7)), (7, x1 (xaMul 8)), (8, x0 (xaLdI 2 9)), (9, x1 (xaAdd 10)), (10, x1 (xaALdI 0 11)), (11, xR xrI)]
def xk_258 : List (List (Nat × XI)) := [xk_258_0]
/-- WrongRoom$Town noticeMany ()I -/
def xm_X12_noticeMany : Nat := 259
def xk_259_0 : List (Nat × XI) := [(0, x0 (xaLdA 0 1)), (1, x1 (xaGetI 115 4)), (4, x0 (xaLdA 0 5)), (5, x1 (xaGetI 116 8)), (8, x1 (xaAdd 9)), (9, xR xrI)]
def xk_259 : List (List (Nat × XI)) := [xk_259_0]
/-- WrongRoom$Town mayBe (II)Z -/
def xm_X12_mayBe : Nat := 260
def xk_260_0 : List (Nat × XI) := [(0, x0 (xaLdI 1 1)), (1, x0 (xaLdI 2 2)), (2, xB (xcNe 7 5)), (5, x0 (xaI 0 6)), (6, xR xrZ), (7, x0 (xaI 1 8)), (8, x0 (xaStI 3 9)), (9, x0 (xaI 0 10)), (10, x0 (xaStI 4 12)), (12, x0 (xaLdI 4 14)), (14, x0 (xaLdA 0 15)), (15, xK (1, 18, [(some 10, 259)])), (18, xB (xcGe 70 21)), (21, x0 (xaLdI 3 22)), (22, xB (xbEq 62 25)), (25, x0 (xaLdA 0 26)), (26, x1 (xaGetA 107 29)), (29, x0 (xaLdI 4 31)), (31, x1 (xaALdA 32))]
def xk_260_1 : List (Nat × XI) := [(32, x1 (xaGetI 130 35)), (35, x0 (xaLdI 1 36)), (36, xB (xcNe 58 39)), (39, x0 (xaLdA 0 40)), (40, x1 (xaGetA 107 43)), (43, x0 (xaLdI 4 45)), (45, x1 (xaALdA 46)), (46, x0 (xaLdA 0 47)), (47, x1 (xaGetA 105 50)), (50, x0 (xaLdI 2 51)), (51, x1 (xaALdA 52)), (52, xK (2, 55, [(some 13, 288), (some 14, 290)])), (55, xB (xbEq 62 58)), (58, x0 (xaI 1 59)), (59, x0 (xaGo 63)), (62, x0 (xaI 0 63)), (63, x0 (xaStI 3 64))]
def xk_260_2 : List (Nat × XI) := [(64, x1 (xaInc 4 1 67)), (67, x0 (xaGo 12)), (70, x0 (xaLdI 3 71)), (71, xR xrZ)]
def xk_260 : List (List (Nat × XI)) := [xk_260_0, xk_260_1, xk_260_2]
/-- java/lang/String <init> ([CII)V -/
def xm_J3_init : Nat := 261
def xk_261_0 : List (Nat × XI) := [(0, x0 (xaLdA 0 1)), (1, x0 (xaLdA 1 2)), (2, x0 (xaLdI 2 3)), (3, x0 (xaLdI 3 4)), (4, x0 (xaLdA 1 5)), (5, x0 (xaLdI 2 6)), (6, x0 (xaLdI 3 7)), (7, xK (3, 10, [(none, 262)])), (10, xK (5, 13, [(some 16, 264)])), (13, xR xrV)]
def xk_261 : List (List (Nat × XI)) := [xk_261_0]
/-- java/lang/String rangeCheck ([CII)Ljava/lang/Void; -/
def xm_J3_rangeCheck : Nat := 262
def xk_262_0 : List (Nat × XI) := [(0, x0 (xaLdI 1 1)), (1, x0 (xaLdI 2 2)), (2, x0 (xaLdA 0 3)), (3, x1 (xaALen 4)), (4, xK (3, 7, [(none, 263)])), (7, x0 (xaPop 8)), (8, x0 (xaNull 9)), (9, xR xrA)]
def xk_262 : List (List (Nat × XI)) := [xk_262_0]
/-- java/lang/String checkBoundsOffCount (III)I -/
def xm_J3_checkBoundsOffCount : Nat := 263
def xk_263_0 : List (Nat × XI) := [(0, x0 (xaLdI 0 1)), (1, x0 (xaLdI 1 2)), (2, x0 (xaLdI 2 3)), (3, x0 (xaCst 52 6)), (6, xK (4, 9, [(none, 272)])), (9, xR xrI)]
def xk_263 : List (List (Nat × XI)) := [xk_263_0]
/-- java/lang/String <init> ([CIILjava/lang/Void;)V -/
def xm_J3_init_2 : Nat := 264
def xk_264_0 : List (Nat × XI) := [(0, x0 (xaLdA 0 1)), (1, x1 (xaObj 4)), (4, x0 (xaLdI 3 5)), (5, xB (xbNe 27 8)), (8, x0 (xaLdA 0 9)), (9, x0 (xaCst 41 11)), (11, x1 (xaGetA 160 14)), (14, x1 (xaPutA 160 17)), (17, x0 (xaLdA 0 18)), (18, x0 (xaCst 41 20)), (20, x1 (xaGetI 161 23)), (23, x1 (xaPutB 161 26)), (26, xR xrV), (27, x0 (xaI 1 30)), (30, xB (xbEq 58 33))]
def xk_264_1 : List (Nat × XI) := [(33, x0 (xaLdA 1 34)), (34, x0 (xaLdI 2 35)), (35, x0 (xaLdI 3 36)), (36, xK (3, 39, [(none, 274)])), (39, x0 (xaStA 5 41)), (41, x0 (xaLdA 0 42)), (42, x0 (xaLdA 5 44)), (44, x0 (xaLdI 3 45)), (45, xK (2, 48, [(none, 276)])), (48, x1 (xaPutB 161 51)), (51, x0 (xaLdA 0 52)), (52, x0 (xaLdA 5 54)), (54, x1 (xaPutA 160 57)), (57, xR xrV), (58, x0 (xaLdA 0 59)), (59, x0 (xaI 1 60)), (60, x1 (xaPutB 161 63)), (63, x0 (xaLdA 0 64))]
def xk_264_2 : List (Nat × XI) := [(64, x0 (xaLdA 1 65)), (65, x0 (xaLdI 2 66)), (66, x0 (xaLdI 3 67)), (70, x1 (xaPutA 160 73)), (73, xR xrV)]
def xk_264 : List (List (Nat × XI)) := [xk_264_0, xk_264_1, xk_264_2]
/-- java/lang/String hashCode ()I -/
def xm_J3_hashCode : Nat := 265
def xk_265_0 : List (Nat × XI) := [(0, x0 (xaLdA 0 1)), (1, x1 (xaGetI 162 4)), (4, x0 (xaStI 1 5)), (5, x0 (xaLdI 1 6)), (6, xB (xbNe 58 9)), (9, x0 (xaLdA 0 10)), (10, x1 (xaGetI 163 13)), (13, xB (xbNe 58 16)), (16, x0 (xaLdA 0 17)), (17, xK (1, 20, [(some 16, 266)])), (20, xB (xbEq 33 23)), (23, x0 (xaLdA 0 24)), (24, x1 (xaGetA 160 27)), (27, xK (1, 30, [(none, 277)])), (30, x0 (xaGo 40))]
def xk_265_1 : List (Nat × XI) := [(33, x0 (xaLdA 0 34)), (34, x1 (xaGetA 160 37)), (40, x0 (xaStI 1 41)), (41, x0 (xaLdI 1 42)), (42, xB (xbNe 53 45)), (45, x0 (xaLdA 0 46)), (46, x0 (xaI 1 47)), (47, x1 (xaPutZ 163 50)), (50, x0 (xaGo 58)), (53, x0 (xaLdA 0 54)), (54, x0 (xaLdI 1 55)), (55, x1 (xaPutI 162 58)), (58, x0 (xaLdI 1 59)), (59, xR xrI)]
def xk_265 : List (List (Nat × XI)) := [xk_265_0, xk_265_1]
/-- java/lang/String isLatin1 ()Z -/
def xm_J3_isLatin1 : Nat := 266
def xk_266_0 : List (Nat × XI) := [(0, x0 (xaI 1 3)), (3, xB (xbEq 17 6)), (6, x0 (xaLdA 0 7)), (7, x1 (xaGetI 161 10)), (10, xB (xbNe 17 13)), (13, x0 (xaI 1 14)), (14, x0 (xaGo 18)), (17, x0 (xaI 0 18)), (18, xR xrZ)]
def xk_266 : List (List (Nat × XI)) := [xk_266_0]
/-- java/lang/String equals (Ljava/lang/Object;)Z -/
def xm_J3_equals : Nat := 267
def xk_267_0 : List (Nat × XI) := [(0, x0 (xaLdA 0 1)), (1, x0 (xaLdA 1 2)), (2, xB (xaNe 7 5)), (5, x0 (xaI 1 6)), (6, xR xrZ), (7, x0 (xaLdA 1 8)), (8, x1 (xaInst [16] [] 11)), (11, xB (xbEq 54 14)), (14, x0 (xaLdA 1 15)), (15, x1 (xaCast [16] 18)), (18, x0 (xaStA 2 19)), (19, x0 (xaI 1 22)), (22, xB (xbEq 36 25)), (25, x0 (xaLdA 0 26)), (26, x1 (xaGetI 161 29)), (29, x0 (xaLdA 2 30)), (30, x1 (xaGetI 161 33))]
def xk_267_1 : List (Nat × XI) := [(33, xB (xcNe 54 36)), (36, x0 (xaLdA 0 37)), (37, x1 (xaGetA 160 40)), (40, x0 (xaLdA 2 41)), (41, x1 (xaGetA 160 44)), (44, xK (2, 47, [(none, 278)])), (47, xB (xbEq 54 50)), (50, x0 (xaI 1 51)), (51, x0 (xaGo 55)), (54, x0 (xaI 0 55)), (55, xR xrZ)]
def xk_267 : List (List (Nat × XI)) := [xk_267_0, xk_267_1]
/-- java/lang/String length ()I -/
def xm_J3_length : Nat := 268
def xk_268_0 : List (Nat × XI) := [(0, x0 (xaLdA 0 1)), (1, x1 (xaGetA 160 4)), (4, x1 (xaALen 5)), (5, x0 (xaLdA 0 6)), (6, xK (1, 9, [(some 16, 269)])), (9, x1 (xaShr 10)), (10, xR xrI)]
def xk_268 : List (List (Nat × XI)) := [xk_268_0]
/-- java/lang/String coder ()B -/
def xm_J3_coder : Nat := 269
def xk_269_0 : List (Nat × XI) := [(0, x0 (xaI 1 3)), (3, xB (xbEq 13 6)), (6, x0 (xaLdA 0 7)), (7, x1 (xaGetI 161 10)), (10, x0 (xaGo 14)), (13, x0 (xaI 1 14)), (14, xR xrB)]
def xk_269 : List (List (Nat × XI)) := [xk_269_0]
/-- java/lang/String charAt (I)C -/
def xm_J3_charAt : Nat := 270
def xk_270_0 : List (Nat × XI) := [(0, x0 (xaLdA 0 1)), (1, xK (1, 4, [(some 16, 266)])), (4, xB (xbEq 16 7)), (7, x0 (xaLdA 0 8)), (8, x1 (xaGetA 160 11)), (11, x0 (xaLdI 1 12)), (12, xK (2, 15, [(none, 279)])), (15, xR xrC), (16, x0 (xaLdA 0 17)), (17, x1 (xaGetA 160 20)), (20, x0 (xaLdI 1 21)), (24, xR xrC)]
def xk_270 : List (List (Nat × XI)) := [xk_270_0]
/-- java/lang/String checkIndex (II)V -/
def xm_J3_checkIndex : Nat := 271
def xk_271_0 : List (Nat × XI) := [(0, x0 (xaLdI 0 1)), (1, x0 (xaLdI 1 2)), (2, x0 (xaCst 52 5)), (5, xK (3, 8, [(none, 273)])), (8, x0 (xaPop 9)), (9, xR xrV)]
def xk_271 : List (List (Nat × XI)) := [xk_271_0]
/-- jdk/internal/util/Preconditions checkFromIndexSize (IIILjava/util/function/BiFunction;)I -/
def xm_J4_checkFromIndexSize : Nat := 272
def xk_272_0 : List (Nat × XI) := [(0, x0 (xaLdI 2 1)), (1, x0 (xaLdI 0 2)), (2, x0 (xaOr 3)), (3, x0 (xaLdI 1 4)), (4, x0 (xaOr 5)), (5, xB (xbLt 15 8)), (8, x0 (xaLdI 1 9)), (9, x0 (xaLdI 2 10)), (10, x0 (xaLdI 0 11)), (11, x1 (xaSub 12)), (12, xB (xcLe 23 15)), (15, x0 (xaLdA 3 16)), (16, x0 (xaLdI 0 17)), (17, x0 (xaLdI 1 18)), (18, x0 (xaLdI 2 19)), (22, xT), (23, x0 (xaLdI 0 24)), (24, xR xrI)]
def xk_272 : List (List (Nat × XI)) := [xk_272_0]
/-- jdk/internal/util/Preconditions checkIndex (IILjava/util/function/BiFunction;)I -/
def xm_J4_checkIndex : Nat := 273
def xk_273_0 : List (Nat × XI) := [(0, x0 (xaLdI 0 1)), (1, xB (xbLt 9 4)), (4, x0 (xaLdI 0 5)), (5, x0 (xaLdI 1 6)), (6, xB (xcLt 16 9)), (9, x0 (xaLdA 2 10)), (10, x0 (xaLdI 0 11)), (11, x0 (xaLdI 1 12)), (15, xT), (16, x0 (xaLdI 0 17)), (17, xR xrI)]
def xk_273 : List (List (Nat × XI)) := [xk_273_0]
/-- java/lang/StringUTF16 compress ([CII)[B -/
def xm_J5_compress : Nat := 274
def xk_274_0 : List (Nat × XI) := [(0, x0 (xaLdI 2 1)), (1, x1 (xaNewA 1 3)), (3, x0 (xaStA 3 4)), (4, x0 (xaLdA 0 5)), (5, x0 (xaLdI 1 6)), (6, x0 (xaLdA 3 7)), (7, x0 (xaI 0 8)), (8, x0 (xaLdI 2 9)), (9, xK (5, 12, [(none, 275)])), (12, x0 (xaStI 4 14)), (14, x0 (xaLdI 4 16)), (16, x0 (xaLdI 2 17)), (17, xB (xcEq 57 20)), (20, x0 (xaLdA 0 21)), (21, x0 (xaLdI 1 22)), (22, x0 (xaLdI 2 23)), (26, x0 (xaStA 5 28)), (28, x0 (xaLdA 5 30)), (30, x0 (xaLdI 4 32))]
def xk_274_1 : List (Nat × XI) := [(35, x0 (xaI 255 38)), (38, xB (xcGt 54 41)), (41, x0 (xaLdA 5 43)), (43, x0 (xaI 0 44)), (44, x0 (xaLdA 3 45)), (45, x0 (xaI 0 46)), (46, x0 (xaLdI 2 47)), (50, x0 (xaLdI 2 51)), (51, xB (xcEq 57 54)), (54, x0 (xaLdA 5 56)), (56, xR xrA), (57, x0 (xaLdA 3 58)), (58, xR xrA)]
def xk_274 : List (List (Nat × XI)) := [xk_274_0, xk_274_1]
/-- java/lang/StringUTF16 compress ([CI[BII)I -/
def xm_J5_compress_2 : Nat := 275
def xk_275_0 : List (Nat × XI) := [(0, x0 (xaI 0 1)), (1, x0 (xaStI 5 3)), (3, x0 (xaLdI 5 5)), (5, x0 (xaLdI 4 7)), (7, xB (xcGe 44 10)), (10, x0 (xaLdA 0 11)), (11, x0 (xaLdI 1 12)), (12, x1 (xaALdI 2 13)), (13, x0 (xaStI 6 15)), (15, x0 (xaLdI 6 17)), (17, x0 (xaI 255 20)), (20, xB (xcLe 26 23)), (23, x0 (xaLdI 5 25)), (25, xR xrI), (26, x0 (xaLdA 2 27)), (27, x0 (xaLdI 3 28)), (28, x0 (xaLdI 6 30)), (30, x0 (xaI2B 31)), (31, x1 (xaAStB 32))]
def xk_275_1 : List (Nat × XI) := [(32, x1 (xaInc 1 1 35)), (35, x1 (xaInc 3 1 38)), (38, x1 (xaInc 5 1 41)), (41, x0 (xaGo 3)), (44, x0 (xaLdI 4 46)), (46, xR xrI)]
def xk_275 : List (List (Nat × XI)) := [xk_275_0, xk_275_1]
/-- java/lang/StringUTF16 coderFromArrayLen ([BI)B -/
def xm_J5_coderFromArrayLen : Nat := 276
def xk_276_0 : List (Nat × XI) := [(0, x0 (xaLdI 1 1)), (1, x0 (xaLdA 0 2)), (2, x1 (xaALen 3)), (3, x1 (xaSub 4)), (4, x0 (xaI 31 6)), (6, x0 (xaUshr 7)), (7, x0 (xaI2B 8)), (8, xR xrB)]
def xk_276 : List (List (Nat × XI)) := [xk_276_0]
/-- java/lang/StringLatin1 hashCode ([B)I -/
def xm_J6_hashCode : Nat := 277
def xk_277_0 : List (Nat × XI) := [(0, x0 (xaLdA 0 1)), (1, x1 (xaALen 2)), (2, x0 (xaSw [(0, 28), (1, 32)] 42)), (28, x0 (xaI 0 29)), (29, x0 (xaGo 51))]
def xk_277_1 : List (Nat × XI) := [(32, x0 (xaLdA 0 33)), (33, x0 (xaI 0 34)), (34, x1 (xaALdI 1 35)), (35, x0 (xaI 255 38)), (38, x0 (xaAnd 39)), (39, x0 (xaGo 51)), (42, x0 (xaLdA 0 43)), (43, x0 (xaI 0 44)), (44, x0 (xaLdA 0 45)), (45, x1 (xaALen 46)), (46, x0 (xaI 0 47)), (47, x0 (xaI 4 48)), (48, xK (5, 51, [(none, 280)])), (51, xR xrI)]
def xk_277 : List (List (Nat × XI)) := [xk_277_0, xk_277_1]
/-- java/lang/StringLatin1 equals ([B[B)Z -/
def xm_J6_equals : Nat := 278
def xk_278_0 : List (Nat × XI) := [(0, x0 (xaLdA 0 1)), (1, x1 (xaALen 2)), (2, x0 (xaLdA 1 3)), (3, x1 (xaALen 4)), (4, xB (xcNe 34 7)), (7, x0 (xaI 0 8)), (8, x0 (xaStI 2 9)), (9, x0 (xaLdI 2 10)), (10, x0 (xaLdA 0 11)), (11, x1 (xaALen 12)), (12, xB (xcGe 32 15)), (15, x0 (xaLdA 0 16)), (16, x0 (xaLdI 2 17)), (17, x1 (xaALdI 1 18)), (18, x0 (xaLdA 1 19)), (19, x0 (xaLdI 2 20)), (20, x1 (xaALdI 1 21)), (21, xB (xcEq 26 24)), (24, x0 (xaI 0 25)), (25, xR xrZ), (26, x1 (xaInc 2 1 29)), (29, x0 (xaGo 9))]
def xk_278_1 : List (Nat × XI) := [(32, x0 (xaI 1 33)), (33, xR xrZ), (34, x0 (xaI 0 35)), (35, xR xrZ)]
def xk_278 : List (List (Nat × XI)) := [xk_278_0, xk_278_1]
/-- java/lang/StringLatin1 charAt ([BI)C -/
def xm_J6_charAt : Nat := 279
def xk_279_0 : List (Nat × XI) := [(0, x0 (xaLdI 1 1)), (1, x0 (xaLdA 0 2)), (2, x1 (xaALen 3)), (3, xK (2, 6, [(none, 271)])), (6, x0 (xaLdA 0 7)), (7, x0 (xaLdI 1 8)), (8, x1 (xaALdI 1 9)), (9, x0 (xaI 255 12)), (12, x0 (xaAnd 13)), (13, x1 (xaI2C 14)), (14, xR xrC)]
def xk_279 : List (List (Nat × XI)) := [xk_279_0]
/-- jdk/internal/util/ArraysSupport vectorizedHashCode (Ljava/lang/Object;IIII)I -/
def xm_J7_vectorizedHashCode : Nat := 280
def xk_280_0 : List (Nat × XI) := [(0, x0 (xaLdI 4 2)), (2, x0 (xaSw [(4, 44), (5, 57), (6, 129), (7, 129), (8, 90), (9, 103), (10, 116)] 129))]
def xk_280_1 : List (Nat × XI) := [(44, x0 (xaLdI 3 45)), (45, x0 (xaLdA 0 46)), (46, x1 (xaCastA 1 49)), (49, x0 (xaLdI 1 50)), (50, x0 (xaLdI 2 51)), (51, xK (4, 54, [(none, 281)])), (54, x0 (xaGo 157)), (57, x0 (xaLdA 0 58)), (61, xB (xbEq 77 64))]
def xk_280_2 : List (Nat × XI) := [(64, x0 (xaLdI 3 65)), (65, x0 (xaLdA 0 66)), (66, x1 (xaCastA 1 69)), (69, x0 (xaLdI 1 70)), (70, x0 (xaLdI 2 71)), (74, x0 (xaGo 157)), (77, x0 (xaLdI 3 78)), (78, x0 (xaLdA 0 79)), (82, x0 (xaLdI 1 83)), (83, x0 (xaLdI 2 84)), (87, x0 (xaGo 157)), (90, x0 (xaLdI 3 91)), (91, x0 (xaLdA 0 92)), (92, x1 (xaCastA 1 95)), (95, x0 (xaLdI 1 96))]
def xk_280_3 : List (Nat × XI) := [(96, x0 (xaLdI 2 97)), (100, x0 (xaGo 157)), (103, x0 (xaLdI 3 104)), (104, x0 (xaLdA 0 105)), (108, x0 (xaLdI 1 109)), (109, x0 (xaLdI 2 110)), (113, x0 (xaGo 157)), (116, x0 (xaLdI 3 117)), (117, x0 (xaLdA 0 118)), (121, x0 (xaLdI 1 122)), (122, x0 (xaLdI 2 123)), (126, x0 (xaGo 157))]
def xk_280_4 : List (Nat × XI) := [(132, x0 (xaDup 133)), (136, x0 (xaDup 137)), (145, x0 (xaLdI 4 147)), (156, xT), (157, xR xrI)]
def xk_280 : List (List (Nat × XI)) := [xk_280_0, xk_280_1, xk_280_2, xk_280_3, xk_280_4]
/-- jdk/internal/util/ArraysSupport signedHashCode (I[BII)I -/
def xm_J7_signedHashCode : Nat := 281
def xk_281_0 : List (Nat × XI) := [(0, x0 (xaLdI 2 1)), (1, x0 (xaLdI 3 2)), (2, x0 (xaAddW 3)), (3, x0 (xaStI 4 5)), (5, x0 (xaLdI 2 6)), (6, x0 (xaStI 5 8)), (8, x0 (xaLdI 5 10)), (10, x0 (xaLdI 4 12)), (12, xB (xcGe 35 15)), (15, x0 (xaI 31 17)), (17, x0 (xaLdI 0 18)), (18, x0 (xaMulW 19)), (19, x0 (xaLdA 1 20)), (20, x0 (xaLdI 5 22)), (22, x1 (xaALdI 1 23)), (23, x0 (xaI 255 26)), (26, x0 (xaAnd 27)), (27, x0 (xaAddW 28)), (28, x0 (xaStI 0 29)), (29, x1 (xaInc 5 1 32))]
def xk_281_1 : List (Nat × XI) := [(32, x0 (xaGo 8)), (35, x0 (xaLdI 0 36)), (36, xR xrI)]
def xk_281 : List (List (Nat × XI)) := [xk_281_0, xk_281_1]
/-- WrongRoom$Named <init> (Ljava/lang/String;I)V -/
def xm_X13_init : Nat := 282
def xk_282_0 : List (Nat × XI) := [(0, x0 (xaLdA 0 1)), (1, x1 (xaObj 4)), (4, x0 (xaLdA 0 5)), (5, x0 (xaLdA 1 6)), (6, x1 (xaPutA 117 9)), (9, x0 (xaLdA 0 10)), (10, x0 (xaLdI 2 11)), (11, x1 (xaPutI 118 14)), (14, xR xrV)]
def xk_282 : List (List (Nat × XI)) := [xk_282_0]
/-- WrongRoom$House <init> (Ljava/lang/String;I)V -/
def xm_X14_init : Nat := 283
def xk_283_0 : List (Nat × XI) := [(0, x0 (xaLdA 0 1)), (1, x0 (xaLdA 1 2)), (2, x0 (xaLdI 2 3)), (3, xK (3, 6, [(some 11, 282), (some 12, 282)])), (6, x0 (xaLdA 0 7)), (7, x0 (xaI 23 9)), (9, x1 (xaPutI 124 12)), (12, x0 (xaLdA 0 13)), (13, x0 (xaI (-2) 15)), (15, x1 (xaPutI 125 18)), (18, xR xrV)]
def xk_283 : List (List (Nat × XI)) := [xk_283_0]
/-- WrongRoom$House isOpen (I)Z -/
def xm_X14_isOpen : Nat := 284
def xk_284_0 : List (Nat × XI) := [(0, x0 (xaLdI 1 1)), (1, x0 (xaI 1440 4)), (4, x1 (xaRem 5)), (5, x0 (xaI 60 7)), (7, x1 (xaDiv 8)), (8, x0 (xaLdA 0 9)), (9, x1 (xaGetI 123 12)), (12, x0 (xaLdA 0 13)), (13, x1 (xaGetI 124 16)), (16, xK (3, 19, [(none, 6)])), (19, xR xrZ)]
def xk_284 : List (List (Nat × XI)) := [xk_284_0]
/-- WrongRoom$Person <init> (Ljava/lang/String;I)V -/
def xm_X15_init : Nat := 285
def xk_285_0 : List (Nat × XI) := [(0, x0 (xaLdA 0 1)), (1, x0 (xaLdA 1 2)), (2, x0 (xaLdI 2 3)), (3, xK (3, 6, [(some 11, 282), (some 12, 282)])), (6, xR xrV)]
def xk_285 : List (List (Nat × XI)) := [xk_285_0]
/-- WrongRoom$Notice <init> (I)V -/
def xm_X16_init : Nat := 286
def xk_286_0 : List (Nat × XI) := [(0, x0 (xaLdA 0 1)), (1, x1 (xaObj 4)), (4, x0 (xaLdA 0 5)), (5, x0 (xaLdI 1 6)), (6, x1 (xaPutI 130 9)), (9, xR xrV)]
def xk_286 : List (List (Nat × XI)) := [xk_286_0]
/-- WrongRoom$Sign <init> (ILjava/lang/String;)V -/
def xm_X17_init : Nat := 287
def xk_287_0 : List (Nat × XI) := [(0, x0 (xaLdA 0 1)), (1, x0 (xaLdI 1 2)), (2, xK (2, 5, [(some 13, 286), (some 14, 286)])), (5, x0 (xaLdA 0 6)), (6, x0 (xaLdA 2 7)), (7, x1 (xaPutA 131 10)), (10, xR xrV)]
def xk_287 : List (List (Nat × XI)) := [xk_287_0]
/-- WrongRoom$Sign isOf (LWrongRoom$House;)Z -/
def xm_X17_isOf : Nat := 288
def xk_288_0 : List (Nat × XI) := [(0, x0 (xaLdA 1 1)), (1, x1 (xaGetA 119 4)), (4, x0 (xaLdA 0 5)), (5, x1 (xaGetA 131 8)), (8, xK (2, 11, [(some 16, 267)])), (11, xR xrZ)]
def xk_288 : List (List (Nat × XI)) := [xk_288_0]
/-- WrongRoom$Noise <init> (II)V -/
def xm_X18_init : Nat := 289
def xk_289_0 : List (Nat × XI) := [(0, x0 (xaLdA 0 1)), (1, x0 (xaLdI 1 2)), (2, xK (2, 5, [(some 13, 286), (some 14, 286)])), (5, x0 (xaLdA 0 6)), (6, x0 (xaLdI 2 7)), (7, x1 (xaPutI 132 10)), (10, xR xrV)]
def xk_289 : List (List (Nat × XI)) := [xk_289_0]
/-- WrongRoom$Noise isOf (LWrongRoom$House;)Z -/
def xm_X18_isOf : Nat := 290
def xk_290_0 : List (Nat × XI) := [(0, x0 (xaLdA 1 1)), (1, x1 (xaGetI 120 4)), (4, x0 (xaLdA 0 5)), (5, x1 (xaGetI 132 8)), (8, xB (xcLt 15 11)), (11, x0 (xaI 1 12)), (12, x0 (xaGo 16)), (15, x0 (xaI 0 16)), (16, xR xrZ)]
def xk_290 : List (List (Nat × XI)) := [xk_290_0]
/-- WrongRoomModel$Town <init> ()V -/
def xm_X19_init : Nat := 291
def xk_291_0 : List (Nat × XI) := [(0, x0 (xaLdA 0 1)), (1, x1 (xaObj 4)), (4, x0 (xaLdA 0 5)), (5, x0 (xaI 7 7)), (7, x1 (xaNewA 0 9)), (9, x1 (xaPutA 143 12)), (12, x0 (xaLdA 0 13)), (13, x0 (xaI 7 15)), (15, x1 (xaNewA 0 17)), (17, x1 (xaPutA 144 20)), (20, x0 (xaLdA 0 21)), (21, x0 (xaI 7 23)), (23, x1 (xaNewA 0 25)), (25, x1 (xaPutA 145 28)), (28, x0 (xaLdA 0 29)), (29, x0 (xaI 7 31)), (31, x1 (xaNewA 0 33))]
def xk_291_1 : List (Nat × XI) := [(33, x1 (xaPutA 146 36)), (36, x0 (xaLdA 0 37)), (37, x0 (xaI 7 39)), (39, x1 (xaNewA 0 41)), (41, x1 (xaPutA 147 44)), (44, x0 (xaLdA 0 45)), (45, x0 (xaI 7 47)), (47, x1 (xaNewA 0 49)), (49, x1 (xaPutA 148 52)), (52, x0 (xaLdA 0 53)), (53, x0 (xaI 7 55)), (55, x1 (xaNewA 3 57)), (57, x1 (xaPutA 149 60)), (60, x0 (xaLdA 0 61)), (61, x0 (xaI 49 63)), (63, x1 (xaNewA 0 65))]
def xk_291_2 : List (Nat × XI) := [(65, x1 (xaPutA 150 68)), (68, x0 (xaLdA 0 69)), (69, x0 (xaI 4 70)), (70, x1 (xaNewA 0 72)), (72, x1 (xaPutA 151 75)), (75, x0 (xaLdA 0 76)), (76, x0 (xaI 4 77)), (77, x1 (xaNewA 0 79)), (79, x1 (xaPutA 152 82)), (82, x0 (xaLdA 0 83)), (83, x0 (xaI 8 85)), (85, x1 (xaNewA 0 87)), (87, x1 (xaPutA 153 90)), (90, x0 (xaLdA 0 91)), (91, x0 (xaI 4 92)), (92, x1 (xaNewA 0 94)), (94, x1 (xaPutA 154 97))]
def xk_291_3 : List (Nat × XI) := [(97, x0 (xaLdA 0 98)), (98, x0 (xaI 4 99)), (99, x1 (xaNewA 0 101)), (101, x1 (xaPutA 155 104)), (104, x0 (xaLdA 0 105)), (105, x0 (xaI 8 107)), (107, x1 (xaNewA 3 109)), (109, x1 (xaPutA 156 112)), (112, x0 (xaLdA 0 113)), (113, x0 (xaI 11 115)), (115, x1 (xaNewA 3 117)), (117, x1 (xaPutA 157 120)), (120, x0 (xaLdA 0 121)), (121, x0 (xaI 11 123)), (123, x1 (xaNewA 0 125)), (125, x1 (xaPutA 158 128))]
def xk_291_4 : List (Nat × XI) := [(128, x0 (xaLdA 0 129)), (129, x0 (xaI 11 131)), (131, x1 (xaNewA 0 133)), (133, x1 (xaPutA 159 136)), (136, xR xrV)]
def xk_291 : List (List (Nat × XI)) := [xk_291_0, xk_291_1, xk_291_2, xk_291_3, xk_291_4]
/-- WrongRoomModel$Town find (J)I -/
def xm_X19_find : Nat := 292
def xk_292_0 : List (Nat × XI) := [(0, x0 (xaI 0 1)), (1, x0 (xaStI 3 2)), (2, x0 (xaLdI 3 3)), (3, x0 (xaLdA 0 4)), (4, x1 (xaGetI 142 7)), (7, xB (xcGe 29 10)), (10, x0 (xaLdA 0 11)), (11, x1 (xaGetA 157 14)), (14, x0 (xaLdI 3 15)), (15, x1 (xaALdJ 16)), (16, x0 (xaLdJ 1 17)), (17, x0 (xaLCmp 18)), (18, xB (xbNe 23 21)), (21, x0 (xaLdI 3 22)), (22, xR xrI), (23, x1 (xaInc 3 1 26)), (26, x0 (xaGo 2)), (29, x0 (xaI (-1) 30)), (30, xR xrI)]
def xk_292 : List (List (Nat × XI)) := [xk_292_0]
/-- WrongRoomModel$Town isOf (I)Z -/
def xm_X19_isOf : Nat := 293
def xk_293_0 : List (Nat × XI) := [(0, x0 (xaI 0 1)), (1, x0 (xaStI 2 2)), (2, x0 (xaLdI 2 3)), (3, x0 (xaLdA 0 4)), (4, x1 (xaGetI 135 7)), (7, xB (xcGe 28 10)), (10, x0 (xaLdA 0 11)), (11, x1 (xaGetA 146 14)), (14, x0 (xaLdI 2 15)), (15, x1 (xaALdI 0 16)), (16, x0 (xaLdI 1 17)), (17, xB (xcNe 22 20)), (20, x0 (xaI 1 21)), (21, xR xrZ), (22, x1 (xaInc 2 1 25)), (25, x0 (xaGo 2)), (28, x0 (xaI 0 29)), (29, xR xrZ)]
def xk_293 : List (List (Nat × XI)) := [xk_293_0]
/-- WrongRoomModel$Town isTimed (I)Z -/
def xm_X19_isTimed : Nat := 294
def xk_294_0 : List (Nat × XI) := [(0, x0 (xaLdA 0 1)), (1, x1 (xaGetA 147 4)), (4, x0 (xaLdI 1 5)), (5, x1 (xaALdI 0 6)), (6, x0 (xaI (-1) 7)), (7, xB (xcEq 14 10)), (10, x0 (xaI 1 11)), (11, x0 (xaGo 15)), (14, x0 (xaI 0 15)), (15, xR xrZ)]
def xk_294 : List (List (Nat × XI)) := [xk_294_0]
/-- WrongRoomModel$Town isHour (II)Z -/
def xm_X19_isHour : Nat := 295
def xk_295_0 : List (Nat × XI) := [(0, x0 (xaLdA 0 1)), (1, x0 (xaLdI 1 2)), (2, xK (2, 5, [(some 15, 294)])), (5, xB (xbEq 30 8)), (8, x0 (xaLdI 2 9)), (9, x0 (xaI 60 11)), (11, x1 (xaDiv 12)), (12, x0 (xaLdA 0 13)), (13, x1 (xaGetA 147 16)), (16, x0 (xaLdI 1 17)), (17, x1 (xaALdI 0 18)), (18, x0 (xaLdA 0 19)), (19, x1 (xaGetA 148 22)), (22, x0 (xaLdI 1 23)), (23, x1 (xaALdI 0 24)), (24, xK (3, 27, [(none, 156)])), (27, xB (xbEq 34 30)), (30, x0 (xaI 1 31)), (31, x0 (xaGo 35))]
def xk_295_1 : List (Nat × XI) := [(34, x0 (xaI 0 35)), (35, xR xrZ)]
def xk_295 : List (List (Nat × XI)) := [xk_295_0, xk_295_1]
/-- WrongRoomModel$Town mayBe (II)Z -/
def xm_X19_mayBe : Nat := 296
def xk_296_0 : List (Nat × XI) := [(0, x0 (xaLdI 1 1)), (1, x0 (xaLdI 2 2)), (2, xB (xcNe 7 5)), (5, x0 (xaI 0 6)), (6, xR xrZ), (7, x0 (xaI 0 8)), (8, x0 (xaStI 3 9)), (9, x0 (xaLdI 3 10)), (10, x0 (xaLdA 0 11)), (11, x1 (xaGetI 140 14)), (14, xB (xcGe 51 17)), (17, x0 (xaLdA 0 18)), (18, x1 (xaGetA 153 21)), (21, x0 (xaLdI 3 22)), (22, x1 (xaALdI 0 23)), (23, x0 (xaLdI 1 24)), (24, xB (xcNe 45 27)), (27, x0 (xaLdA 0 28)), (28, x1 (xaGetA 156 31)), (31, x0 (xaLdI 3 32))]
def xk_296_1 : List (Nat × XI) := [(32, x1 (xaALdJ 33)), (33, x0 (xaLdA 0 34)), (34, x1 (xaGetA 149 37)), (37, x0 (xaLdI 2 38)), (38, x1 (xaALdJ 39)), (39, x0 (xaLCmp 40)), (40, xB (xbEq 45 43)), (43, x0 (xaI 0 44)), (44, xR xrZ), (45, x1 (xaInc 3 1 48)), (48, x0 (xaGo 9)), (51, x0 (xaI 0 52)), (52, x0 (xaStI 3 53)), (53, x0 (xaLdI 3 54)), (54, x0 (xaLdA 0 55)), (55, x1 (xaGetI 141 58)), (58, xB (xcGe 94 61)), (61, x0 (xaLdA 0 62)), (62, x1 (xaGetA 154 65))]
def xk_296_2 : List (Nat × XI) := [(65, x0 (xaLdI 3 66)), (66, x1 (xaALdI 0 67)), (67, x0 (xaLdI 1 68)), (68, xB (xcNe 88 71)), (71, x0 (xaLdA 0 72)), (72, x1 (xaGetA 155 75)), (75, x0 (xaLdI 3 76)), (76, x1 (xaALdI 0 77)), (77, x0 (xaLdA 0 78)), (78, x1 (xaGetA 143 81)), (81, x0 (xaLdI 2 82)), (82, x1 (xaALdI 0 83)), (83, xB (xcLe 88 86)), (86, x0 (xaI 0 87)), (87, xR xrZ), (88, x1 (xaInc 3 1 91)), (91, x0 (xaGo 53)), (94, x0 (xaI 1 95)), (95, xR xrZ)]
def xk_296 : List (List (Nat × XI)) := [xk_296_0, xk_296_1, xk_296_2]
/-- WrongRoomLaw law ([I)Z -/
def xm_L_law : Nat := 297
def xk_297_0 : List (Nat × XI) := [(0, x0 (xaNewO 0 21 3)), (3, x0 (xaDup 4)), (4, xK (1, 7, [(some 0, 1)])), (7, x0 (xaStA 1 8)), (8, x0 (xaNewO 9 39 11)), (11, x0 (xaDup 12)), (12, xK (1, 15, [(some 9, 138)])), (15, x0 (xaStA 2 16)), (16, x0 (xaI 1 17)), (17, x1 (xaNewA 3 19)), (19, x0 (xaStA 3 20)), (20, x0 (xaI 0 21)), (21, x0 (xaStI 4 23)), (23, x0 (xaLdI 4 25)), (25, x0 (xaLdA 0 26)), (26, x1 (xaALen 27)), (27, x0 (xaI 6 29)), (29, x1 (xaSub 30)), (30, xB (xcGt 1692 33))]
def xk_297_1 : List (Nat × XI) := [(33, x0 (xaLdA 0 34)), (34, x0 (xaLdI 4 36)), (36, x1 (xaALdI 0 37)), (37, x0 (xaI 63 39)), (39, x0 (xaAnd 40)), (40, x0 (xaSw [(0, 236), (1, 309), (2, 334), (3, 347), (4, 360), (5, 397), (6, 434), (7, 471), (8, 508), (9, 533), (10, 570), (11, 583), (12, 596), (13, 645), (14, 706), (15, 755), (16, 792), (17, 817), (18, 830), (19, 855), (20, 880), (21, 905), (22, 918), (23, 931), (24, 985), (25, 1039), (26, 1052), (27, 1065), (28, 1078), (29, 1103), (30, 1128), (31, 1217), (32, 1254), (33, 1291), (34, 1328), (35, 1377), (36, 1414), (37, 1467), (38, 1504), (39, 1541), (40, 1554), (41, 1567), (42, 1592), (43, 1648), (44, 1673)] 1686))]
def xk_297_2 : List (Nat × XI) := []
def xk_297_3 : List (Nat × XI) := []
def xk_297_4 : List (Nat × XI) := []
def xk_297_5 : List (Nat × XI) := []
def xk_297_6 : List (Nat × XI) := []
def xk_297_7 : List (Nat × XI) := [(236, x0 (xaLdA 1 237)), (237, x0 (xaLdA 0 238)), (238, x0 (xaLdI 4 240)), (240, x0 (xaI 1 241)), (241, x1 (xaAdd 242)), (242, x1 (xaALdI 0 243)), (243, x0 (xaLdA 0 244)), (244, x0 (xaLdI 4 246)), (246, x0 (xaI 2 247)), (247, x1 (xaAdd 248)), (248, x1 (xaALdI 0 249)), (249, x0 (xaLdA 0 250)), (250, x0 (xaLdI 4 252)), (252, x0 (xaI 3 253)), (253, x1 (xaAdd 254)), (254, x1 (xaALdI 0 255)), (255, x0 (xaLdA 0 256))]
def xk_297_8 : List (Nat × XI) := [(256, x0 (xaLdI 4 258)), (258, x0 (xaI 4 259)), (259, x1 (xaAdd 260)), (260, x1 (xaALdI 0 261)), (261, x0 (xaLdA 0 262)), (262, x0 (xaLdI 4 264)), (264, x0 (xaI 5 265)), (265, x1 (xaAdd 266)), (266, x1 (xaALdI 0 267)), (267, xK (6, 270, [(some 0, 2)])), (270, x0 (xaLdA 2 271)), (271, x0 (xaLdA 0 272)), (272, x0 (xaLdI 4 274)), (274, x0 (xaI 1 275)), (275, x1 (xaAdd 276)), (276, x1 (xaALdI 0 277)), (277, x0 (xaLdA 0 278)), (278, x0 (xaLdI 4 280)), (280, x0 (xaI 2 281)), (281, x1 (xaAdd 282)), (282, x1 (xaALdI 0 283)), (283, x0 (xaLdA 0 284)), (284, x0 (xaLdI 4 286)), (286, x0 (xaI 3 287)), (287, x1 (xaAdd 288))]
def xk_297_9 : List (Nat × XI) := [(288, x1 (xaALdI 0 289)), (289, x0 (xaLdA 0 290)), (290, x0 (xaLdI 4 292)), (292, x0 (xaI 4 293)), (293, x1 (xaAdd 294)), (294, x1 (xaALdI 0 295)), (295, x0 (xaLdA 0 296)), (296, x0 (xaLdI 4 298)), (298, x0 (xaI 5 299)), (299, x1 (xaAdd 300)), (300, x1 (xaALdI 0 301)), (301, xK (6, 304, [(some 9, 140)])), (304, xB (xcEq 1686 307)), (307, x0 (xaI 0 308)), (308, xR xrZ), (309, x0 (xaLdA 1 310)), (310, x0 (xaLdA 0 311)), (311, x0 (xaLdI 4 313)), (313, x0 (xaI 1 314)), (314, x1 (xaAdd 315)), (315, x1 (xaALdI 0 316)), (316, xK (2, 319, [(some 0, 4)])), (319, x0 (xaLdA 2 320))]
def xk_297_10 : List (Nat × XI) := [(320, x0 (xaLdA 0 321)), (321, x0 (xaLdI 4 323)), (323, x0 (xaI 1 324)), (324, x1 (xaAdd 325)), (325, x1 (xaALdI 0 326)), (326, xK (2, 329, [(some 9, 141)])), (329, xB (xcEq 1686 332)), (332, x0 (xaI 0 333)), (333, xR xrZ), (334, x0 (xaLdA 1 335)), (335, xK (1, 338, [(some 0, 8)])), (338, x0 (xaLdA 2 339)), (339, xK (1, 342, [(some 9, 175)])), (342, xB (xcEq 1686 345)), (345, x0 (xaI 0 346)), (346, xR xrZ), (347, x0 (xaLdA 1 348)), (348, xK (1, 351, [(some 0, 9)])), (351, x0 (xaLdA 2 352))]
def xk_297_11 : List (Nat × XI) := [(352, xK (1, 355, [(some 9, 176)])), (355, xB (xcEq 1686 358)), (358, x0 (xaI 0 359)), (359, xR xrZ), (360, x0 (xaLdA 1 361)), (361, x0 (xaLdA 0 362)), (362, x0 (xaLdI 4 364)), (364, x0 (xaI 1 365)), (365, x1 (xaAdd 366)), (366, x1 (xaALdI 0 367)), (367, x0 (xaLdA 0 368)), (368, x0 (xaLdI 4 370)), (370, x0 (xaI 2 371)), (371, x1 (xaAdd 372)), (372, x1 (xaALdI 0 373)), (373, xK (3, 376, [(some 0, 10)])), (376, x0 (xaLdA 2 377)), (377, x0 (xaLdA 0 378)), (378, x0 (xaLdI 4 380)), (380, x0 (xaI 1 381)), (381, x1 (xaAdd 382)), (382, x1 (xaALdI 0 383)), (383, x0 (xaLdA 0 384))]
def xk_297_12 : List (Nat × XI) := [(384, x0 (xaLdI 4 386)), (386, x0 (xaI 2 387)), (387, x1 (xaAdd 388)), (388, x1 (xaALdI 0 389)), (389, xK (3, 392, [(some 9, 177)])), (392, xB (xcEq 1686 395)), (395, x0 (xaI 0 396)), (396, xR xrZ), (397, x0 (xaLdA 1 398)), (398, x0 (xaLdA 0 399)), (399, x0 (xaLdI 4 401)), (401, x0 (xaI 1 402)), (402, x1 (xaAdd 403)), (403, x1 (xaALdI 0 404)), (404, x0 (xaLdA 0 405)), (405, x0 (xaLdI 4 407)), (407, x0 (xaI 2 408)), (408, x1 (xaAdd 409)), (409, x1 (xaALdI 0 410)), (410, xK (3, 413, [(some 0, 13)])), (413, x0 (xaLdA 2 414)), (414, x0 (xaLdA 0 415)), (415, x0 (xaLdI 4 417))]
def xk_297_13 : List (Nat × XI) := [(417, x0 (xaI 1 418)), (418, x1 (xaAdd 419)), (419, x1 (xaALdI 0 420)), (420, x0 (xaLdA 0 421)), (421, x0 (xaLdI 4 423)), (423, x0 (xaI 2 424)), (424, x1 (xaAdd 425)), (425, x1 (xaALdI 0 426)), (426, xK (3, 429, [(some 9, 181)])), (429, xB (xcEq 1686 432)), (432, x0 (xaI 0 433)), (433, xR xrZ), (434, x0 (xaLdA 1 435)), (435, x0 (xaLdA 0 436)), (436, x0 (xaLdI 4 438)), (438, x0 (xaI 1 439)), (439, x1 (xaAdd 440)), (440, x1 (xaALdI 0 441)), (441, x0 (xaLdA 0 442)), (442, x0 (xaLdI 4 444)), (444, x0 (xaI 2 445)), (445, x1 (xaAdd 446)), (446, x1 (xaALdI 0 447)), (447, xK (3, 450, [(some 0, 15)]))]
def xk_297_14 : List (Nat × XI) := [(450, x0 (xaLdA 2 451)), (451, x0 (xaLdA 0 452)), (452, x0 (xaLdI 4 454)), (454, x0 (xaI 1 455)), (455, x1 (xaAdd 456)), (456, x1 (xaALdI 0 457)), (457, x0 (xaLdA 0 458)), (458, x0 (xaLdI 4 460)), (460, x0 (xaI 2 461)), (461, x1 (xaAdd 462)), (462, x1 (xaALdI 0 463)), (463, xK (3, 466, [(some 9, 183)])), (466, xB (xcEq 1686 469)), (469, x0 (xaI 0 470)), (470, xR xrZ), (471, x0 (xaLdA 1 472)), (472, x0 (xaLdA 0 473)), (473, x0 (xaLdI 4 475)), (475, x0 (xaI 1 476)), (476, x1 (xaAdd 477)), (477, x1 (xaALdI 0 478)), (478, x0 (xaLdA 0 479)), (479, x0 (xaLdI 4 481))]
def xk_297_15 : List (Nat × XI) := [(481, x0 (xaI 2 482)), (482, x1 (xaAdd 483)), (483, x1 (xaALdI 0 484)), (484, xK (3, 487, [(some 0, 16)])), (487, x0 (xaLdA 2 488)), (488, x0 (xaLdA 0 489)), (489, x0 (xaLdI 4 491)), (491, x0 (xaI 1 492)), (492, x1 (xaAdd 493)), (493, x1 (xaALdI 0 494)), (494, x0 (xaLdA 0 495)), (495, x0 (xaLdI 4 497)), (497, x0 (xaI 2 498)), (498, x1 (xaAdd 499)), (499, x1 (xaALdI 0 500)), (500, xK (3, 503, [(some 9, 184)])), (503, xB (xcEq 1686 506)), (506, x0 (xaI 0 507)), (507, xR xrZ), (508, x0 (xaLdA 1 509)), (509, x0 (xaLdA 0 510)), (510, x0 (xaLdI 4 512))]
def xk_297_16 : List (Nat × XI) := [(512, x0 (xaI 1 513)), (513, x1 (xaAdd 514)), (514, x1 (xaALdI 0 515)), (515, xK (2, 518, [(some 0, 18)])), (518, x0 (xaLdA 2 519)), (519, x0 (xaLdA 0 520)), (520, x0 (xaLdI 4 522)), (522, x0 (xaI 1 523)), (523, x1 (xaAdd 524)), (524, x1 (xaALdI 0 525)), (525, xK (2, 528, [(some 9, 186)])), (528, xB (xcEq 1686 531)), (531, x0 (xaI 0 532)), (532, xR xrZ), (533, x0 (xaLdA 1 534)), (534, x0 (xaLdA 0 535)), (535, x0 (xaLdI 4 537)), (537, x0 (xaI 1 538)), (538, x1 (xaAdd 539)), (539, x1 (xaALdI 0 540)), (540, x0 (xaLdA 0 541)), (541, x0 (xaLdI 4 543)), (543, x0 (xaI 2 544))]
def xk_297_17 : List (Nat × XI) := [(544, x1 (xaAdd 545)), (545, x1 (xaALdI 0 546)), (546, xK (3, 549, [(some 0, 20)])), (549, x0 (xaLdA 2 550)), (550, x0 (xaLdA 0 551)), (551, x0 (xaLdI 4 553)), (553, x0 (xaI 1 554)), (554, x1 (xaAdd 555)), (555, x1 (xaALdI 0 556)), (556, x0 (xaLdA 0 557)), (557, x0 (xaLdI 4 559)), (559, x0 (xaI 2 560)), (560, x1 (xaAdd 561)), (561, x1 (xaALdI 0 562)), (562, xK (3, 565, [(some 9, 187)])), (565, xB (xcEq 1686 568)), (568, x0 (xaI 0 569)), (569, xR xrZ), (570, x0 (xaLdA 1 571)), (571, xK (1, 574, [(some 0, 21)])), (574, x0 (xaLdA 2 575)), (575, xK (1, 578, [(some 9, 188)]))]
def xk_297_18 : List (Nat × XI) := [(578, xB (xcEq 1686 581)), (581, x0 (xaI 0 582)), (582, xR xrZ), (583, x0 (xaLdA 1 584)), (584, xK (1, 587, [(some 0, 22)])), (587, x0 (xaLdA 2 588)), (588, xK (1, 591, [(some 9, 191)])), (591, xB (xcEq 1686 594)), (594, x0 (xaI 0 595)), (595, xR xrZ), (596, x0 (xaLdA 1 597)), (597, x0 (xaLdA 0 598)), (598, x0 (xaLdI 4 600)), (600, x0 (xaI 1 601)), (601, x1 (xaAdd 602)), (602, x1 (xaALdI 0 603)), (603, x0 (xaLdA 0 604)), (604, x0 (xaLdI 4 606)), (606, x0 (xaI 2 607)), (607, x1 (xaAdd 608))]
def xk_297_19 : List (Nat × XI) := [(608, x1 (xaALdI 0 609)), (609, x0 (xaLdA 0 610)), (610, x0 (xaLdI 4 612)), (612, x0 (xaI 3 613)), (613, x1 (xaAdd 614)), (614, x1 (xaALdI 0 615)), (615, xK (4, 618, [(some 0, 23)])), (618, x0 (xaLdA 2 619)), (619, x0 (xaLdA 0 620)), (620, x0 (xaLdI 4 622)), (622, x0 (xaI 1 623)), (623, x1 (xaAdd 624)), (624, x1 (xaALdI 0 625)), (625, x0 (xaLdA 0 626)), (626, x0 (xaLdI 4 628)), (628, x0 (xaI 2 629)), (629, x1 (xaAdd 630)), (630, x1 (xaALdI 0 631)), (631, x0 (xaLdA 0 632)), (632, x0 (xaLdI 4 634)), (634, x0 (xaI 3 635)), (635, x1 (xaAdd 636)), (636, x1 (xaALdI 0 637)), (637, xK (4, 640, [(some 9, 192)]))]
def xk_297_20 : List (Nat × XI) := [(640, xB (xcEq 1686 643)), (643, x0 (xaI 0 644)), (644, xR xrZ), (645, x0 (xaLdA 1 646)), (646, x0 (xaLdA 0 647)), (647, x0 (xaLdI 4 649)), (649, x0 (xaI 1 650)), (650, x1 (xaAdd 651)), (651, x1 (xaALdI 0 652)), (652, x0 (xaLdA 0 653)), (653, x0 (xaLdI 4 655)), (655, x0 (xaI 2 656)), (656, x1 (xaAdd 657)), (657, x1 (xaALdI 0 658)), (658, x0 (xaLdA 0 659)), (659, x0 (xaLdI 4 661)), (661, x0 (xaI 3 662)), (662, x1 (xaAdd 663)), (663, x1 (xaALdI 0 664)), (664, x0 (xaLdA 0 665)), (665, x0 (xaLdI 4 667)), (667, x0 (xaI 4 668)), (668, x1 (xaAdd 669)), (669, x1 (xaALdI 0 670)), (670, xK (5, 673, [(some 0, 26)]))]
def xk_297_21 : List (Nat × XI) := [(673, x0 (xaLdA 2 674)), (674, x0 (xaLdA 0 675)), (675, x0 (xaLdI 4 677)), (677, x0 (xaI 1 678)), (678, x1 (xaAdd 679)), (679, x1 (xaALdI 0 680)), (680, x0 (xaLdA 0 681)), (681, x0 (xaLdI 4 683)), (683, x0 (xaI 2 684)), (684, x1 (xaAdd 685)), (685, x1 (xaALdI 0 686)), (686, x0 (xaLdA 0 687)), (687, x0 (xaLdI 4 689)), (689, x0 (xaI 3 690)), (690, x1 (xaAdd 691)), (691, x1 (xaALdI 0 692)), (692, x0 (xaLdA 0 693)), (693, x0 (xaLdI 4 695)), (695, x0 (xaI 4 696)), (696, x1 (xaAdd 697)), (697, x1 (xaALdI 0 698)), (698, xK (5, 701, [(some 9, 199)])), (701, xB (xcEq 1686 704))]
def xk_297_22 : List (Nat × XI) := [(704, x0 (xaI 0 705)), (705, xR xrZ), (706, x0 (xaLdA 1 707)), (707, x0 (xaLdA 0 708)), (708, x0 (xaLdI 4 710)), (710, x0 (xaI 1 711)), (711, x1 (xaAdd 712)), (712, x1 (xaALdI 0 713)), (713, x0 (xaLdA 0 714)), (714, x0 (xaLdI 4 716)), (716, x0 (xaI 2 717)), (717, x1 (xaAdd 718)), (718, x1 (xaALdI 0 719)), (719, x0 (xaLdA 0 720)), (720, x0 (xaLdI 4 722)), (722, x0 (xaI 3 723)), (723, x1 (xaAdd 724)), (724, x1 (xaALdI 0 725)), (725, xK (4, 728, [(some 0, 27)])), (728, x0 (xaLdA 2 729)), (729, x0 (xaLdA 0 730)), (730, x0 (xaLdI 4 732)), (732, x0 (xaI 1 733)), (733, x1 (xaAdd 734)), (734, x1 (xaALdI 0 735)), (735, x0 (xaLdA 0 736))]
def xk_297_23 : List (Nat × XI) := [(736, x0 (xaLdI 4 738)), (738, x0 (xaI 2 739)), (739, x1 (xaAdd 740)), (740, x1 (xaALdI 0 741)), (741, x0 (xaLdA 0 742)), (742, x0 (xaLdI 4 744)), (744, x0 (xaI 3 745)), (745, x1 (xaAdd 746)), (746, x1 (xaALdI 0 747)), (747, xK (4, 750, [(some 9, 200)])), (750, xB (xcEq 1686 753)), (753, x0 (xaI 0 754)), (754, xR xrZ), (755, x0 (xaLdA 1 756)), (756, x0 (xaLdA 0 757)), (757, x0 (xaLdI 4 759)), (759, x0 (xaI 1 760)), (760, x1 (xaAdd 761)), (761, x1 (xaALdI 0 762)), (762, x0 (xaLdA 0 763)), (763, x0 (xaLdI 4 765)), (765, x0 (xaI 2 766)), (766, x1 (xaAdd 767)), (767, x1 (xaALdI 0 768))]
def xk_297_24 : List (Nat × XI) := [(768, xK (3, 771, [(some 0, 28)])), (771, x0 (xaLdA 2 772)), (772, x0 (xaLdA 0 773)), (773, x0 (xaLdI 4 775)), (775, x0 (xaI 1 776)), (776, x1 (xaAdd 777)), (777, x1 (xaALdI 0 778)), (778, x0 (xaLdA 0 779)), (779, x0 (xaLdI 4 781)), (781, x0 (xaI 2 782)), (782, x1 (xaAdd 783)), (783, x1 (xaALdI 0 784)), (784, xK (3, 787, [(some 9, 201)])), (787, xB (xcEq 1686 790)), (790, x0 (xaI 0 791)), (791, xR xrZ), (792, x0 (xaLdA 1 793)), (793, x0 (xaLdA 0 794)), (794, x0 (xaLdI 4 796)), (796, x0 (xaI 1 797)), (797, x1 (xaAdd 798)), (798, x1 (xaALdI 0 799)), (799, xK (2, 802, [(some 0, 29)]))]
def xk_297_25 : List (Nat × XI) := [(802, x0 (xaLdA 2 803)), (803, x0 (xaLdA 0 804)), (804, x0 (xaLdI 4 806)), (806, x0 (xaI 1 807)), (807, x1 (xaAdd 808)), (808, x1 (xaALdI 0 809)), (809, xK (2, 812, [(some 9, 202)])), (812, xB (xcEq 1686 815)), (815, x0 (xaI 0 816)), (816, xR xrZ), (817, x0 (xaLdA 1 818)), (818, xK (1, 821, [(some 0, 30)])), (821, x0 (xaLdA 2 822)), (822, xK (1, 825, [(some 9, 203)])), (825, xB (xcEq 1686 828)), (828, x0 (xaI 0 829)), (829, xR xrZ), (830, x0 (xaLdA 1 831)), (831, x0 (xaLdA 0 832))]
def xk_297_26 : List (Nat × XI) := [(832, x0 (xaLdI 4 834)), (834, x0 (xaI 1 835)), (835, x1 (xaAdd 836)), (836, x1 (xaALdI 0 837)), (837, xK (2, 840, [(some 0, 31)])), (840, x0 (xaLdA 2 841)), (841, x0 (xaLdA 0 842)), (842, x0 (xaLdI 4 844)), (844, x0 (xaI 1 845)), (845, x1 (xaAdd 846)), (846, x1 (xaALdI 0 847)), (847, xK (2, 850, [(some 9, 207)])), (850, xB (xcEq 1686 853)), (853, x0 (xaI 0 854)), (854, xR xrZ), (855, x0 (xaLdA 1 856)), (856, x0 (xaLdA 0 857)), (857, x0 (xaLdI 4 859)), (859, x0 (xaI 1 860)), (860, x1 (xaAdd 861)), (861, x1 (xaALdI 0 862)), (862, xK (2, 865, [(some 0, 32)]))]
def xk_297_27 : List (Nat × XI) := [(865, x0 (xaLdA 2 866)), (866, x0 (xaLdA 0 867)), (867, x0 (xaLdI 4 869)), (869, x0 (xaI 1 870)), (870, x1 (xaAdd 871)), (871, x1 (xaALdI 0 872)), (872, xK (2, 875, [(some 9, 208)])), (875, xB (xcEq 1686 878)), (878, x0 (xaI 0 879)), (879, xR xrZ), (880, x0 (xaLdA 1 881)), (881, x0 (xaLdA 0 882)), (882, x0 (xaLdI 4 884)), (884, x0 (xaI 1 885)), (885, x1 (xaAdd 886)), (886, x1 (xaALdI 0 887)), (887, xK (2, 890, [(some 0, 33)])), (890, x0 (xaLdA 2 891)), (891, x0 (xaLdA 0 892)), (892, x0 (xaLdI 4 894)), (894, x0 (xaI 1 895)), (895, x1 (xaAdd 896))]
def xk_297_28 : List (Nat × XI) := [(896, x1 (xaALdI 0 897)), (897, xK (2, 900, [(some 9, 209)])), (900, xB (xcEq 1686 903)), (903, x0 (xaI 0 904)), (904, xR xrZ), (905, x0 (xaLdA 1 906)), (906, xK (1, 909, [(some 0, 34)])), (909, x0 (xaLdA 2 910)), (910, xK (1, 913, [(some 9, 210)])), (913, xB (xcEq 1686 916)), (916, x0 (xaI 0 917)), (917, xR xrZ), (918, x0 (xaLdA 1 919)), (919, xK (1, 922, [(some 0, 36)])), (922, x0 (xaLdA 2 923)), (923, xK (1, 926, [(some 9, 212)])), (926, xB (xcEq 1686 929))]
def xk_297_29 : List (Nat × XI) := [(929, x0 (xaI 0 930)), (930, xR xrZ), (931, x0 (xaLdA 1 932)), (932, x0 (xaLdA 0 933)), (933, x0 (xaLdI 4 935)), (935, x0 (xaI 1 936)), (936, x1 (xaAdd 937)), (937, x1 (xaALdI 0 938)), (938, x0 (xaLdA 0 939)), (939, x0 (xaLdI 4 941)), (941, x0 (xaI 2 942)), (942, x1 (xaAdd 943)), (943, x1 (xaALdI 0 944)), (944, xB (xbEq 951 947)), (947, x0 (xaI 1 948)), (948, x0 (xaGo 952)), (951, x0 (xaI 0 952)), (952, xK (3, 955, [(some 0, 37)])), (955, x0 (xaLdA 2 956)), (956, x0 (xaLdA 0 957)), (957, x0 (xaLdI 4 959)), (959, x0 (xaI 1 960))]
def xk_297_30 : List (Nat × XI) := [(960, x1 (xaAdd 961)), (961, x1 (xaALdI 0 962)), (962, x0 (xaLdA 0 963)), (963, x0 (xaLdI 4 965)), (965, x0 (xaI 2 966)), (966, x1 (xaAdd 967)), (967, x1 (xaALdI 0 968)), (968, xB (xbEq 975 971)), (971, x0 (xaI 1 972)), (972, x0 (xaGo 976)), (975, x0 (xaI 0 976)), (976, xK (3, 979, [(some 9, 213)])), (979, x0 (xaLCmp 980)), (980, xB (xbEq 1686 983)), (983, x0 (xaI 0 984)), (984, xR xrZ), (985, x0 (xaLdA 1 986)), (986, x0 (xaLdA 0 987)), (987, x0 (xaLdI 4 989)), (989, x0 (xaI 1 990)), (990, x1 (xaAdd 991)), (991, x1 (xaALdI 0 992))]
def xk_297_31 : List (Nat × XI) := [(992, x0 (xaLdA 0 993)), (993, x0 (xaLdI 4 995)), (995, x0 (xaI 2 996)), (996, x1 (xaAdd 997)), (997, x1 (xaALdI 0 998)), (998, xB (xbEq 1005 1001)), (1001, x0 (xaI 1 1002)), (1002, x0 (xaGo 1006)), (1005, x0 (xaI 0 1006)), (1006, xK (3, 1009, [(some 0, 41)])), (1009, x0 (xaLdA 2 1010)), (1010, x0 (xaLdA 0 1011)), (1011, x0 (xaLdI 4 1013)), (1013, x0 (xaI 1 1014)), (1014, x1 (xaAdd 1015)), (1015, x1 (xaALdI 0 1016)), (1016, x0 (xaLdA 0 1017)), (1017, x0 (xaLdI 4 1019)), (1019, x0 (xaI 2 1020)), (1020, x1 (xaAdd 1021)), (1021, x1 (xaALdI 0 1022)), (1022, xB (xbEq 1029 1025))]
def xk_297_32 : List (Nat × XI) := [(1025, x0 (xaI 1 1026)), (1026, x0 (xaGo 1030)), (1029, x0 (xaI 0 1030)), (1030, xK (3, 1033, [(some 9, 218)])), (1033, x0 (xaLCmp 1034)), (1034, xB (xbEq 1686 1037)), (1037, x0 (xaI 0 1038)), (1038, xR xrZ), (1039, x0 (xaLdA 1 1040)), (1040, xK (1, 1043, [(some 0, 42)])), (1043, x0 (xaLdA 2 1044)), (1044, xK (1, 1047, [(some 9, 219)])), (1047, xB (xcEq 1686 1050)), (1050, x0 (xaI 0 1051)), (1051, xR xrZ), (1052, x0 (xaLdA 1 1053)), (1053, xK (1, 1056, [(some 0, 43)]))]
def xk_297_33 : List (Nat × XI) := [(1056, x0 (xaLdA 2 1057)), (1057, xK (1, 1060, [(some 9, 220)])), (1060, xB (xcEq 1686 1063)), (1063, x0 (xaI 0 1064)), (1064, xR xrZ), (1065, x0 (xaLdA 1 1066)), (1066, xK (1, 1069, [(some 0, 45)])), (1069, x0 (xaLdA 2 1070)), (1070, xK (1, 1073, [(some 9, 228)])), (1073, xB (xcEq 1686 1076)), (1076, x0 (xaI 0 1077)), (1077, xR xrZ), (1078, x0 (xaLdA 1 1079)), (1079, x0 (xaLdA 0 1080)), (1080, x0 (xaLdI 4 1082)), (1082, x0 (xaI 1 1083)), (1083, x1 (xaAdd 1084)), (1084, x1 (xaALdI 0 1085)), (1085, xK (2, 1088, [(some 0, 46)]))]
def xk_297_34 : List (Nat × XI) := [(1088, x0 (xaLdA 2 1089)), (1089, x0 (xaLdA 0 1090)), (1090, x0 (xaLdI 4 1092)), (1092, x0 (xaI 1 1093)), (1093, x1 (xaAdd 1094)), (1094, x1 (xaALdI 0 1095)), (1095, xK (2, 1098, [(some 9, 229)])), (1098, xB (xcEq 1686 1101)), (1101, x0 (xaI 0 1102)), (1102, xR xrZ), (1103, x0 (xaLdA 1 1104)), (1104, x0 (xaLdA 0 1105)), (1105, x0 (xaLdI 4 1107)), (1107, x0 (xaI 1 1108)), (1108, x1 (xaAdd 1109)), (1109, x1 (xaALdI 0 1110)), (1110, xK (2, 1113, [(some 0, 47)])), (1113, x0 (xaLdA 2 1114)), (1114, x0 (xaLdA 0 1115)), (1115, x0 (xaLdI 4 1117)), (1117, x0 (xaI 1 1118)), (1118, x1 (xaAdd 1119)), (1119, x1 (xaALdI 0 1120))]
def xk_297_35 : List (Nat × XI) := [(1120, xK (2, 1123, [(some 9, 230)])), (1123, xB (xcEq 1686 1126)), (1126, x0 (xaI 0 1127)), (1127, xR xrZ), (1128, x0 (xaLdA 1 1129)), (1129, x0 (xaLdA 0 1130)), (1130, x0 (xaLdI 4 1132)), (1132, x0 (xaI 1 1133)), (1133, x1 (xaAdd 1134)), (1134, x1 (xaALdI 0 1135)), (1135, x0 (xaLdA 0 1136)), (1136, x0 (xaLdI 4 1138)), (1138, x0 (xaI 2 1139)), (1139, x1 (xaAdd 1140)), (1140, x1 (xaALdI 0 1141)), (1141, x0 (xaLdA 0 1142)), (1142, x0 (xaLdI 4 1144)), (1144, x0 (xaI 3 1145)), (1145, x1 (xaAdd 1146)), (1146, x1 (xaALdI 0 1147)), (1147, x0 (xaLdA 0 1148)), (1148, x0 (xaLdI 4 1150)), (1150, x0 (xaI 4 1151)), (1151, x1 (xaAdd 1152))]
def xk_297_36 : List (Nat × XI) := [(1152, x1 (xaALdI 0 1153)), (1153, x0 (xaLdA 0 1154)), (1154, x0 (xaLdI 4 1156)), (1156, x0 (xaI 5 1157)), (1157, x1 (xaAdd 1158)), (1158, x1 (xaALdI 0 1159)), (1159, xB (xbEq 1166 1162)), (1162, x0 (xaI 1 1163)), (1163, x0 (xaGo 1167)), (1166, x0 (xaI 0 1167)), (1167, xK (6, 1170, [(some 0, 49)])), (1170, x0 (xaLdA 2 1171)), (1171, x0 (xaLdA 0 1172)), (1172, x0 (xaLdI 4 1174)), (1174, x0 (xaI 1 1175)), (1175, x1 (xaAdd 1176)), (1176, x1 (xaALdI 0 1177)), (1177, x0 (xaLdA 0 1178)), (1178, x0 (xaLdI 4 1180)), (1180, x0 (xaI 2 1181)), (1181, x1 (xaAdd 1182)), (1182, x1 (xaALdI 0 1183)), (1183, x0 (xaLdA 0 1184))]
def xk_297_37 : List (Nat × XI) := [(1184, x0 (xaLdI 4 1186)), (1186, x0 (xaI 3 1187)), (1187, x1 (xaAdd 1188)), (1188, x1 (xaALdI 0 1189)), (1189, x0 (xaLdA 0 1190)), (1190, x0 (xaLdI 4 1192)), (1192, x0 (xaI 4 1193)), (1193, x1 (xaAdd 1194)), (1194, x1 (xaALdI 0 1195)), (1195, x0 (xaLdA 0 1196)), (1196, x0 (xaLdI 4 1198)), (1198, x0 (xaI 5 1199)), (1199, x1 (xaAdd 1200)), (1200, x1 (xaALdI 0 1201)), (1201, xB (xbEq 1208 1204)), (1204, x0 (xaI 1 1205)), (1205, x0 (xaGo 1209)), (1208, x0 (xaI 0 1209)), (1209, xK (6, 1212, [(some 9, 232)])), (1212, xB (xcEq 1686 1215)), (1215, x0 (xaI 0 1216))]
def xk_297_38 : List (Nat × XI) := [(1216, xR xrZ), (1217, x0 (xaLdA 1 1218)), (1218, x0 (xaLdA 0 1219)), (1219, x0 (xaLdI 4 1221)), (1221, x0 (xaI 1 1222)), (1222, x1 (xaAdd 1223)), (1223, x1 (xaALdI 0 1224)), (1224, x0 (xaLdA 0 1225)), (1225, x0 (xaLdI 4 1227)), (1227, x0 (xaI 2 1228)), (1228, x1 (xaAdd 1229)), (1229, x1 (xaALdI 0 1230)), (1230, xK (3, 1233, [(some 0, 52)])), (1233, x0 (xaLdA 2 1234)), (1234, x0 (xaLdA 0 1235)), (1235, x0 (xaLdI 4 1237)), (1237, x0 (xaI 1 1238)), (1238, x1 (xaAdd 1239)), (1239, x1 (xaALdI 0 1240)), (1240, x0 (xaLdA 0 1241)), (1241, x0 (xaLdI 4 1243)), (1243, x0 (xaI 2 1244)), (1244, x1 (xaAdd 1245)), (1245, x1 (xaALdI 0 1246)), (1246, xK (3, 1249, [(some 9, 235)]))]
def xk_297_39 : List (Nat × XI) := [(1249, xB (xcEq 1686 1252)), (1252, x0 (xaI 0 1253)), (1253, xR xrZ), (1254, x0 (xaLdA 1 1255)), (1255, x0 (xaLdA 0 1256)), (1256, x0 (xaLdI 4 1258)), (1258, x0 (xaI 1 1259)), (1259, x1 (xaAdd 1260)), (1260, x1 (xaALdI 0 1261)), (1261, x0 (xaLdA 0 1262)), (1262, x0 (xaLdI 4 1264)), (1264, x0 (xaI 2 1265)), (1265, x1 (xaAdd 1266)), (1266, x1 (xaALdI 0 1267)), (1267, xK (3, 1270, [(some 0, 55)])), (1270, x0 (xaLdA 2 1271)), (1271, x0 (xaLdA 0 1272)), (1272, x0 (xaLdI 4 1274)), (1274, x0 (xaI 1 1275)), (1275, x1 (xaAdd 1276)), (1276, x1 (xaALdI 0 1277)), (1277, x0 (xaLdA 0 1278)), (1278, x0 (xaLdI 4 1280))]
def xk_297_40 : List (Nat × XI) := [(1280, x0 (xaI 2 1281)), (1281, x1 (xaAdd 1282)), (1282, x1 (xaALdI 0 1283)), (1283, xK (3, 1286, [(some 9, 237)])), (1286, xB (xcEq 1686 1289)), (1289, x0 (xaI 0 1290)), (1290, xR xrZ), (1291, x0 (xaLdA 1 1292)), (1292, x0 (xaLdA 0 1293)), (1293, x0 (xaLdI 4 1295)), (1295, x0 (xaI 1 1296)), (1296, x1 (xaAdd 1297)), (1297, x1 (xaALdI 0 1298)), (1298, x0 (xaLdA 0 1299)), (1299, x0 (xaLdI 4 1301)), (1301, x0 (xaI 2 1302)), (1302, x1 (xaAdd 1303)), (1303, x1 (xaALdI 0 1304)), (1304, xK (3, 1307, [(some 0, 56)])), (1307, x0 (xaLdA 2 1308)), (1308, x0 (xaLdA 0 1309)), (1309, x0 (xaLdI 4 1311)), (1311, x0 (xaI 1 1312))]
def xk_297_41 : List (Nat × XI) := [(1312, x1 (xaAdd 1313)), (1313, x1 (xaALdI 0 1314)), (1314, x0 (xaLdA 0 1315)), (1315, x0 (xaLdI 4 1317)), (1317, x0 (xaI 2 1318)), (1318, x1 (xaAdd 1319)), (1319, x1 (xaALdI 0 1320)), (1320, xK (3, 1323, [(some 9, 238)])), (1323, xB (xcEq 1686 1326)), (1326, x0 (xaI 0 1327)), (1327, xR xrZ), (1328, x0 (xaLdA 1 1329)), (1329, x0 (xaLdA 0 1330)), (1330, x0 (xaLdI 4 1332)), (1332, x0 (xaI 1 1333)), (1333, x1 (xaAdd 1334)), (1334, x1 (xaALdI 0 1335)), (1335, x0 (xaLdA 0 1336)), (1336, x0 (xaLdI 4 1338)), (1338, x0 (xaI 2 1339)), (1339, x1 (xaAdd 1340)), (1340, x1 (xaALdI 0 1341)), (1341, x0 (xaLdA 0 1342)), (1342, x0 (xaLdI 4 1344))]
def xk_297_42 : List (Nat × XI) := [(1344, x0 (xaI 3 1345)), (1345, x1 (xaAdd 1346)), (1346, x1 (xaALdI 0 1347)), (1347, xK (4, 1350, [(some 0, 58)])), (1350, x0 (xaLdA 2 1351)), (1351, x0 (xaLdA 0 1352)), (1352, x0 (xaLdI 4 1354)), (1354, x0 (xaI 1 1355)), (1355, x1 (xaAdd 1356)), (1356, x1 (xaALdI 0 1357)), (1357, x0 (xaLdA 0 1358)), (1358, x0 (xaLdI 4 1360)), (1360, x0 (xaI 2 1361)), (1361, x1 (xaAdd 1362)), (1362, x1 (xaALdI 0 1363)), (1363, x0 (xaLdA 0 1364)), (1364, x0 (xaLdI 4 1366)), (1366, x0 (xaI 3 1367)), (1367, x1 (xaAdd 1368)), (1368, x1 (xaALdI 0 1369)), (1369, xK (4, 1372, [(some 9, 241)])), (1372, xB (xcEq 1686 1375)), (1375, x0 (xaI 0 1376))]
def xk_297_43 : List (Nat × XI) := [(1376, xR xrZ), (1377, x0 (xaLdA 1 1378)), (1378, x0 (xaLdA 0 1379)), (1379, x0 (xaLdI 4 1381)), (1381, x0 (xaI 1 1382)), (1382, x1 (xaAdd 1383)), (1383, x1 (xaALdI 0 1384)), (1384, x0 (xaLdA 0 1385)), (1385, x0 (xaLdI 4 1387)), (1387, x0 (xaI 2 1388)), (1388, x1 (xaAdd 1389)), (1389, x1 (xaALdI 0 1390)), (1390, xK (3, 1393, [(some 0, 59)])), (1393, x0 (xaLdA 2 1394)), (1394, x0 (xaLdA 0 1395)), (1395, x0 (xaLdI 4 1397)), (1397, x0 (xaI 1 1398)), (1398, x1 (xaAdd 1399)), (1399, x1 (xaALdI 0 1400)), (1400, x0 (xaLdA 0 1401)), (1401, x0 (xaLdI 4 1403)), (1403, x0 (xaI 2 1404)), (1404, x1 (xaAdd 1405)), (1405, x1 (xaALdI 0 1406)), (1406, xK (3, 1409, [(some 9, 242)]))]
def xk_297_44 : List (Nat × XI) := [(1409, xB (xcEq 1686 1412)), (1412, x0 (xaI 0 1413)), (1413, xR xrZ), (1414, x0 (xaLdA 1 1415)), (1415, x0 (xaLdA 0 1416)), (1416, x0 (xaLdI 4 1418)), (1418, x0 (xaI 1 1419)), (1419, x1 (xaAdd 1420)), (1420, x1 (xaALdI 0 1421)), (1421, x0 (xaLdA 0 1422)), (1422, x0 (xaLdI 4 1424)), (1424, x0 (xaI 2 1425)), (1425, x1 (xaAdd 1426)), (1426, x1 (xaALdI 0 1427)), (1427, xB (xbEq 1434 1430)), (1430, x0 (xaI 1 1431)), (1431, x0 (xaGo 1435)), (1434, x0 (xaI 0 1435)), (1435, xK (3, 1438, [(some 0, 63)])), (1438, x0 (xaLdA 2 1439)), (1439, x0 (xaLdA 0 1440))]
def xk_297_45 : List (Nat × XI) := [(1440, x0 (xaLdI 4 1442)), (1442, x0 (xaI 1 1443)), (1443, x1 (xaAdd 1444)), (1444, x1 (xaALdI 0 1445)), (1445, x0 (xaLdA 0 1446)), (1446, x0 (xaLdI 4 1448)), (1448, x0 (xaI 2 1449)), (1449, x1 (xaAdd 1450)), (1450, x1 (xaALdI 0 1451)), (1451, xB (xbEq 1458 1454)), (1454, x0 (xaI 1 1455)), (1455, x0 (xaGo 1459)), (1458, x0 (xaI 0 1459)), (1459, xK (3, 1462, [(some 9, 246)])), (1462, xB (xcEq 1686 1465)), (1465, x0 (xaI 0 1466)), (1466, xR xrZ), (1467, x0 (xaLdA 1 1468)), (1468, x0 (xaLdA 0 1469)), (1469, x0 (xaLdI 4 1471)), (1471, x0 (xaI 1 1472))]
def xk_297_46 : List (Nat × XI) := [(1472, x1 (xaAdd 1473)), (1473, x1 (xaALdI 0 1474)), (1474, x0 (xaLdA 0 1475)), (1475, x0 (xaLdI 4 1477)), (1477, x0 (xaI 2 1478)), (1478, x1 (xaAdd 1479)), (1479, x1 (xaALdI 0 1480)), (1480, xK (3, 1483, [(some 0, 64)])), (1483, x0 (xaLdA 2 1484)), (1484, x0 (xaLdA 0 1485)), (1485, x0 (xaLdI 4 1487)), (1487, x0 (xaI 1 1488)), (1488, x1 (xaAdd 1489)), (1489, x1 (xaALdI 0 1490)), (1490, x0 (xaLdA 0 1491)), (1491, x0 (xaLdI 4 1493)), (1493, x0 (xaI 2 1494)), (1494, x1 (xaAdd 1495)), (1495, x1 (xaALdI 0 1496)), (1496, xK (3, 1499, [(some 9, 247)])), (1499, xB (xcEq 1686 1502)), (1502, x0 (xaI 0 1503)), (1503, xR xrZ)]
def xk_297_47 : List (Nat × XI) := [(1504, x0 (xaLdA 1 1505)), (1505, x0 (xaLdA 0 1506)), (1506, x0 (xaLdI 4 1508)), (1508, x0 (xaI 1 1509)), (1509, x1 (xaAdd 1510)), (1510, x1 (xaALdI 0 1511)), (1511, x0 (xaLdA 0 1512)), (1512, x0 (xaLdI 4 1514)), (1514, x0 (xaI 2 1515)), (1515, x1 (xaAdd 1516)), (1516, x1 (xaALdI 0 1517)), (1517, xK (3, 1520, [(some 0, 65)])), (1520, x0 (xaLdA 2 1521)), (1521, x0 (xaLdA 0 1522)), (1522, x0 (xaLdI 4 1524)), (1524, x0 (xaI 1 1525)), (1525, x1 (xaAdd 1526)), (1526, x1 (xaALdI 0 1527)), (1527, x0 (xaLdA 0 1528)), (1528, x0 (xaLdI 4 1530)), (1530, x0 (xaI 2 1531)), (1531, x1 (xaAdd 1532)), (1532, x1 (xaALdI 0 1533)), (1533, xK (3, 1536, [(some 9, 248)]))]
def xk_297_48 : List (Nat × XI) := [(1536, xB (xcEq 1686 1539)), (1539, x0 (xaI 0 1540)), (1540, xR xrZ), (1541, x0 (xaLdA 1 1542)), (1542, xK (1, 1545, [(some 0, 66)])), (1545, x0 (xaLdA 2 1546)), (1546, xK (1, 1549, [(some 9, 249)])), (1549, xB (xcEq 1686 1552)), (1552, x0 (xaI 0 1553)), (1553, xR xrZ), (1554, x0 (xaLdA 1 1555)), (1555, xK (1, 1558, [(some 0, 67)])), (1558, x0 (xaLdA 2 1559)), (1559, xK (1, 1562, [(some 9, 250)])), (1562, xB (xcEq 1686 1565)), (1565, x0 (xaI 0 1566)), (1566, xR xrZ), (1567, x0 (xaLdA 1 1568))]
def xk_297_49 : List (Nat × XI) := [(1568, x0 (xaLdA 0 1569)), (1569, x0 (xaLdI 4 1571)), (1571, x0 (xaI 1 1572)), (1572, x1 (xaAdd 1573)), (1573, x1 (xaALdI 0 1574)), (1574, xK (2, 1577, [(some 0, 68)])), (1577, x0 (xaLdA 2 1578)), (1578, x0 (xaLdA 0 1579)), (1579, x0 (xaLdI 4 1581)), (1581, x0 (xaI 1 1582)), (1582, x1 (xaAdd 1583)), (1583, x1 (xaALdI 0 1584)), (1584, xK (2, 1587, [(some 9, 251)])), (1587, xB (xcEq 1686 1590)), (1590, x0 (xaI 0 1591)), (1591, xR xrZ), (1592, x0 (xaLdA 1 1593)), (1593, x0 (xaLdA 0 1594)), (1594, x0 (xaLdI 4 1596)), (1596, x0 (xaI 1 1597)), (1597, x1 (xaAdd 1598)), (1598, x1 (xaALdI 0 1599)), (1599, x0 (xaLdA 3 1600))]
def xk_297_50 : List (Nat × XI) := [(1600, xK (3, 1603, [(none, 0)])), (1603, x0 (xaStI 5 1605)), (1605, x0 (xaLdA 2 1606)), (1606, x0 (xaLdA 0 1607)), (1607, x0 (xaLdI 4 1609)), (1609, x0 (xaI 1 1610)), (1610, x1 (xaAdd 1611)), (1611, x1 (xaALdI 0 1612)), (1612, xK (2, 1615, [(some 9, 252)])), (1615, x0 (xaStI 6 1617)), (1617, x0 (xaLdA 2 1618)), (1618, xK (1, 1621, [(some 9, 139)])), (1621, x0 (xaLdI 5 1623)), (1623, xB (xcEq 1628 1626)), (1626, x0 (xaI 0 1627)), (1627, xR xrZ), (1628, x0 (xaLdI 5 1630)), (1630, xB (xbNe 1645 1633))]
def xk_297_51 : List (Nat × XI) := [(1633, x0 (xaLdA 3 1634)), (1634, x0 (xaI 0 1635)), (1635, x1 (xaALdJ 1636)), (1636, x0 (xaLdI 6 1638)), (1638, x0 (xaI2L 1639)), (1639, x0 (xaLCmp 1640)), (1640, xB (xbEq 1645 1643)), (1643, x0 (xaI 0 1644)), (1644, xR xrZ), (1645, x0 (xaGo 1686)), (1648, x0 (xaLdA 1 1649)), (1649, x0 (xaLdA 0 1650)), (1650, x0 (xaLdI 4 1652)), (1652, x0 (xaI 1 1653)), (1653, x1 (xaAdd 1654)), (1654, x1 (xaALdI 0 1655)), (1655, xK (2, 1658, [(some 0, 69)])), (1658, x0 (xaLdA 2 1659)), (1659, x0 (xaLdA 0 1660)), (1660, x0 (xaLdI 4 1662)), (1662, x0 (xaI 1 1663)), (1663, x1 (xaAdd 1664))]
def xk_297_52 : List (Nat × XI) := [(1664, x1 (xaALdI 0 1665)), (1665, xK (2, 1668, [(some 9, 253)])), (1668, xB (xcEq 1686 1671)), (1671, x0 (xaI 0 1672)), (1672, xR xrZ), (1673, x0 (xaLdA 1 1674)), (1674, xK (1, 1677, [(some 0, 71)])), (1677, x0 (xaLdA 2 1678)), (1678, xK (1, 1681, [(some 9, 255)])), (1681, xB (xcEq 1686 1684)), (1684, x0 (xaI 0 1685)), (1685, xR xrZ), (1686, x1 (xaInc 4 6 1689)), (1689, x0 (xaGo 23)), (1692, x0 (xaI 1 1693)), (1693, xR xrZ)]
def xk_297 : List (List (Nat × XI)) := [xk_297_0, xk_297_1, xk_297_2, xk_297_3, xk_297_4, xk_297_5, xk_297_6, xk_297_7, xk_297_8, xk_297_9, xk_297_10, xk_297_11, xk_297_12, xk_297_13, xk_297_14, xk_297_15, xk_297_16, xk_297_17, xk_297_18, xk_297_19, xk_297_20, xk_297_21, xk_297_22, xk_297_23, xk_297_24, xk_297_25, xk_297_26, xk_297_27, xk_297_28, xk_297_29, xk_297_30, xk_297_31, xk_297_32, xk_297_33, xk_297_34, xk_297_35, xk_297_36, xk_297_37, xk_297_38, xk_297_39, xk_297_40, xk_297_41, xk_297_42, xk_297_43, xk_297_44, xk_297_45, xk_297_46, xk_297_47, xk_297_48, xk_297_49, xk_297_50, xk_297_51, xk_297_52]
def xkG_0 : List (List (List (Nat × XI))) := [xk_0, xk_1, xk_2, xk_3, xk_4, xk_5, xk_6, xk_7, xk_8, xk_9, xk_10, xk_11, xk_12, xk_13, xk_14, xk_15]
def xkG_1 : List (List (List (Nat × XI))) := [xk_16, xk_17, xk_18, xk_19, xk_20, xk_21, xk_22, xk_23, xk_24, xk_25, xk_26, xk_27, xk_28, xk_29, xk_30, xk_31]
def xkG_2 : List (List (List (Nat × XI))) := [xk_32, xk_33, xk_34, xk_35, xk_36, xk_37, xk_38, xk_39, xk_40, xk_41, xk_42, xk_43, xk_44, xk_45, xk_46, xk_47]
def xkG_3 : List (List (List (Nat × XI))) := [xk_48, xk_49, xk_50, xk_51, xk_52, xk_53, xk_54, xk_55, xk_56, xk_57, xk_58, xk_59, xk_60, xk_61, xk_62, xk_63]
def xkG_4 : List (List (List (Nat × XI))) := [xk_64, xk_65, xk_66, xk_67, xk_68, xk_69, xk_70, xk_71, xk_72, xk_73, xk_74, xk_75, xk_76, xk_77, xk_78, xk_79]
def xkG_5 : List (List (List (Nat × XI))) := [xk_80, xk_81, xk_82, xk_83, xk_84, xk_85, xk_86, xk_87, xk_88, xk_89, xk_90, xk_91, xk_92, xk_93, xk_94, xk_95]
def xkG_6 : List (List (List (Nat × XI))) := [xk_96, xk_97, xk_98, xk_99, xk_100, xk_101, xk_102, xk_103, xk_104, xk_105, xk_106, xk_107, xk_108, xk_109, xk_110, xk_111]
def xkG_7 : List (List (List (Nat × XI))) := [xk_112, xk_113, xk_114, xk_115, xk_116, xk_117, xk_118, xk_119, xk_120, xk_121, xk_122, xk_123, xk_124, xk_125, xk_126, xk_127]
def xkG_8 : List (List (List (Nat × XI))) := [xk_128, xk_129, xk_130, xk_131, xk_132, xk_133, xk_134, xk_135, xk_136, xk_137, xk_138, xk_139, xk_140, xk_141, xk_142, xk_143]
def xkG_9 : List (List (List (Nat × XI))) := [xk_144, xk_145, xk_146, xk_147, xk_148, xk_149, xk_150, xk_151, xk_152, xk_153, xk_154, xk_155, xk_156, xk_157, xk_158, xk_159]
def xkG_10 : List (List (List (Nat × XI))) := [xk_160, xk_161, xk_162, xk_163, xk_164, xk_165, xk_166, xk_167, xk_168, xk_169, xk_170, xk_171, xk_172, xk_173, xk_174, xk_175]
def xkG_11 : List (List (List (Nat × XI))) := [xk_176, xk_177, xk_178, xk_179, xk_180, xk_181, xk_182, xk_183, xk_184, xk_185, xk_186, xk_187, xk_188, xk_189, xk_190, xk_191]
def xkG_12 : List (List (List (Nat × XI))) := [xk_192, xk_193, xk_194, xk_195, xk_196, xk_197, xk_198, xk_199, xk_200, xk_201, xk_202, xk_203, xk_204, xk_205, xk_206, xk_207]
def xkG_13 : List (List (List (Nat × XI))) := [xk_208, xk_209, xk_210, xk_211, xk_212, xk_213, xk_214, xk_215, xk_216, xk_217, xk_218, xk_219, xk_220, xk_221, xk_222, xk_223]
def xkG_14 : List (List (List (Nat × XI))) := [xk_224, xk_225, xk_226, xk_227, xk_228, xk_229, xk_230, xk_231, xk_232, xk_233, xk_234, xk_235, xk_236, xk_237, xk_238, xk_239]
def xkG_15 : List (List (List (Nat × XI))) := [xk_240, xk_241, xk_242, xk_243, xk_244, xk_245, xk_246, xk_247, xk_248, xk_249, xk_250, xk_251, xk_252, xk_253, xk_254, xk_255]
def xkG_16 : List (List (List (Nat × XI))) := [xk_256, xk_257, xk_258, xk_259, xk_260, xk_261, xk_262, xk_263, xk_264, xk_265, xk_266, xk_267, xk_268, xk_269, xk_270, xk_271]
def xkG_17 : List (List (List (Nat × XI))) := [xk_272, xk_273, xk_274, xk_275, xk_276, xk_277, xk_278, xk_279, xk_280, xk_281, xk_282, xk_283, xk_284, xk_285, xk_286, xk_287]
def xkG_18 : List (List (List (Nat × XI))) := [xk_288, xk_289, xk_290, xk_291, xk_292, xk_293, xk_294, xk_295, xk_296, xk_297]
def xkT : List (List (List (List (Nat × XI)))) := [xkG_0, xkG_1, xkG_2, xkG_3, xkG_4, xkG_5, xkG_6, xkG_7, xkG_8, xkG_9, xkG_10, xkG_11, xkG_12, xkG_13, xkG_14, xkG_15, xkG_16, xkG_17, xkG_18]
def xlG_0 : List Nat := [4, 2, 6, 3, 3, 1, 3, 2, 1, 1, 4, 2, 2, 4, 3, 3]
def xlG_1 : List Nat := [3, 2, 3, 5, 3, 1, 5, 5, 4, 6, 6, 6, 8, 2, 1, 2]
def xlG_2 : List Nat := [2, 2, 1, 3, 2, 4, 5, 4, 2, 10, 6, 1, 3, 1, 2, 4]
def xlG_3 : List Nat := [4, 6, 7, 3, 3, 6, 7, 3, 4, 8, 5, 3, 2, 1, 3, 3]
def xlG_4 : List Nat := [4, 3, 1, 1, 2, 2, 3, 1, 4, 2, 2, 3, 2, 1, 1, 3]
def xlG_5 : List Nat := [2, 1, 4, 2, 2, 4, 2, 2, 2, 3, 2, 3, 2, 2, 4, 2]
def xlG_6 : List Nat := [2, 2, 2, 2, 5, 5, 5, 1, 3, 1, 3, 3, 3, 3, 2, 4]
def xlG_7 : List Nat := [2, 3, 4, 5, 1, 7, 6, 1, 2, 1, 1, 6, 1, 7, 1, 5]
def xlG_8 : List Nat := [4, 2, 2, 3, 2, 4, 2, 4, 5, 2, 1, 1, 8, 3, 2, 3]
def xlG_9 : List Nat := [2, 1, 1, 2, 1, 2, 4, 3, 2, 4, 2, 4, 3, 9, 3, 3]
def xlG_10 : List Nat := [1, 3, 5, 3, 2, 4, 4, 2, 5, 2, 4, 3, 2, 6, 2, 1]
def xlG_11 : List Nat := [1, 3, 2, 3, 2, 3, 3, 3, 3, 2, 4, 5, 1, 2, 3, 3]
def xlG_12 : List Nat := [5, 3, 5, 7, 3, 3, 7, 6, 6, 8, 2, 1, 3, 2, 3, 4]
def xlG_13 : List Nat := [3, 2, 1, 5, 1, 3, 3, 3, 6, 10, 7, 3, 1, 2, 4, 5]
def xlG_14 : List Nat := [3, 4, 3, 3, 1, 2, 4, 6, 6, 7, 3, 5, 8, 4, 4, 7]
def xlG_15 : List Nat := [1, 5, 3, 2, 2, 1, 3, 5, 3, 2, 2, 3, 4, 2, 3, 1]
def xlG_16 : List Nat := [1, 3, 3, 1, 5, 4, 3, 3, 6, 2, 1, 3, 1, 1, 2, 2]
def xlG_17 : List Nat := [4, 3, 6, 7, 2, 1, 3, 2, 5, 6, 3, 3, 2, 3, 2, 3]
def xlG_18 : List Nat := [2, 3, 2, 1, 4, 3, 2, 3, 4, 7]
def xlT : List (List Nat) := [xlG_0, xlG_1, xlG_2, xlG_3, xlG_4, xlG_5, xlG_6, xlG_7, xlG_8, xlG_9, xlG_10, xlG_11, xlG_12, xlG_13, xlG_14, xlG_15, xlG_16, xlG_17, xlG_18]
def xlk : List (Nat × XI) → Nat → Option XI
  | [], _ => none
  | (k, x) :: l, n => match Nat.beq k n with
    | true => some x
    | false => xlk l n
def xcode (M pc : Nat) : Option XI := xlk (xnth [] (xnth [] (xnth [] xkT (M / 16)) (M % 16)) (pc / 32)) pc
def xloc (M : Nat) : Nat := xnth 0 (xnth [] xlT (M / 16)) (M % 16)
/-- handlers: from, to, at, of which class -/
def xhnd (M : Nat) : List (Nat × Nat × Nat × Nat) := match Nat.beq M 4 with
  | true => [(32, 44, 47, 2)]
  | false => match Nat.beq M 0 with
    | true => [(0, 9, 12, 17)]
    | false => []
