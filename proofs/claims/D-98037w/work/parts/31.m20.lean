/-! printed by gen/gen.py -/
set_option maxRecDepth 100000
abbrev cL_law : ByteArray := code
def yL_law : MethodName := ⟨"PegBandsLaw", "law", "([I)Z"⟩
def tb_L_law_0 : List (Nat × Instr × Nat) := [(0, .new 8, 3), (3, .dup, 1), (4, .invokespecial 15, 3), (7, .astore_n 1, 1), (8, .new 16, 3), (11, .dup, 1), (12, .invokespecial 18, 3), (15, .astore_n 2, 1), (16, .iconst 1, 1), (17, .newarray .long, 2), (19, .astore_n 3, 1), (20, .iconst 0, 1), (21, .istore 4, 2), (23, .iload 4, 2), (25, .aload_n 0, 1), (26, .arraylength, 1), (27, .bipush 6, 2), (29, .isub, 1), (30, .if_icmp .gt 1461, 3), (33, .aload_n 0, 1), (34, .iload 4, 2), (36, .iaload, 1), (37, .bipush 63, 2), (39, .iand, 1), (40, .tableswitch 1445 0 41 #[184, 257, 282, 295, 308, 321, 346, 414, 451, 488, 525, 574, 611, 660, 697, 722, 771, 820, 845, 858, 871, 908, 945, 970, 983, 996, 1021, 1034, 1059, 1084, 1133, 1170, 1207, 1244, 1281, 1306, 1319, 1332, 1345, 1370, 1395, 1420], 184), (224, .aload_n 1, 1), (225, .aload_n 0, 1), (226, .iload 4, 2), (228, .iconst 1, 1), (229, .iadd, 1), (230, .iaload, 1), (231, .aload_n 0, 1), (232, .iload 4, 2), (234, .iconst 2, 1), (235, .iadd, 1), (236, .iaload, 1), (237, .aload_n 0, 1), (238, .iload 4, 2), (240, .iconst 3, 1), (241, .iadd, 1)]
theorem tk_L_law_0 : ∀ q ∈ tb_L_law_0, decode cL_law q.1 = .ok q.2 := by decide +kernel
theorem dc_L_law_0 (k : Nat) {pc n : Nat} {i : Instr} (h : tb_L_law_0[k]? = some (pc, i, n)) : decode cL_law pc = .ok (i, n) := tk_L_law_0 (pc, i, n) (List.mem_of_getElem? h)
def tb_L_law_1 : List (Nat × Instr × Nat) := [(242, .iaload, 1), (243, .aload_n 0, 1), (244, .iload 4, 2), (246, .iconst 4, 1), (247, .iadd, 1), (248, .iaload, 1), (249, .aload_n 0, 1), (250, .iload 4, 2), (252, .iconst 5, 1), (253, .iadd, 1), (254, .iaload, 1), (255, .invokevirtual 19, 3), (258, .aload_n 2, 1), (259, .aload_n 0, 1), (260, .iload 4, 2), (262, .iconst 1, 1), (263, .iadd, 1), (264, .iaload, 1), (265, .aload_n 0, 1), (266, .iload 4, 2), (268, .iconst 2, 1), (269, .iadd, 1), (270, .iaload, 1), (271, .aload_n 0, 1), (272, .iload 4, 2), (274, .iconst 3, 1), (275, .iadd, 1), (276, .iaload, 1), (277, .aload_n 0, 1), (278, .iload 4, 2), (280, .iconst 4, 1), (281, .iadd, 1), (282, .iaload, 1), (283, .aload_n 0, 1), (284, .iload 4, 2), (286, .iconst 5, 1), (287, .iadd, 1), (288, .iaload, 1), (289, .invokevirtual 23, 3), (292, .if_icmp .eq 1193, 3)]
theorem tk_L_law_1 : ∀ q ∈ tb_L_law_1, decode cL_law q.1 = .ok q.2 := by decide +kernel
theorem dc_L_law_1 (k : Nat) {pc n : Nat} {i : Instr} (h : tb_L_law_1[k]? = some (pc, i, n)) : decode cL_law pc = .ok (i, n) := tk_L_law_1 (pc, i, n) (List.mem_of_getElem? h)
def tb_L_law_2 : List (Nat × Instr × Nat) := [(295, .iconst 0, 1), (296, .ireturn, 1), (297, .aload_n 1, 1), (298, .aload_n 0, 1), (299, .iload 4, 2), (301, .iconst 1, 1), (302, .iadd, 1), (303, .iaload, 1), (304, .invokevirtual 24, 3), (307, .aload_n 2, 1), (308, .aload_n 0, 1), (309, .iload 4, 2), (311, .iconst 1, 1), (312, .iadd, 1), (313, .iaload, 1), (314, .invokevirtual 28, 3), (317, .if_icmp .eq 1168, 3), (320, .iconst 0, 1), (321, .ireturn, 1), (322, .aload_n 1, 1), (323, .invokevirtual 29, 3), (326, .aload_n 2, 1), (327, .invokevirtual 33, 3), (330, .if_icmp .eq 1155, 3), (333, .iconst 0, 1), (334, .ireturn, 1), (335, .aload_n 1, 1), (336, .invokevirtual 34, 3), (339, .aload_n 2, 1), (340, .invokevirtual 37, 3), (343, .if_icmp .eq 1142, 3), (346, .iconst 0, 1), (347, .ireturn, 1), (348, .aload_n 1, 1), (349, .invokevirtual 38, 3), (352, .aload_n 2, 1), (353, .invokevirtual 41, 3), (356, .if_icmp .eq 1129, 3), (359, .iconst 0, 1), (360, .ireturn, 1)]
theorem tk_L_law_2 : ∀ q ∈ tb_L_law_2, decode cL_law q.1 = .ok q.2 := by decide +kernel
theorem dc_L_law_2 (k : Nat) {pc n : Nat} {i : Instr} (h : tb_L_law_2[k]? = some (pc, i, n)) : decode cL_law pc = .ok (i, n) := tk_L_law_2 (pc, i, n) (List.mem_of_getElem? h)
def tb_L_law_3 : List (Nat × Instr × Nat) := [(361, .aload_n 1, 1), (362, .aload_n 0, 1), (363, .iload 4, 2), (365, .iconst 1, 1), (366, .iadd, 1), (367, .iaload, 1), (368, .invokevirtual 42, 3), (371, .aload_n 2, 1), (372, .aload_n 0, 1), (373, .iload 4, 2), (375, .iconst 1, 1), (376, .iadd, 1), (377, .iaload, 1), (378, .invokevirtual 46, 3), (381, .if_icmp .eq 1104, 3), (384, .iconst 0, 1), (385, .ireturn, 1), (386, .aload_n 1, 1), (387, .aload_n 0, 1), (388, .iload 4, 2), (390, .iconst 1, 1), (391, .iadd, 1), (392, .iaload, 1), (393, .aload_n 0, 1), (394, .iload 4, 2), (396, .iconst 2, 1), (397, .iadd, 1), (398, .iaload, 1), (399, .aload_n 3, 1), (400, .invokestatic 47, 3), (403, .istore 5, 2), (405, .aload_n 2, 1), (406, .aload_n 0, 1), (407, .iload 4, 2), (409, .iconst 1, 1), (410, .iadd, 1), (411, .iaload, 1), (412, .aload_n 0, 1), (413, .iload 4, 2), (415, .iconst 2, 1)]
theorem tk_L_law_3 : ∀ q ∈ tb_L_law_3, decode cL_law q.1 = .ok q.2 := by decide +kernel
theorem dc_L_law_3 (k : Nat) {pc n : Nat} {i : Instr} (h : tb_L_law_3[k]? = some (pc, i, n)) : decode cL_law pc = .ok (i, n) := tk_L_law_3 (pc, i, n) (List.mem_of_getElem? h)
def tb_L_law_4 : List (Nat × Instr × Nat) := [(416, .iadd, 1), (417, .iaload, 1), (418, .invokevirtual 52, 3), (421, .istore 6, 2), (423, .aload_n 2, 1), (424, .invokevirtual 53, 3), (427, .iload 5, 2), (429, .if_icmp .eq 5, 3), (432, .iconst 0, 1), (433, .ireturn, 1), (434, .iload 5, 2), (436, .ifCond .ne 15, 3), (439, .aload_n 3, 1), (440, .iconst 0, 1), (441, .laload, 1), (442, .iload 6, 2), (444, .i2l, 1), (445, .lcmp, 1), (446, .ifCond .eq 5, 3), (449, .iconst 0, 1), (450, .ireturn, 1), (451, .goto 1034, 3), (454, .aload_n 1, 1), (455, .aload_n 0, 1), (456, .iload 4, 2), (458, .iconst 1, 1), (459, .iadd, 1), (460, .iaload, 1), (461, .aload_n 0, 1), (462, .iload 4, 2), (464, .iconst 2, 1), (465, .iadd, 1), (466, .iaload, 1), (467, .invokevirtual 56, 3), (470, .aload_n 2, 1), (471, .aload_n 0, 1), (472, .iload 4, 2), (474, .iconst 1, 1), (475, .iadd, 1), (476, .iaload, 1)]
theorem tk_L_law_4 : ∀ q ∈ tb_L_law_4, decode cL_law q.1 = .ok q.2 := by decide +kernel
theorem dc_L_law_4 (k : Nat) {pc n : Nat} {i : Instr} (h : tb_L_law_4[k]? = some (pc, i, n)) : decode cL_law pc = .ok (i, n) := tk_L_law_4 (pc, i, n) (List.mem_of_getElem? h)
def tb_L_law_5 : List (Nat × Instr × Nat) := [(477, .aload_n 0, 1), (478, .iload 4, 2), (480, .iconst 2, 1), (481, .iadd, 1), (482, .iaload, 1), (483, .invokevirtual 59, 3), (486, .if_icmp .eq 999, 3), (489, .iconst 0, 1), (490, .ireturn, 1), (491, .aload_n 1, 1), (492, .aload_n 0, 1), (493, .iload 4, 2), (495, .iconst 1, 1), (496, .iadd, 1), (497, .iaload, 1), (498, .aload_n 0, 1), (499, .iload 4, 2), (501, .iconst 2, 1), (502, .iadd, 1), (503, .iaload, 1), (504, .invokevirtual 60, 3), (507, .aload_n 2, 1), (508, .aload_n 0, 1), (509, .iload 4, 2), (511, .iconst 1, 1), (512, .iadd, 1), (513, .iaload, 1), (514, .aload_n 0, 1), (515, .iload 4, 2), (517, .iconst 2, 1), (518, .iadd, 1), (519, .iaload, 1), (520, .invokevirtual 63, 3), (523, .if_icmp .eq 962, 3), (526, .iconst 0, 1), (527, .ireturn, 1), (528, .aload_n 1, 1), (529, .aload_n 0, 1), (530, .iload 4, 2), (532, .iconst 1, 1)]
theorem tk_L_law_5 : ∀ q ∈ tb_L_law_5, decode cL_law q.1 = .ok q.2 := by decide +kernel
theorem dc_L_law_5 (k : Nat) {pc n : Nat} {i : Instr} (h : tb_L_law_5[k]? = some (pc, i, n)) : decode cL_law pc = .ok (i, n) := tk_L_law_5 (pc, i, n) (List.mem_of_getElem? h)
def tb_L_law_6 : List (Nat × Instr × Nat) := [(533, .iadd, 1), (534, .iaload, 1), (535, .aload_n 0, 1), (536, .iload 4, 2), (538, .iconst 2, 1), (539, .iadd, 1), (540, .iaload, 1), (541, .invokevirtual 64, 3), (544, .aload_n 2, 1), (545, .aload_n 0, 1), (546, .iload 4, 2), (548, .iconst 1, 1), (549, .iadd, 1), (550, .iaload, 1), (551, .aload_n 0, 1), (552, .iload 4, 2), (554, .iconst 2, 1), (555, .iadd, 1), (556, .iaload, 1), (557, .invokevirtual 67, 3), (560, .if_icmp .eq 925, 3), (563, .iconst 0, 1), (564, .ireturn, 1), (565, .aload_n 1, 1), (566, .aload_n 0, 1), (567, .iload 4, 2), (569, .iconst 1, 1), (570, .iadd, 1), (571, .iaload, 1), (572, .aload_n 0, 1), (573, .iload 4, 2), (575, .iconst 2, 1), (576, .iadd, 1), (577, .iaload, 1), (578, .aload_n 0, 1), (579, .iload 4, 2), (581, .iconst 3, 1), (582, .iadd, 1), (583, .iaload, 1), (584, .invokevirtual 68, 3)]
theorem tk_L_law_6 : ∀ q ∈ tb_L_law_6, decode cL_law q.1 = .ok q.2 := by decide +kernel
theorem dc_L_law_6 (k : Nat) {pc n : Nat} {i : Instr} (h : tb_L_law_6[k]? = some (pc, i, n)) : decode cL_law pc = .ok (i, n) := tk_L_law_6 (pc, i, n) (List.mem_of_getElem? h)
def tb_L_law_7 : List (Nat × Instr × Nat) := [(587, .aload_n 2, 1), (588, .aload_n 0, 1), (589, .iload 4, 2), (591, .iconst 1, 1), (592, .iadd, 1), (593, .iaload, 1), (594, .aload_n 0, 1), (595, .iload 4, 2), (597, .iconst 2, 1), (598, .iadd, 1), (599, .iaload, 1), (600, .aload_n 0, 1), (601, .iload 4, 2), (603, .iconst 3, 1), (604, .iadd, 1), (605, .iaload, 1), (606, .invokevirtual 72, 3), (609, .if_icmp .eq 876, 3), (612, .iconst 0, 1), (613, .ireturn, 1), (614, .aload_n 1, 1), (615, .aload_n 0, 1), (616, .iload 4, 2), (618, .iconst 1, 1), (619, .iadd, 1), (620, .iaload, 1), (621, .aload_n 0, 1), (622, .iload 4, 2), (624, .iconst 2, 1), (625, .iadd, 1), (626, .iaload, 1), (627, .invokevirtual 73, 3), (630, .aload_n 2, 1), (631, .aload_n 0, 1), (632, .iload 4, 2), (634, .iconst 1, 1), (635, .iadd, 1), (636, .iaload, 1), (637, .aload_n 0, 1), (638, .iload 4, 2)]
theorem tk_L_law_7 : ∀ q ∈ tb_L_law_7, decode cL_law q.1 = .ok q.2 := by decide +kernel
theorem dc_L_law_7 (k : Nat) {pc n : Nat} {i : Instr} (h : tb_L_law_7[k]? = some (pc, i, n)) : decode cL_law pc = .ok (i, n) := tk_L_law_7 (pc, i, n) (List.mem_of_getElem? h)
def tb_L_law_8 : List (Nat × Instr × Nat) := [(640, .iconst 2, 1), (641, .iadd, 1), (642, .iaload, 1), (643, .invokevirtual 76, 3), (646, .if_icmp .eq 839, 3), (649, .iconst 0, 1), (650, .ireturn, 1), (651, .aload_n 1, 1), (652, .aload_n 0, 1), (653, .iload 4, 2), (655, .iconst 1, 1), (656, .iadd, 1), (657, .iaload, 1), (658, .aload_n 0, 1), (659, .iload 4, 2), (661, .iconst 2, 1), (662, .iadd, 1), (663, .iaload, 1), (664, .aload_n 0, 1), (665, .iload 4, 2), (667, .iconst 3, 1), (668, .iadd, 1), (669, .iaload, 1), (670, .invokevirtual 77, 3), (673, .aload_n 2, 1), (674, .aload_n 0, 1), (675, .iload 4, 2), (677, .iconst 1, 1), (678, .iadd, 1), (679, .iaload, 1), (680, .aload_n 0, 1), (681, .iload 4, 2), (683, .iconst 2, 1), (684, .iadd, 1), (685, .iaload, 1), (686, .aload_n 0, 1), (687, .iload 4, 2), (689, .iconst 3, 1), (690, .iadd, 1), (691, .iaload, 1)]
theorem tk_L_law_8 : ∀ q ∈ tb_L_law_8, decode cL_law q.1 = .ok q.2 := by decide +kernel
theorem dc_L_law_8 (k : Nat) {pc n : Nat} {i : Instr} (h : tb_L_law_8[k]? = some (pc, i, n)) : decode cL_law pc = .ok (i, n) := tk_L_law_8 (pc, i, n) (List.mem_of_getElem? h)
def tb_L_law_9 : List (Nat × Instr × Nat) := [(692, .invokevirtual 80, 3), (695, .if_icmp .eq 790, 3), (698, .iconst 0, 1), (699, .ireturn, 1), (700, .aload_n 1, 1), (701, .aload_n 0, 1), (702, .iload 4, 2), (704, .iconst 1, 1), (705, .iadd, 1), (706, .iaload, 1), (707, .aload_n 0, 1), (708, .iload 4, 2), (710, .iconst 2, 1), (711, .iadd, 1), (712, .iaload, 1), (713, .invokevirtual 81, 3), (716, .aload_n 2, 1), (717, .aload_n 0, 1), (718, .iload 4, 2), (720, .iconst 1, 1), (721, .iadd, 1), (722, .iaload, 1), (723, .aload_n 0, 1), (724, .iload 4, 2), (726, .iconst 2, 1), (727, .iadd, 1), (728, .iaload, 1), (729, .invokevirtual 84, 3), (732, .if_icmp .eq 753, 3), (735, .iconst 0, 1), (736, .ireturn, 1), (737, .aload_n 1, 1), (738, .aload_n 0, 1), (739, .iload 4, 2), (741, .iconst 1, 1), (742, .iadd, 1), (743, .iaload, 1), (744, .invokevirtual 85, 3), (747, .aload_n 2, 1), (748, .aload_n 0, 1)]
theorem tk_L_law_9 : ∀ q ∈ tb_L_law_9, decode cL_law q.1 = .ok q.2 := by decide +kernel
theorem dc_L_law_9 (k : Nat) {pc n : Nat} {i : Instr} (h : tb_L_law_9[k]? = some (pc, i, n)) : decode cL_law pc = .ok (i, n) := tk_L_law_9 (pc, i, n) (List.mem_of_getElem? h)
def tb_L_law_10 : List (Nat × Instr × Nat) := [(749, .iload 4, 2), (751, .iconst 1, 1), (752, .iadd, 1), (753, .iaload, 1), (754, .invokevirtual 88, 3), (757, .if_icmp .eq 728, 3), (760, .iconst 0, 1), (761, .ireturn, 1), (762, .aload_n 1, 1), (763, .aload_n 0, 1), (764, .iload 4, 2), (766, .iconst 1, 1), (767, .iadd, 1), (768, .iaload, 1), (769, .aload_n 0, 1), (770, .iload 4, 2), (772, .iconst 2, 1), (773, .iadd, 1), (774, .iaload, 1), (775, .aload_n 0, 1), (776, .iload 4, 2), (778, .iconst 3, 1), (779, .iadd, 1), (780, .iaload, 1), (781, .invokevirtual 89, 3), (784, .aload_n 2, 1), (785, .aload_n 0, 1), (786, .iload 4, 2), (788, .iconst 1, 1), (789, .iadd, 1), (790, .iaload, 1), (791, .aload_n 0, 1), (792, .iload 4, 2), (794, .iconst 2, 1), (795, .iadd, 1), (796, .iaload, 1), (797, .aload_n 0, 1), (798, .iload 4, 2), (800, .iconst 3, 1), (801, .iadd, 1)]
theorem tk_L_law_10 : ∀ q ∈ tb_L_law_10, decode cL_law q.1 = .ok q.2 := by decide +kernel
theorem dc_L_law_10 (k : Nat) {pc n : Nat} {i : Instr} (h : tb_L_law_10[k]? = some (pc, i, n)) : decode cL_law pc = .ok (i, n) := tk_L_law_10 (pc, i, n) (List.mem_of_getElem? h)
def tb_L_law_11 : List (Nat × Instr × Nat) := [(802, .iaload, 1), (803, .invokevirtual 92, 3), (806, .if_icmp .eq 679, 3), (809, .iconst 0, 1), (810, .ireturn, 1), (811, .aload_n 1, 1), (812, .aload_n 0, 1), (813, .iload 4, 2), (815, .iconst 1, 1), (816, .iadd, 1), (817, .iaload, 1), (818, .aload_n 0, 1), (819, .iload 4, 2), (821, .iconst 2, 1), (822, .iadd, 1), (823, .iaload, 1), (824, .aload_n 0, 1), (825, .iload 4, 2), (827, .iconst 3, 1), (828, .iadd, 1), (829, .iaload, 1), (830, .invokevirtual 93, 3), (833, .aload_n 2, 1), (834, .aload_n 0, 1), (835, .iload 4, 2), (837, .iconst 1, 1), (838, .iadd, 1), (839, .iaload, 1), (840, .aload_n 0, 1), (841, .iload 4, 2), (843, .iconst 2, 1), (844, .iadd, 1), (845, .iaload, 1), (846, .aload_n 0, 1), (847, .iload 4, 2), (849, .iconst 3, 1), (850, .iadd, 1), (851, .iaload, 1), (852, .invokevirtual 96, 3), (855, .if_icmp .eq 630, 3)]
theorem tk_L_law_11 : ∀ q ∈ tb_L_law_11, decode cL_law q.1 = .ok q.2 := by decide +kernel
theorem dc_L_law_11 (k : Nat) {pc n : Nat} {i : Instr} (h : tb_L_law_11[k]? = some (pc, i, n)) : decode cL_law pc = .ok (i, n) := tk_L_law_11 (pc, i, n) (List.mem_of_getElem? h)
def tb_L_law_12 : List (Nat × Instr × Nat) := [(858, .iconst 0, 1), (859, .ireturn, 1), (860, .aload_n 1, 1), (861, .aload_n 0, 1), (862, .iload 4, 2), (864, .iconst 1, 1), (865, .iadd, 1), (866, .iaload, 1), (867, .invokevirtual 97, 3), (870, .aload_n 2, 1), (871, .aload_n 0, 1), (872, .iload 4, 2), (874, .iconst 1, 1), (875, .iadd, 1), (876, .iaload, 1), (877, .invokevirtual 100, 3), (880, .if_icmp .eq 605, 3), (883, .iconst 0, 1), (884, .ireturn, 1), (885, .aload_n 1, 1), (886, .invokevirtual 101, 3), (889, .aload_n 2, 1), (890, .invokevirtual 104, 3), (893, .if_icmp .eq 592, 3), (896, .iconst 0, 1), (897, .ireturn, 1), (898, .aload_n 1, 1), (899, .invokevirtual 105, 3), (902, .aload_n 2, 1), (903, .invokevirtual 108, 3), (906, .if_icmp .eq 579, 3), (909, .iconst 0, 1), (910, .ireturn, 1), (911, .aload_n 1, 1), (912, .aload_n 0, 1), (913, .iload 4, 2), (915, .iconst 1, 1), (916, .iadd, 1), (917, .iaload, 1), (918, .aload_n 0, 1)]
theorem tk_L_law_12 : ∀ q ∈ tb_L_law_12, decode cL_law q.1 = .ok q.2 := by decide +kernel
theorem dc_L_law_12 (k : Nat) {pc n : Nat} {i : Instr} (h : tb_L_law_12[k]? = some (pc, i, n)) : decode cL_law pc = .ok (i, n) := tk_L_law_12 (pc, i, n) (List.mem_of_getElem? h)
def tb_L_law_13 : List (Nat × Instr × Nat) := [(919, .iload 4, 2), (921, .iconst 2, 1), (922, .iadd, 1), (923, .iaload, 1), (924, .invokevirtual 109, 3), (927, .aload_n 2, 1), (928, .aload_n 0, 1), (929, .iload 4, 2), (931, .iconst 1, 1), (932, .iadd, 1), (933, .iaload, 1), (934, .aload_n 0, 1), (935, .iload 4, 2), (937, .iconst 2, 1), (938, .iadd, 1), (939, .iaload, 1), (940, .invokevirtual 112, 3), (943, .if_icmp .eq 542, 3), (946, .iconst 0, 1), (947, .ireturn, 1), (948, .aload_n 1, 1), (949, .aload_n 0, 1), (950, .iload 4, 2), (952, .iconst 1, 1), (953, .iadd, 1), (954, .iaload, 1), (955, .aload_n 0, 1), (956, .iload 4, 2), (958, .iconst 2, 1), (959, .iadd, 1), (960, .iaload, 1), (961, .invokevirtual 113, 3), (964, .aload_n 2, 1), (965, .aload_n 0, 1), (966, .iload 4, 2), (968, .iconst 1, 1), (969, .iadd, 1), (970, .iaload, 1), (971, .aload_n 0, 1), (972, .iload 4, 2)]
theorem tk_L_law_13 : ∀ q ∈ tb_L_law_13, decode cL_law q.1 = .ok q.2 := by decide +kernel
theorem dc_L_law_13 (k : Nat) {pc n : Nat} {i : Instr} (h : tb_L_law_13[k]? = some (pc, i, n)) : decode cL_law pc = .ok (i, n) := tk_L_law_13 (pc, i, n) (List.mem_of_getElem? h)
def tb_L_law_14 : List (Nat × Instr × Nat) := [(974, .iconst 2, 1), (975, .iadd, 1), (976, .iaload, 1), (977, .invokevirtual 116, 3), (980, .if_icmp .eq 505, 3), (983, .iconst 0, 1), (984, .ireturn, 1), (985, .aload_n 1, 1), (986, .aload_n 0, 1), (987, .iload 4, 2), (989, .iconst 1, 1), (990, .iadd, 1), (991, .iaload, 1), (992, .invokevirtual 117, 3), (995, .aload_n 2, 1), (996, .aload_n 0, 1), (997, .iload 4, 2), (999, .iconst 1, 1), (1000, .iadd, 1), (1001, .iaload, 1), (1002, .invokevirtual 120, 3), (1005, .if_icmp .eq 480, 3), (1008, .iconst 0, 1), (1009, .ireturn, 1), (1010, .aload_n 1, 1), (1011, .invokevirtual 121, 3), (1014, .aload_n 2, 1), (1015, .invokevirtual 124, 3), (1018, .if_icmp .eq 467, 3), (1021, .iconst 0, 1), (1022, .ireturn, 1), (1023, .aload_n 1, 1), (1024, .invokevirtual 125, 3), (1027, .aload_n 2, 1), (1028, .invokevirtual 128, 3), (1031, .if_icmp .eq 454, 3), (1034, .iconst 0, 1), (1035, .ireturn, 1), (1036, .aload_n 1, 1), (1037, .aload_n 0, 1)]
theorem tk_L_law_14 : ∀ q ∈ tb_L_law_14, decode cL_law q.1 = .ok q.2 := by decide +kernel
theorem dc_L_law_14 (k : Nat) {pc n : Nat} {i : Instr} (h : tb_L_law_14[k]? = some (pc, i, n)) : decode cL_law pc = .ok (i, n) := tk_L_law_14 (pc, i, n) (List.mem_of_getElem? h)
def tb_L_law_15 : List (Nat × Instr × Nat) := [(1038, .iload 4, 2), (1040, .iconst 1, 1), (1041, .iadd, 1), (1042, .iaload, 1), (1043, .invokevirtual 129, 3), (1046, .aload_n 2, 1), (1047, .aload_n 0, 1), (1048, .iload 4, 2), (1050, .iconst 1, 1), (1051, .iadd, 1), (1052, .iaload, 1), (1053, .invokevirtual 132, 3), (1056, .if_icmp .eq 429, 3), (1059, .iconst 0, 1), (1060, .ireturn, 1), (1061, .aload_n 1, 1), (1062, .invokevirtual 133, 3), (1065, .aload_n 2, 1), (1066, .invokevirtual 136, 3), (1069, .if_icmp .eq 416, 3), (1072, .iconst 0, 1), (1073, .ireturn, 1), (1074, .aload_n 1, 1), (1075, .aload_n 0, 1), (1076, .iload 4, 2), (1078, .iconst 1, 1), (1079, .iadd, 1), (1080, .iaload, 1), (1081, .invokevirtual 137, 3), (1084, .aload_n 2, 1), (1085, .aload_n 0, 1), (1086, .iload 4, 2), (1088, .iconst 1, 1), (1089, .iadd, 1), (1090, .iaload, 1), (1091, .invokevirtual 140, 3), (1094, .if_icmp .eq 391, 3), (1097, .iconst 0, 1), (1098, .ireturn, 1), (1099, .aload_n 1, 1)]
theorem tk_L_law_15 : ∀ q ∈ tb_L_law_15, decode cL_law q.1 = .ok q.2 := by decide +kernel
theorem dc_L_law_15 (k : Nat) {pc n : Nat} {i : Instr} (h : tb_L_law_15[k]? = some (pc, i, n)) : decode cL_law pc = .ok (i, n) := tk_L_law_15 (pc, i, n) (List.mem_of_getElem? h)
def tb_L_law_16 : List (Nat × Instr × Nat) := [(1100, .aload_n 0, 1), (1101, .iload 4, 2), (1103, .iconst 1, 1), (1104, .iadd, 1), (1105, .iaload, 1), (1106, .invokevirtual 141, 3), (1109, .aload_n 2, 1), (1110, .aload_n 0, 1), (1111, .iload 4, 2), (1113, .iconst 1, 1), (1114, .iadd, 1), (1115, .iaload, 1), (1116, .invokevirtual 144, 3), (1119, .if_icmp .eq 366, 3), (1122, .iconst 0, 1), (1123, .ireturn, 1), (1124, .aload_n 1, 1), (1125, .aload_n 0, 1), (1126, .iload 4, 2), (1128, .iconst 1, 1), (1129, .iadd, 1), (1130, .iaload, 1), (1131, .aload_n 0, 1), (1132, .iload 4, 2), (1134, .iconst 2, 1), (1135, .iadd, 1), (1136, .iaload, 1), (1137, .aload_n 0, 1), (1138, .iload 4, 2), (1140, .iconst 3, 1), (1141, .iadd, 1), (1142, .iaload, 1), (1143, .invokevirtual 145, 3), (1146, .aload_n 2, 1), (1147, .aload_n 0, 1), (1148, .iload 4, 2), (1150, .iconst 1, 1), (1151, .iadd, 1), (1152, .iaload, 1), (1153, .aload_n 0, 1)]
theorem tk_L_law_16 : ∀ q ∈ tb_L_law_16, decode cL_law q.1 = .ok q.2 := by decide +kernel
theorem dc_L_law_16 (k : Nat) {pc n : Nat} {i : Instr} (h : tb_L_law_16[k]? = some (pc, i, n)) : decode cL_law pc = .ok (i, n) := tk_L_law_16 (pc, i, n) (List.mem_of_getElem? h)
def tb_L_law_17 : List (Nat × Instr × Nat) := [(1154, .iload 4, 2), (1156, .iconst 2, 1), (1157, .iadd, 1), (1158, .iaload, 1), (1159, .aload_n 0, 1), (1160, .iload 4, 2), (1162, .iconst 3, 1), (1163, .iadd, 1), (1164, .iaload, 1), (1165, .invokevirtual 148, 3), (1168, .if_icmp .eq 317, 3), (1171, .iconst 0, 1), (1172, .ireturn, 1), (1173, .aload_n 1, 1), (1174, .aload_n 0, 1), (1175, .iload 4, 2), (1177, .iconst 1, 1), (1178, .iadd, 1), (1179, .iaload, 1), (1180, .aload_n 0, 1), (1181, .iload 4, 2), (1183, .iconst 2, 1), (1184, .iadd, 1), (1185, .iaload, 1), (1186, .invokevirtual 149, 3), (1189, .aload_n 2, 1), (1190, .aload_n 0, 1), (1191, .iload 4, 2), (1193, .iconst 1, 1), (1194, .iadd, 1), (1195, .iaload, 1), (1196, .aload_n 0, 1), (1197, .iload 4, 2), (1199, .iconst 2, 1), (1200, .iadd, 1), (1201, .iaload, 1), (1202, .invokevirtual 152, 3), (1205, .if_icmp .eq 280, 3), (1208, .iconst 0, 1), (1209, .ireturn, 1)]
theorem tk_L_law_17 : ∀ q ∈ tb_L_law_17, decode cL_law q.1 = .ok q.2 := by decide +kernel
theorem dc_L_law_17 (k : Nat) {pc n : Nat} {i : Instr} (h : tb_L_law_17[k]? = some (pc, i, n)) : decode cL_law pc = .ok (i, n) := tk_L_law_17 (pc, i, n) (List.mem_of_getElem? h)
def tb_L_law_18 : List (Nat × Instr × Nat) := [(1210, .aload_n 1, 1), (1211, .aload_n 0, 1), (1212, .iload 4, 2), (1214, .iconst 1, 1), (1215, .iadd, 1), (1216, .iaload, 1), (1217, .aload_n 0, 1), (1218, .iload 4, 2), (1220, .iconst 2, 1), (1221, .iadd, 1), (1222, .iaload, 1), (1223, .invokevirtual 153, 3), (1226, .aload_n 2, 1), (1227, .aload_n 0, 1), (1228, .iload 4, 2), (1230, .iconst 1, 1), (1231, .iadd, 1), (1232, .iaload, 1), (1233, .aload_n 0, 1), (1234, .iload 4, 2), (1236, .iconst 2, 1), (1237, .iadd, 1), (1238, .iaload, 1), (1239, .invokevirtual 156, 3), (1242, .if_icmp .eq 243, 3), (1245, .iconst 0, 1), (1246, .ireturn, 1), (1247, .aload_n 1, 1), (1248, .aload_n 0, 1), (1249, .iload 4, 2), (1251, .iconst 1, 1), (1252, .iadd, 1), (1253, .iaload, 1), (1254, .aload_n 0, 1), (1255, .iload 4, 2), (1257, .iconst 2, 1), (1258, .iadd, 1), (1259, .iaload, 1), (1260, .invokevirtual 157, 3), (1263, .aload_n 2, 1)]
theorem tk_L_law_18 : ∀ q ∈ tb_L_law_18, decode cL_law q.1 = .ok q.2 := by decide +kernel
theorem dc_L_law_18 (k : Nat) {pc n : Nat} {i : Instr} (h : tb_L_law_18[k]? = some (pc, i, n)) : decode cL_law pc = .ok (i, n) := tk_L_law_18 (pc, i, n) (List.mem_of_getElem? h)
def tb_L_law_19 : List (Nat × Instr × Nat) := [(1264, .aload_n 0, 1), (1265, .iload 4, 2), (1267, .iconst 1, 1), (1268, .iadd, 1), (1269, .iaload, 1), (1270, .aload_n 0, 1), (1271, .iload 4, 2), (1273, .iconst 2, 1), (1274, .iadd, 1), (1275, .iaload, 1), (1276, .invokevirtual 160, 3), (1279, .if_icmp .eq 206, 3), (1282, .iconst 0, 1), (1283, .ireturn, 1), (1284, .aload_n 1, 1), (1285, .aload_n 0, 1), (1286, .iload 4, 2), (1288, .iconst 1, 1), (1289, .iadd, 1), (1290, .iaload, 1), (1291, .aload_n 0, 1), (1292, .iload 4, 2), (1294, .iconst 2, 1), (1295, .iadd, 1), (1296, .iaload, 1), (1297, .invokevirtual 161, 3), (1300, .aload_n 2, 1), (1301, .aload_n 0, 1), (1302, .iload 4, 2), (1304, .iconst 1, 1), (1305, .iadd, 1), (1306, .iaload, 1), (1307, .aload_n 0, 1), (1308, .iload 4, 2), (1310, .iconst 2, 1), (1311, .iadd, 1), (1312, .iaload, 1), (1313, .invokevirtual 165, 3), (1316, .if_icmp .eq 169, 3), (1319, .iconst 0, 1)]
theorem tk_L_law_19 : ∀ q ∈ tb_L_law_19, decode cL_law q.1 = .ok q.2 := by decide +kernel
theorem dc_L_law_19 (k : Nat) {pc n : Nat} {i : Instr} (h : tb_L_law_19[k]? = some (pc, i, n)) : decode cL_law pc = .ok (i, n) := tk_L_law_19 (pc, i, n) (List.mem_of_getElem? h)
def tb_L_law_20 : List (Nat × Instr × Nat) := [(1320, .ireturn, 1), (1321, .aload_n 1, 1), (1322, .aload_n 0, 1), (1323, .iload 4, 2), (1325, .iconst 1, 1), (1326, .iadd, 1), (1327, .iaload, 1), (1328, .invokevirtual 166, 3), (1331, .aload_n 2, 1), (1332, .aload_n 0, 1), (1333, .iload 4, 2), (1335, .iconst 1, 1), (1336, .iadd, 1), (1337, .iaload, 1), (1338, .invokevirtual 169, 3), (1341, .if_icmp .eq 144, 3), (1344, .iconst 0, 1), (1345, .ireturn, 1), (1346, .aload_n 1, 1), (1347, .invokevirtual 170, 3), (1350, .aload_n 2, 1), (1351, .invokevirtual 173, 3), (1354, .if_icmp .eq 131, 3), (1357, .iconst 0, 1), (1358, .ireturn, 1), (1359, .aload_n 1, 1), (1360, .invokevirtual 174, 3), (1363, .aload_n 2, 1), (1364, .invokevirtual 177, 3), (1367, .if_icmp .eq 118, 3), (1370, .iconst 0, 1), (1371, .ireturn, 1), (1372, .aload_n 1, 1), (1373, .invokevirtual 178, 3), (1376, .aload_n 2, 1), (1377, .invokevirtual 181, 3), (1380, .if_icmp .eq 105, 3), (1383, .iconst 0, 1), (1384, .ireturn, 1), (1385, .aload_n 1, 1)]
theorem tk_L_law_20 : ∀ q ∈ tb_L_law_20, decode cL_law q.1 = .ok q.2 := by decide +kernel
theorem dc_L_law_20 (k : Nat) {pc n : Nat} {i : Instr} (h : tb_L_law_20[k]? = some (pc, i, n)) : decode cL_law pc = .ok (i, n) := tk_L_law_20 (pc, i, n) (List.mem_of_getElem? h)
def tb_L_law_21 : List (Nat × Instr × Nat) := [(1386, .aload_n 0, 1), (1387, .iload 4, 2), (1389, .iconst 1, 1), (1390, .iadd, 1), (1391, .iaload, 1), (1392, .invokevirtual 182, 3), (1395, .aload_n 2, 1), (1396, .aload_n 0, 1), (1397, .iload 4, 2), (1399, .iconst 1, 1), (1400, .iadd, 1), (1401, .iaload, 1), (1402, .invokevirtual 185, 3), (1405, .if_icmp .eq 80, 3), (1408, .iconst 0, 1), (1409, .ireturn, 1), (1410, .aload_n 1, 1), (1411, .aload_n 0, 1), (1412, .iload 4, 2), (1414, .iconst 1, 1), (1415, .iadd, 1), (1416, .iaload, 1), (1417, .invokevirtual 186, 3), (1420, .aload_n 2, 1), (1421, .aload_n 0, 1), (1422, .iload 4, 2), (1424, .iconst 1, 1), (1425, .iadd, 1), (1426, .iaload, 1), (1427, .invokevirtual 189, 3), (1430, .if_icmp .eq 55, 3), (1433, .iconst 0, 1), (1434, .ireturn, 1), (1435, .aload_n 1, 1), (1436, .aload_n 0, 1), (1437, .iload 4, 2), (1439, .iconst 1, 1), (1440, .iadd, 1), (1441, .iaload, 1), (1442, .invokevirtual 190, 3)]
theorem tk_L_law_21 : ∀ q ∈ tb_L_law_21, decode cL_law q.1 = .ok q.2 := by decide +kernel
theorem dc_L_law_21 (k : Nat) {pc n : Nat} {i : Instr} (h : tb_L_law_21[k]? = some (pc, i, n)) : decode cL_law pc = .ok (i, n) := tk_L_law_21 (pc, i, n) (List.mem_of_getElem? h)
def tb_L_law_22 : List (Nat × Instr × Nat) := [(1445, .aload_n 2, 1), (1446, .aload_n 0, 1), (1447, .iload 4, 2), (1449, .iconst 1, 1), (1450, .iadd, 1), (1451, .iaload, 1), (1452, .invokevirtual 193, 3), (1455, .if_icmp .eq 30, 3), (1458, .iconst 0, 1), (1459, .ireturn, 1), (1460, .aload_n 1, 1), (1461, .aload_n 0, 1), (1462, .iload 4, 2), (1464, .iconst 1, 1), (1465, .iadd, 1), (1466, .iaload, 1), (1467, .invokevirtual 194, 3), (1470, .aload_n 2, 1), (1471, .aload_n 0, 1), (1472, .iload 4, 2), (1474, .iconst 1, 1), (1475, .iadd, 1), (1476, .iaload, 1), (1477, .invokevirtual 197, 3), (1480, .if_icmp .eq 5, 3), (1483, .iconst 0, 1), (1484, .ireturn, 1), (1485, .iinc 4 6, 3), (1488, .goto (-1465), 3), (1491, .iconst 1, 1), (1492, .ireturn, 1)]
theorem tk_L_law_22 : ∀ q ∈ tb_L_law_22, decode cL_law q.1 = .ok q.2 := by decide +kernel
theorem dc_L_law_22 (k : Nat) {pc n : Nat} {i : Instr} (h : tb_L_law_22[k]? = some (pc, i, n)) : decode cL_law pc = .ok (i, n) := tk_L_law_22 (pc, i, n) (List.mem_of_getElem? h)
abbrev mL_law : e_M := (yL_law, cL_law, 7, some (.boolean), [])
def lp_L_law_23 (F : Nat) (A : Nat → Nat) (P : Nat → Nat) (x0 : Nat) (x8 : Nat) (x17 : Nat) : Nat → Int32 → e_H → Option (Except (Int32 × e_H) e_H)
  | 0, _, _ => none
  | n + 1, x4_23, h_23 =>
    if ((Int32.ofNat (A 101)) - 6) < x4_23 then
      some (.ok h_23)
    else
      Option.bind (e_scr A P x4_23) (fun x36 =>
      e_bE (
          if (x36 &&& 63) = 0 then
            Option.bind (e_scr A P (x4_23 + 1)) (fun x230 =>
            Option.bind (e_scr A P (x4_23 + 2)) (fun x236 =>
            Option.bind (e_scr A P (x4_23 + 3)) (fun x242 =>
            Option.bind (e_scr A P (x4_23 + 4)) (fun x248 =>
            Option.bind (e_scr A P (x4_23 + 5)) (fun x254 =>
            Option.bind (e_is h_23 x0 0) (fun _ =>
            e_b2 (f_X1_feed F h_23 x0 x230 x236 x242 x248 x254) (fun x255 h255 =>
            Option.bind (e_scr A P (x4_23 + 1)) (fun x264 =>
            Option.bind (e_scr A P (x4_23 + 2)) (fun x270 =>
            Option.bind (e_scr A P (x4_23 + 3)) (fun x276 =>
            Option.bind (e_scr A P (x4_23 + 4)) (fun x282 =>
            Option.bind (e_scr A P (x4_23 + 5)) (fun x288 =>
            Option.bind (e_is h255 x8 8) (fun _ =>
            e_b2 (f_X10_feed F h255 x8 x264 x270 x276 x282 x288) (fun x289 h289 =>
            if x255 = x289 then
              some (.ok h289)
            else
              some (.error (.error (0, h289)))))))))))))))))
          else
          if (x36 &&& 63) = 1 then
            Option.bind (e_scr A P (x4_23 + 1)) (fun x303 =>
            Option.bind (e_is h_23 x0 0) (fun _ =>
            e_b2 (f_X1_end h_23 x0 x303) (fun x304 h304 =>
            Option.bind (e_scr A P (x4_23 + 1)) (fun x313 =>
            Option.bind (e_is h304 x8 8) (fun _ =>
            e_b2 (f_X10_end h304 x8 x313) (fun x314 h314 =>
            if x304 = x314 then
              some (.ok h314)
            else
              some (.error (.error (0, h314)))))))))
          else
          if (x36 &&& 63) = 2 then
            Option.bind (e_is h_23 x0 0) (fun _ =>
            e_b2 (f_X1_board F A h_23 x0) (fun x323 h323 =>
            Option.bind (e_is h323 x8 8) (fun _ =>
            e_b2 (f_X10_board F h323 x8) (fun x327 h327 =>
            if x323 = x327 then
              some (.ok h327)
            else
              some (.error (.error (0, h327)))))))
          else
          if (x36 &&& 63) = 3 then
            Option.bind (e_is h_23 x0 0) (fun _ =>
            Option.bind (f_X1_fault h_23 x0) (fun x336 =>
            Option.bind (e_is h_23 x8 8) (fun _ =>
            e_b2 (f_X10_fault h_23 x8) (fun x340 h340 =>
            if x336 = x340 then
              some (.ok h340)
            else
              some (.error (.error (0, h340)))))))
          else
          if (x36 &&& 63) = 4 then
            Option.bind (e_is h_23 x0 0) (fun _ =>
            Option.bind (f_X1_why h_23 x0) (fun x349 =>
            Option.bind (e_is h_23 x8 8) (fun _ =>
            e_b2 (f_X10_why h_23 x8) (fun x353 h353 =>
            if x349 = x353 then
              some (.ok h353)
            else
              some (.error (.error (0, h353)))))))
          else
          if (x36 &&& 63) = 5 then
            Option.bind (e_scr A P (x4_23 + 1)) (fun x367 =>
            Option.bind (e_is h_23 x0 0) (fun _ =>
            Option.bind (f_X1_peg h_23 x0 x367) (fun x368 =>
            Option.bind (e_scr A P (x4_23 + 1)) (fun x377 =>
            Option.bind (e_is h_23 x8 8) (fun _ =>
            e_b2 (f_X10_peg h_23 x8 x377) (fun x378 h378 =>
            if x368 = x378 then
              some (.ok h378)
            else
              some (.error (.error (0, h378)))))))))
          else
          if (x36 &&& 63) = 6 then
            Option.bind (e_scr A P (x4_23 + 1)) (fun x392 =>
            Option.bind (e_scr A P (x4_23 + 2)) (fun x398 =>
            e_b2 (f_X0_band F h_23 x0 x392 x398 x17) (fun x400 h400 =>
            Option.bind (e_scr A P (x4_23 + 1)) (fun x411 =>
            Option.bind (e_scr A P (x4_23 + 2)) (fun x417 =>
            Option.bind (e_is h400 x8 8) (fun _ =>
            e_b2 (f_X10_band F h400 x8 x411 x417) (fun x418 h418 =>
            Option.bind (e_is h418 x8 8) (fun _ =>
            Option.bind (f_X10_thrown h418 x8) (fun x424 =>
            if x424 = x400 then
              e_bE (
                  if x400 = 0 then
                    Option.bind (e_aJ h418 x17 3 0) (fun x441 =>
                    if (lg_cmp x441 (x418.toInt64)) = 0 then
                      some (.ok ())
                    else
                      some (.error (.error (.error (0, h418)))))
                  else
                    some (.ok ())
                : Option (Except (Except (Except (Int32 × e_H) e_H) e_H) Unit)) (fun _ =>
              some (.ok h418))
            else
              some (.error (.error (0, h418))))))))))))
          else
          if (x36 &&& 63) = 7 then
            Option.bind (e_scr A P (x4_23 + 1)) (fun x460 =>
            Option.bind (e_scr A P (x4_23 + 2)) (fun x466 =>
            Option.bind (e_is h_23 x0 0) (fun _ =>
            Option.bind (f_X1_corner h_23 x0 x460 x466) (fun x467 =>
            Option.bind (e_scr A P (x4_23 + 1)) (fun x476 =>
            Option.bind (e_scr A P (x4_23 + 2)) (fun x482 =>
            Option.bind (e_is h_23 x8 8) (fun _ =>
            e_b2 (f_X10_corner h_23 x8 x476 x482) (fun x483 h483 =>
            if x467 = x483 then
              some (.ok h483)
            else
              some (.error (.error (0, h483)))))))))))
          else
          if (x36 &&& 63) = 8 then
            Option.bind (e_scr A P (x4_23 + 1)) (fun x497 =>
            Option.bind (e_scr A P (x4_23 + 2)) (fun x503 =>
            Option.bind (e_is h_23 x0 0) (fun _ =>
            Option.bind (f_X1_side h_23 x0 x497 x503) (fun x504 =>
            Option.bind (e_scr A P (x4_23 + 1)) (fun x513 =>
            Option.bind (e_scr A P (x4_23 + 2)) (fun x519 =>
            Option.bind (e_is h_23 x8 8) (fun _ =>
            e_b2 (f_X10_side h_23 x8 x513 x519) (fun x520 h520 =>
            if x504 = x520 then
              some (.ok h520)
            else
              some (.error (.error (0, h520)))))))))))
          else
          if (x36 &&& 63) = 9 then
            Option.bind (e_scr A P (x4_23 + 1)) (fun x534 =>
            Option.bind (e_scr A P (x4_23 + 2)) (fun x540 =>
            Option.bind (e_is h_23 x0 0) (fun _ =>
            Option.bind (f_X1_over F h_23 x0 x534 x540) (fun x541 =>
            Option.bind (e_scr A P (x4_23 + 1)) (fun x550 =>
            Option.bind (e_scr A P (x4_23 + 2)) (fun x556 =>
            Option.bind (e_is h_23 x8 8) (fun _ =>
            e_b2 (f_X10_over F h_23 x8 x550 x556) (fun x557 h557 =>
            if x541 = x557 then
              some (.ok h557)
            else
              some (.error (.error (0, h557)))))))))))
          else
          if (x36 &&& 63) = 10 then
            Option.bind (e_scr A P (x4_23 + 1)) (fun x571 =>
            Option.bind (e_scr A P (x4_23 + 2)) (fun x577 =>
            Option.bind (e_scr A P (x4_23 + 3)) (fun x583 =>
            Option.bind (e_is h_23 x0 0) (fun _ =>
            Option.bind (f_X1_cross F h_23 x0 x571 x577 x583) (fun x584 =>
            Option.bind (e_scr A P (x4_23 + 1)) (fun x593 =>
            Option.bind (e_scr A P (x4_23 + 2)) (fun x599 =>
            Option.bind (e_scr A P (x4_23 + 3)) (fun x605 =>
            Option.bind (e_is h_23 x8 8) (fun _ =>
            e_b2 (f_X10_cross F h_23 x8 x593 x599 x605) (fun x606 h606 =>
            if x584 = x606 then
              some (.ok h606)
            else
              some (.error (.error (0, h606)))))))))))))
          else
          if (x36 &&& 63) = 11 then
            Option.bind (e_scr A P (x4_23 + 1)) (fun x620 =>
            Option.bind (e_scr A P (x4_23 + 2)) (fun x626 =>
            Option.bind (e_is h_23 x0 0) (fun _ =>
            Option.bind (f_X1_in F h_23 x0 x620 x626) (fun x627 =>
            Option.bind (e_scr A P (x4_23 + 1)) (fun x636 =>
            Option.bind (e_scr A P (x4_23 + 2)) (fun x642 =>
            Option.bind (e_is h_23 x8 8) (fun _ =>
            e_b2 (f_X10_in F h_23 x8 x636 x642) (fun x643 h643 =>
            if x627 = x643 then
              some (.ok h643)
            else
              some (.error (.error (0, h643)))))))))))
          else
          if (x36 &&& 63) = 12 then
            Option.bind (e_scr A P (x4_23 + 1)) (fun x657 =>
            Option.bind (e_scr A P (x4_23 + 2)) (fun x663 =>
            Option.bind (e_scr A P (x4_23 + 3)) (fun x669 =>
            Option.bind (e_is h_23 x0 0) (fun _ =>
            e_b2 (f_X1_alike F h_23 x0 x657 x663 x669) (fun x670 h670 =>
            Option.bind (e_scr A P (x4_23 + 1)) (fun x679 =>
            Option.bind (e_scr A P (x4_23 + 2)) (fun x685 =>
            Option.bind (e_scr A P (x4_23 + 3)) (fun x691 =>
            Option.bind (e_is h670 x8 8) (fun _ =>
            e_b2 (f_X10_alike F h670 x8 x679 x685 x691) (fun x692 h692 =>
            if x670 = x692 then
              some (.ok h692)
            else
              some (.error (.error (0, h692)))))))))))))
          else
          if (x36 &&& 63) = 13 then
            Option.bind (e_scr A P (x4_23 + 1)) (fun x706 =>
            Option.bind (e_scr A P (x4_23 + 2)) (fun x712 =>
            Option.bind (e_is h_23 x0 0) (fun _ =>
            e_b2 (f_X1_form F h_23 x0 x706 x712) (fun x713 h713 =>
            Option.bind (e_scr A P (x4_23 + 1)) (fun x722 =>
            Option.bind (e_scr A P (x4_23 + 2)) (fun x728 =>
            Option.bind (e_is h713 x8 8) (fun _ =>
            e_b2 (f_X10_form F h713 x8 x722 x728) (fun x729 h729 =>
            if x713 = x729 then
              some (.ok h729)
            else
              some (.error (.error (0, h729)))))))))))
          else
          if (x36 &&& 63) = 14 then
            Option.bind (e_scr A P (x4_23 + 1)) (fun x743 =>
            Option.bind (e_is h_23 x0 0) (fun _ =>
            Option.bind (f_X1_formAt h_23 x0 x743) (fun x744 =>
            Option.bind (e_scr A P (x4_23 + 1)) (fun x753 =>
            Option.bind (e_is h_23 x8 8) (fun _ =>
            e_b2 (f_X10_formAt h_23 x8 x753) (fun x754 h754 =>
            if x744 = x754 then
              some (.ok h754)
            else
              some (.error (.error (0, h754)))))))))
          else
          if (x36 &&& 63) = 15 then
            Option.bind (e_scr A P (x4_23 + 1)) (fun x768 =>
            Option.bind (e_scr A P (x4_23 + 2)) (fun x774 =>
            Option.bind (e_scr A P (x4_23 + 3)) (fun x780 =>
            Option.bind (e_is h_23 x0 0) (fun _ =>
            e_b2 (f_X1_move F h_23 x0 x768 x774 x780) (fun x781 h781 =>
            Option.bind (e_scr A P (x4_23 + 1)) (fun x790 =>
            Option.bind (e_scr A P (x4_23 + 2)) (fun x796 =>
            Option.bind (e_scr A P (x4_23 + 3)) (fun x802 =>
            Option.bind (e_is h781 x8 8) (fun _ =>
            e_b2 (f_X10_move F h781 x8 x790 x796 x802) (fun x803 h803 =>
            if x781 = x803 then
              some (.ok h803)
            else
              some (.error (.error (0, h803)))))))))))))
          else
          if (x36 &&& 63) = 16 then
            Option.bind (e_scr A P (x4_23 + 1)) (fun x817 =>
            Option.bind (e_scr A P (x4_23 + 2)) (fun x823 =>
            Option.bind (e_scr A P (x4_23 + 3)) (fun x829 =>
            Option.bind (e_is h_23 x0 0) (fun _ =>
            e_b2 (f_X1_slide F h_23 x0 x817 x823 x829) (fun x830 h830 =>
            Option.bind (e_scr A P (x4_23 + 1)) (fun x839 =>
            Option.bind (e_scr A P (x4_23 + 2)) (fun x845 =>
            Option.bind (e_scr A P (x4_23 + 3)) (fun x851 =>
            Option.bind (e_is h830 x8 8) (fun _ =>
            e_b2 (f_X10_slide F h830 x8 x839 x845 x851) (fun x852 h852 =>
            if x830 = x852 then
              some (.ok h852)
            else
              some (.error (.error (0, h852)))))))))))))
          else
          if (x36 &&& 63) = 17 then
            Option.bind (e_scr A P (x4_23 + 1)) (fun x866 =>
            Option.bind (e_is h_23 x0 0) (fun _ =>
            e_b2 (f_X1_snap F h_23 x0 x866) (fun x867 h867 =>
            Option.bind (e_scr A P (x4_23 + 1)) (fun x876 =>
            Option.bind (e_is h867 x8 8) (fun _ =>
            e_b2 (f_X10_snap F h867 x8 x876) (fun x877 h877 =>
            if x867 = x877 then
              some (.ok h877)
            else
              some (.error (.error (0, h877)))))))))
          else
          if (x36 &&& 63) = 18 then
            Option.bind (e_is h_23 x0 0) (fun _ =>
            e_b2 (f_X1_undo h_23 x0) (fun x886 h886 =>
            Option.bind (e_is h886 x8 8) (fun _ =>
            e_b2 (f_X10_undo F h886 x8) (fun x890 h890 =>
            if x886 = x890 then
              some (.ok h890)
            else
              some (.error (.error (0, h890)))))))
          else
          if (x36 &&& 63) = 19 then
            Option.bind (e_is h_23 x0 0) (fun _ =>
            Option.bind (f_X1_free F h_23 x0) (fun x899 =>
            Option.bind (e_is h_23 x8 8) (fun _ =>
            e_b2 (f_X10_free F h_23 x8) (fun x903 h903 =>
            if x899 = x903 then
              some (.ok h903)
            else
              some (.error (.error (0, h903)))))))
          else
          if (x36 &&& 63) = 20 then
            Option.bind (e_scr A P (x4_23 + 1)) (fun x917 =>
            Option.bind (e_scr A P (x4_23 + 2)) (fun x923 =>
            Option.bind (e_is h_23 x0 0) (fun _ =>
            Option.bind (f_X1_rim F h_23 x0 x917 x923) (fun x924 =>
            Option.bind (e_scr A P (x4_23 + 1)) (fun x933 =>
            Option.bind (e_scr A P (x4_23 + 2)) (fun x939 =>
            Option.bind (e_is h_23 x8 8) (fun _ =>
            e_b2 (f_X10_rim F h_23 x8 x933 x939) (fun x940 h940 =>
            if x924 = x940 then
              some (.ok h940)
            else
              some (.error (.error (0, h940)))))))))))
          else
          if (x36 &&& 63) = 21 then
            Option.bind (e_scr A P (x4_23 + 1)) (fun x954 =>
            Option.bind (e_scr A P (x4_23 + 2)) (fun x960 =>
            Option.bind (e_is h_23 x0 0) (fun _ =>
            e_b2 (f_X1_even F h_23 x0 x954 x960) (fun x961 h961 =>
            Option.bind (e_scr A P (x4_23 + 1)) (fun x970 =>
            Option.bind (e_scr A P (x4_23 + 2)) (fun x976 =>
            Option.bind (e_is h961 x8 8) (fun _ =>
            e_b2 (f_X10_even F h961 x8 x970 x976) (fun x977 h977 =>
            if x961 = x977 then
              some (.ok h977)
            else
              some (.error (.error (0, h977)))))))))))
          else
          if (x36 &&& 63) = 22 then
            Option.bind (e_scr A P (x4_23 + 1)) (fun x991 =>
            Option.bind (e_is h_23 x0 0) (fun _ =>
            Option.bind (f_X1_wide F h_23 x0 x991) (fun x992 =>
            Option.bind (e_scr A P (x4_23 + 1)) (fun x1001 =>
            Option.bind (e_is h_23 x8 8) (fun _ =>
            e_b2 (f_X10_wide F h_23 x8 x1001) (fun x1002 h1002 =>
            if x992 = x1002 then
              some (.ok h1002)
            else
              some (.error (.error (0, h1002)))))))))
          else
          if (x36 &&& 63) = 23 then
            Option.bind (e_is h_23 x0 0) (fun _ =>
            e_b2 (f_X1_calls F A h_23 x0) (fun x1011 h1011 =>
            Option.bind (e_is h1011 x8 8) (fun _ =>
            e_b2 (f_X10_calls F h1011 x8) (fun x1015 h1015 =>
            if x1011 = x1015 then
              some (.ok h1015)
            else
              some (.error (.error (0, h1015)))))))
          else
          if (x36 &&& 63) = 24 then
            Option.bind (e_is h_23 x0 0) (fun _ =>
            Option.bind (f_X1_closes F h_23 x0) (fun x1024 =>
            Option.bind (e_is h_23 x8 8) (fun _ =>
            e_b2 (f_X10_closes F h_23 x8) (fun x1028 h1028 =>
            if x1024 = x1028 then
              some (.ok h1028)
            else
              some (.error (.error (0, h1028)))))))
          else
          if (x36 &&& 63) = 25 then
            Option.bind (e_scr A P (x4_23 + 1)) (fun x1042 =>
            Option.bind (e_is h_23 x0 0) (fun _ =>
            e_b2 (f_X1_mended F h_23 x0 x1042) (fun x1043 h1043 =>
            Option.bind (e_scr A P (x4_23 + 1)) (fun x1052 =>
            Option.bind (e_is h1043 x8 8) (fun _ =>
            e_b2 (f_X10_mended F h1043 x8 x1052) (fun x1053 h1053 =>
            if x1043 = x1053 then
              some (.ok h1053)
            else
              some (.error (.error (0, h1053)))))))))
          else
          if (x36 &&& 63) = 26 then
            Option.bind (e_is h_23 x0 0) (fun _ =>
            e_b2 (f_X1_lay F h_23 x0) (fun x1062 h1062 =>
            Option.bind (e_is h1062 x8 8) (fun _ =>
            e_b2 (f_X10_lay F h1062 x8) (fun x1066 h1066 =>
            if x1062 = x1066 then
              some (.ok h1066)
            else
              some (.error (.error (0, h1066)))))))
          else
          if (x36 &&& 63) = 27 then
            Option.bind (e_scr A P (x4_23 + 1)) (fun x1080 =>
            Option.bind (e_is h_23 x0 0) (fun _ =>
            e_b2 (f_X1_write F h_23 x0 x1080) (fun x1081 h1081 =>
            Option.bind (e_scr A P (x4_23 + 1)) (fun x1090 =>
            Option.bind (e_is h1081 x8 8) (fun _ =>
            e_b2 (f_X10_write F h1081 x8 x1090) (fun x1091 h1091 =>
            if x1081 = x1091 then
              some (.ok h1091)
            else
              some (.error (.error (0, h1091)))))))))
          else
          if (x36 &&& 63) = 28 then
            Option.bind (e_scr A P (x4_23 + 1)) (fun x1105 =>
            Option.bind (e_is h_23 x0 0) (fun _ =>
            Option.bind (f_X1_byteAt h_23 x0 x1105) (fun x1106 =>
            Option.bind (e_scr A P (x4_23 + 1)) (fun x1115 =>
            Option.bind (e_is h_23 x8 8) (fun _ =>
            e_b2 (f_X10_byteAt h_23 x8 x1115) (fun x1116 h1116 =>
            if x1106 = x1116 then
              some (.ok h1116)
            else
              some (.error (.error (0, h1116)))))))))
          else
          if (x36 &&& 63) = 29 then
            Option.bind (e_scr A P (x4_23 + 1)) (fun x1130 =>
            Option.bind (e_scr A P (x4_23 + 2)) (fun x1136 =>
            Option.bind (e_scr A P (x4_23 + 3)) (fun x1142 =>
            Option.bind (e_is h_23 x0 0) (fun _ =>
            e_b2 (f_X1_triangles F h_23 x0 x1130 x1136 x1142) (fun x1143 h1143 =>
            Option.bind (e_scr A P (x4_23 + 1)) (fun x1152 =>
            Option.bind (e_scr A P (x4_23 + 2)) (fun x1158 =>
            Option.bind (e_scr A P (x4_23 + 3)) (fun x1164 =>
            Option.bind (e_is h1143 x8 8) (fun _ =>
            e_b2 (f_X10_triangles F h1143 x8 x1152 x1158 x1164) (fun x1165 h1165 =>
            if x1143 = x1165 then
              some (.ok h1165)
            else
              some (.error (.error (0, h1165)))))))))))))
          else
          if (x36 &&& 63) = 30 then
            Option.bind (e_scr A P (x4_23 + 1)) (fun x1179 =>
            Option.bind (e_scr A P (x4_23 + 2)) (fun x1185 =>
            Option.bind (e_is h_23 x0 0) (fun _ =>
            e_b2 (f_X1_smallest F h_23 x0 x1179 x1185) (fun x1186 h1186 =>
            Option.bind (e_scr A P (x4_23 + 1)) (fun x1195 =>
            Option.bind (e_scr A P (x4_23 + 2)) (fun x1201 =>
            Option.bind (e_is h1186 x8 8) (fun _ =>
            e_b2 (f_X10_smallest F h1186 x8 x1195 x1201) (fun x1202 h1202 =>
            if x1186 = x1202 then
              some (.ok h1202)
            else
              some (.error (.error (0, h1202)))))))))))
          else
          if (x36 &&& 63) = 31 then
            Option.bind (e_scr A P (x4_23 + 1)) (fun x1216 =>
            Option.bind (e_scr A P (x4_23 + 2)) (fun x1222 =>
            Option.bind (e_is h_23 x0 0) (fun _ =>
            e_b2 (f_X1_cuts F h_23 x0 x1216 x1222) (fun x1223 h1223 =>
            Option.bind (e_scr A P (x4_23 + 1)) (fun x1232 =>
            Option.bind (e_scr A P (x4_23 + 2)) (fun x1238 =>
            Option.bind (e_is h1223 x8 8) (fun _ =>
            e_b2 (f_X10_cuts F h1223 x8 x1232 x1238) (fun x1239 h1239 =>
            if x1223 = x1239 then
              some (.ok h1239)
            else
              some (.error (.error (0, h1239)))))))))))
          else
          if (x36 &&& 63) = 32 then
            Option.bind (e_scr A P (x4_23 + 1)) (fun x1253 =>
            Option.bind (e_scr A P (x4_23 + 2)) (fun x1259 =>
            Option.bind (e_is h_23 x0 0) (fun _ =>
            e_b2 (f_X1_moved F h_23 x0 x1253 x1259) (fun x1260 h1260 =>
            Option.bind (e_scr A P (x4_23 + 1)) (fun x1269 =>
            Option.bind (e_scr A P (x4_23 + 2)) (fun x1275 =>
            Option.bind (e_is h1260 x8 8) (fun _ =>
            e_b2 (f_X10_moved F h1260 x8 x1269 x1275) (fun x1276 h1276 =>
            if x1260 = x1276 then
              some (.ok h1276)
            else
              some (.error (.error (0, h1276)))))))))))
          else
          if (x36 &&& 63) = 33 then
            Option.bind (e_scr A P (x4_23 + 1)) (fun x1290 =>
            Option.bind (e_scr A P (x4_23 + 2)) (fun x1296 =>
            Option.bind (e_is h_23 x0 0) (fun _ =>
            e_b2 (f_X1_line F h_23 x0 x1290 x1296) (fun x1297 h1297 =>
            Option.bind (e_scr A P (x4_23 + 1)) (fun x1306 =>
            Option.bind (e_scr A P (x4_23 + 2)) (fun x1312 =>
            Option.bind (e_is h1297 x8 8) (fun _ =>
            e_b2 (f_X10_line F h1297 x8 x1306 x1312) (fun x1313 h1313 =>
            if x1297 = x1313 then
              some (.ok h1313)
            else
              some (.error (.error (0, h1313)))))))))))
          else
          if (x36 &&& 63) = 34 then
            Option.bind (e_scr A P (x4_23 + 1)) (fun x1327 =>
            Option.bind (e_is h_23 x0 0) (fun _ =>
            Option.bind (f_X1_lines F h_23 x0 x1327) (fun x1328 =>
            Option.bind (e_scr A P (x4_23 + 1)) (fun x1337 =>
            Option.bind (e_is h_23 x8 8) (fun _ =>
            e_b2 (f_X10_lines F h_23 x8 x1337) (fun x1338 h1338 =>
            if x1328 = x1338 then
              some (.ok h1338)
            else
              some (.error (.error (0, h1338)))))))))
          else
          if (x36 &&& 63) = 35 then
            Option.bind (e_is h_23 x0 0) (fun _ =>
            e_b2 (f_X1_wins F h_23 x0) (fun x1347 h1347 =>
            Option.bind (e_is h1347 x8 8) (fun _ =>
            e_b2 (f_X10_wins F h1347 x8) (fun x1351 h1351 =>
            if x1347 = x1351 then
              some (.ok h1351)
            else
              some (.error (.error (0, h1351)))))))
          else
          if (x36 &&& 63) = 36 then
            Option.bind (e_is h_23 x0 0) (fun _ =>
            e_b2 (f_X1_again h_23 x0) (fun x1360 h1360 =>
            Option.bind (e_is h1360 x8 8) (fun _ =>
            e_b2 (f_X10_again h1360 x8) (fun x1364 h1364 =>
            if x1360 = x1364 then
              some (.ok h1364)
            else
              some (.error (.error (0, h1364)))))))
          else
          if (x36 &&& 63) = 37 then
            Option.bind (e_is h_23 x0 0) (fun _ =>
            e_b2 (f_X1_sentence F A h_23 x0) (fun x1373 h1373 =>
            Option.bind (e_is h1373 x8 8) (fun _ =>
            e_b2 (f_X10_sentence F h1373 x8) (fun x1377 h1377 =>
            if x1373 = x1377 then
              some (.ok h1377)
            else
              some (.error (.error (0, h1377)))))))
          else
          if (x36 &&& 63) = 38 then
            Option.bind (e_scr A P (x4_23 + 1)) (fun x1391 =>
            Option.bind (e_is h_23 x0 0) (fun _ =>
            e_b2 (f_X1_said F h_23 x0 x1391) (fun x1392 h1392 =>
            Option.bind (e_scr A P (x4_23 + 1)) (fun x1401 =>
            Option.bind (e_is h1392 x8 8) (fun _ =>
            e_b2 (f_X10_said F h1392 x8 x1401) (fun x1402 h1402 =>
            if x1392 = x1402 then
              some (.ok h1402)
            else
              some (.error (.error (0, h1402)))))))))
          else
          if (x36 &&& 63) = 39 then
            Option.bind (e_scr A P (x4_23 + 1)) (fun x1416 =>
            Option.bind (e_is h_23 x0 0) (fun _ =>
            e_b2 (f_X1_image h_23 x0 x1416) (fun x1417 h1417 =>
            Option.bind (e_scr A P (x4_23 + 1)) (fun x1426 =>
            Option.bind (e_is h1417 x8 8) (fun _ =>
            e_b2 (f_X10_image F h1417 x8 x1426) (fun x1427 h1427 =>
            if x1417 = x1427 then
              some (.ok h1427)
            else
              some (.error (.error (0, h1427)))))))))
          else
          if (x36 &&& 63) = 40 then
            Option.bind (e_scr A P (x4_23 + 1)) (fun x1441 =>
            Option.bind (e_is h_23 x0 0) (fun _ =>
            e_b2 (f_X1_restore h_23 x0 x1441) (fun x1442 h1442 =>
            Option.bind (e_scr A P (x4_23 + 1)) (fun x1451 =>
            Option.bind (e_is h1442 x8 8) (fun _ =>
            e_b2 (f_X10_restore F h1442 x8 x1451) (fun x1452 h1452 =>
            if x1442 = x1452 then
              some (.ok h1452)
            else
              some (.error (.error (0, h1452)))))))))
          else
          if (x36 &&& 63) = 41 then
            Option.bind (e_scr A P (x4_23 + 1)) (fun x1466 =>
            Option.bind (e_is h_23 x0 0) (fun _ =>
            Option.bind (f_X1_count h_23 x0 x1466) (fun x1467 =>
            Option.bind (e_scr A P (x4_23 + 1)) (fun x1476 =>
            Option.bind (e_is h_23 x8 8) (fun _ =>
            e_b2 (f_X10_count h_23 x8 x1476) (fun x1477 h1477 =>
            if x1467 = x1477 then
              some (.ok h1477)
            else
              some (.error (.error (0, h1477)))))))))
          else
            some (.ok h_23)
        : Option (Except (Except (Int32 × e_H) e_H) e_H)) (fun h1485_2 =>
      Option.bind (some (x4_23 + 6)) (fun x1485 =>
      lp_L_law_23 F A P x0 x8 x17 n x1485 h1485_2)))
def f_L_law (F : Nat) (A : Nat → Nat) (P : Nat → Nat) (h : e_H) : Option (Int32 × e_H) :=
  e_mkb h (.inl 0) 37 (fun x0 h0 =>
  Option.bind (f_X1_init A h0 x0) (fun h4 =>
  e_mkb h4 (.inl 8) 51 (fun x8 h8 =>
  Option.bind (f_X10_init h8 x8) (fun h12 =>
  Option.bind (e_nat 1) (fun l17 => e_mkb h12 (.inr (3, l17)) l17 (fun x17 h17 =>
  e_bE (
      lp_L_law_23 F A P x0 x8 x17 F 0 h17
    : Option (Except (Int32 × e_H) e_H)) (fun h1491_1 =>
  some (1, h1491_1))))))))
set_option maxHeartbeats 4000000 in
set_option maxRecDepth 100000 in
theorem law_run {K : e_C} {F : Nat} {A P : Nat → Nat} {h : e_H} {v : Int32} {h1 : e_H} (hA : (k_D K).2.2.1 = A) (hP : (k_D K).2.2.2 = P) (hl : (k_l K).stackTraces = false) (hM : k_M K = mL_law) (hd : 548 ≤ k_d K) (hr : k_r K = (.ok (some (.int v)), h1)) (e : f_L_law F A P h = some (v, h1)) : e_g K cL_law 0 [some (.ref (A 100)), none, none, none, none, none, none] [] h := by
  have ho : (k_M K).1.cls = "PegBandsLaw" := by rw [hM]; rfl
  have hT : (k_M K).2.2.2.1 = some (.boolean) := by rw [hM]
  refine (show Sx K cL_law 0 [some (.ref (A 100)), none, none, none, none, none, none] [] h (f_L_law F A P h) (fun w => w = (v, h1)) from ?_) _ e rfl
  clear e
  unfold f_L_law
  refine S_newB (dc_L_law_0 0 rfl) ho (show e_cl[0]? = some (RX1, TX1, 37) from rfl) (by decide) q135 q136 q108 (fun x0 h0 u0 w0 => ?_)
  refine S_dup (dc_L_law_0 1 rfl) rfl ?_
  refine S_rwV (d := k_d K - 1) (e_callI (b := x0) (As := []) (rest := [.ref x0]) ok_X1_init rfl rfl rfl (Nat.le_of_ble_eq_true rfl) (dc_L_law_0 2 rfl) ho q137 q138 rfl (Nat.le_of_ble_eq_true rfl)) (by omega) (fun _ e => ct_X1_init hA (by omega) e) (fun h4 e4 => ?_)
  refine S_astore_n (L' := [some (.ref (A 100)), some (.ref x0), none, none, none, none, none]) (dc_L_law_0 3 rfl) rfl ?_
  refine S_newB (dc_L_law_0 4 rfl) ho (show e_cl[8]? = some (RX10, TX10, 51) from rfl) (by decide) q1464 q1465 q119 (fun x8 h8 u8 w8 => ?_)
  refine S_dup (dc_L_law_0 5 rfl) rfl ?_
  refine S_rwV (d := k_d K - 1) (e_callI (b := x8) (As := []) (rest := [.ref x8]) ok_X10_init rfl rfl rfl (Nat.le_of_ble_eq_true rfl) (dc_L_law_0 6 rfl) ho q1466 q1467 rfl (Nat.le_of_ble_eq_true rfl)) (by omega) (fun _ e => ct_X10_init (by omega) e) (fun h12 e12 => ?_)
  refine S_astore_n (L' := [some (.ref (A 100)), some (.ref x0), some (.ref x8), none, none, none, none]) (dc_L_law_0 7 rfl) rfl ?_
  refine S_iconst_ 1 (dc_L_law_0 8 rfl) rfl ?_
  refine S_newaB (t := 3) (dc_L_law_0 9 rfl) (by decide) rfl q1625 (fun l17 x17 h17 v17 u17 w17 => ?_)
  refine S_astore_n (L' := [some (.ref (A 100)), some (.ref x0), some (.ref x8), some (.ref x17), none, none, none]) (dc_L_law_0 10 rfl) rfl ?_
  refine S_iconst_ 0 (dc_L_law_0 11 rfl) rfl ?_
  refine S_istore (L' := [some (.ref (A 100)), some (.ref x0), some (.ref x8), some (.ref x17), some (.int 0), none, none]) (dc_L_law_0 12 rfl) rfl ?_
  refine Sx.regKE1 (pc2 := 1491) (L2 := fun (h1491_1 : e_H) => [none, none, none, none, none, none, none]) (st2 := fun (h1491_1 : e_H) => []) (h2 := fun (h1491_1 : e_H) => h1491_1) ?_ (fun Q1 hK1 hE1 => ?_)
  · intro h1491_1
    show Sx K cL_law 1491 [none, none, none, none, none, none, none] [] h1491_1 _ _
    refine S_iconst_ 1 (dc_L_law_22 29 rfl) rfl ?_
    exact S_iret (dc_L_law_22 30 rfl) hT rfl (e_rqI hr)
  · have hK1 : ∀ (h1491_1 : e_H), Sx K cL_law 1491 [none, none, none, none, none, none, none] [] h1491_1 (some (.ok h1491_1)) Q1 := hK1
    have ih1 : ∀ (n : Nat) (x4_23 : Int32) (h_23 : e_H), Sx K cL_law 23 [some (.ref (A 100)), some (.ref x0), some (.ref x8), some (.ref x17), some (.int x4_23), none, none] [] h_23 (lp_L_law_23 F A P x0 x8 x17 n x4_23 h_23) Q1 := by
      intro n
      induction n with
      | zero => intro x4_23 h_23; exact Sx.none
      | succ n ih1 =>
        intro x4_23 h_23
        rw [lp_L_law_23.eq_2]
        refine S_iload (dc_L_law_0 13 rfl) rfl ?_
        refine S_aload_n (dc_L_law_0 14 rfl) rfl ?_
        refine S_scLen hA (dc_L_law_0 15 rfl) ?_
        refine S_bipush_ 6 (dc_L_law_0 16 rfl) rfl ?_
        refine S_isub (dc_L_law_0 17 rfl) ?_
        refine S_icmp_gt 1491 (dc_L_law_0 18 rfl) rfl (fun c30 => ?_) (fun c30 => ?_)
        · refine Sx.cut [false, false, false, false, false, true, true] ?_
          exact hK1 h_23
        · refine S_aload_n (dc_L_law_0 19 rfl) rfl ?_
          refine S_iload (dc_L_law_0 20 rfl) rfl ?_
          refine S_scAt hA hP (dc_L_law_0 21 rfl) (fun x36 => ?_)
          refine S_bipush_ 63 (dc_L_law_0 22 rfl) rfl ?_
          refine S_iand (dc_L_law_0 23 rfl) ?_
          refine Sx.regKE1 (pc2 := 1485) (L2 := fun (h1485_2 : e_H) => [some (.ref (A 100)), some (.ref x0), some (.ref x8), some (.ref x17), some (.int x4_23), none, none]) (st2 := fun (h1485_2 : e_H) => []) (h2 := fun (h1485_2 : e_H) => h1485_2) ?_ (fun Q2 hK2 hE2 => ?_)
          · intro h1485_2
            show Sx K cL_law 1485 [some (.ref (A 100)), some (.ref x0), some (.ref x8), some (.ref x17), some (.int x4_23), none, none] [] h1485_2 _ _
            refine S_iincN 6 (L' := fun x1485 => [some (.ref (A 100)), some (.ref x0), some (.ref x8), some (.ref x17), some (.int x1485), none, none]) (dc_L_law_22 27 rfl) rfl rfl (fun _ => rfl) (fun x1485 n1485 => ?_)
            refine S_goto 23 (dc_L_law_22 28 rfl) rfl ?_
            exact ih1 x1485 h1485_2
          · have hK2 : ∀ (h1485_2 : e_H), Sx K cL_law 1485 [some (.ref (A 100)), some (.ref x0), some (.ref x8), some (.ref x17), some (.int x4_23), none, none] [] h1485_2 (some (.ok h1485_2)) Q2 := hK2
            refine Sx.case (fun c40_0 => ?_) (fun c40_0 => ?_)
            · refine S_tsIn 224 c40_0 (dc_L_law_0 24 rfl) (by decide) (by decide) rfl rfl ?_
              refine S_aload_n (dc_L_law_0 25 rfl) rfl ?_
              refine S_aload_n (dc_L_law_0 26 rfl) rfl ?_
              refine S_iload (dc_L_law_0 27 rfl) rfl ?_
              refine S_iconst_ 1 (dc_L_law_0 28 rfl) rfl ?_
              refine S_iadd (dc_L_law_0 29 rfl) ?_
              refine S_scAt hA hP (dc_L_law_0 30 rfl) (fun x230 => ?_)
              refine S_aload_n (dc_L_law_0 31 rfl) rfl ?_
              refine S_iload (dc_L_law_0 32 rfl) rfl ?_
              refine S_iconst_ 2 (dc_L_law_0 33 rfl) rfl ?_
              refine S_iadd (dc_L_law_0 34 rfl) ?_
              refine S_scAt hA hP (dc_L_law_0 35 rfl) (fun x236 => ?_)
              refine S_aload_n (dc_L_law_0 36 rfl) rfl ?_
              refine S_iload (dc_L_law_0 37 rfl) rfl ?_
              refine S_iconst_ 3 (dc_L_law_0 38 rfl) rfl ?_
              refine S_iadd (dc_L_law_0 39 rfl) ?_
              refine S_scAt hA hP (dc_L_law_1 0 rfl) (fun x242 => ?_)
              refine S_aload_n (dc_L_law_1 1 rfl) rfl ?_
              refine S_iload (dc_L_law_1 2 rfl) rfl ?_
              refine S_iconst_ 4 (dc_L_law_1 3 rfl) rfl ?_
              refine S_iadd (dc_L_law_1 4 rfl) ?_
              refine S_scAt hA hP (dc_L_law_1 5 rfl) (fun x248 => ?_)
              refine S_aload_n (dc_L_law_1 6 rfl) rfl ?_
              refine S_iload (dc_L_law_1 7 rfl) rfl ?_
              refine S_iconst_ 5 (dc_L_law_1 8 rfl) rfl ?_
              refine S_iadd (dc_L_law_1 9 rfl) ?_
              refine S_scAt hA hP (dc_L_law_1 10 rfl) (fun x254 => ?_)
              refine Sx.ask (fun _ i255 => ?_)
              refine S_rwI (d := k_d K - 1) (e_callV (b := x0) (As := [.int x230, .int x236, .int x242, .int x248, .int x254]) (rest := []) ok_X1_feed rfl (Nat.le_of_ble_eq_true rfl) (dc_L_law_1 11 rfl) ho q570 q571 (show e_cl[0]? = some (RX1, TX1, 37) from rfl) (e_sel.of q572) (e_is_of i255) rfl (Nat.le_of_ble_eq_true rfl)) (by omega) (fun _ _ e => ct_X1_feed (by omega) e) (fun x255 h255 e255 => ?_)
              refine S_aload_n (dc_L_law_1 12 rfl) rfl ?_
              refine S_aload_n (dc_L_law_1 13 rfl) rfl ?_
              refine S_iload (dc_L_law_1 14 rfl) rfl ?_
              refine S_iconst_ 1 (dc_L_law_1 15 rfl) rfl ?_
              refine S_iadd (dc_L_law_1 16 rfl) ?_
              refine S_scAt hA hP (dc_L_law_1 17 rfl) (fun x264 => ?_)
              refine S_aload_n (dc_L_law_1 18 rfl) rfl ?_
              refine S_iload (dc_L_law_1 19 rfl) rfl ?_
              refine S_iconst_ 2 (dc_L_law_1 20 rfl) rfl ?_
              refine S_iadd (dc_L_law_1 21 rfl) ?_
              refine S_scAt hA hP (dc_L_law_1 22 rfl) (fun x270 => ?_)
              refine S_aload_n (dc_L_law_1 23 rfl) rfl ?_
              refine S_iload (dc_L_law_1 24 rfl) rfl ?_
              refine S_iconst_ 3 (dc_L_law_1 25 rfl) rfl ?_
              refine S_iadd (dc_L_law_1 26 rfl) ?_
              refine S_scAt hA hP (dc_L_law_1 27 rfl) (fun x276 => ?_)
              refine S_aload_n (dc_L_law_1 28 rfl) rfl ?_
              refine S_iload (dc_L_law_1 29 rfl) rfl ?_
              refine S_iconst_ 4 (dc_L_law_1 30 rfl) rfl ?_
              refine S_iadd (dc_L_law_1 31 rfl) ?_
              refine S_scAt hA hP (dc_L_law_1 32 rfl) (fun x282 => ?_)
              refine S_aload_n (dc_L_law_1 33 rfl) rfl ?_
              refine S_iload (dc_L_law_1 34 rfl) rfl ?_
              refine S_iconst_ 5 (dc_L_law_1 35 rfl) rfl ?_
              refine S_iadd (dc_L_law_1 36 rfl) ?_
              refine S_scAt hA hP (dc_L_law_1 37 rfl) (fun x288 => ?_)
              refine Sx.ask (fun _ i289 => ?_)
              refine S_rwI (d := k_d K - 1) (e_callV (b := x8) (As := [.int x264, .int x270, .int x276, .int x282, .int x288]) (rest := [.int x255]) ok_X10_feed rfl (Nat.le_of_ble_eq_true rfl) (dc_L_law_1 38 rfl) ho q1630 q1631 (show e_cl[8]? = some (RX10, TX10, 51) from rfl) (e_sel.of q1632) (e_is_of i289) rfl (Nat.le_of_ble_eq_true rfl)) (by omega) (fun _ _ e => ct_X10_feed (by omega) e) (fun x289 h289 e289 => ?_)
              refine S_icmp_eq 1485 (dc_L_law_1 39 rfl) rfl (fun c292 => ?_) (fun c292 => ?_)
              · exact hK2 h289
              · refine S_iconst_ 0 (dc_L_law_2 0 rfl) rfl ?_
                refine Sx.err hE2 ?_
                refine Sx.err hE1 ?_
                exact S_iret (dc_L_law_2 1 rfl) hT rfl (e_rqI hr)
            refine Sx.case (fun c40_1 => ?_) (fun c40_1 => ?_)
            · refine S_tsIn 297 c40_1 (dc_L_law_0 24 rfl) (by decide) (by decide) rfl rfl ?_
              refine S_aload_n (dc_L_law_2 2 rfl) rfl ?_
              refine S_aload_n (dc_L_law_2 3 rfl) rfl ?_
              refine S_iload (dc_L_law_2 4 rfl) rfl ?_
              refine S_iconst_ 1 (dc_L_law_2 5 rfl) rfl ?_
              refine S_iadd (dc_L_law_2 6 rfl) ?_
              refine S_scAt hA hP (dc_L_law_2 7 rfl) (fun x303 => ?_)
              refine Sx.ask (fun _ i304 => ?_)
              refine S_rwI (d := k_d K - 1) (e_callV (b := x0) (As := [.int x303]) (rest := []) ok_X1_end rfl (Nat.le_of_ble_eq_true rfl) (dc_L_law_2 8 rfl) ho q578 q579 (show e_cl[0]? = some (RX1, TX1, 37) from rfl) (e_sel.of q580) (e_is_of i304) rfl (Nat.le_of_ble_eq_true rfl)) (by omega) (fun _ _ e => ct_X1_end (by omega) e) (fun x304 h304 e304 => ?_)
              refine S_aload_n (dc_L_law_2 9 rfl) rfl ?_
              refine S_aload_n (dc_L_law_2 10 rfl) rfl ?_
              refine S_iload (dc_L_law_2 11 rfl) rfl ?_
              refine S_iconst_ 1 (dc_L_law_2 12 rfl) rfl ?_
              refine S_iadd (dc_L_law_2 13 rfl) ?_
              refine S_scAt hA hP (dc_L_law_2 14 rfl) (fun x313 => ?_)
              refine Sx.ask (fun _ i314 => ?_)
              refine S_rwI (d := k_d K - 1) (e_callV (b := x8) (As := [.int x313]) (rest := [.int x304]) ok_X10_end rfl (Nat.le_of_ble_eq_true rfl) (dc_L_law_2 15 rfl) ho q1638 q1639 (show e_cl[8]? = some (RX10, TX10, 51) from rfl) (e_sel.of q1640) (e_is_of i314) rfl (Nat.le_of_ble_eq_true rfl)) (by omega) (fun _ _ e => ct_X10_end (by omega) e) (fun x314 h314 e314 => ?_)
              refine S_icmp_eq 1485 (dc_L_law_2 16 rfl) rfl (fun c317 => ?_) (fun c317 => ?_)
              · exact hK2 h314
              · refine S_iconst_ 0 (dc_L_law_2 17 rfl) rfl ?_
                refine Sx.err hE2 ?_
                refine Sx.err hE1 ?_
                exact S_iret (dc_L_law_2 18 rfl) hT rfl (e_rqI hr)
            refine Sx.case (fun c40_2 => ?_) (fun c40_2 => ?_)
            · refine S_tsIn 322 c40_2 (dc_L_law_0 24 rfl) (by decide) (by decide) rfl rfl ?_
              refine S_aload_n (dc_L_law_2 19 rfl) rfl ?_
              refine Sx.ask (fun _ i323 => ?_)
              refine S_rwI (d := k_d K - 1) (e_callVW (b := x0) (As := []) (rest := []) ok_X1_board rfl (Nat.le_of_ble_eq_true rfl) (dc_L_law_2 20 rfl) ho q582 q583 (show e_cl[0]? = some (RX1, TX1, 37) from rfl) (e_sel.of q584) (e_is_of i323) rfl (Nat.le_of_ble_eq_true rfl)) (by omega) (fun _ _ e => ct_X1_board hA (by omega) e) (fun x323 h323 e323 => ?_)
              refine S_aload_n (dc_L_law_2 21 rfl) rfl ?_
              refine Sx.ask (fun _ i327 => ?_)
              refine S_rwI (d := k_d K - 1) (e_callV (b := x8) (As := []) (rest := [.int x323]) ok_X10_board rfl (Nat.le_of_ble_eq_true rfl) (dc_L_law_2 22 rfl) ho q1642 q1643 (show e_cl[8]? = some (RX10, TX10, 51) from rfl) (e_sel.of q1644) (e_is_of i327) rfl (Nat.le_of_ble_eq_true rfl)) (by omega) (fun _ _ e => ct_X10_board (by omega) e) (fun x327 h327 e327 => ?_)
              refine S_icmp_eq 1485 (dc_L_law_2 23 rfl) rfl (fun c330 => ?_) (fun c330 => ?_)
              · exact hK2 h327
              · refine S_iconst_ 0 (dc_L_law_2 24 rfl) rfl ?_
                refine Sx.err hE2 ?_
                refine Sx.err hE1 ?_
                exact S_iret (dc_L_law_2 25 rfl) hT rfl (e_rqI hr)
            refine Sx.case (fun c40_3 => ?_) (fun c40_3 => ?_)
            · refine S_tsIn 335 c40_3 (dc_L_law_0 24 rfl) (by decide) (by decide) rfl rfl ?_
              refine S_aload_n (dc_L_law_2 26 rfl) rfl ?_
              refine Sx.ask (fun _ i336 => ?_)
              refine S_roI (d := k_d K - 1) (e_callV (b := x0) (As := []) (rest := []) ok_X1_fault rfl (Nat.le_of_ble_eq_true rfl) (dc_L_law_2 27 rfl) ho q834 q835 (show e_cl[0]? = some (RX1, TX1, 37) from rfl) (e_sel.of q836) (e_is_of i336) rfl (Nat.le_of_ble_eq_true rfl)) (by omega) (fun _ e => ct_X1_fault (by omega) e) (fun x336 e336 => ?_)
              refine S_aload_n (dc_L_law_2 28 rfl) rfl ?_
              refine Sx.ask (fun _ i340 => ?_)
              refine S_rwI (d := k_d K - 1) (e_callV (b := x8) (As := []) (rest := [.int x336]) ok_X10_fault rfl (Nat.le_of_ble_eq_true rfl) (dc_L_law_2 29 rfl) ho q1771 q1772 (show e_cl[8]? = some (RX10, TX10, 51) from rfl) (e_sel.of q1773) (e_is_of i340) rfl (Nat.le_of_ble_eq_true rfl)) (by omega) (fun _ _ e => ct_X10_fault (by omega) e) (fun x340 h340 e340 => ?_)
              refine S_icmp_eq 1485 (dc_L_law_2 30 rfl) rfl (fun c343 => ?_) (fun c343 => ?_)
              · exact hK2 h340
              · refine S_iconst_ 0 (dc_L_law_2 31 rfl) rfl ?_
                refine Sx.err hE2 ?_
                refine Sx.err hE1 ?_
                exact S_iret (dc_L_law_2 32 rfl) hT rfl (e_rqI hr)
            refine Sx.case (fun c40_4 => ?_) (fun c40_4 => ?_)
            · refine S_tsIn 348 c40_4 (dc_L_law_0 24 rfl) (by decide) (by decide) rfl rfl ?_
              refine S_aload_n (dc_L_law_2 33 rfl) rfl ?_
              refine Sx.ask (fun _ i349 => ?_)
              refine S_roI (d := k_d K - 1) (e_callV (b := x0) (As := []) (rest := []) ok_X1_why rfl (Nat.le_of_ble_eq_true rfl) (dc_L_law_2 34 rfl) ho q838 q839 (show e_cl[0]? = some (RX1, TX1, 37) from rfl) (e_sel.of q840) (e_is_of i349) rfl (Nat.le_of_ble_eq_true rfl)) (by omega) (fun _ e => ct_X1_why (by omega) e) (fun x349 e349 => ?_)
              refine S_aload_n (dc_L_law_2 35 rfl) rfl ?_
              refine Sx.ask (fun _ i353 => ?_)
              refine S_rwI (d := k_d K - 1) (e_callV (b := x8) (As := []) (rest := [.int x349]) ok_X10_why rfl (Nat.le_of_ble_eq_true rfl) (dc_L_law_2 36 rfl) ho q1775 q1776 (show e_cl[8]? = some (RX10, TX10, 51) from rfl) (e_sel.of q1777) (e_is_of i353) rfl (Nat.le_of_ble_eq_true rfl)) (by omega) (fun _ _ e => ct_X10_why (by omega) e) (fun x353 h353 e353 => ?_)
              refine S_icmp_eq 1485 (dc_L_law_2 37 rfl) rfl (fun c356 => ?_) (fun c356 => ?_)
              · exact hK2 h353
              · refine S_iconst_ 0 (dc_L_law_2 38 rfl) rfl ?_
                refine Sx.err hE2 ?_
                refine Sx.err hE1 ?_
                exact S_iret (dc_L_law_2 39 rfl) hT rfl (e_rqI hr)
            refine Sx.case (fun c40_5 => ?_) (fun c40_5 => ?_)
            · refine S_tsIn 361 c40_5 (dc_L_law_0 24 rfl) (by decide) (by decide) rfl rfl ?_
              refine S_aload_n (dc_L_law_3 0 rfl) rfl ?_
              refine S_aload_n (dc_L_law_3 1 rfl) rfl ?_
              refine S_iload (dc_L_law_3 2 rfl) rfl ?_
              refine S_iconst_ 1 (dc_L_law_3 3 rfl) rfl ?_
              refine S_iadd (dc_L_law_3 4 rfl) ?_
              refine S_scAt hA hP (dc_L_law_3 5 rfl) (fun x367 => ?_)
              refine Sx.ask (fun _ i368 => ?_)
              refine S_roI (d := k_d K - 1) (e_callV (b := x0) (As := [.int x367]) (rest := []) ok_X1_peg rfl (Nat.le_of_ble_eq_true rfl) (dc_L_law_3 6 rfl) ho q842 q843 (show e_cl[0]? = some (RX1, TX1, 37) from rfl) (e_sel.of q844) (e_is_of i368) rfl (Nat.le_of_ble_eq_true rfl)) (by omega) (fun _ e => ct_X1_peg (by omega) e) (fun x368 e368 => ?_)
              refine S_aload_n (dc_L_law_3 7 rfl) rfl ?_
              refine S_aload_n (dc_L_law_3 8 rfl) rfl ?_
              refine S_iload (dc_L_law_3 9 rfl) rfl ?_
              refine S_iconst_ 1 (dc_L_law_3 10 rfl) rfl ?_
              refine S_iadd (dc_L_law_3 11 rfl) ?_
              refine S_scAt hA hP (dc_L_law_3 12 rfl) (fun x377 => ?_)
              refine Sx.ask (fun _ i378 => ?_)
              refine S_rwI (d := k_d K - 1) (e_callV (b := x8) (As := [.int x377]) (rest := [.int x368]) ok_X10_peg rfl (Nat.le_of_ble_eq_true rfl) (dc_L_law_3 13 rfl) ho q1779 q1780 (show e_cl[8]? = some (RX10, TX10, 51) from rfl) (e_sel.of q1781) (e_is_of i378) rfl (Nat.le_of_ble_eq_true rfl)) (by omega) (fun _ _ e => ct_X10_peg (by omega) e) (fun x378 h378 e378 => ?_)
              refine S_icmp_eq 1485 (dc_L_law_3 14 rfl) rfl (fun c381 => ?_) (fun c381 => ?_)
              · exact hK2 h378
              · refine S_iconst_ 0 (dc_L_law_3 15 rfl) rfl ?_
                refine Sx.err hE2 ?_
                refine Sx.err hE1 ?_
                exact S_iret (dc_L_law_3 16 rfl) hT rfl (e_rqI hr)
            refine Sx.case (fun c40_6 => ?_) (fun c40_6 => ?_)
            · refine S_tsIn 386 c40_6 (dc_L_law_0 24 rfl) (by decide) (by decide) rfl rfl ?_
              refine S_aload_n (dc_L_law_3 17 rfl) rfl ?_
              refine S_aload_n (dc_L_law_3 18 rfl) rfl ?_
              refine S_iload (dc_L_law_3 19 rfl) rfl ?_
              refine S_iconst_ 1 (dc_L_law_3 20 rfl) rfl ?_
              refine S_iadd (dc_L_law_3 21 rfl) ?_
              refine S_scAt hA hP (dc_L_law_3 22 rfl) (fun x392 => ?_)
              refine S_aload_n (dc_L_law_3 23 rfl) rfl ?_
              refine S_iload (dc_L_law_3 24 rfl) rfl ?_
              refine S_iconst_ 2 (dc_L_law_3 25 rfl) rfl ?_
              refine S_iadd (dc_L_law_3 26 rfl) ?_
              refine S_scAt hA hP (dc_L_law_3 27 rfl) (fun x398 => ?_)
              refine S_aload_n (dc_L_law_3 28 rfl) rfl ?_
              refine S_rwI (d := k_d K - 1) (e_callSW (As := [.ref x0, .int x392, .int x398, .ref x17]) (rest := []) ok_X0_band rfl (Nat.le_of_ble_eq_true rfl) (dc_L_law_3 29 rfl) ho q1428 q1429 rfl (Nat.le_of_ble_eq_true rfl)) (by omega) (fun _ _ e => ct_X0_band hl (by omega) e) (fun x400 h400 e400 => ?_)
              refine S_istore (L' := [some (.ref (A 100)), some (.ref x0), some (.ref x8), some (.ref x17), some (.int x4_23), some (.int x400), none]) (dc_L_law_3 30 rfl) rfl ?_
              refine S_aload_n (dc_L_law_3 31 rfl) rfl ?_
              refine S_aload_n (dc_L_law_3 32 rfl) rfl ?_
              refine S_iload (dc_L_law_3 33 rfl) rfl ?_
              refine S_iconst_ 1 (dc_L_law_3 34 rfl) rfl ?_
              refine S_iadd (dc_L_law_3 35 rfl) ?_
              refine S_scAt hA hP (dc_L_law_3 36 rfl) (fun x411 => ?_)
              refine S_aload_n (dc_L_law_3 37 rfl) rfl ?_
              refine S_iload (dc_L_law_3 38 rfl) rfl ?_
              refine S_iconst_ 2 (dc_L_law_3 39 rfl) rfl ?_
              refine S_iadd (dc_L_law_4 0 rfl) ?_
              refine S_scAt hA hP (dc_L_law_4 1 rfl) (fun x417 => ?_)
              refine Sx.ask (fun _ i418 => ?_)
              refine S_rwI (d := k_d K - 1) (e_callV (b := x8) (As := [.int x411, .int x417]) (rest := []) ok_X10_band rfl (Nat.le_of_ble_eq_true rfl) (dc_L_law_4 2 rfl) ho q1787 q1788 (show e_cl[8]? = some (RX10, TX10, 51) from rfl) (e_sel.of q1789) (e_is_of i418) rfl (Nat.le_of_ble_eq_true rfl)) (by omega) (fun _ _ e => ct_X10_band (by omega) e) (fun x418 h418 e418 => ?_)
              refine S_istore (L' := [some (.ref (A 100)), some (.ref x0), some (.ref x8), some (.ref x17), some (.int x4_23), some (.int x400), some (.int x418)]) (dc_L_law_4 3 rfl) rfl ?_
              refine S_aload_n (dc_L_law_4 4 rfl) rfl ?_
              refine Sx.ask (fun _ i424 => ?_)
              refine S_roI (d := k_d K - 1) (e_callV (b := x8) (As := []) (rest := []) ok_X10_thrown rfl (Nat.le_of_ble_eq_true rfl) (dc_L_law_4 5 rfl) ho q1626 q1627 (show e_cl[8]? = some (RX10, TX10, 51) from rfl) (e_sel.of q1628) (e_is_of i424) rfl (Nat.le_of_ble_eq_true rfl)) (by omega) (fun _ e => ct_X10_thrown (by omega) e) (fun x424 e424 => ?_)
              refine S_iload (dc_L_law_4 6 rfl) rfl ?_
              refine S_icmp_eq 434 (dc_L_law_4 7 rfl) rfl (fun c429 => ?_) (fun c429 => ?_)
              · refine S_iload (dc_L_law_4 10 rfl) rfl ?_
                refine Sx.regKE0 (pc2 := 451) (L2 := [some (.ref (A 100)), some (.ref x0), some (.ref x8), some (.ref x17), some (.int x4_23), none, none]) (st2 := []) (h2 := h418) ?_ (fun Q3 hK3 hE3 => ?_)
                · skip
                  refine S_goto 1485 (dc_L_law_4 21 rfl) rfl ?_
                  exact hK2 h418
                · have hK3 : Sx K cL_law 451 [some (.ref (A 100)), some (.ref x0), some (.ref x8), some (.ref x17), some (.int x4_23), none, none] [] h418 (some (.ok ())) Q3 := hK3
                  refine S_if_ne 451 (dc_L_law_4 11 rfl) rfl (fun c436 => ?_) (fun c436 => ?_)
                  · refine Sx.cut [true, true, true, true, true, false, false] ?_
                    exact hK3
                  · refine S_aload_n (dc_L_law_4 12 rfl) rfl ?_
                    refine S_iconst_ 0 (dc_L_law_4 13 rfl) rfl ?_
                    refine S_lald (dc_L_law_4 14 rfl) (fun x441 e441 => ?_)
                    refine S_iload (dc_L_law_4 15 rfl) rfl ?_
                    refine S_i2l (dc_L_law_4 16 rfl) ?_
                    refine S_lcmp (dc_L_law_4 17 rfl) ?_
                    refine S_if_eq 451 (dc_L_law_4 18 rfl) rfl (fun c446 => ?_) (fun c446 => ?_)
                    · refine Sx.cut [true, true, true, true, true, false, false] ?_
                      exact hK3
                    · refine S_iconst_ 0 (dc_L_law_4 19 rfl) rfl ?_
                      refine Sx.err hE3 ?_
                      refine Sx.err hE2 ?_
                      refine Sx.err hE1 ?_
                      exact S_iret (dc_L_law_4 20 rfl) hT rfl (e_rqI hr)
              · refine S_iconst_ 0 (dc_L_law_4 8 rfl) rfl ?_
                refine Sx.err hE2 ?_
                refine Sx.err hE1 ?_
                exact S_iret (dc_L_law_4 9 rfl) hT rfl (e_rqI hr)
            refine Sx.case (fun c40_7 => ?_) (fun c40_7 => ?_)
            · refine S_tsIn 454 c40_7 (dc_L_law_0 24 rfl) (by decide) (by decide) rfl rfl ?_
              refine S_aload_n (dc_L_law_4 22 rfl) rfl ?_
              refine S_aload_n (dc_L_law_4 23 rfl) rfl ?_
              refine S_iload (dc_L_law_4 24 rfl) rfl ?_
              refine S_iconst_ 1 (dc_L_law_4 25 rfl) rfl ?_
              refine S_iadd (dc_L_law_4 26 rfl) ?_
              refine S_scAt hA hP (dc_L_law_4 27 rfl) (fun x460 => ?_)
              refine S_aload_n (dc_L_law_4 28 rfl) rfl ?_
              refine S_iload (dc_L_law_4 29 rfl) rfl ?_
              refine S_iconst_ 2 (dc_L_law_4 30 rfl) rfl ?_
              refine S_iadd (dc_L_law_4 31 rfl) ?_
              refine S_scAt hA hP (dc_L_law_4 32 rfl) (fun x466 => ?_)
              refine Sx.ask (fun _ i467 => ?_)
              refine S_roI (d := k_d K - 1) (e_callV (b := x0) (As := [.int x460, .int x466]) (rest := []) ok_X1_corner rfl (Nat.le_of_ble_eq_true rfl) (dc_L_law_4 33 rfl) ho q851 q852 (show e_cl[0]? = some (RX1, TX1, 37) from rfl) (e_sel.of q853) (e_is_of i467) rfl (Nat.le_of_ble_eq_true rfl)) (by omega) (fun _ e => ct_X1_corner (by omega) e) (fun x467 e467 => ?_)
              refine S_aload_n (dc_L_law_4 34 rfl) rfl ?_
              refine S_aload_n (dc_L_law_4 35 rfl) rfl ?_
              refine S_iload (dc_L_law_4 36 rfl) rfl ?_
              refine S_iconst_ 1 (dc_L_law_4 37 rfl) rfl ?_
              refine S_iadd (dc_L_law_4 38 rfl) ?_
              refine S_scAt hA hP (dc_L_law_4 39 rfl) (fun x476 => ?_)
              refine S_aload_n (dc_L_law_5 0 rfl) rfl ?_
              refine S_iload (dc_L_law_5 1 rfl) rfl ?_
              refine S_iconst_ 2 (dc_L_law_5 2 rfl) rfl ?_
              refine S_iadd (dc_L_law_5 3 rfl) ?_
              refine S_scAt hA hP (dc_L_law_5 4 rfl) (fun x482 => ?_)
              refine Sx.ask (fun _ i483 => ?_)
              refine S_rwI (d := k_d K - 1) (e_callV (b := x8) (As := [.int x476, .int x482]) (rest := [.int x467]) ok_X10_corner rfl (Nat.le_of_ble_eq_true rfl) (dc_L_law_5 5 rfl) ho q1849 q1850 (show e_cl[8]? = some (RX10, TX10, 51) from rfl) (e_sel.of q1851) (e_is_of i483) rfl (Nat.le_of_ble_eq_true rfl)) (by omega) (fun _ _ e => ct_X10_corner (by omega) e) (fun x483 h483 e483 => ?_)
              refine S_icmp_eq 1485 (dc_L_law_5 6 rfl) rfl (fun c486 => ?_) (fun c486 => ?_)
              · exact hK2 h483
              · refine S_iconst_ 0 (dc_L_law_5 7 rfl) rfl ?_
                refine Sx.err hE2 ?_
                refine Sx.err hE1 ?_
                exact S_iret (dc_L_law_5 8 rfl) hT rfl (e_rqI hr)
            refine Sx.case (fun c40_8 => ?_) (fun c40_8 => ?_)
            · refine S_tsIn 491 c40_8 (dc_L_law_0 24 rfl) (by decide) (by decide) rfl rfl ?_
              refine S_aload_n (dc_L_law_5 9 rfl) rfl ?_
              refine S_aload_n (dc_L_law_5 10 rfl) rfl ?_
              refine S_iload (dc_L_law_5 11 rfl) rfl ?_
              refine S_iconst_ 1 (dc_L_law_5 12 rfl) rfl ?_
              refine S_iadd (dc_L_law_5 13 rfl) ?_
              refine S_scAt hA hP (dc_L_law_5 14 rfl) (fun x497 => ?_)
              refine S_aload_n (dc_L_law_5 15 rfl) rfl ?_
              refine S_iload (dc_L_law_5 16 rfl) rfl ?_
              refine S_iconst_ 2 (dc_L_law_5 17 rfl) rfl ?_
              refine S_iadd (dc_L_law_5 18 rfl) ?_
              refine S_scAt hA hP (dc_L_law_5 19 rfl) (fun x503 => ?_)
              refine Sx.ask (fun _ i504 => ?_)
              refine S_roI (d := k_d K - 1) (e_callV (b := x0) (As := [.int x497, .int x503]) (rest := []) ok_X1_side rfl (Nat.le_of_ble_eq_true rfl) (dc_L_law_5 20 rfl) ho q863 q864 (show e_cl[0]? = some (RX1, TX1, 37) from rfl) (e_sel.of q865) (e_is_of i504) rfl (Nat.le_of_ble_eq_true rfl)) (by omega) (fun _ e => ct_X1_side (by omega) e) (fun x504 e504 => ?_)
              refine S_aload_n (dc_L_law_5 21 rfl) rfl ?_
              refine S_aload_n (dc_L_law_5 22 rfl) rfl ?_
              refine S_iload (dc_L_law_5 23 rfl) rfl ?_
              refine S_iconst_ 1 (dc_L_law_5 24 rfl) rfl ?_
              refine S_iadd (dc_L_law_5 25 rfl) ?_
              refine S_scAt hA hP (dc_L_law_5 26 rfl) (fun x513 => ?_)
              refine S_aload_n (dc_L_law_5 27 rfl) rfl ?_
              refine S_iload (dc_L_law_5 28 rfl) rfl ?_
              refine S_iconst_ 2 (dc_L_law_5 29 rfl) rfl ?_
              refine S_iadd (dc_L_law_5 30 rfl) ?_
              refine S_scAt hA hP (dc_L_law_5 31 rfl) (fun x519 => ?_)
              refine Sx.ask (fun _ i520 => ?_)
              refine S_rwI (d := k_d K - 1) (e_callV (b := x8) (As := [.int x513, .int x519]) (rest := [.int x504]) ok_X10_side rfl (Nat.le_of_ble_eq_true rfl) (dc_L_law_5 32 rfl) ho q1853 q1854 (show e_cl[8]? = some (RX10, TX10, 51) from rfl) (e_sel.of q1855) (e_is_of i520) rfl (Nat.le_of_ble_eq_true rfl)) (by omega) (fun _ _ e => ct_X10_side (by omega) e) (fun x520 h520 e520 => ?_)
              refine S_icmp_eq 1485 (dc_L_law_5 33 rfl) rfl (fun c523 => ?_) (fun c523 => ?_)
              · exact hK2 h520
              · refine S_iconst_ 0 (dc_L_law_5 34 rfl) rfl ?_
                refine Sx.err hE2 ?_
                refine Sx.err hE1 ?_
                exact S_iret (dc_L_law_5 35 rfl) hT rfl (e_rqI hr)
            refine Sx.case (fun c40_9 => ?_) (fun c40_9 => ?_)
            · refine S_tsIn 528 c40_9 (dc_L_law_0 24 rfl) (by decide) (by decide) rfl rfl ?_
              refine S_aload_n (dc_L_law_5 36 rfl) rfl ?_
              refine S_aload_n (dc_L_law_5 37 rfl) rfl ?_
              refine S_iload (dc_L_law_5 38 rfl) rfl ?_
              refine S_iconst_ 1 (dc_L_law_5 39 rfl) rfl ?_
              refine S_iadd (dc_L_law_6 0 rfl) ?_
              refine S_scAt hA hP (dc_L_law_6 1 rfl) (fun x534 => ?_)
              refine S_aload_n (dc_L_law_6 2 rfl) rfl ?_
              refine S_iload (dc_L_law_6 3 rfl) rfl ?_
              refine S_iconst_ 2 (dc_L_law_6 4 rfl) rfl ?_
              refine S_iadd (dc_L_law_6 5 rfl) ?_
              refine S_scAt hA hP (dc_L_law_6 6 rfl) (fun x540 => ?_)
              refine Sx.ask (fun _ i541 => ?_)
              refine S_roI (d := k_d K - 1) (e_callV (b := x0) (As := [.int x534, .int x540]) (rest := []) ok_X1_over rfl (Nat.le_of_ble_eq_true rfl) (dc_L_law_6 7 rfl) ho q871 q872 (show e_cl[0]? = some (RX1, TX1, 37) from rfl) (e_sel.of q873) (e_is_of i541) rfl (Nat.le_of_ble_eq_true rfl)) (by omega) (fun _ e => ct_X1_over (by omega) e) (fun x541 e541 => ?_)
              refine S_aload_n (dc_L_law_6 8 rfl) rfl ?_
              refine S_aload_n (dc_L_law_6 9 rfl) rfl ?_
              refine S_iload (dc_L_law_6 10 rfl) rfl ?_
              refine S_iconst_ 1 (dc_L_law_6 11 rfl) rfl ?_
              refine S_iadd (dc_L_law_6 12 rfl) ?_
              refine S_scAt hA hP (dc_L_law_6 13 rfl) (fun x550 => ?_)
              refine S_aload_n (dc_L_law_6 14 rfl) rfl ?_
              refine S_iload (dc_L_law_6 15 rfl) rfl ?_
              refine S_iconst_ 2 (dc_L_law_6 16 rfl) rfl ?_
              refine S_iadd (dc_L_law_6 17 rfl) ?_
              refine S_scAt hA hP (dc_L_law_6 18 rfl) (fun x556 => ?_)
              refine Sx.ask (fun _ i557 => ?_)
              refine S_rwI (d := k_d K - 1) (e_callV (b := x8) (As := [.int x550, .int x556]) (rest := [.int x541]) ok_X10_over rfl (Nat.le_of_ble_eq_true rfl) (dc_L_law_6 19 rfl) ho q1857 q1858 (show e_cl[8]? = some (RX10, TX10, 51) from rfl) (e_sel.of q1859) (e_is_of i557) rfl (Nat.le_of_ble_eq_true rfl)) (by omega) (fun _ _ e => ct_X10_over (by omega) e) (fun x557 h557 e557 => ?_)
              refine S_icmp_eq 1485 (dc_L_law_6 20 rfl) rfl (fun c560 => ?_) (fun c560 => ?_)
              · exact hK2 h557
              · refine S_iconst_ 0 (dc_L_law_6 21 rfl) rfl ?_
                refine Sx.err hE2 ?_
                refine Sx.err hE1 ?_
                exact S_iret (dc_L_law_6 22 rfl) hT rfl (e_rqI hr)
            refine Sx.case (fun c40_10 => ?_) (fun c40_10 => ?_)
            · refine S_tsIn 565 c40_10 (dc_L_law_0 24 rfl) (by decide) (by decide) rfl rfl ?_
              refine S_aload_n (dc_L_law_6 23 rfl) rfl ?_
              refine S_aload_n (dc_L_law_6 24 rfl) rfl ?_
              refine S_iload (dc_L_law_6 25 rfl) rfl ?_
              refine S_iconst_ 1 (dc_L_law_6 26 rfl) rfl ?_
              refine S_iadd (dc_L_law_6 27 rfl) ?_
              refine S_scAt hA hP (dc_L_law_6 28 rfl) (fun x571 => ?_)
              refine S_aload_n (dc_L_law_6 29 rfl) rfl ?_
              refine S_iload (dc_L_law_6 30 rfl) rfl ?_
              refine S_iconst_ 2 (dc_L_law_6 31 rfl) rfl ?_
              refine S_iadd (dc_L_law_6 32 rfl) ?_
              refine S_scAt hA hP (dc_L_law_6 33 rfl) (fun x577 => ?_)
              refine S_aload_n (dc_L_law_6 34 rfl) rfl ?_
              refine S_iload (dc_L_law_6 35 rfl) rfl ?_
              refine S_iconst_ 3 (dc_L_law_6 36 rfl) rfl ?_
              refine S_iadd (dc_L_law_6 37 rfl) ?_
              refine S_scAt hA hP (dc_L_law_6 38 rfl) (fun x583 => ?_)
              refine Sx.ask (fun _ i584 => ?_)
              refine S_roI (d := k_d K - 1) (e_callV (b := x0) (As := [.int x571, .int x577, .int x583]) (rest := []) ok_X1_cross rfl (Nat.le_of_ble_eq_true rfl) (dc_L_law_6 39 rfl) ho q880 q881 (show e_cl[0]? = some (RX1, TX1, 37) from rfl) (e_sel.of q882) (e_is_of i584) rfl (Nat.le_of_ble_eq_true rfl)) (by omega) (fun _ e => ct_X1_cross (by omega) e) (fun x584 e584 => ?_)
              refine S_aload_n (dc_L_law_7 0 rfl) rfl ?_
              refine S_aload_n (dc_L_law_7 1 rfl) rfl ?_
              refine S_iload (dc_L_law_7 2 rfl) rfl ?_
              refine S_iconst_ 1 (dc_L_law_7 3 rfl) rfl ?_
              refine S_iadd (dc_L_law_7 4 rfl) ?_
              refine S_scAt hA hP (dc_L_law_7 5 rfl) (fun x593 => ?_)
              refine S_aload_n (dc_L_law_7 6 rfl) rfl ?_
              refine S_iload (dc_L_law_7 7 rfl) rfl ?_
              refine S_iconst_ 2 (dc_L_law_7 8 rfl) rfl ?_
              refine S_iadd (dc_L_law_7 9 rfl) ?_
              refine S_scAt hA hP (dc_L_law_7 10 rfl) (fun x599 => ?_)
              refine S_aload_n (dc_L_law_7 11 rfl) rfl ?_
              refine S_iload (dc_L_law_7 12 rfl) rfl ?_
              refine S_iconst_ 3 (dc_L_law_7 13 rfl) rfl ?_
              refine S_iadd (dc_L_law_7 14 rfl) ?_
              refine S_scAt hA hP (dc_L_law_7 15 rfl) (fun x605 => ?_)
              refine Sx.ask (fun _ i606 => ?_)
              refine S_rwI (d := k_d K - 1) (e_callV (b := x8) (As := [.int x593, .int x599, .int x605]) (rest := [.int x584]) ok_X10_cross rfl (Nat.le_of_ble_eq_true rfl) (dc_L_law_7 16 rfl) ho q1873 q1874 (show e_cl[8]? = some (RX10, TX10, 51) from rfl) (e_sel.of q1875) (e_is_of i606) rfl (Nat.le_of_ble_eq_true rfl)) (by omega) (fun _ _ e => ct_X10_cross (by omega) e) (fun x606 h606 e606 => ?_)
              refine S_icmp_eq 1485 (dc_L_law_7 17 rfl) rfl (fun c609 => ?_) (fun c609 => ?_)
              · exact hK2 h606
              · refine S_iconst_ 0 (dc_L_law_7 18 rfl) rfl ?_
                refine Sx.err hE2 ?_
                refine Sx.err hE1 ?_
                exact S_iret (dc_L_law_7 19 rfl) hT rfl (e_rqI hr)
            refine Sx.case (fun c40_11 => ?_) (fun c40_11 => ?_)
            · refine S_tsIn 614 c40_11 (dc_L_law_0 24 rfl) (by decide) (by decide) rfl rfl ?_
              refine S_aload_n (dc_L_law_7 20 rfl) rfl ?_
              refine S_aload_n (dc_L_law_7 21 rfl) rfl ?_
              refine S_iload (dc_L_law_7 22 rfl) rfl ?_
              refine S_iconst_ 1 (dc_L_law_7 23 rfl) rfl ?_
              refine S_iadd (dc_L_law_7 24 rfl) ?_
              refine S_scAt hA hP (dc_L_law_7 25 rfl) (fun x620 => ?_)
              refine S_aload_n (dc_L_law_7 26 rfl) rfl ?_
              refine S_iload (dc_L_law_7 27 rfl) rfl ?_
              refine S_iconst_ 2 (dc_L_law_7 28 rfl) rfl ?_
              refine S_iadd (dc_L_law_7 29 rfl) ?_
              refine S_scAt hA hP (dc_L_law_7 30 rfl) (fun x626 => ?_)
              refine Sx.ask (fun _ i627 => ?_)
              refine S_roI (d := k_d K - 1) (e_callV (b := x0) (As := [.int x620, .int x626]) (rest := []) ok_X1_in rfl (Nat.le_of_ble_eq_true rfl) (dc_L_law_7 31 rfl) ho q885 q886 (show e_cl[0]? = some (RX1, TX1, 37) from rfl) (e_sel.of q887) (e_is_of i627) rfl (Nat.le_of_ble_eq_true rfl)) (by omega) (fun _ e => ct_X1_in (by omega) e) (fun x627 e627 => ?_)
              refine S_aload_n (dc_L_law_7 32 rfl) rfl ?_
              refine S_aload_n (dc_L_law_7 33 rfl) rfl ?_
              refine S_iload (dc_L_law_7 34 rfl) rfl ?_
              refine S_iconst_ 1 (dc_L_law_7 35 rfl) rfl ?_
              refine S_iadd (dc_L_law_7 36 rfl) ?_
              refine S_scAt hA hP (dc_L_law_7 37 rfl) (fun x636 => ?_)
              refine S_aload_n (dc_L_law_7 38 rfl) rfl ?_
              refine S_iload (dc_L_law_7 39 rfl) rfl ?_
              refine S_iconst_ 2 (dc_L_law_8 0 rfl) rfl ?_
              refine S_iadd (dc_L_law_8 1 rfl) ?_
              refine S_scAt hA hP (dc_L_law_8 2 rfl) (fun x642 => ?_)
              refine Sx.ask (fun _ i643 => ?_)
              refine S_rwI (d := k_d K - 1) (e_callV (b := x8) (As := [.int x636, .int x642]) (rest := [.int x627]) ok_X10_in rfl (Nat.le_of_ble_eq_true rfl) (dc_L_law_8 3 rfl) ho q1877 q1878 (show e_cl[8]? = some (RX10, TX10, 51) from rfl) (e_sel.of q1879) (e_is_of i643) rfl (Nat.le_of_ble_eq_true rfl)) (by omega) (fun _ _ e => ct_X10_in (by omega) e) (fun x643 h643 e643 => ?_)
              refine S_icmp_eq 1485 (dc_L_law_8 4 rfl) rfl (fun c646 => ?_) (fun c646 => ?_)
              · exact hK2 h643
              · refine S_iconst_ 0 (dc_L_law_8 5 rfl) rfl ?_
                refine Sx.err hE2 ?_
                refine Sx.err hE1 ?_
                exact S_iret (dc_L_law_8 6 rfl) hT rfl (e_rqI hr)
            refine Sx.case (fun c40_12 => ?_) (fun c40_12 => ?_)
            · refine S_tsIn 651 c40_12 (dc_L_law_0 24 rfl) (by decide) (by decide) rfl rfl ?_
              refine S_aload_n (dc_L_law_8 7 rfl) rfl ?_
              refine S_aload_n (dc_L_law_8 8 rfl) rfl ?_
              refine S_iload (dc_L_law_8 9 rfl) rfl ?_
              refine S_iconst_ 1 (dc_L_law_8 10 rfl) rfl ?_
              refine S_iadd (dc_L_law_8 11 rfl) ?_
              refine S_scAt hA hP (dc_L_law_8 12 rfl) (fun x657 => ?_)
              refine S_aload_n (dc_L_law_8 13 rfl) rfl ?_
              refine S_iload (dc_L_law_8 14 rfl) rfl ?_
              refine S_iconst_ 2 (dc_L_law_8 15 rfl) rfl ?_
              refine S_iadd (dc_L_law_8 16 rfl) ?_
              refine S_scAt hA hP (dc_L_law_8 17 rfl) (fun x663 => ?_)
              refine S_aload_n (dc_L_law_8 18 rfl) rfl ?_
              refine S_iload (dc_L_law_8 19 rfl) rfl ?_
              refine S_iconst_ 3 (dc_L_law_8 20 rfl) rfl ?_
              refine S_iadd (dc_L_law_8 21 rfl) ?_
              refine S_scAt hA hP (dc_L_law_8 22 rfl) (fun x669 => ?_)
              refine Sx.ask (fun _ i670 => ?_)
              refine S_rwI (d := k_d K - 1) (e_callV (b := x0) (As := [.int x657, .int x663, .int x669]) (rest := []) ok_X1_alike rfl (Nat.le_of_ble_eq_true rfl) (dc_L_law_8 23 rfl) ho q895 q896 (show e_cl[0]? = some (RX1, TX1, 37) from rfl) (e_sel.of q897) (e_is_of i670) rfl (Nat.le_of_ble_eq_true rfl)) (by omega) (fun _ _ e => ct_X1_alike (by omega) e) (fun x670 h670 e670 => ?_)
              refine S_aload_n (dc_L_law_8 24 rfl) rfl ?_
              refine S_aload_n (dc_L_law_8 25 rfl) rfl ?_
              refine S_iload (dc_L_law_8 26 rfl) rfl ?_
              refine S_iconst_ 1 (dc_L_law_8 27 rfl) rfl ?_
              refine S_iadd (dc_L_law_8 28 rfl) ?_
              refine S_scAt hA hP (dc_L_law_8 29 rfl) (fun x679 => ?_)
              refine S_aload_n (dc_L_law_8 30 rfl) rfl ?_
              refine S_iload (dc_L_law_8 31 rfl) rfl ?_
              refine S_iconst_ 2 (dc_L_law_8 32 rfl) rfl ?_
              refine S_iadd (dc_L_law_8 33 rfl) ?_
              refine S_scAt hA hP (dc_L_law_8 34 rfl) (fun x685 => ?_)
              refine S_aload_n (dc_L_law_8 35 rfl) rfl ?_
              refine S_iload (dc_L_law_8 36 rfl) rfl ?_
              refine S_iconst_ 3 (dc_L_law_8 37 rfl) rfl ?_
              refine S_iadd (dc_L_law_8 38 rfl) ?_
              refine S_scAt hA hP (dc_L_law_8 39 rfl) (fun x691 => ?_)
              refine Sx.ask (fun _ i692 => ?_)
              refine S_rwI (d := k_d K - 1) (e_callV (b := x8) (As := [.int x679, .int x685, .int x691]) (rest := [.int x670]) ok_X10_alike rfl (Nat.le_of_ble_eq_true rfl) (dc_L_law_9 0 rfl) ho q1893 q1894 (show e_cl[8]? = some (RX10, TX10, 51) from rfl) (e_sel.of q1895) (e_is_of i692) rfl (Nat.le_of_ble_eq_true rfl)) (by omega) (fun _ _ e => ct_X10_alike (by omega) e) (fun x692 h692 e692 => ?_)
              refine S_icmp_eq 1485 (dc_L_law_9 1 rfl) rfl (fun c695 => ?_) (fun c695 => ?_)
              · exact hK2 h692
              · refine S_iconst_ 0 (dc_L_law_9 2 rfl) rfl ?_
                refine Sx.err hE2 ?_
                refine Sx.err hE1 ?_
                exact S_iret (dc_L_law_9 3 rfl) hT rfl (e_rqI hr)
            refine Sx.case (fun c40_13 => ?_) (fun c40_13 => ?_)
            · refine S_tsIn 700 c40_13 (dc_L_law_0 24 rfl) (by decide) (by decide) rfl rfl ?_
              refine S_aload_n (dc_L_law_9 4 rfl) rfl ?_
              refine S_aload_n (dc_L_law_9 5 rfl) rfl ?_
              refine S_iload (dc_L_law_9 6 rfl) rfl ?_
              refine S_iconst_ 1 (dc_L_law_9 7 rfl) rfl ?_
              refine S_iadd (dc_L_law_9 8 rfl) ?_
              refine S_scAt hA hP (dc_L_law_9 9 rfl) (fun x706 => ?_)
              refine S_aload_n (dc_L_law_9 10 rfl) rfl ?_
              refine S_iload (dc_L_law_9 11 rfl) rfl ?_
              refine S_iconst_ 2 (dc_L_law_9 12 rfl) rfl ?_
              refine S_iadd (dc_L_law_9 13 rfl) ?_
              refine S_scAt hA hP (dc_L_law_9 14 rfl) (fun x712 => ?_)
              refine Sx.ask (fun _ i713 => ?_)
              refine S_rwI (d := k_d K - 1) (e_callV (b := x0) (As := [.int x706, .int x712]) (rest := []) ok_X1_form rfl (Nat.le_of_ble_eq_true rfl) (dc_L_law_9 15 rfl) ho q943 q944 (show e_cl[0]? = some (RX1, TX1, 37) from rfl) (e_sel.of q945) (e_is_of i713) rfl (Nat.le_of_ble_eq_true rfl)) (by omega) (fun _ _ e => ct_X1_form (by omega) e) (fun x713 h713 e713 => ?_)
              refine S_aload_n (dc_L_law_9 16 rfl) rfl ?_
              refine S_aload_n (dc_L_law_9 17 rfl) rfl ?_
              refine S_iload (dc_L_law_9 18 rfl) rfl ?_
              refine S_iconst_ 1 (dc_L_law_9 19 rfl) rfl ?_
              refine S_iadd (dc_L_law_9 20 rfl) ?_
              refine S_scAt hA hP (dc_L_law_9 21 rfl) (fun x722 => ?_)
              refine S_aload_n (dc_L_law_9 22 rfl) rfl ?_
              refine S_iload (dc_L_law_9 23 rfl) rfl ?_
              refine S_iconst_ 2 (dc_L_law_9 24 rfl) rfl ?_
              refine S_iadd (dc_L_law_9 25 rfl) ?_
              refine S_scAt hA hP (dc_L_law_9 26 rfl) (fun x728 => ?_)
              refine Sx.ask (fun _ i729 => ?_)
              refine S_rwI (d := k_d K - 1) (e_callV (b := x8) (As := [.int x722, .int x728]) (rest := [.int x713]) ok_X10_form rfl (Nat.le_of_ble_eq_true rfl) (dc_L_law_9 27 rfl) ho q1916 q1917 (show e_cl[8]? = some (RX10, TX10, 51) from rfl) (e_sel.of q1918) (e_is_of i729) rfl (Nat.le_of_ble_eq_true rfl)) (by omega) (fun _ _ e => ct_X10_form (by omega) e) (fun x729 h729 e729 => ?_)
              refine S_icmp_eq 1485 (dc_L_law_9 28 rfl) rfl (fun c732 => ?_) (fun c732 => ?_)
              · exact hK2 h729
              · refine S_iconst_ 0 (dc_L_law_9 29 rfl) rfl ?_
                refine Sx.err hE2 ?_
                refine Sx.err hE1 ?_
                exact S_iret (dc_L_law_9 30 rfl) hT rfl (e_rqI hr)
            refine Sx.case (fun c40_14 => ?_) (fun c40_14 => ?_)
            · refine S_tsIn 737 c40_14 (dc_L_law_0 24 rfl) (by decide) (by decide) rfl rfl ?_
              refine S_aload_n (dc_L_law_9 31 rfl) rfl ?_
              refine S_aload_n (dc_L_law_9 32 rfl) rfl ?_
              refine S_iload (dc_L_law_9 33 rfl) rfl ?_
              refine S_iconst_ 1 (dc_L_law_9 34 rfl) rfl ?_
              refine S_iadd (dc_L_law_9 35 rfl) ?_
              refine S_scAt hA hP (dc_L_law_9 36 rfl) (fun x743 => ?_)
              refine Sx.ask (fun _ i744 => ?_)
              refine S_roI (d := k_d K - 1) (e_callV (b := x0) (As := [.int x743]) (rest := []) ok_X1_formAt rfl (Nat.le_of_ble_eq_true rfl) (dc_L_law_9 37 rfl) ho q947 q948 (show e_cl[0]? = some (RX1, TX1, 37) from rfl) (e_sel.of q949) (e_is_of i744) rfl (Nat.le_of_ble_eq_true rfl)) (by omega) (fun _ e => ct_X1_formAt (by omega) e) (fun x744 e744 => ?_)
              refine S_aload_n (dc_L_law_9 38 rfl) rfl ?_
              refine S_aload_n (dc_L_law_9 39 rfl) rfl ?_
              refine S_iload (dc_L_law_10 0 rfl) rfl ?_
              refine S_iconst_ 1 (dc_L_law_10 1 rfl) rfl ?_
              refine S_iadd (dc_L_law_10 2 rfl) ?_
              refine S_scAt hA hP (dc_L_law_10 3 rfl) (fun x753 => ?_)
              refine Sx.ask (fun _ i754 => ?_)
              refine S_rwI (d := k_d K - 1) (e_callV (b := x8) (As := [.int x753]) (rest := [.int x744]) ok_X10_formAt rfl (Nat.le_of_ble_eq_true rfl) (dc_L_law_10 4 rfl) ho q1920 q1921 (show e_cl[8]? = some (RX10, TX10, 51) from rfl) (e_sel.of q1922) (e_is_of i754) rfl (Nat.le_of_ble_eq_true rfl)) (by omega) (fun _ _ e => ct_X10_formAt (by omega) e) (fun x754 h754 e754 => ?_)
              refine S_icmp_eq 1485 (dc_L_law_10 5 rfl) rfl (fun c757 => ?_) (fun c757 => ?_)
              · exact hK2 h754
              · refine S_iconst_ 0 (dc_L_law_10 6 rfl) rfl ?_
                refine Sx.err hE2 ?_
                refine Sx.err hE1 ?_
                exact S_iret (dc_L_law_10 7 rfl) hT rfl (e_rqI hr)
            refine Sx.case (fun c40_15 => ?_) (fun c40_15 => ?_)
            · refine S_tsIn 762 c40_15 (dc_L_law_0 24 rfl) (by decide) (by decide) rfl rfl ?_
              refine S_aload_n (dc_L_law_10 8 rfl) rfl ?_
              refine S_aload_n (dc_L_law_10 9 rfl) rfl ?_
              refine S_iload (dc_L_law_10 10 rfl) rfl ?_
              refine S_iconst_ 1 (dc_L_law_10 11 rfl) rfl ?_
              refine S_iadd (dc_L_law_10 12 rfl) ?_
              refine S_scAt hA hP (dc_L_law_10 13 rfl) (fun x768 => ?_)
              refine S_aload_n (dc_L_law_10 14 rfl) rfl ?_
              refine S_iload (dc_L_law_10 15 rfl) rfl ?_
              refine S_iconst_ 2 (dc_L_law_10 16 rfl) rfl ?_
              refine S_iadd (dc_L_law_10 17 rfl) ?_
              refine S_scAt hA hP (dc_L_law_10 18 rfl) (fun x774 => ?_)
              refine S_aload_n (dc_L_law_10 19 rfl) rfl ?_
              refine S_iload (dc_L_law_10 20 rfl) rfl ?_
              refine S_iconst_ 3 (dc_L_law_10 21 rfl) rfl ?_
              refine S_iadd (dc_L_law_10 22 rfl) ?_
              refine S_scAt hA hP (dc_L_law_10 23 rfl) (fun x780 => ?_)
              refine Sx.ask (fun _ i781 => ?_)
              refine S_rwI (d := k_d K - 1) (e_callV (b := x0) (As := [.int x768, .int x774, .int x780]) (rest := []) ok_X1_move rfl (Nat.le_of_ble_eq_true rfl) (dc_L_law_10 24 rfl) ho q955 q956 (show e_cl[0]? = some (RX1, TX1, 37) from rfl) (e_sel.of q957) (e_is_of i781) rfl (Nat.le_of_ble_eq_true rfl)) (by omega) (fun _ _ e => ct_X1_move (by omega) e) (fun x781 h781 e781 => ?_)
              refine S_aload_n (dc_L_law_10 25 rfl) rfl ?_
              refine S_aload_n (dc_L_law_10 26 rfl) rfl ?_
              refine S_iload (dc_L_law_10 27 rfl) rfl ?_
              refine S_iconst_ 1 (dc_L_law_10 28 rfl) rfl ?_
              refine S_iadd (dc_L_law_10 29 rfl) ?_
              refine S_scAt hA hP (dc_L_law_10 30 rfl) (fun x790 => ?_)
              refine S_aload_n (dc_L_law_10 31 rfl) rfl ?_
              refine S_iload (dc_L_law_10 32 rfl) rfl ?_
              refine S_iconst_ 2 (dc_L_law_10 33 rfl) rfl ?_
              refine S_iadd (dc_L_law_10 34 rfl) ?_
              refine S_scAt hA hP (dc_L_law_10 35 rfl) (fun x796 => ?_)
              refine S_aload_n (dc_L_law_10 36 rfl) rfl ?_
              refine S_iload (dc_L_law_10 37 rfl) rfl ?_
              refine S_iconst_ 3 (dc_L_law_10 38 rfl) rfl ?_
              refine S_iadd (dc_L_law_10 39 rfl) ?_
              refine S_scAt hA hP (dc_L_law_11 0 rfl) (fun x802 => ?_)
              refine Sx.ask (fun _ i803 => ?_)
              refine S_rwI (d := k_d K - 1) (e_callV (b := x8) (As := [.int x790, .int x796, .int x802]) (rest := [.int x781]) ok_X10_move rfl (Nat.le_of_ble_eq_true rfl) (dc_L_law_11 1 rfl) ho q1936 q1937 (show e_cl[8]? = some (RX10, TX10, 51) from rfl) (e_sel.of q1938) (e_is_of i803) rfl (Nat.le_of_ble_eq_true rfl)) (by omega) (fun _ _ e => ct_X10_move (by omega) e) (fun x803 h803 e803 => ?_)
              refine S_icmp_eq 1485 (dc_L_law_11 2 rfl) rfl (fun c806 => ?_) (fun c806 => ?_)
              · exact hK2 h803
              · refine S_iconst_ 0 (dc_L_law_11 3 rfl) rfl ?_
                refine Sx.err hE2 ?_
                refine Sx.err hE1 ?_
                exact S_iret (dc_L_law_11 4 rfl) hT rfl (e_rqI hr)
            refine Sx.case (fun c40_16 => ?_) (fun c40_16 => ?_)
            · refine S_tsIn 811 c40_16 (dc_L_law_0 24 rfl) (by decide) (by decide) rfl rfl ?_
              refine S_aload_n (dc_L_law_11 5 rfl) rfl ?_
              refine S_aload_n (dc_L_law_11 6 rfl) rfl ?_
              refine S_iload (dc_L_law_11 7 rfl) rfl ?_
              refine S_iconst_ 1 (dc_L_law_11 8 rfl) rfl ?_
              refine S_iadd (dc_L_law_11 9 rfl) ?_
              refine S_scAt hA hP (dc_L_law_11 10 rfl) (fun x817 => ?_)
              refine S_aload_n (dc_L_law_11 11 rfl) rfl ?_
              refine S_iload (dc_L_law_11 12 rfl) rfl ?_
              refine S_iconst_ 2 (dc_L_law_11 13 rfl) rfl ?_
              refine S_iadd (dc_L_law_11 14 rfl) ?_
              refine S_scAt hA hP (dc_L_law_11 15 rfl) (fun x823 => ?_)
              refine S_aload_n (dc_L_law_11 16 rfl) rfl ?_
              refine S_iload (dc_L_law_11 17 rfl) rfl ?_
              refine S_iconst_ 3 (dc_L_law_11 18 rfl) rfl ?_
              refine S_iadd (dc_L_law_11 19 rfl) ?_
              refine S_scAt hA hP (dc_L_law_11 20 rfl) (fun x829 => ?_)
              refine Sx.ask (fun _ i830 => ?_)
              refine S_rwI (d := k_d K - 1) (e_callV (b := x0) (As := [.int x817, .int x823, .int x829]) (rest := []) ok_X1_slide rfl (Nat.le_of_ble_eq_true rfl) (dc_L_law_11 21 rfl) ho q976 q977 (show e_cl[0]? = some (RX1, TX1, 37) from rfl) (e_sel.of q978) (e_is_of i830) rfl (Nat.le_of_ble_eq_true rfl)) (by omega) (fun _ _ e => ct_X1_slide (by omega) e) (fun x830 h830 e830 => ?_)
              refine S_aload_n (dc_L_law_11 22 rfl) rfl ?_
              refine S_aload_n (dc_L_law_11 23 rfl) rfl ?_
              refine S_iload (dc_L_law_11 24 rfl) rfl ?_
              refine S_iconst_ 1 (dc_L_law_11 25 rfl) rfl ?_
              refine S_iadd (dc_L_law_11 26 rfl) ?_
              refine S_scAt hA hP (dc_L_law_11 27 rfl) (fun x839 => ?_)
              refine S_aload_n (dc_L_law_11 28 rfl) rfl ?_
              refine S_iload (dc_L_law_11 29 rfl) rfl ?_
              refine S_iconst_ 2 (dc_L_law_11 30 rfl) rfl ?_
              refine S_iadd (dc_L_law_11 31 rfl) ?_
              refine S_scAt hA hP (dc_L_law_11 32 rfl) (fun x845 => ?_)
              refine S_aload_n (dc_L_law_11 33 rfl) rfl ?_
              refine S_iload (dc_L_law_11 34 rfl) rfl ?_
              refine S_iconst_ 3 (dc_L_law_11 35 rfl) rfl ?_
              refine S_iadd (dc_L_law_11 36 rfl) ?_
              refine S_scAt hA hP (dc_L_law_11 37 rfl) (fun x851 => ?_)
              refine Sx.ask (fun _ i852 => ?_)
              refine S_rwI (d := k_d K - 1) (e_callV (b := x8) (As := [.int x839, .int x845, .int x851]) (rest := [.int x830]) ok_X10_slide rfl (Nat.le_of_ble_eq_true rfl) (dc_L_law_11 38 rfl) ho q1952 q1953 (show e_cl[8]? = some (RX10, TX10, 51) from rfl) (e_sel.of q1954) (e_is_of i852) rfl (Nat.le_of_ble_eq_true rfl)) (by omega) (fun _ _ e => ct_X10_slide (by omega) e) (fun x852 h852 e852 => ?_)
              refine S_icmp_eq 1485 (dc_L_law_11 39 rfl) rfl (fun c855 => ?_) (fun c855 => ?_)
              · exact hK2 h852
              · refine S_iconst_ 0 (dc_L_law_12 0 rfl) rfl ?_
                refine Sx.err hE2 ?_
                refine Sx.err hE1 ?_
                exact S_iret (dc_L_law_12 1 rfl) hT rfl (e_rqI hr)
            refine Sx.case (fun c40_17 => ?_) (fun c40_17 => ?_)
            · refine S_tsIn 860 c40_17 (dc_L_law_0 24 rfl) (by decide) (by decide) rfl rfl ?_
              refine S_aload_n (dc_L_law_12 2 rfl) rfl ?_
              refine S_aload_n (dc_L_law_12 3 rfl) rfl ?_
              refine S_iload (dc_L_law_12 4 rfl) rfl ?_
              refine S_iconst_ 1 (dc_L_law_12 5 rfl) rfl ?_
              refine S_iadd (dc_L_law_12 6 rfl) ?_
              refine S_scAt hA hP (dc_L_law_12 7 rfl) (fun x866 => ?_)
              refine Sx.ask (fun _ i867 => ?_)
              refine S_rwI (d := k_d K - 1) (e_callV (b := x0) (As := [.int x866]) (rest := []) ok_X1_snap rfl (Nat.le_of_ble_eq_true rfl) (dc_L_law_12 8 rfl) ho q980 q981 (show e_cl[0]? = some (RX1, TX1, 37) from rfl) (e_sel.of q982) (e_is_of i867) rfl (Nat.le_of_ble_eq_true rfl)) (by omega) (fun _ _ e => ct_X1_snap (by omega) e) (fun x867 h867 e867 => ?_)
              refine S_aload_n (dc_L_law_12 9 rfl) rfl ?_
              refine S_aload_n (dc_L_law_12 10 rfl) rfl ?_
              refine S_iload (dc_L_law_12 11 rfl) rfl ?_
              refine S_iconst_ 1 (dc_L_law_12 12 rfl) rfl ?_
              refine S_iadd (dc_L_law_12 13 rfl) ?_
              refine S_scAt hA hP (dc_L_law_12 14 rfl) (fun x876 => ?_)
              refine Sx.ask (fun _ i877 => ?_)
              refine S_rwI (d := k_d K - 1) (e_callV (b := x8) (As := [.int x876]) (rest := [.int x867]) ok_X10_snap rfl (Nat.le_of_ble_eq_true rfl) (dc_L_law_12 15 rfl) ho q1968 q1969 (show e_cl[8]? = some (RX10, TX10, 51) from rfl) (e_sel.of q1970) (e_is_of i877) rfl (Nat.le_of_ble_eq_true rfl)) (by omega) (fun _ _ e => ct_X10_snap (by omega) e) (fun x877 h877 e877 => ?_)
              refine S_icmp_eq 1485 (dc_L_law_12 16 rfl) rfl (fun c880 => ?_) (fun c880 => ?_)
              · exact hK2 h877
              · refine S_iconst_ 0 (dc_L_law_12 17 rfl) rfl ?_
                refine Sx.err hE2 ?_
                refine Sx.err hE1 ?_
                exact S_iret (dc_L_law_12 18 rfl) hT rfl (e_rqI hr)
            refine Sx.case (fun c40_18 => ?_) (fun c40_18 => ?_)
            · refine S_tsIn 885 c40_18 (dc_L_law_0 24 rfl) (by decide) (by decide) rfl rfl ?_
              refine S_aload_n (dc_L_law_12 19 rfl) rfl ?_
              refine Sx.ask (fun _ i886 => ?_)
              refine S_rwI (d := k_d K - 1) (e_callV (b := x0) (As := []) (rest := []) ok_X1_undo rfl (Nat.le_of_ble_eq_true rfl) (dc_L_law_12 20 rfl) ho q951 q952 (show e_cl[0]? = some (RX1, TX1, 37) from rfl) (e_sel.of q953) (e_is_of i886) rfl (Nat.le_of_ble_eq_true rfl)) (by omega) (fun _ _ e => ct_X1_undo (by omega) e) (fun x886 h886 e886 => ?_)
              refine S_aload_n (dc_L_law_12 21 rfl) rfl ?_
              refine Sx.ask (fun _ i890 => ?_)
              refine S_rwI (d := k_d K - 1) (e_callV (b := x8) (As := []) (rest := [.int x886]) ok_X10_undo rfl (Nat.le_of_ble_eq_true rfl) (dc_L_law_12 22 rfl) ho q1932 q1933 (show e_cl[8]? = some (RX10, TX10, 51) from rfl) (e_sel.of q1934) (e_is_of i890) rfl (Nat.le_of_ble_eq_true rfl)) (by omega) (fun _ _ e => ct_X10_undo (by omega) e) (fun x890 h890 e890 => ?_)
              refine S_icmp_eq 1485 (dc_L_law_12 23 rfl) rfl (fun c893 => ?_) (fun c893 => ?_)
              · exact hK2 h890
              · refine S_iconst_ 0 (dc_L_law_12 24 rfl) rfl ?_
                refine Sx.err hE2 ?_
                refine Sx.err hE1 ?_
                exact S_iret (dc_L_law_12 25 rfl) hT rfl (e_rqI hr)
            refine Sx.case (fun c40_19 => ?_) (fun c40_19 => ?_)
            · refine S_tsIn 898 c40_19 (dc_L_law_0 24 rfl) (by decide) (by decide) rfl rfl ?_
              refine S_aload_n (dc_L_law_12 26 rfl) rfl ?_
              refine Sx.ask (fun _ i899 => ?_)
              refine S_roI (d := k_d K - 1) (e_callV (b := x0) (As := []) (rest := []) ok_X1_free rfl (Nat.le_of_ble_eq_true rfl) (dc_L_law_12 27 rfl) ho q993 q994 (show e_cl[0]? = some (RX1, TX1, 37) from rfl) (e_sel.of q995) (e_is_of i899) rfl (Nat.le_of_ble_eq_true rfl)) (by omega) (fun _ e => ct_X1_free (by omega) e) (fun x899 e899 => ?_)
              refine S_aload_n (dc_L_law_12 28 rfl) rfl ?_
              refine Sx.ask (fun _ i903 => ?_)
              refine S_rwI (d := k_d K - 1) (e_callV (b := x8) (As := []) (rest := [.int x899]) ok_X10_free rfl (Nat.le_of_ble_eq_true rfl) (dc_L_law_12 29 rfl) ho q1956 q1957 (show e_cl[8]? = some (RX10, TX10, 51) from rfl) (e_sel.of q1958) (e_is_of i903) rfl (Nat.le_of_ble_eq_true rfl)) (by omega) (fun _ _ e => ct_X10_free (by omega) e) (fun x903 h903 e903 => ?_)
              refine S_icmp_eq 1485 (dc_L_law_12 30 rfl) rfl (fun c906 => ?_) (fun c906 => ?_)
              · exact hK2 h903
              · refine S_iconst_ 0 (dc_L_law_12 31 rfl) rfl ?_
                refine Sx.err hE2 ?_
                refine Sx.err hE1 ?_
                exact S_iret (dc_L_law_12 32 rfl) hT rfl (e_rqI hr)
            refine Sx.case (fun c40_20 => ?_) (fun c40_20 => ?_)
            · refine S_tsIn 911 c40_20 (dc_L_law_0 24 rfl) (by decide) (by decide) rfl rfl ?_
              refine S_aload_n (dc_L_law_12 33 rfl) rfl ?_
              refine S_aload_n (dc_L_law_12 34 rfl) rfl ?_
              refine S_iload (dc_L_law_12 35 rfl) rfl ?_
              refine S_iconst_ 1 (dc_L_law_12 36 rfl) rfl ?_
              refine S_iadd (dc_L_law_12 37 rfl) ?_
              refine S_scAt hA hP (dc_L_law_12 38 rfl) (fun x917 => ?_)
              refine S_aload_n (dc_L_law_12 39 rfl) rfl ?_
              refine S_iload (dc_L_law_13 0 rfl) rfl ?_
              refine S_iconst_ 2 (dc_L_law_13 1 rfl) rfl ?_
              refine S_iadd (dc_L_law_13 2 rfl) ?_
              refine S_scAt hA hP (dc_L_law_13 3 rfl) (fun x923 => ?_)
              refine Sx.ask (fun _ i924 => ?_)
              refine S_roI (d := k_d K - 1) (e_callV (b := x0) (As := [.int x917, .int x923]) (rest := []) ok_X1_rim rfl (Nat.le_of_ble_eq_true rfl) (dc_L_law_13 4 rfl) ho q932 q933 (show e_cl[0]? = some (RX1, TX1, 37) from rfl) (e_sel.of q934) (e_is_of i924) rfl (Nat.le_of_ble_eq_true rfl)) (by omega) (fun _ e => ct_X1_rim (by omega) e) (fun x924 e924 => ?_)
              refine S_aload_n (dc_L_law_13 5 rfl) rfl ?_
              refine S_aload_n (dc_L_law_13 6 rfl) rfl ?_
              refine S_iload (dc_L_law_13 7 rfl) rfl ?_
              refine S_iconst_ 1 (dc_L_law_13 8 rfl) rfl ?_
              refine S_iadd (dc_L_law_13 9 rfl) ?_
              refine S_scAt hA hP (dc_L_law_13 10 rfl) (fun x933 => ?_)
              refine S_aload_n (dc_L_law_13 11 rfl) rfl ?_
              refine S_iload (dc_L_law_13 12 rfl) rfl ?_
              refine S_iconst_ 2 (dc_L_law_13 13 rfl) rfl ?_
              refine S_iadd (dc_L_law_13 14 rfl) ?_
              refine S_scAt hA hP (dc_L_law_13 15 rfl) (fun x939 => ?_)
              refine Sx.ask (fun _ i940 => ?_)
              refine S_rwI (d := k_d K - 1) (e_callV (b := x8) (As := [.int x933, .int x939]) (rest := [.int x924]) ok_X10_rim rfl (Nat.le_of_ble_eq_true rfl) (dc_L_law_13 16 rfl) ho q1885 q1886 (show e_cl[8]? = some (RX10, TX10, 51) from rfl) (e_sel.of q1887) (e_is_of i940) rfl (Nat.le_of_ble_eq_true rfl)) (by omega) (fun _ _ e => ct_X10_rim (by omega) e) (fun x940 h940 e940 => ?_)
              refine S_icmp_eq 1485 (dc_L_law_13 17 rfl) rfl (fun c943 => ?_) (fun c943 => ?_)
              · exact hK2 h940
              · refine S_iconst_ 0 (dc_L_law_13 18 rfl) rfl ?_
                refine Sx.err hE2 ?_
                refine Sx.err hE1 ?_
                exact S_iret (dc_L_law_13 19 rfl) hT rfl (e_rqI hr)
            refine Sx.case (fun c40_21 => ?_) (fun c40_21 => ?_)
            · refine S_tsIn 948 c40_21 (dc_L_law_0 24 rfl) (by decide) (by decide) rfl rfl ?_
              refine S_aload_n (dc_L_law_13 20 rfl) rfl ?_
              refine S_aload_n (dc_L_law_13 21 rfl) rfl ?_
              refine S_iload (dc_L_law_13 22 rfl) rfl ?_
              refine S_iconst_ 1 (dc_L_law_13 23 rfl) rfl ?_
              refine S_iadd (dc_L_law_13 24 rfl) ?_
              refine S_scAt hA hP (dc_L_law_13 25 rfl) (fun x954 => ?_)
              refine S_aload_n (dc_L_law_13 26 rfl) rfl ?_
              refine S_iload (dc_L_law_13 27 rfl) rfl ?_
              refine S_iconst_ 2 (dc_L_law_13 28 rfl) rfl ?_
              refine S_iadd (dc_L_law_13 29 rfl) ?_
              refine S_scAt hA hP (dc_L_law_13 30 rfl) (fun x960 => ?_)
              refine Sx.ask (fun _ i961 => ?_)
              refine S_rwI (d := k_d K - 1) (e_callV (b := x0) (As := [.int x954, .int x960]) (rest := []) ok_X1_even rfl (Nat.le_of_ble_eq_true rfl) (dc_L_law_13 31 rfl) ho q920 q921 (show e_cl[0]? = some (RX1, TX1, 37) from rfl) (e_sel.of q922) (e_is_of i961) rfl (Nat.le_of_ble_eq_true rfl)) (by omega) (fun _ _ e => ct_X1_even (by omega) e) (fun x961 h961 e961 => ?_)
              refine S_aload_n (dc_L_law_13 32 rfl) rfl ?_
              refine S_aload_n (dc_L_law_13 33 rfl) rfl ?_
              refine S_iload (dc_L_law_13 34 rfl) rfl ?_
              refine S_iconst_ 1 (dc_L_law_13 35 rfl) rfl ?_
              refine S_iadd (dc_L_law_13 36 rfl) ?_
              refine S_scAt hA hP (dc_L_law_13 37 rfl) (fun x970 => ?_)
              refine S_aload_n (dc_L_law_13 38 rfl) rfl ?_
              refine S_iload (dc_L_law_13 39 rfl) rfl ?_
              refine S_iconst_ 2 (dc_L_law_14 0 rfl) rfl ?_
              refine S_iadd (dc_L_law_14 1 rfl) ?_
              refine S_scAt hA hP (dc_L_law_14 2 rfl) (fun x976 => ?_)
              refine Sx.ask (fun _ i977 => ?_)
              refine S_rwI (d := k_d K - 1) (e_callV (b := x8) (As := [.int x970, .int x976]) (rest := [.int x961]) ok_X10_even rfl (Nat.le_of_ble_eq_true rfl) (dc_L_law_14 3 rfl) ho q1924 q1925 (show e_cl[8]? = some (RX10, TX10, 51) from rfl) (e_sel.of q1926) (e_is_of i977) rfl (Nat.le_of_ble_eq_true rfl)) (by omega) (fun _ _ e => ct_X10_even (by omega) e) (fun x977 h977 e977 => ?_)
              refine S_icmp_eq 1485 (dc_L_law_14 4 rfl) rfl (fun c980 => ?_) (fun c980 => ?_)
              · exact hK2 h977
              · refine S_iconst_ 0 (dc_L_law_14 5 rfl) rfl ?_
                refine Sx.err hE2 ?_
                refine Sx.err hE1 ?_
                exact S_iret (dc_L_law_14 6 rfl) hT rfl (e_rqI hr)
            refine Sx.case (fun c40_22 => ?_) (fun c40_22 => ?_)
            · refine S_tsIn 985 c40_22 (dc_L_law_0 24 rfl) (by decide) (by decide) rfl rfl ?_
              refine S_aload_n (dc_L_law_14 7 rfl) rfl ?_
              refine S_aload_n (dc_L_law_14 8 rfl) rfl ?_
              refine S_iload (dc_L_law_14 9 rfl) rfl ?_
              refine S_iconst_ 1 (dc_L_law_14 10 rfl) rfl ?_
              refine S_iadd (dc_L_law_14 11 rfl) ?_
              refine S_scAt hA hP (dc_L_law_14 12 rfl) (fun x991 => ?_)
              refine Sx.ask (fun _ i992 => ?_)
              refine S_roI (d := k_d K - 1) (e_callV (b := x0) (As := [.int x991]) (rest := []) ok_X1_wide rfl (Nat.le_of_ble_eq_true rfl) (dc_L_law_14 13 rfl) ho q928 q929 (show e_cl[0]? = some (RX1, TX1, 37) from rfl) (e_sel.of q930) (e_is_of i992) rfl (Nat.le_of_ble_eq_true rfl)) (by omega) (fun _ e => ct_X1_wide (by omega) e) (fun x992 e992 => ?_)
              refine S_aload_n (dc_L_law_14 14 rfl) rfl ?_
              refine S_aload_n (dc_L_law_14 15 rfl) rfl ?_
              refine S_iload (dc_L_law_14 16 rfl) rfl ?_
              refine S_iconst_ 1 (dc_L_law_14 17 rfl) rfl ?_
              refine S_iadd (dc_L_law_14 18 rfl) ?_
              refine S_scAt hA hP (dc_L_law_14 19 rfl) (fun x1001 => ?_)
              refine Sx.ask (fun _ i1002 => ?_)
              refine S_rwI (d := k_d K - 1) (e_callV (b := x8) (As := [.int x1001]) (rest := [.int x992]) ok_X10_wide rfl (Nat.le_of_ble_eq_true rfl) (dc_L_law_14 20 rfl) ho q1889 q1890 (show e_cl[8]? = some (RX10, TX10, 51) from rfl) (e_sel.of q1891) (e_is_of i1002) rfl (Nat.le_of_ble_eq_true rfl)) (by omega) (fun _ _ e => ct_X10_wide (by omega) e) (fun x1002 h1002 e1002 => ?_)
              refine S_icmp_eq 1485 (dc_L_law_14 21 rfl) rfl (fun c1005 => ?_) (fun c1005 => ?_)
              · exact hK2 h1002
              · refine S_iconst_ 0 (dc_L_law_14 22 rfl) rfl ?_
                refine Sx.err hE2 ?_
                refine Sx.err hE1 ?_
                exact S_iret (dc_L_law_14 23 rfl) hT rfl (e_rqI hr)
            refine Sx.case (fun c40_23 => ?_) (fun c40_23 => ?_)
            · refine S_tsIn 1010 c40_23 (dc_L_law_0 24 rfl) (by decide) (by decide) rfl rfl ?_
              refine S_aload_n (dc_L_law_14 24 rfl) rfl ?_
              refine Sx.ask (fun _ i1011 => ?_)
              refine S_rwI (d := k_d K - 1) (e_callVW (b := x0) (As := []) (rest := []) ok_X1_calls rfl (Nat.le_of_ble_eq_true rfl) (dc_L_law_14 25 rfl) ho q997 q998 (show e_cl[0]? = some (RX1, TX1, 37) from rfl) (e_sel.of q999) (e_is_of i1011) rfl (Nat.le_of_ble_eq_true rfl)) (by omega) (fun _ _ e => ct_X1_calls hA (by omega) e) (fun x1011 h1011 e1011 => ?_)
              refine S_aload_n (dc_L_law_14 26 rfl) rfl ?_
              refine Sx.ask (fun _ i1015 => ?_)
              refine S_rwI (d := k_d K - 1) (e_callV (b := x8) (As := []) (rest := [.int x1011]) ok_X10_calls rfl (Nat.le_of_ble_eq_true rfl) (dc_L_law_14 27 rfl) ho q1972 q1973 (show e_cl[8]? = some (RX10, TX10, 51) from rfl) (e_sel.of q1974) (e_is_of i1015) rfl (Nat.le_of_ble_eq_true rfl)) (by omega) (fun _ _ e => ct_X10_calls (by omega) e) (fun x1015 h1015 e1015 => ?_)
              refine S_icmp_eq 1485 (dc_L_law_14 28 rfl) rfl (fun c1018 => ?_) (fun c1018 => ?_)
              · exact hK2 h1015
              · refine S_iconst_ 0 (dc_L_law_14 29 rfl) rfl ?_
                refine Sx.err hE2 ?_
                refine Sx.err hE1 ?_
                exact S_iret (dc_L_law_14 30 rfl) hT rfl (e_rqI hr)
            refine Sx.case (fun c40_24 => ?_) (fun c40_24 => ?_)
            · refine S_tsIn 1023 c40_24 (dc_L_law_0 24 rfl) (by decide) (by decide) rfl rfl ?_
              refine S_aload_n (dc_L_law_14 31 rfl) rfl ?_
              refine Sx.ask (fun _ i1024 => ?_)
              refine S_roI (d := k_d K - 1) (e_callV (b := x0) (As := []) (rest := []) ok_X1_closes rfl (Nat.le_of_ble_eq_true rfl) (dc_L_law_14 32 rfl) ho q1040 q1041 (show e_cl[0]? = some (RX1, TX1, 37) from rfl) (e_sel.of q1042) (e_is_of i1024) rfl (Nat.le_of_ble_eq_true rfl)) (by omega) (fun _ e => ct_X1_closes (by omega) e) (fun x1024 e1024 => ?_)
              refine S_aload_n (dc_L_law_14 33 rfl) rfl ?_
              refine Sx.ask (fun _ i1028 => ?_)
              refine S_rwI (d := k_d K - 1) (e_callV (b := x8) (As := []) (rest := [.int x1024]) ok_X10_closes rfl (Nat.le_of_ble_eq_true rfl) (dc_L_law_14 34 rfl) ho q1988 q1989 (show e_cl[8]? = some (RX10, TX10, 51) from rfl) (e_sel.of q1990) (e_is_of i1028) rfl (Nat.le_of_ble_eq_true rfl)) (by omega) (fun _ _ e => ct_X10_closes (by omega) e) (fun x1028 h1028 e1028 => ?_)
              refine S_icmp_eq 1485 (dc_L_law_14 35 rfl) rfl (fun c1031 => ?_) (fun c1031 => ?_)
              · exact hK2 h1028
              · refine S_iconst_ 0 (dc_L_law_14 36 rfl) rfl ?_
                refine Sx.err hE2 ?_
                refine Sx.err hE1 ?_
                exact S_iret (dc_L_law_14 37 rfl) hT rfl (e_rqI hr)
            refine Sx.case (fun c40_25 => ?_) (fun c40_25 => ?_)
            · refine S_tsIn 1036 c40_25 (dc_L_law_0 24 rfl) (by decide) (by decide) rfl rfl ?_
              refine S_aload_n (dc_L_law_14 38 rfl) rfl ?_
              refine S_aload_n (dc_L_law_14 39 rfl) rfl ?_
              refine S_iload (dc_L_law_15 0 rfl) rfl ?_
              refine S_iconst_ 1 (dc_L_law_15 1 rfl) rfl ?_
              refine S_iadd (dc_L_law_15 2 rfl) ?_
              refine S_scAt hA hP (dc_L_law_15 3 rfl) (fun x1042 => ?_)
              refine Sx.ask (fun _ i1043 => ?_)
              refine S_rwI (d := k_d K - 1) (e_callV (b := x0) (As := [.int x1042]) (rest := []) ok_X1_mended rfl (Nat.le_of_ble_eq_true rfl) (dc_L_law_15 4 rfl) ho q1052 q1053 (show e_cl[0]? = some (RX1, TX1, 37) from rfl) (e_sel.of q1054) (e_is_of i1043) rfl (Nat.le_of_ble_eq_true rfl)) (by omega) (fun _ _ e => ct_X1_mended (by omega) e) (fun x1043 h1043 e1043 => ?_)
              refine S_aload_n (dc_L_law_15 5 rfl) rfl ?_
              refine S_aload_n (dc_L_law_15 6 rfl) rfl ?_
              refine S_iload (dc_L_law_15 7 rfl) rfl ?_
              refine S_iconst_ 1 (dc_L_law_15 8 rfl) rfl ?_
              refine S_iadd (dc_L_law_15 9 rfl) ?_
              refine S_scAt hA hP (dc_L_law_15 10 rfl) (fun x1052 => ?_)
              refine Sx.ask (fun _ i1053 => ?_)
              refine S_rwI (d := k_d K - 1) (e_callV (b := x8) (As := [.int x1052]) (rest := [.int x1043]) ok_X10_mended rfl (Nat.le_of_ble_eq_true rfl) (dc_L_law_15 11 rfl) ho q2000 q2001 (show e_cl[8]? = some (RX10, TX10, 51) from rfl) (e_sel.of q2002) (e_is_of i1053) rfl (Nat.le_of_ble_eq_true rfl)) (by omega) (fun _ _ e => ct_X10_mended (by omega) e) (fun x1053 h1053 e1053 => ?_)
              refine S_icmp_eq 1485 (dc_L_law_15 12 rfl) rfl (fun c1056 => ?_) (fun c1056 => ?_)
              · exact hK2 h1053
              · refine S_iconst_ 0 (dc_L_law_15 13 rfl) rfl ?_
                refine Sx.err hE2 ?_
                refine Sx.err hE1 ?_
                exact S_iret (dc_L_law_15 14 rfl) hT rfl (e_rqI hr)
            refine Sx.case (fun c40_26 => ?_) (fun c40_26 => ?_)
            · refine S_tsIn 1061 c40_26 (dc_L_law_0 24 rfl) (by decide) (by decide) rfl rfl ?_
              refine S_aload_n (dc_L_law_15 15 rfl) rfl ?_
              refine Sx.ask (fun _ i1062 => ?_)
              refine S_rwI (d := k_d K - 1) (e_callV (b := x0) (As := []) (rest := []) ok_X1_lay rfl (Nat.le_of_ble_eq_true rfl) (dc_L_law_15 16 rfl) ho q1069 q1070 (show e_cl[0]? = some (RX1, TX1, 37) from rfl) (e_sel.of q1071) (e_is_of i1062) rfl (Nat.le_of_ble_eq_true rfl)) (by omega) (fun _ _ e => ct_X1_lay (by omega) e) (fun x1062 h1062 e1062 => ?_)
              refine S_aload_n (dc_L_law_15 17 rfl) rfl ?_
              refine Sx.ask (fun _ i1066 => ?_)
              refine S_rwI (d := k_d K - 1) (e_callV (b := x8) (As := []) (rest := [.int x1062]) ok_X10_lay rfl (Nat.le_of_ble_eq_true rfl) (dc_L_law_15 18 rfl) ho q2008 q2009 (show e_cl[8]? = some (RX10, TX10, 51) from rfl) (e_sel.of q2010) (e_is_of i1066) rfl (Nat.le_of_ble_eq_true rfl)) (by omega) (fun _ _ e => ct_X10_lay (by omega) e) (fun x1066 h1066 e1066 => ?_)
              refine S_icmp_eq 1485 (dc_L_law_15 19 rfl) rfl (fun c1069 => ?_) (fun c1069 => ?_)
              · exact hK2 h1066
              · refine S_iconst_ 0 (dc_L_law_15 20 rfl) rfl ?_
                refine Sx.err hE2 ?_
                refine Sx.err hE1 ?_
                exact S_iret (dc_L_law_15 21 rfl) hT rfl (e_rqI hr)
            refine Sx.case (fun c40_27 => ?_) (fun c40_27 => ?_)
            · refine S_tsIn 1074 c40_27 (dc_L_law_0 24 rfl) (by decide) (by decide) rfl rfl ?_
              refine S_aload_n (dc_L_law_15 22 rfl) rfl ?_
              refine S_aload_n (dc_L_law_15 23 rfl) rfl ?_
              refine S_iload (dc_L_law_15 24 rfl) rfl ?_
              refine S_iconst_ 1 (dc_L_law_15 25 rfl) rfl ?_
              refine S_iadd (dc_L_law_15 26 rfl) ?_
              refine S_scAt hA hP (dc_L_law_15 27 rfl) (fun x1080 => ?_)
              refine Sx.ask (fun _ i1081 => ?_)
              refine S_rwI (d := k_d K - 1) (e_callV (b := x0) (As := [.int x1080]) (rest := []) ok_X1_write rfl (Nat.le_of_ble_eq_true rfl) (dc_L_law_15 28 rfl) ho q1073 q1074 (show e_cl[0]? = some (RX1, TX1, 37) from rfl) (e_sel.of q1075) (e_is_of i1081) rfl (Nat.le_of_ble_eq_true rfl)) (by omega) (fun _ _ e => ct_X1_write (by omega) e) (fun x1081 h1081 e1081 => ?_)
              refine S_aload_n (dc_L_law_15 29 rfl) rfl ?_
              refine S_aload_n (dc_L_law_15 30 rfl) rfl ?_
              refine S_iload (dc_L_law_15 31 rfl) rfl ?_
              refine S_iconst_ 1 (dc_L_law_15 32 rfl) rfl ?_
              refine S_iadd (dc_L_law_15 33 rfl) ?_
              refine S_scAt hA hP (dc_L_law_15 34 rfl) (fun x1090 => ?_)
              refine Sx.ask (fun _ i1091 => ?_)
              refine S_rwI (d := k_d K - 1) (e_callV (b := x8) (As := [.int x1090]) (rest := [.int x1081]) ok_X10_write rfl (Nat.le_of_ble_eq_true rfl) (dc_L_law_15 35 rfl) ho q2012 q2013 (show e_cl[8]? = some (RX10, TX10, 51) from rfl) (e_sel.of q2014) (e_is_of i1091) rfl (Nat.le_of_ble_eq_true rfl)) (by omega) (fun _ _ e => ct_X10_write (by omega) e) (fun x1091 h1091 e1091 => ?_)
              refine S_icmp_eq 1485 (dc_L_law_15 36 rfl) rfl (fun c1094 => ?_) (fun c1094 => ?_)
              · exact hK2 h1091
              · refine S_iconst_ 0 (dc_L_law_15 37 rfl) rfl ?_
                refine Sx.err hE2 ?_
                refine Sx.err hE1 ?_
                exact S_iret (dc_L_law_15 38 rfl) hT rfl (e_rqI hr)
            refine Sx.case (fun c40_28 => ?_) (fun c40_28 => ?_)
            · refine S_tsIn 1099 c40_28 (dc_L_law_0 24 rfl) (by decide) (by decide) rfl rfl ?_
              refine S_aload_n (dc_L_law_15 39 rfl) rfl ?_
              refine S_aload_n (dc_L_law_16 0 rfl) rfl ?_
              refine S_iload (dc_L_law_16 1 rfl) rfl ?_
              refine S_iconst_ 1 (dc_L_law_16 2 rfl) rfl ?_
              refine S_iadd (dc_L_law_16 3 rfl) ?_
              refine S_scAt hA hP (dc_L_law_16 4 rfl) (fun x1105 => ?_)
              refine Sx.ask (fun _ i1106 => ?_)
              refine S_roI (d := k_d K - 1) (e_callV (b := x0) (As := [.int x1105]) (rest := []) ok_X1_byteAt rfl (Nat.le_of_ble_eq_true rfl) (dc_L_law_16 5 rfl) ho q1094 q1095 (show e_cl[0]? = some (RX1, TX1, 37) from rfl) (e_sel.of q1096) (e_is_of i1106) rfl (Nat.le_of_ble_eq_true rfl)) (by omega) (fun _ e => ct_X1_byteAt (by omega) e) (fun x1106 e1106 => ?_)
              refine S_aload_n (dc_L_law_16 6 rfl) rfl ?_
              refine S_aload_n (dc_L_law_16 7 rfl) rfl ?_
              refine S_iload (dc_L_law_16 8 rfl) rfl ?_
              refine S_iconst_ 1 (dc_L_law_16 9 rfl) rfl ?_
              refine S_iadd (dc_L_law_16 10 rfl) ?_
              refine S_scAt hA hP (dc_L_law_16 11 rfl) (fun x1115 => ?_)
              refine Sx.ask (fun _ i1116 => ?_)
              refine S_rwI (d := k_d K - 1) (e_callV (b := x8) (As := [.int x1115]) (rest := [.int x1106]) ok_X10_byteAt rfl (Nat.le_of_ble_eq_true rfl) (dc_L_law_16 12 rfl) ho q2024 q2025 (show e_cl[8]? = some (RX10, TX10, 51) from rfl) (e_sel.of q2026) (e_is_of i1116) rfl (Nat.le_of_ble_eq_true rfl)) (by omega) (fun _ _ e => ct_X10_byteAt (by omega) e) (fun x1116 h1116 e1116 => ?_)
              refine S_icmp_eq 1485 (dc_L_law_16 13 rfl) rfl (fun c1119 => ?_) (fun c1119 => ?_)
              · exact hK2 h1116
              · refine S_iconst_ 0 (dc_L_law_16 14 rfl) rfl ?_
                refine Sx.err hE2 ?_
                refine Sx.err hE1 ?_
                exact S_iret (dc_L_law_16 15 rfl) hT rfl (e_rqI hr)
            refine Sx.case (fun c40_29 => ?_) (fun c40_29 => ?_)
            · refine S_tsIn 1124 c40_29 (dc_L_law_0 24 rfl) (by decide) (by decide) rfl rfl ?_
              refine S_aload_n (dc_L_law_16 16 rfl) rfl ?_
              refine S_aload_n (dc_L_law_16 17 rfl) rfl ?_
              refine S_iload (dc_L_law_16 18 rfl) rfl ?_
              refine S_iconst_ 1 (dc_L_law_16 19 rfl) rfl ?_
              refine S_iadd (dc_L_law_16 20 rfl) ?_
              refine S_scAt hA hP (dc_L_law_16 21 rfl) (fun x1130 => ?_)
              refine S_aload_n (dc_L_law_16 22 rfl) rfl ?_
              refine S_iload (dc_L_law_16 23 rfl) rfl ?_
              refine S_iconst_ 2 (dc_L_law_16 24 rfl) rfl ?_
              refine S_iadd (dc_L_law_16 25 rfl) ?_
              refine S_scAt hA hP (dc_L_law_16 26 rfl) (fun x1136 => ?_)
              refine S_aload_n (dc_L_law_16 27 rfl) rfl ?_
              refine S_iload (dc_L_law_16 28 rfl) rfl ?_
              refine S_iconst_ 3 (dc_L_law_16 29 rfl) rfl ?_
              refine S_iadd (dc_L_law_16 30 rfl) ?_
              refine S_scAt hA hP (dc_L_law_16 31 rfl) (fun x1142 => ?_)
              refine Sx.ask (fun _ i1143 => ?_)
              refine S_rwI (d := k_d K - 1) (e_callV (b := x0) (As := [.int x1130, .int x1136, .int x1142]) (rest := []) ok_X1_triangles rfl (Nat.le_of_ble_eq_true rfl) (dc_L_law_16 32 rfl) ho q1098 q1099 (show e_cl[0]? = some (RX1, TX1, 37) from rfl) (e_sel.of q1100) (e_is_of i1143) rfl (Nat.le_of_ble_eq_true rfl)) (by omega) (fun _ _ e => ct_X1_triangles (by omega) e) (fun x1143 h1143 e1143 => ?_)
              refine S_aload_n (dc_L_law_16 33 rfl) rfl ?_
              refine S_aload_n (dc_L_law_16 34 rfl) rfl ?_
              refine S_iload (dc_L_law_16 35 rfl) rfl ?_
              refine S_iconst_ 1 (dc_L_law_16 36 rfl) rfl ?_
              refine S_iadd (dc_L_law_16 37 rfl) ?_
              refine S_scAt hA hP (dc_L_law_16 38 rfl) (fun x1152 => ?_)
              refine S_aload_n (dc_L_law_16 39 rfl) rfl ?_
              refine S_iload (dc_L_law_17 0 rfl) rfl ?_
              refine S_iconst_ 2 (dc_L_law_17 1 rfl) rfl ?_
              refine S_iadd (dc_L_law_17 2 rfl) ?_
              refine S_scAt hA hP (dc_L_law_17 3 rfl) (fun x1158 => ?_)
              refine S_aload_n (dc_L_law_17 4 rfl) rfl ?_
              refine S_iload (dc_L_law_17 5 rfl) rfl ?_
              refine S_iconst_ 3 (dc_L_law_17 6 rfl) rfl ?_
              refine S_iadd (dc_L_law_17 7 rfl) ?_
              refine S_scAt hA hP (dc_L_law_17 8 rfl) (fun x1164 => ?_)
              refine Sx.ask (fun _ i1165 => ?_)
              refine S_rwI (d := k_d K - 1) (e_callV (b := x8) (As := [.int x1152, .int x1158, .int x1164]) (rest := [.int x1143]) ok_X10_triangles rfl (Nat.le_of_ble_eq_true rfl) (dc_L_law_17 9 rfl) ho q2028 q2029 (show e_cl[8]? = some (RX10, TX10, 51) from rfl) (e_sel.of q2030) (e_is_of i1165) rfl (Nat.le_of_ble_eq_true rfl)) (by omega) (fun _ _ e => ct_X10_triangles (by omega) e) (fun x1165 h1165 e1165 => ?_)
              refine S_icmp_eq 1485 (dc_L_law_17 10 rfl) rfl (fun c1168 => ?_) (fun c1168 => ?_)
              · exact hK2 h1165
              · refine S_iconst_ 0 (dc_L_law_17 11 rfl) rfl ?_
                refine Sx.err hE2 ?_
                refine Sx.err hE1 ?_
                exact S_iret (dc_L_law_17 12 rfl) hT rfl (e_rqI hr)
            refine Sx.case (fun c40_30 => ?_) (fun c40_30 => ?_)
            · refine S_tsIn 1173 c40_30 (dc_L_law_0 24 rfl) (by decide) (by decide) rfl rfl ?_
              refine S_aload_n (dc_L_law_17 13 rfl) rfl ?_
              refine S_aload_n (dc_L_law_17 14 rfl) rfl ?_
              refine S_iload (dc_L_law_17 15 rfl) rfl ?_
              refine S_iconst_ 1 (dc_L_law_17 16 rfl) rfl ?_
              refine S_iadd (dc_L_law_17 17 rfl) ?_
              refine S_scAt hA hP (dc_L_law_17 18 rfl) (fun x1179 => ?_)
              refine S_aload_n (dc_L_law_17 19 rfl) rfl ?_
              refine S_iload (dc_L_law_17 20 rfl) rfl ?_
              refine S_iconst_ 2 (dc_L_law_17 21 rfl) rfl ?_
              refine S_iadd (dc_L_law_17 22 rfl) ?_
              refine S_scAt hA hP (dc_L_law_17 23 rfl) (fun x1185 => ?_)
              refine Sx.ask (fun _ i1186 => ?_)
              refine S_rwI (d := k_d K - 1) (e_callV (b := x0) (As := [.int x1179, .int x1185]) (rest := []) ok_X1_smallest rfl (Nat.le_of_ble_eq_true rfl) (dc_L_law_17 24 rfl) ho q1137 q1138 (show e_cl[0]? = some (RX1, TX1, 37) from rfl) (e_sel.of q1139) (e_is_of i1186) rfl (Nat.le_of_ble_eq_true rfl)) (by omega) (fun _ _ e => ct_X1_smallest (by omega) e) (fun x1186 h1186 e1186 => ?_)
              refine S_aload_n (dc_L_law_17 25 rfl) rfl ?_
              refine S_aload_n (dc_L_law_17 26 rfl) rfl ?_
              refine S_iload (dc_L_law_17 27 rfl) rfl ?_
              refine S_iconst_ 1 (dc_L_law_17 28 rfl) rfl ?_
              refine S_iadd (dc_L_law_17 29 rfl) ?_
              refine S_scAt hA hP (dc_L_law_17 30 rfl) (fun x1195 => ?_)
              refine S_aload_n (dc_L_law_17 31 rfl) rfl ?_
              refine S_iload (dc_L_law_17 32 rfl) rfl ?_
              refine S_iconst_ 2 (dc_L_law_17 33 rfl) rfl ?_
              refine S_iadd (dc_L_law_17 34 rfl) ?_
              refine S_scAt hA hP (dc_L_law_17 35 rfl) (fun x1201 => ?_)
              refine Sx.ask (fun _ i1202 => ?_)
              refine S_rwI (d := k_d K - 1) (e_callV (b := x8) (As := [.int x1195, .int x1201]) (rest := [.int x1186]) ok_X10_smallest rfl (Nat.le_of_ble_eq_true rfl) (dc_L_law_17 36 rfl) ho q2036 q2037 (show e_cl[8]? = some (RX10, TX10, 51) from rfl) (e_sel.of q2038) (e_is_of i1202) rfl (Nat.le_of_ble_eq_true rfl)) (by omega) (fun _ _ e => ct_X10_smallest (by omega) e) (fun x1202 h1202 e1202 => ?_)
              refine S_icmp_eq 1485 (dc_L_law_17 37 rfl) rfl (fun c1205 => ?_) (fun c1205 => ?_)
              · exact hK2 h1202
              · refine S_iconst_ 0 (dc_L_law_17 38 rfl) rfl ?_
                refine Sx.err hE2 ?_
                refine Sx.err hE1 ?_
                exact S_iret (dc_L_law_17 39 rfl) hT rfl (e_rqI hr)
            refine Sx.case (fun c40_31 => ?_) (fun c40_31 => ?_)
            · refine S_tsIn 1210 c40_31 (dc_L_law_0 24 rfl) (by decide) (by decide) rfl rfl ?_
              refine S_aload_n (dc_L_law_18 0 rfl) rfl ?_
              refine S_aload_n (dc_L_law_18 1 rfl) rfl ?_
              refine S_iload (dc_L_law_18 2 rfl) rfl ?_
              refine S_iconst_ 1 (dc_L_law_18 3 rfl) rfl ?_
              refine S_iadd (dc_L_law_18 4 rfl) ?_
              refine S_scAt hA hP (dc_L_law_18 5 rfl) (fun x1216 => ?_)
              refine S_aload_n (dc_L_law_18 6 rfl) rfl ?_
              refine S_iload (dc_L_law_18 7 rfl) rfl ?_
              refine S_iconst_ 2 (dc_L_law_18 8 rfl) rfl ?_
              refine S_iadd (dc_L_law_18 9 rfl) ?_
              refine S_scAt hA hP (dc_L_law_18 10 rfl) (fun x1222 => ?_)
              refine Sx.ask (fun _ i1223 => ?_)
              refine S_rwI (d := k_d K - 1) (e_callV (b := x0) (As := [.int x1216, .int x1222]) (rest := []) ok_X1_cuts rfl (Nat.le_of_ble_eq_true rfl) (dc_L_law_18 11 rfl) ho q1141 q1142 (show e_cl[0]? = some (RX1, TX1, 37) from rfl) (e_sel.of q1143) (e_is_of i1223) rfl (Nat.le_of_ble_eq_true rfl)) (by omega) (fun _ _ e => ct_X1_cuts (by omega) e) (fun x1223 h1223 e1223 => ?_)
              refine S_aload_n (dc_L_law_18 12 rfl) rfl ?_
              refine S_aload_n (dc_L_law_18 13 rfl) rfl ?_
              refine S_iload (dc_L_law_18 14 rfl) rfl ?_
              refine S_iconst_ 1 (dc_L_law_18 15 rfl) rfl ?_
              refine S_iadd (dc_L_law_18 16 rfl) ?_
              refine S_scAt hA hP (dc_L_law_18 17 rfl) (fun x1232 => ?_)
              refine S_aload_n (dc_L_law_18 18 rfl) rfl ?_
              refine S_iload (dc_L_law_18 19 rfl) rfl ?_
              refine S_iconst_ 2 (dc_L_law_18 20 rfl) rfl ?_
              refine S_iadd (dc_L_law_18 21 rfl) ?_
              refine S_scAt hA hP (dc_L_law_18 22 rfl) (fun x1238 => ?_)
              refine Sx.ask (fun _ i1239 => ?_)
              refine S_rwI (d := k_d K - 1) (e_callV (b := x8) (As := [.int x1232, .int x1238]) (rest := [.int x1223]) ok_X10_cuts rfl (Nat.le_of_ble_eq_true rfl) (dc_L_law_18 23 rfl) ho q2040 q2041 (show e_cl[8]? = some (RX10, TX10, 51) from rfl) (e_sel.of q2042) (e_is_of i1239) rfl (Nat.le_of_ble_eq_true rfl)) (by omega) (fun _ _ e => ct_X10_cuts (by omega) e) (fun x1239 h1239 e1239 => ?_)
              refine S_icmp_eq 1485 (dc_L_law_18 24 rfl) rfl (fun c1242 => ?_) (fun c1242 => ?_)
              · exact hK2 h1239
              · refine S_iconst_ 0 (dc_L_law_18 25 rfl) rfl ?_
                refine Sx.err hE2 ?_
                refine Sx.err hE1 ?_
                exact S_iret (dc_L_law_18 26 rfl) hT rfl (e_rqI hr)
            refine Sx.case (fun c40_32 => ?_) (fun c40_32 => ?_)
            · refine S_tsIn 1247 c40_32 (dc_L_law_0 24 rfl) (by decide) (by decide) rfl rfl ?_
              refine S_aload_n (dc_L_law_18 27 rfl) rfl ?_
              refine S_aload_n (dc_L_law_18 28 rfl) rfl ?_
              refine S_iload (dc_L_law_18 29 rfl) rfl ?_
              refine S_iconst_ 1 (dc_L_law_18 30 rfl) rfl ?_
              refine S_iadd (dc_L_law_18 31 rfl) ?_
              refine S_scAt hA hP (dc_L_law_18 32 rfl) (fun x1253 => ?_)
              refine S_aload_n (dc_L_law_18 33 rfl) rfl ?_
              refine S_iload (dc_L_law_18 34 rfl) rfl ?_
              refine S_iconst_ 2 (dc_L_law_18 35 rfl) rfl ?_
              refine S_iadd (dc_L_law_18 36 rfl) ?_
              refine S_scAt hA hP (dc_L_law_18 37 rfl) (fun x1259 => ?_)
              refine Sx.ask (fun _ i1260 => ?_)
              refine S_rwI (d := k_d K - 1) (e_callV (b := x0) (As := [.int x1253, .int x1259]) (rest := []) ok_X1_moved rfl (Nat.le_of_ble_eq_true rfl) (dc_L_law_18 38 rfl) ho q1158 q1159 (show e_cl[0]? = some (RX1, TX1, 37) from rfl) (e_sel.of q1160) (e_is_of i1260) rfl (Nat.le_of_ble_eq_true rfl)) (by omega) (fun _ _ e => ct_X1_moved (by omega) e) (fun x1260 h1260 e1260 => ?_)
              refine S_aload_n (dc_L_law_18 39 rfl) rfl ?_
              refine S_aload_n (dc_L_law_19 0 rfl) rfl ?_
              refine S_iload (dc_L_law_19 1 rfl) rfl ?_
              refine S_iconst_ 1 (dc_L_law_19 2 rfl) rfl ?_
              refine S_iadd (dc_L_law_19 3 rfl) ?_
              refine S_scAt hA hP (dc_L_law_19 4 rfl) (fun x1269 => ?_)
              refine S_aload_n (dc_L_law_19 5 rfl) rfl ?_
              refine S_iload (dc_L_law_19 6 rfl) rfl ?_
              refine S_iconst_ 2 (dc_L_law_19 7 rfl) rfl ?_
              refine S_iadd (dc_L_law_19 8 rfl) ?_
              refine S_scAt hA hP (dc_L_law_19 9 rfl) (fun x1275 => ?_)
              refine Sx.ask (fun _ i1276 => ?_)
              refine S_rwI (d := k_d K - 1) (e_callV (b := x8) (As := [.int x1269, .int x1275]) (rest := [.int x1260]) ok_X10_moved rfl (Nat.le_of_ble_eq_true rfl) (dc_L_law_19 10 rfl) ho q2052 q2053 (show e_cl[8]? = some (RX10, TX10, 51) from rfl) (e_sel.of q2054) (e_is_of i1276) rfl (Nat.le_of_ble_eq_true rfl)) (by omega) (fun _ _ e => ct_X10_moved (by omega) e) (fun x1276 h1276 e1276 => ?_)
              refine S_icmp_eq 1485 (dc_L_law_19 11 rfl) rfl (fun c1279 => ?_) (fun c1279 => ?_)
              · exact hK2 h1276
              · refine S_iconst_ 0 (dc_L_law_19 12 rfl) rfl ?_
                refine Sx.err hE2 ?_
                refine Sx.err hE1 ?_
                exact S_iret (dc_L_law_19 13 rfl) hT rfl (e_rqI hr)
            refine Sx.case (fun c40_33 => ?_) (fun c40_33 => ?_)
            · refine S_tsIn 1284 c40_33 (dc_L_law_0 24 rfl) (by decide) (by decide) rfl rfl ?_
              refine S_aload_n (dc_L_law_19 14 rfl) rfl ?_
              refine S_aload_n (dc_L_law_19 15 rfl) rfl ?_
              refine S_iload (dc_L_law_19 16 rfl) rfl ?_
              refine S_iconst_ 1 (dc_L_law_19 17 rfl) rfl ?_
              refine S_iadd (dc_L_law_19 18 rfl) ?_
              refine S_scAt hA hP (dc_L_law_19 19 rfl) (fun x1290 => ?_)
              refine S_aload_n (dc_L_law_19 20 rfl) rfl ?_
              refine S_iload (dc_L_law_19 21 rfl) rfl ?_
              refine S_iconst_ 2 (dc_L_law_19 22 rfl) rfl ?_
              refine S_iadd (dc_L_law_19 23 rfl) ?_
              refine S_scAt hA hP (dc_L_law_19 24 rfl) (fun x1296 => ?_)
              refine Sx.ask (fun _ i1297 => ?_)
              refine S_rwI (d := k_d K - 1) (e_callV (b := x0) (As := [.int x1290, .int x1296]) (rest := []) ok_X1_line rfl (Nat.le_of_ble_eq_true rfl) (dc_L_law_19 25 rfl) ho q1181 q1182 (show e_cl[0]? = some (RX1, TX1, 37) from rfl) (e_sel.of q1183) (e_is_of i1297) rfl (Nat.le_of_ble_eq_true rfl)) (by omega) (fun _ _ e => ct_X1_line (by omega) e) (fun x1297 h1297 e1297 => ?_)
              refine S_aload_n (dc_L_law_19 26 rfl) rfl ?_
              refine S_aload_n (dc_L_law_19 27 rfl) rfl ?_
              refine S_iload (dc_L_law_19 28 rfl) rfl ?_
              refine S_iconst_ 1 (dc_L_law_19 29 rfl) rfl ?_
              refine S_iadd (dc_L_law_19 30 rfl) ?_
              refine S_scAt hA hP (dc_L_law_19 31 rfl) (fun x1306 => ?_)
              refine S_aload_n (dc_L_law_19 32 rfl) rfl ?_
              refine S_iload (dc_L_law_19 33 rfl) rfl ?_
              refine S_iconst_ 2 (dc_L_law_19 34 rfl) rfl ?_
              refine S_iadd (dc_L_law_19 35 rfl) ?_
              refine S_scAt hA hP (dc_L_law_19 36 rfl) (fun x1312 => ?_)
              refine Sx.ask (fun _ i1313 => ?_)
              refine S_rwI (d := k_d K - 1) (e_callV (b := x8) (As := [.int x1306, .int x1312]) (rest := [.int x1297]) ok_X10_line rfl (Nat.le_of_ble_eq_true rfl) (dc_L_law_19 37 rfl) ho q2071 q2072 (show e_cl[8]? = some (RX10, TX10, 51) from rfl) (e_sel.of q2073) (e_is_of i1313) rfl (Nat.le_of_ble_eq_true rfl)) (by omega) (fun _ _ e => ct_X10_line (by omega) e) (fun x1313 h1313 e1313 => ?_)
              refine S_icmp_eq 1485 (dc_L_law_19 38 rfl) rfl (fun c1316 => ?_) (fun c1316 => ?_)
              · exact hK2 h1313
              · refine S_iconst_ 0 (dc_L_law_19 39 rfl) rfl ?_
                refine Sx.err hE2 ?_
                refine Sx.err hE1 ?_
                exact S_iret (dc_L_law_20 0 rfl) hT rfl (e_rqI hr)
            refine Sx.case (fun c40_34 => ?_) (fun c40_34 => ?_)
            · refine S_tsIn 1321 c40_34 (dc_L_law_0 24 rfl) (by decide) (by decide) rfl rfl ?_
              refine S_aload_n (dc_L_law_20 1 rfl) rfl ?_
              refine S_aload_n (dc_L_law_20 2 rfl) rfl ?_
              refine S_iload (dc_L_law_20 3 rfl) rfl ?_
              refine S_iconst_ 1 (dc_L_law_20 4 rfl) rfl ?_
              refine S_iadd (dc_L_law_20 5 rfl) ?_
              refine S_scAt hA hP (dc_L_law_20 6 rfl) (fun x1327 => ?_)
              refine Sx.ask (fun _ i1328 => ?_)
              refine S_roI (d := k_d K - 1) (e_callV (b := x0) (As := [.int x1327]) (rest := []) ok_X1_lines rfl (Nat.le_of_ble_eq_true rfl) (dc_L_law_20 7 rfl) ho q1201 q1202 (show e_cl[0]? = some (RX1, TX1, 37) from rfl) (e_sel.of q1203) (e_is_of i1328) rfl (Nat.le_of_ble_eq_true rfl)) (by omega) (fun _ e => ct_X1_lines (by omega) e) (fun x1328 e1328 => ?_)
              refine S_aload_n (dc_L_law_20 8 rfl) rfl ?_
              refine S_aload_n (dc_L_law_20 9 rfl) rfl ?_
              refine S_iload (dc_L_law_20 10 rfl) rfl ?_
              refine S_iconst_ 1 (dc_L_law_20 11 rfl) rfl ?_
              refine S_iadd (dc_L_law_20 12 rfl) ?_
              refine S_scAt hA hP (dc_L_law_20 13 rfl) (fun x1337 => ?_)
              refine Sx.ask (fun _ i1338 => ?_)
              refine S_rwI (d := k_d K - 1) (e_callV (b := x8) (As := [.int x1337]) (rest := [.int x1328]) ok_X10_lines rfl (Nat.le_of_ble_eq_true rfl) (dc_L_law_20 14 rfl) ho q2091 q2092 (show e_cl[8]? = some (RX10, TX10, 51) from rfl) (e_sel.of q2093) (e_is_of i1338) rfl (Nat.le_of_ble_eq_true rfl)) (by omega) (fun _ _ e => ct_X10_lines (by omega) e) (fun x1338 h1338 e1338 => ?_)
              refine S_icmp_eq 1485 (dc_L_law_20 15 rfl) rfl (fun c1341 => ?_) (fun c1341 => ?_)
              · exact hK2 h1338
              · refine S_iconst_ 0 (dc_L_law_20 16 rfl) rfl ?_
                refine Sx.err hE2 ?_
                refine Sx.err hE1 ?_
                exact S_iret (dc_L_law_20 17 rfl) hT rfl (e_rqI hr)
            refine Sx.case (fun c40_35 => ?_) (fun c40_35 => ?_)
            · refine S_tsIn 1346 c40_35 (dc_L_law_0 24 rfl) (by decide) (by decide) rfl rfl ?_
              refine S_aload_n (dc_L_law_20 18 rfl) rfl ?_
              refine Sx.ask (fun _ i1347 => ?_)
              refine S_rwI (d := k_d K - 1) (e_callV (b := x0) (As := []) (rest := []) ok_X1_wins rfl (Nat.le_of_ble_eq_true rfl) (dc_L_law_20 19 rfl) ho q1205 q1206 (show e_cl[0]? = some (RX1, TX1, 37) from rfl) (e_sel.of q1207) (e_is_of i1347) rfl (Nat.le_of_ble_eq_true rfl)) (by omega) (fun _ _ e => ct_X1_wins (by omega) e) (fun x1347 h1347 e1347 => ?_)
              refine S_aload_n (dc_L_law_20 20 rfl) rfl ?_
              refine Sx.ask (fun _ i1351 => ?_)
              refine S_rwI (d := k_d K - 1) (e_callV (b := x8) (As := []) (rest := [.int x1347]) ok_X10_wins rfl (Nat.le_of_ble_eq_true rfl) (dc_L_law_20 21 rfl) ho q2095 q2096 (show e_cl[8]? = some (RX10, TX10, 51) from rfl) (e_sel.of q2097) (e_is_of i1351) rfl (Nat.le_of_ble_eq_true rfl)) (by omega) (fun _ _ e => ct_X10_wins (by omega) e) (fun x1351 h1351 e1351 => ?_)
              refine S_icmp_eq 1485 (dc_L_law_20 22 rfl) rfl (fun c1354 => ?_) (fun c1354 => ?_)
              · exact hK2 h1351
              · refine S_iconst_ 0 (dc_L_law_20 23 rfl) rfl ?_
                refine Sx.err hE2 ?_
                refine Sx.err hE1 ?_
                exact S_iret (dc_L_law_20 24 rfl) hT rfl (e_rqI hr)
            refine Sx.case (fun c40_36 => ?_) (fun c40_36 => ?_)
            · refine S_tsIn 1359 c40_36 (dc_L_law_0 24 rfl) (by decide) (by decide) rfl rfl ?_
              refine S_aload_n (dc_L_law_20 25 rfl) rfl ?_
              refine Sx.ask (fun _ i1360 => ?_)
              refine S_rwI (d := k_d K - 1) (e_callV (b := x0) (As := []) (rest := []) ok_X1_again rfl (Nat.le_of_ble_eq_true rfl) (dc_L_law_20 26 rfl) ho q1213 q1214 (show e_cl[0]? = some (RX1, TX1, 37) from rfl) (e_sel.of q1215) (e_is_of i1360) rfl (Nat.le_of_ble_eq_true rfl)) (by omega) (fun _ _ e => ct_X1_again (by omega) e) (fun x1360 h1360 e1360 => ?_)
              refine S_aload_n (dc_L_law_20 27 rfl) rfl ?_
              refine Sx.ask (fun _ i1364 => ?_)
              refine S_rwI (d := k_d K - 1) (e_callV (b := x8) (As := []) (rest := [.int x1360]) ok_X10_again rfl (Nat.le_of_ble_eq_true rfl) (dc_L_law_20 28 rfl) ho q2103 q2104 (show e_cl[8]? = some (RX10, TX10, 51) from rfl) (e_sel.of q2105) (e_is_of i1364) rfl (Nat.le_of_ble_eq_true rfl)) (by omega) (fun _ _ e => ct_X10_again (by omega) e) (fun x1364 h1364 e1364 => ?_)
              refine S_icmp_eq 1485 (dc_L_law_20 29 rfl) rfl (fun c1367 => ?_) (fun c1367 => ?_)
              · exact hK2 h1364
              · refine S_iconst_ 0 (dc_L_law_20 30 rfl) rfl ?_
                refine Sx.err hE2 ?_
                refine Sx.err hE1 ?_
                exact S_iret (dc_L_law_20 31 rfl) hT rfl (e_rqI hr)
            refine Sx.case (fun c40_37 => ?_) (fun c40_37 => ?_)
            · refine S_tsIn 1372 c40_37 (dc_L_law_0 24 rfl) (by decide) (by decide) rfl rfl ?_
              refine S_aload_n (dc_L_law_20 32 rfl) rfl ?_
              refine Sx.ask (fun _ i1373 => ?_)
              refine S_rwI (d := k_d K - 1) (e_callVW (b := x0) (As := []) (rest := []) ok_X1_sentence rfl (Nat.le_of_ble_eq_true rfl) (dc_L_law_20 33 rfl) ho q1217 q1218 (show e_cl[0]? = some (RX1, TX1, 37) from rfl) (e_sel.of q1219) (e_is_of i1373) rfl (Nat.le_of_ble_eq_true rfl)) (by omega) (fun _ _ e => ct_X1_sentence hA (by omega) e) (fun x1373 h1373 e1373 => ?_)
              refine S_aload_n (dc_L_law_20 34 rfl) rfl ?_
              refine Sx.ask (fun _ i1377 => ?_)
              refine S_rwI (d := k_d K - 1) (e_callV (b := x8) (As := []) (rest := [.int x1373]) ok_X10_sentence rfl (Nat.le_of_ble_eq_true rfl) (dc_L_law_20 35 rfl) ho q2107 q2108 (show e_cl[8]? = some (RX10, TX10, 51) from rfl) (e_sel.of q2109) (e_is_of i1377) rfl (Nat.le_of_ble_eq_true rfl)) (by omega) (fun _ _ e => ct_X10_sentence (by omega) e) (fun x1377 h1377 e1377 => ?_)
              refine S_icmp_eq 1485 (dc_L_law_20 36 rfl) rfl (fun c1380 => ?_) (fun c1380 => ?_)
              · exact hK2 h1377
              · refine S_iconst_ 0 (dc_L_law_20 37 rfl) rfl ?_
                refine Sx.err hE2 ?_
                refine Sx.err hE1 ?_
                exact S_iret (dc_L_law_20 38 rfl) hT rfl (e_rqI hr)
            refine Sx.case (fun c40_38 => ?_) (fun c40_38 => ?_)
            · refine S_tsIn 1385 c40_38 (dc_L_law_0 24 rfl) (by decide) (by decide) rfl rfl ?_
              refine S_aload_n (dc_L_law_20 39 rfl) rfl ?_
              refine S_aload_n (dc_L_law_21 0 rfl) rfl ?_
              refine S_iload (dc_L_law_21 1 rfl) rfl ?_
              refine S_iconst_ 1 (dc_L_law_21 2 rfl) rfl ?_
              refine S_iadd (dc_L_law_21 3 rfl) ?_
              refine S_scAt hA hP (dc_L_law_21 4 rfl) (fun x1391 => ?_)
              refine Sx.ask (fun _ i1392 => ?_)
              refine S_rwI (d := k_d K - 1) (e_callV (b := x0) (As := [.int x1391]) (rest := []) ok_X1_said rfl (Nat.le_of_ble_eq_true rfl) (dc_L_law_21 5 rfl) ho q1339 q1340 (show e_cl[0]? = some (RX1, TX1, 37) from rfl) (e_sel.of q1341) (e_is_of i1392) rfl (Nat.le_of_ble_eq_true rfl)) (by omega) (fun _ _ e => ct_X1_said (by omega) e) (fun x1392 h1392 e1392 => ?_)
              refine S_aload_n (dc_L_law_21 6 rfl) rfl ?_
              refine S_aload_n (dc_L_law_21 7 rfl) rfl ?_
              refine S_iload (dc_L_law_21 8 rfl) rfl ?_
              refine S_iconst_ 1 (dc_L_law_21 9 rfl) rfl ?_
              refine S_iadd (dc_L_law_21 10 rfl) ?_
              refine S_scAt hA hP (dc_L_law_21 11 rfl) (fun x1401 => ?_)
              refine Sx.ask (fun _ i1402 => ?_)
              refine S_rwI (d := k_d K - 1) (e_callV (b := x8) (As := [.int x1401]) (rest := [.int x1392]) ok_X10_said rfl (Nat.le_of_ble_eq_true rfl) (dc_L_law_21 12 rfl) ho q2143 q2144 (show e_cl[8]? = some (RX10, TX10, 51) from rfl) (e_sel.of q2145) (e_is_of i1402) rfl (Nat.le_of_ble_eq_true rfl)) (by omega) (fun _ _ e => ct_X10_said (by omega) e) (fun x1402 h1402 e1402 => ?_)
              refine S_icmp_eq 1485 (dc_L_law_21 13 rfl) rfl (fun c1405 => ?_) (fun c1405 => ?_)
              · exact hK2 h1402
              · refine S_iconst_ 0 (dc_L_law_21 14 rfl) rfl ?_
                refine Sx.err hE2 ?_
                refine Sx.err hE1 ?_
                exact S_iret (dc_L_law_21 15 rfl) hT rfl (e_rqI hr)
            refine Sx.case (fun c40_39 => ?_) (fun c40_39 => ?_)
            · refine S_tsIn 1410 c40_39 (dc_L_law_0 24 rfl) (by decide) (by decide) rfl rfl ?_
              refine S_aload_n (dc_L_law_21 16 rfl) rfl ?_
              refine S_aload_n (dc_L_law_21 17 rfl) rfl ?_
              refine S_iload (dc_L_law_21 18 rfl) rfl ?_
              refine S_iconst_ 1 (dc_L_law_21 19 rfl) rfl ?_
              refine S_iadd (dc_L_law_21 20 rfl) ?_
              refine S_scAt hA hP (dc_L_law_21 21 rfl) (fun x1416 => ?_)
              refine Sx.ask (fun _ i1417 => ?_)
              refine S_rwI (d := k_d K - 1) (e_callV (b := x0) (As := [.int x1416]) (rest := []) ok_X1_image rfl (Nat.le_of_ble_eq_true rfl) (dc_L_law_21 22 rfl) ho q1379 q1380 (show e_cl[0]? = some (RX1, TX1, 37) from rfl) (e_sel.of q1381) (e_is_of i1417) rfl (Nat.le_of_ble_eq_true rfl)) (by omega) (fun _ _ e => ct_X1_image (by omega) e) (fun x1417 h1417 e1417 => ?_)
              refine S_aload_n (dc_L_law_21 23 rfl) rfl ?_
              refine S_aload_n (dc_L_law_21 24 rfl) rfl ?_
              refine S_iload (dc_L_law_21 25 rfl) rfl ?_
              refine S_iconst_ 1 (dc_L_law_21 26 rfl) rfl ?_
              refine S_iadd (dc_L_law_21 27 rfl) ?_
              refine S_scAt hA hP (dc_L_law_21 28 rfl) (fun x1426 => ?_)
              refine Sx.ask (fun _ i1427 => ?_)
              refine S_rwI (d := k_d K - 1) (e_callV (b := x8) (As := [.int x1426]) (rest := [.int x1417]) ok_X10_image rfl (Nat.le_of_ble_eq_true rfl) (dc_L_law_21 29 rfl) ho q2151 q2152 (show e_cl[8]? = some (RX10, TX10, 51) from rfl) (e_sel.of q2153) (e_is_of i1427) rfl (Nat.le_of_ble_eq_true rfl)) (by omega) (fun _ _ e => ct_X10_image (by omega) e) (fun x1427 h1427 e1427 => ?_)
              refine S_icmp_eq 1485 (dc_L_law_21 30 rfl) rfl (fun c1430 => ?_) (fun c1430 => ?_)
              · exact hK2 h1427
              · refine S_iconst_ 0 (dc_L_law_21 31 rfl) rfl ?_
                refine Sx.err hE2 ?_
                refine Sx.err hE1 ?_
                exact S_iret (dc_L_law_21 32 rfl) hT rfl (e_rqI hr)
            refine Sx.case (fun c40_40 => ?_) (fun c40_40 => ?_)
            · refine S_tsIn 1435 c40_40 (dc_L_law_0 24 rfl) (by decide) (by decide) rfl rfl ?_
              refine S_aload_n (dc_L_law_21 33 rfl) rfl ?_
              refine S_aload_n (dc_L_law_21 34 rfl) rfl ?_
              refine S_iload (dc_L_law_21 35 rfl) rfl ?_
              refine S_iconst_ 1 (dc_L_law_21 36 rfl) rfl ?_
              refine S_iadd (dc_L_law_21 37 rfl) ?_
              refine S_scAt hA hP (dc_L_law_21 38 rfl) (fun x1441 => ?_)
              refine Sx.ask (fun _ i1442 => ?_)
              refine S_rwI (d := k_d K - 1) (e_callV (b := x0) (As := [.int x1441]) (rest := []) ok_X1_restore rfl (Nat.le_of_ble_eq_true rfl) (dc_L_law_21 39 rfl) ho q1420 q1421 (show e_cl[0]? = some (RX1, TX1, 37) from rfl) (e_sel.of q1422) (e_is_of i1442) rfl (Nat.le_of_ble_eq_true rfl)) (by omega) (fun _ _ e => ct_X1_restore (by omega) e) (fun x1442 h1442 e1442 => ?_)
              refine S_aload_n (dc_L_law_22 0 rfl) rfl ?_
              refine S_aload_n (dc_L_law_22 1 rfl) rfl ?_
              refine S_iload (dc_L_law_22 2 rfl) rfl ?_
              refine S_iconst_ 1 (dc_L_law_22 3 rfl) rfl ?_
              refine S_iadd (dc_L_law_22 4 rfl) ?_
              refine S_scAt hA hP (dc_L_law_22 5 rfl) (fun x1451 => ?_)
              refine Sx.ask (fun _ i1452 => ?_)
              refine S_rwI (d := k_d K - 1) (e_callV (b := x8) (As := [.int x1451]) (rest := [.int x1442]) ok_X10_restore rfl (Nat.le_of_ble_eq_true rfl) (dc_L_law_22 6 rfl) ho q2155 q2156 (show e_cl[8]? = some (RX10, TX10, 51) from rfl) (e_sel.of q2157) (e_is_of i1452) rfl (Nat.le_of_ble_eq_true rfl)) (by omega) (fun _ _ e => ct_X10_restore (by omega) e) (fun x1452 h1452 e1452 => ?_)
              refine S_icmp_eq 1485 (dc_L_law_22 7 rfl) rfl (fun c1455 => ?_) (fun c1455 => ?_)
              · exact hK2 h1452
              · refine S_iconst_ 0 (dc_L_law_22 8 rfl) rfl ?_
                refine Sx.err hE2 ?_
                refine Sx.err hE1 ?_
                exact S_iret (dc_L_law_22 9 rfl) hT rfl (e_rqI hr)
            refine Sx.case (fun c40_41 => ?_) (fun c40_41 => ?_)
            · refine S_tsIn 1460 c40_41 (dc_L_law_0 24 rfl) (by decide) (by decide) rfl rfl ?_
              refine S_aload_n (dc_L_law_22 10 rfl) rfl ?_
              refine S_aload_n (dc_L_law_22 11 rfl) rfl ?_
              refine S_iload (dc_L_law_22 12 rfl) rfl ?_
              refine S_iconst_ 1 (dc_L_law_22 13 rfl) rfl ?_
              refine S_iadd (dc_L_law_22 14 rfl) ?_
              refine S_scAt hA hP (dc_L_law_22 15 rfl) (fun x1466 => ?_)
              refine Sx.ask (fun _ i1467 => ?_)
              refine S_roI (d := k_d K - 1) (e_callV (b := x0) (As := [.int x1466]) (rest := []) ok_X1_count rfl (Nat.le_of_ble_eq_true rfl) (dc_L_law_22 16 rfl) ho q1424 q1425 (show e_cl[0]? = some (RX1, TX1, 37) from rfl) (e_sel.of q1426) (e_is_of i1467) rfl (Nat.le_of_ble_eq_true rfl)) (by omega) (fun _ e => ct_X1_count (by omega) e) (fun x1467 e1467 => ?_)
              refine S_aload_n (dc_L_law_22 17 rfl) rfl ?_
              refine S_aload_n (dc_L_law_22 18 rfl) rfl ?_
              refine S_iload (dc_L_law_22 19 rfl) rfl ?_
              refine S_iconst_ 1 (dc_L_law_22 20 rfl) rfl ?_
              refine S_iadd (dc_L_law_22 21 rfl) ?_
              refine S_scAt hA hP (dc_L_law_22 22 rfl) (fun x1476 => ?_)
              refine Sx.ask (fun _ i1477 => ?_)
              refine S_rwI (d := k_d K - 1) (e_callV (b := x8) (As := [.int x1476]) (rest := [.int x1467]) ok_X10_count rfl (Nat.le_of_ble_eq_true rfl) (dc_L_law_22 23 rfl) ho q2159 q2160 (show e_cl[8]? = some (RX10, TX10, 51) from rfl) (e_sel.of q2161) (e_is_of i1477) rfl (Nat.le_of_ble_eq_true rfl)) (by omega) (fun _ _ e => ct_X10_count (by omega) e) (fun x1477 h1477 e1477 => ?_)
              refine S_icmp_eq 1485 (dc_L_law_22 24 rfl) rfl (fun c1480 => ?_) (fun c1480 => ?_)
              · exact hK2 h1477
              · refine S_iconst_ 0 (dc_L_law_22 25 rfl) rfl ?_
                refine Sx.err hE2 ?_
                refine Sx.err hE1 ?_
                exact S_iret (dc_L_law_22 26 rfl) hT rfl (e_rqI hr)
            refine S_tsOut 1485 (dc_L_law_0 24 rfl) (by have := e_neI (k := 0) c40_0 (by decide); have := e_neI (k := 1) c40_1 (by decide); have := e_neI (k := 2) c40_2 (by decide); have := e_neI (k := 3) c40_3 (by decide); have := e_neI (k := 4) c40_4 (by decide); have := e_neI (k := 5) c40_5 (by decide); have := e_neI (k := 6) c40_6 (by decide); have := e_neI (k := 7) c40_7 (by decide); have := e_neI (k := 8) c40_8 (by decide); have := e_neI (k := 9) c40_9 (by decide); have := e_neI (k := 10) c40_10 (by decide); have := e_neI (k := 11) c40_11 (by decide); have := e_neI (k := 12) c40_12 (by decide); have := e_neI (k := 13) c40_13 (by decide); have := e_neI (k := 14) c40_14 (by decide); have := e_neI (k := 15) c40_15 (by decide); have := e_neI (k := 16) c40_16 (by decide); have := e_neI (k := 17) c40_17 (by decide); have := e_neI (k := 18) c40_18 (by decide); have := e_neI (k := 19) c40_19 (by decide); have := e_neI (k := 20) c40_20 (by decide); have := e_neI (k := 21) c40_21 (by decide); have := e_neI (k := 22) c40_22 (by decide); have := e_neI (k := 23) c40_23 (by decide); have := e_neI (k := 24) c40_24 (by decide); have := e_neI (k := 25) c40_25 (by decide); have := e_neI (k := 26) c40_26 (by decide); have := e_neI (k := 27) c40_27 (by decide); have := e_neI (k := 28) c40_28 (by decide); have := e_neI (k := 29) c40_29 (by decide); have := e_neI (k := 30) c40_30 (by decide); have := e_neI (k := 31) c40_31 (by decide); have := e_neI (k := 32) c40_32 (by decide); have := e_neI (k := 33) c40_33 (by decide); have := e_neI (k := 34) c40_34 (by decide); have := e_neI (k := 35) c40_35 (by decide); have := e_neI (k := 36) c40_36 (by decide); have := e_neI (k := 37) c40_37 (by decide); have := e_neI (k := 38) c40_38 (by decide); have := e_neI (k := 39) c40_39 (by decide); have := e_neI (k := 40) c40_40 (by decide); have := e_neI (k := 41) c40_41 (by decide); omega) rfl ?_
            exact hK2 h_23
    exact ih1 F 0 h17
