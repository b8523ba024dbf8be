/-! links of classes, fields, methods, constants (printed by simdata.py), each by its place among the words -/
set_option maxRecDepth 100000
def wokF (c : Nat) (e : Nat × Nat × Nat × Nat) : Prop := match e.2.1 with
  | 1 => Cond.fieldLink (cx_nm c) e.1 (cx_T e.2.2.1 e.2.2.2).1 (cx_T e.2.2.1 e.2.2.2).2.1 (cx_T e.2.2.1 e.2.2.2).2.2.1 ∈ lw_tbl
  | 2 => Cond.fieldLinkNest (cx_nm c) e.1 (cx_T e.2.2.1 e.2.2.2).1 (cx_T e.2.2.1 e.2.2.2).2.1 (cx_T e.2.2.1 e.2.2.2).2.2.1 "WholeWarehouse" ∈ lw_tbl
  | _ => False
def flkL0 : List (Nat × Nat × Nat × Nat) := []
theorem flkL0_ok : ∀ e ∈ flkL0, wokF 0 e := fun e h => by cases h
def flkL1 : List (Nat × Nat × Nat × Nat) := [(20, 2, 21, 1), (28, 2, 21, 3), (32, 2, 19, 0), (39, 2, 21, 0), (52, 1, 1, 0), (59, 1, 1, 1), (219, 2, 2, 0), (227, 1, 1, 2), (237, 2, 2, 2)]
theorem flkL1_ok : ∀ e ∈ flkL1, wokF 1 e := List.forall_mem_cons.mpr ⟨lw_at lw_m6 101 rfl, List.forall_mem_cons.mpr ⟨lw_at lw_m6 107 rfl, List.forall_mem_cons.mpr ⟨lw_at lw_m5 23 rfl, List.forall_mem_cons.mpr ⟨lw_at lw_m6 97 rfl, List.forall_mem_cons.mpr ⟨lw_at lw_m3 227 rfl, List.forall_mem_cons.mpr ⟨lw_at lw_m3 228 rfl, List.forall_mem_cons.mpr ⟨lw_at lw_m1 57 rfl, List.forall_mem_cons.mpr ⟨lw_at lw_m3 229 rfl, List.forall_mem_cons.mpr ⟨lw_at lw_m1 60 rfl, fun e h => by cases h⟩⟩⟩⟩⟩⟩⟩⟩⟩
def flkL2 : List (Nat × Nat × Nat × Nat) := [(10, 1, 2, 0), (14, 1, 2, 1), (18, 1, 2, 2)]
theorem flkL2_ok : ∀ e ∈ flkL2, wokF 2 e := List.forall_mem_cons.mpr ⟨lw_at lw_m1 56 rfl, List.forall_mem_cons.mpr ⟨lw_at lw_m1 58 rfl, List.forall_mem_cons.mpr ⟨lw_at lw_m1 59 rfl, fun e h => by cases h⟩⟩⟩
def flkL3 : List (Nat × Nat × Nat × Nat) := [(12, 1, 3, 0), (21, 1, 3, 1), (28, 1, 3, 2), (35, 1, 3, 3), (42, 1, 3, 4), (49, 1, 3, 5), (55, 1, 3, 6), (61, 1, 3, 7), (67, 1, 3, 8), (73, 1, 3, 9), (80, 1, 3, 10), (87, 1, 3, 11), (94, 1, 3, 12), (101, 1, 3, 13), (108, 1, 3, 14), (115, 1, 3, 15), (119, 1, 3, 16), (123, 1, 3, 17), (129, 1, 3, 18), (133, 1, 3, 19), (136, 1, 3, 20), (139, 1, 3, 21), (142, 2, 4, 1), (173, 2, 5, 1), (177, 2, 5, 0), (181, 2, 6, 4), (189, 1, 3, 22), (192, 1, 3, 24), (195, 1, 3, 26), (198, 2, 9, 1), (199, 2, 9, 0), (207, 2, 19, 1), (212, 2, 19, 2), (215, 2, 19, 3), (218, 2, 19, 4), (222, 2, 20, 1), (227, 2, 20, 3), (230, 2, 20, 7), (233, 2, 20, 8), (236, 2, 20, 9), (239, 2, 20, 4), (240, 2, 20, 5), (241, 2, 20, 6), (260, 1, 3, 27), (267, 2, 21, 5), (268, 2, 21, 1), (279, 1, 3, 23), (282, 2, 22, 2), (283, 2, 22, 0), (287, 2, 22, 1), (291, 2, 21, 3), (299, 2, 22, 4), (313, 2, 21, 0), (331, 2, 21, 4), (335, 2, 5, 2), (354, 2, 19, 0), (355, 2, 21, 2), (358, 2, 21, 6), (361, 2, 22, 3), (364, 2, 23, 3), (371, 2, 23, 1), (395, 2, 24, 4), (398, 2, 24, 3), (407, 1, 3, 28), (418, 2, 6, 5), (425, 2, 25, 0), (426, 2, 25, 1), (427, 2, 25, 2), (430, 2, 24, 1), (438, 1, 3, 25), (446, 2, 24, 7), (456, 2, 24, 8), (459, 2, 26, 2), (460, 2, 26, 1), (461, 2, 21, 7), (464, 2, 22, 5), (467, 2, 26, 0), (470, 2, 26, 3), (481, 2, 7, 2), (484, 2, 7, 3), (487, 2, 7, 4), (497, 2, 8, 1), (500, 2, 8, 0), (511, 2, 8, 3), (514, 2, 24, 5), (515, 2, 24, 6), (521, 2, 8, 2), (522, 2, 8, 8), (525, 2, 8, 7), (536, 2, 28, 3), (539, 2, 28, 2), (542, 2, 28, 1), (545, 2, 24, 9), (559, 2, 9, 2), (594, 2, 24, 2), (597, 2, 28, 0), (598, 2, 6, 3), (599, 2, 6, 0), (642, 2, 11, 5), (646, 2, 11, 6), (649, 2, 11, 2), (659, 2, 11, 1), (662, 2, 11, 0), (668, 2, 11, 9), (671, 2, 11, 10), (674, 2, 11, 12), (677, 2, 11, 11), (680, 2, 20, 11), (683, 2, 20, 12), (686, 2, 20, 13), (689, 1, 3, 29), (709, 2, 12, 3), (714, 2, 12, 2), (722, 2, 12, 1), (726, 2, 13, 2), (729, 2, 13, 4), (732, 2, 13, 3), (735, 2, 13, 5), (738, 2, 13, 0), (752, 2, 10, 5), (753, 2, 10, 2), (755, 2, 10, 3), (761, 2, 10, 4), (765, 2, 10, 1), (774, 2, 16, 1), (775, 2, 16, 0), (783, 2, 30, 2), (786, 2, 30, 8), (789, 2, 30, 7), (790, 2, 30, 3), (791, 2, 30, 0), (792, 2, 30, 5), (794, 2, 30, 6), (797, 2, 30, 4), (802, 2, 30, 1), (820, 2, 14, 5), (821, 2, 14, 6), (823, 2, 15, 4)]
theorem flkL3_ok : ∀ e ∈ flkL3, wokF 3 e := List.forall_mem_cons.mpr ⟨lw_at lw_m3 136 rfl, List.forall_mem_cons.mpr ⟨lw_at lw_m3 137 rfl, List.forall_mem_cons.mpr ⟨lw_at lw_m3 138 rfl, List.forall_mem_cons.mpr ⟨lw_at lw_m3 139 rfl, List.forall_mem_cons.mpr ⟨lw_at lw_m3 140 rfl, List.forall_mem_cons.mpr ⟨lw_at lw_m3 141 rfl, List.forall_mem_cons.mpr ⟨lw_at lw_m3 142 rfl, List.forall_mem_cons.mpr ⟨lw_at lw_m3 143 rfl, List.forall_mem_cons.mpr ⟨lw_at lw_m3 144 rfl, List.forall_mem_cons.mpr ⟨lw_at lw_m3 145 rfl, List.forall_mem_cons.mpr ⟨lw_at lw_m3 146 rfl, List.forall_mem_cons.mpr ⟨lw_at lw_m3 147 rfl, List.forall_mem_cons.mpr ⟨lw_at lw_m3 148 rfl, List.forall_mem_cons.mpr ⟨lw_at lw_m3 149 rfl, List.forall_mem_cons.mpr ⟨lw_at lw_m3 150 rfl, List.forall_mem_cons.mpr ⟨lw_at lw_m3 151 rfl, List.forall_mem_cons.mpr ⟨lw_at lw_m3 152 rfl, List.forall_mem_cons.mpr ⟨lw_at lw_m3 153 rfl, List.forall_mem_cons.mpr ⟨lw_at lw_m3 154 rfl, List.forall_mem_cons.mpr ⟨lw_at lw_m3 155 rfl, List.forall_mem_cons.mpr ⟨lw_at lw_m3 156 rfl, List.forall_mem_cons.mpr ⟨lw_at lw_m3 157 rfl, List.forall_mem_cons.mpr ⟨lw_at lw_m1 86 rfl, List.forall_mem_cons.mpr ⟨lw_at lw_m1 114 rfl, List.forall_mem_cons.mpr ⟨lw_at lw_m1 113 rfl, List.forall_mem_cons.mpr ⟨lw_at lw_m1 180 rfl, List.forall_mem_cons.mpr ⟨lw_at lw_m3 158 rfl, List.forall_mem_cons.mpr ⟨lw_at lw_m3 160 rfl, List.forall_mem_cons.mpr ⟨lw_at lw_m3 162 rfl, List.forall_mem_cons.mpr ⟨lw_at lw_m2 67 rfl, List.forall_mem_cons.mpr ⟨lw_at lw_m2 65 rfl, List.forall_mem_cons.mpr ⟨lw_at lw_m5 29 rfl, List.forall_mem_cons.mpr ⟨lw_at lw_m5 33 rfl, List.forall_mem_cons.mpr ⟨lw_at lw_m5 36 rfl, List.forall_mem_cons.mpr ⟨lw_at lw_m5 38 rfl, List.forall_mem_cons.mpr ⟨lw_at lw_m5 143 rfl, List.forall_mem_cons.mpr ⟨lw_at lw_m5 150 rfl, List.forall_mem_cons.mpr ⟨lw_at lw_m5 158 rfl, List.forall_mem_cons.mpr ⟨lw_at lw_m5 160 rfl, List.forall_mem_cons.mpr ⟨lw_at lw_m5 162 rfl, List.forall_mem_cons.mpr ⟨lw_at lw_m5 152 rfl, List.forall_mem_cons.mpr ⟨lw_at lw_m5 154 rfl, List.forall_mem_cons.mpr ⟨lw_at lw_m5 156 rfl, List.forall_mem_cons.mpr ⟨lw_at lw_m3 163 rfl, List.forall_mem_cons.mpr ⟨lw_at lw_m6 110 rfl, List.forall_mem_cons.mpr ⟨lw_at lw_m6 102 rfl, List.forall_mem_cons.mpr ⟨lw_at lw_m3 159 rfl, List.forall_mem_cons.mpr ⟨lw_at lw_m6 154 rfl, List.forall_mem_cons.mpr ⟨lw_at lw_m6 148 rfl, List.forall_mem_cons.mpr ⟨lw_at lw_m6 152 rfl, List.forall_mem_cons.mpr ⟨lw_at lw_m6 108 rfl, List.forall_mem_cons.mpr ⟨lw_at lw_m6 158 rfl, List.forall_mem_cons.mpr ⟨lw_at lw_m6 99 rfl, List.forall_mem_cons.mpr ⟨lw_at lw_m6 109 rfl, List.forall_mem_cons.mpr ⟨lw_at lw_m1 117 rfl, List.forall_mem_cons.mpr ⟨lw_at lw_m5 24 rfl, List.forall_mem_cons.mpr ⟨lw_at lw_m6 104 rfl, List.forall_mem_cons.mpr ⟨lw_at lw_m6 111 rfl, List.forall_mem_cons.mpr ⟨lw_at lw_m6 156 rfl, List.forall_mem_cons.mpr ⟨lw_at lw_m6 195 rfl, List.forall_mem_cons.mpr ⟨lw_at lw_m6 191 rfl, List.forall_mem_cons.mpr ⟨lw_at lw_m7 106 rfl, List.forall_mem_cons.mpr ⟨lw_at lw_m7 105 rfl, List.forall_mem_cons.mpr ⟨lw_at lw_m3 164 rfl, List.forall_mem_cons.mpr ⟨lw_at lw_m1 182 rfl, List.forall_mem_cons.mpr ⟨lw_at lw_m7 165 rfl, List.forall_mem_cons.mpr ⟨lw_at lw_m7 167 rfl, List.forall_mem_cons.mpr ⟨lw_at lw_m7 169 rfl, List.forall_mem_cons.mpr ⟨lw_at lw_m7 100 rfl, List.forall_mem_cons.mpr ⟨lw_at lw_m3 161 rfl, List.forall_mem_cons.mpr ⟨lw_at lw_m7 113 rfl, List.forall_mem_cons.mpr ⟨lw_at lw_m7 115 rfl, List.forall_mem_cons.mpr ⟨lw_at lw_m7 224 rfl, List.forall_mem_cons.mpr ⟨lw_at lw_m7 221 rfl, List.forall_mem_cons.mpr ⟨lw_at lw_m6 113 rfl, List.forall_mem_cons.mpr ⟨lw_at lw_m6 161 rfl, List.forall_mem_cons.mpr ⟨lw_at lw_m7 217 rfl, List.forall_mem_cons.mpr ⟨lw_at lw_m7 225 rfl, List.forall_mem_cons.mpr ⟨lw_at lw_m1 215 rfl, List.forall_mem_cons.mpr ⟨lw_at lw_m1 217 rfl, List.forall_mem_cons.mpr ⟨lw_at lw_m1 219 rfl, List.forall_mem_cons.mpr ⟨lw_at lw_m2 14 rfl, List.forall_mem_cons.mpr ⟨lw_at lw_m2 12 rfl, List.forall_mem_cons.mpr ⟨lw_at lw_m2 18 rfl, List.forall_mem_cons.mpr ⟨lw_at lw_m7 108 rfl, List.forall_mem_cons.mpr ⟨lw_at lw_m7 109 rfl, List.forall_mem_cons.mpr ⟨lw_at lw_m2 16 rfl, List.forall_mem_cons.mpr ⟨lw_at lw_m2 25 rfl, List.forall_mem_cons.mpr ⟨lw_at lw_m2 23 rfl, List.forall_mem_cons.mpr ⟨lw_at lw_m9 13 rfl, List.forall_mem_cons.mpr ⟨lw_at lw_m9 12 rfl, List.forall_mem_cons.mpr ⟨lw_at lw_m9 11 rfl, List.forall_mem_cons.mpr ⟨lw_at lw_m7 116 rfl, List.forall_mem_cons.mpr ⟨lw_at lw_m2 69 rfl, List.forall_mem_cons.mpr ⟨lw_at lw_m7 103 rfl, List.forall_mem_cons.mpr ⟨lw_at lw_m9 9 rfl, List.forall_mem_cons.mpr ⟨lw_at lw_m1 177 rfl, List.forall_mem_cons.mpr ⟨lw_at lw_m1 171 rfl, List.forall_mem_cons.mpr ⟨lw_at lw_m2 142 rfl, List.forall_mem_cons.mpr ⟨lw_at lw_m2 144 rfl, List.forall_mem_cons.mpr ⟨lw_at lw_m2 138 rfl, List.forall_mem_cons.mpr ⟨lw_at lw_m2 136 rfl, List.forall_mem_cons.mpr ⟨lw_at lw_m2 134 rfl, List.forall_mem_cons.mpr ⟨lw_at lw_m2 148 rfl, List.forall_mem_cons.mpr ⟨lw_at lw_m2 150 rfl, List.forall_mem_cons.mpr ⟨lw_at lw_m2 154 rfl, List.forall_mem_cons.mpr ⟨lw_at lw_m2 152 rfl, List.forall_mem_cons.mpr ⟨lw_at lw_m5 165 rfl, List.forall_mem_cons.mpr ⟨lw_at lw_m5 166 rfl, List.forall_mem_cons.mpr ⟨lw_at lw_m5 167 rfl, List.forall_mem_cons.mpr ⟨lw_at lw_m3 165 rfl, List.forall_mem_cons.mpr ⟨lw_at lw_m2 234 rfl, List.forall_mem_cons.mpr ⟨lw_at lw_m2 232 rfl, List.forall_mem_cons.mpr ⟨lw_at lw_m2 230 rfl, List.forall_mem_cons.mpr ⟨lw_at lw_m2 205 rfl, List.forall_mem_cons.mpr ⟨lw_at lw_m2 211 rfl, List.forall_mem_cons.mpr ⟨lw_at lw_m2 208 rfl, List.forall_mem_cons.mpr ⟨lw_at lw_m2 214 rfl, List.forall_mem_cons.mpr ⟨lw_at lw_m2 200 rfl, List.forall_mem_cons.mpr ⟨lw_at lw_m2 110 rfl, List.forall_mem_cons.mpr ⟨lw_at lw_m2 104 rfl, List.forall_mem_cons.mpr ⟨lw_at lw_m2 106 rfl, List.forall_mem_cons.mpr ⟨lw_at lw_m2 108 rfl, List.forall_mem_cons.mpr ⟨lw_at lw_m2 102 rfl, List.forall_mem_cons.mpr ⟨lw_at lw_m3 111 rfl, List.forall_mem_cons.mpr ⟨lw_at lw_m3 109 rfl, List.forall_mem_cons.mpr ⟨lw_at lw_m12 5 rfl, List.forall_mem_cons.mpr ⟨lw_at lw_m12 19 rfl, List.forall_mem_cons.mpr ⟨lw_at lw_m12 18 rfl, List.forall_mem_cons.mpr ⟨lw_at lw_m12 8 rfl, List.forall_mem_cons.mpr ⟨lw_at lw_m12 1 rfl, List.forall_mem_cons.mpr ⟨lw_at lw_m12 14 rfl, List.forall_mem_cons.mpr ⟨lw_at lw_m12 16 rfl, List.forall_mem_cons.mpr ⟨lw_at lw_m12 11 rfl, List.forall_mem_cons.mpr ⟨lw_at lw_m12 3 rfl, List.forall_mem_cons.mpr ⟨lw_at lw_m3 28 rfl, List.forall_mem_cons.mpr ⟨lw_at lw_m3 30 rfl, List.forall_mem_cons.mpr ⟨lw_at lw_m3 87 rfl, fun e h => by cases h⟩⟩⟩⟩⟩⟩⟩⟩⟩⟩⟩⟩⟩⟩⟩⟩⟩⟩⟩⟩⟩⟩⟩⟩⟩⟩⟩⟩⟩⟩⟩⟩⟩⟩⟩⟩⟩⟩⟩⟩⟩⟩⟩⟩⟩⟩⟩⟩⟩⟩⟩⟩⟩⟩⟩⟩⟩⟩⟩⟩⟩⟩⟩⟩⟩⟩⟩⟩⟩⟩⟩⟩⟩⟩⟩⟩⟩⟩⟩⟩⟩⟩⟩⟩⟩⟩⟩⟩⟩⟩⟩⟩⟩⟩⟩⟩⟩⟩⟩⟩⟩⟩⟩⟩⟩⟩⟩⟩⟩⟩⟩⟩⟩⟩⟩⟩⟩⟩⟩⟩⟩⟩⟩⟩⟩⟩⟩⟩⟩⟩⟩⟩⟩⟩⟩⟩⟩⟩
def flkL4 : List (Nat × Nat × Nat × Nat) := [(11, 1, 4, 0), (15, 1, 4, 1), (19, 1, 4, 2)]
theorem flkL4_ok : ∀ e ∈ flkL4, wokF 4 e := List.forall_mem_cons.mpr ⟨lw_at lw_m1 82 rfl, List.forall_mem_cons.mpr ⟨lw_at lw_m1 87 rfl, List.forall_mem_cons.mpr ⟨lw_at lw_m1 93 rfl, fun e h => by cases h⟩⟩⟩
def flkL5 : List (Nat × Nat × Nat × Nat) := [(15, 1, 5, 0), (19, 1, 5, 2), (23, 1, 5, 3), (26, 1, 5, 4), (29, 1, 5, 5), (32, 1, 5, 6), (35, 1, 5, 7), (38, 1, 5, 8), (42, 1, 5, 10), (45, 1, 5, 11), (48, 1, 5, 12), (51, 1, 5, 13), (54, 1, 5, 14), (58, 2, 4, 0), (61, 2, 4, 2), (77, 1, 5, 9), (100, 2, 19, 0), (110, 1, 5, 1), (113, 2, 4, 1)]
theorem flkL5_ok : ∀ e ∈ flkL5, wokF 5 e := List.forall_mem_cons.mpr ⟨lw_at lw_m1 112 rfl, List.forall_mem_cons.mpr ⟨lw_at lw_m1 116 rfl, List.forall_mem_cons.mpr ⟨lw_at lw_m1 118 rfl, List.forall_mem_cons.mpr ⟨lw_at lw_m1 119 rfl, List.forall_mem_cons.mpr ⟨lw_at lw_m1 120 rfl, List.forall_mem_cons.mpr ⟨lw_at lw_m1 121 rfl, List.forall_mem_cons.mpr ⟨lw_at lw_m1 122 rfl, List.forall_mem_cons.mpr ⟨lw_at lw_m1 123 rfl, List.forall_mem_cons.mpr ⟨lw_at lw_m1 125 rfl, List.forall_mem_cons.mpr ⟨lw_at lw_m1 126 rfl, List.forall_mem_cons.mpr ⟨lw_at lw_m1 127 rfl, List.forall_mem_cons.mpr ⟨lw_at lw_m1 128 rfl, List.forall_mem_cons.mpr ⟨lw_at lw_m1 129 rfl, List.forall_mem_cons.mpr ⟨lw_at lw_m1 84 rfl, List.forall_mem_cons.mpr ⟨lw_at lw_m1 94 rfl, List.forall_mem_cons.mpr ⟨lw_at lw_m1 124 rfl, List.forall_mem_cons.mpr ⟨lw_at lw_m5 22 rfl, List.forall_mem_cons.mpr ⟨lw_at lw_m1 115 rfl, List.forall_mem_cons.mpr ⟨lw_at lw_m1 91 rfl, fun e h => by cases h⟩⟩⟩⟩⟩⟩⟩⟩⟩⟩⟩⟩⟩⟩⟩⟩⟩⟩⟩
def flkL6 : List (Nat × Nat × Nat × Nat) := [(9, 1, 6, 1), (15, 1, 6, 2), (21, 1, 6, 4), (25, 1, 6, 5), (28, 1, 6, 6), (32, 1, 6, 7), (35, 1, 6, 0), (42, 2, 4, 2), (59, 2, 4, 1), (66, 1, 6, 3), (67, 2, 4, 0), (105, 2, 20, 3), (108, 2, 20, 2)]
theorem flkL6_ok : ∀ e ∈ flkL6, wokF 6 e := List.forall_mem_cons.mpr ⟨lw_at lw_m1 172 rfl, List.forall_mem_cons.mpr ⟨lw_at lw_m1 174 rfl, List.forall_mem_cons.mpr ⟨lw_at lw_m1 178 rfl, List.forall_mem_cons.mpr ⟨lw_at lw_m1 181 rfl, List.forall_mem_cons.mpr ⟨lw_at lw_m1 183 rfl, List.forall_mem_cons.mpr ⟨lw_at lw_m1 184 rfl, List.forall_mem_cons.mpr ⟨lw_at lw_m1 170 rfl, List.forall_mem_cons.mpr ⟨lw_at lw_m1 96 rfl, List.forall_mem_cons.mpr ⟨lw_at lw_m1 90 rfl, List.forall_mem_cons.mpr ⟨lw_at lw_m1 176 rfl, List.forall_mem_cons.mpr ⟨lw_at lw_m1 85 rfl, List.forall_mem_cons.mpr ⟨lw_at lw_m5 149 rfl, List.forall_mem_cons.mpr ⟨lw_at lw_m5 146 rfl, fun e h => by cases h⟩⟩⟩⟩⟩⟩⟩⟩⟩⟩⟩⟩⟩
def flkL7 : List (Nat × Nat × Nat × Nat) := [(13, 1, 7, 0), (17, 1, 7, 3), (21, 1, 7, 4), (24, 1, 7, 5), (27, 1, 7, 6), (30, 1, 7, 7), (33, 1, 7, 8), (36, 1, 7, 1), (40, 1, 7, 2), (43, 2, 24, 7), (49, 2, 26, 2), (55, 2, 22, 1), (61, 2, 20, 0), (71, 2, 20, 2), (82, 2, 6, 1)]
theorem flkL7_ok : ∀ e ∈ flkL7, wokF 7 e := List.forall_mem_cons.mpr ⟨lw_at lw_m1 209 rfl, List.forall_mem_cons.mpr ⟨lw_at lw_m1 216 rfl, List.forall_mem_cons.mpr ⟨lw_at lw_m1 218 rfl, List.forall_mem_cons.mpr ⟨lw_at lw_m1 220 rfl, List.forall_mem_cons.mpr ⟨lw_at lw_m1 221 rfl, List.forall_mem_cons.mpr ⟨lw_at lw_m1 222 rfl, List.forall_mem_cons.mpr ⟨lw_at lw_m1 223 rfl, List.forall_mem_cons.mpr ⟨lw_at lw_m1 211 rfl, List.forall_mem_cons.mpr ⟨lw_at lw_m1 214 rfl, List.forall_mem_cons.mpr ⟨lw_at lw_m7 111 rfl, List.forall_mem_cons.mpr ⟨lw_at lw_m7 223 rfl, List.forall_mem_cons.mpr ⟨lw_at lw_m6 151 rfl, List.forall_mem_cons.mpr ⟨lw_at lw_m5 139 rfl, List.forall_mem_cons.mpr ⟨lw_at lw_m5 145 rfl, List.forall_mem_cons.mpr ⟨lw_at lw_m1 173 rfl, fun e h => by cases h⟩⟩⟩⟩⟩⟩⟩⟩⟩⟩⟩⟩⟩⟩⟩
def flkL8 : List (Nat × Nat × Nat × Nat) := [(13, 1, 8, 0), (17, 1, 8, 3), (21, 1, 8, 5), (25, 1, 8, 6), (28, 1, 8, 7), (31, 1, 8, 8), (34, 1, 8, 9), (37, 1, 8, 10), (40, 1, 8, 11), (44, 1, 8, 1), (51, 2, 27, 2), (58, 1, 8, 4), (59, 1, 8, 2), (68, 2, 24, 7), (80, 2, 19, 2), (84, 2, 19, 1), (86, 2, 26, 1)]
theorem flkL8_ok : ∀ e ∈ flkL8, wokF 8 e := List.forall_mem_cons.mpr ⟨lw_at lw_m2 11 rfl, List.forall_mem_cons.mpr ⟨lw_at lw_m2 17 rfl, List.forall_mem_cons.mpr ⟨lw_at lw_m2 20 rfl, List.forall_mem_cons.mpr ⟨lw_at lw_m2 21 rfl, List.forall_mem_cons.mpr ⟨lw_at lw_m2 22 rfl, List.forall_mem_cons.mpr ⟨lw_at lw_m2 24 rfl, List.forall_mem_cons.mpr ⟨lw_at lw_m2 26 rfl, List.forall_mem_cons.mpr ⟨lw_at lw_m2 27 rfl, List.forall_mem_cons.mpr ⟨lw_at lw_m2 28 rfl, List.forall_mem_cons.mpr ⟨lw_at lw_m2 13 rfl, List.forall_mem_cons.mpr ⟨lw_at lw_m8 153 rfl, List.forall_mem_cons.mpr ⟨lw_at lw_m2 19 rfl, List.forall_mem_cons.mpr ⟨lw_at lw_m2 15 rfl, List.forall_mem_cons.mpr ⟨lw_at lw_m7 112 rfl, List.forall_mem_cons.mpr ⟨lw_at lw_m5 32 rfl, List.forall_mem_cons.mpr ⟨lw_at lw_m5 28 rfl, List.forall_mem_cons.mpr ⟨lw_at lw_m7 220 rfl, fun e h => by cases h⟩⟩⟩⟩⟩⟩⟩⟩⟩⟩⟩⟩⟩⟩⟩⟩⟩
def flkL9 : List (Nat × Nat × Nat × Nat) := [(13, 1, 9, 0), (20, 1, 9, 3), (24, 1, 9, 4), (27, 1, 9, 1), (43, 2, 6, 3), (44, 1, 9, 5), (55, 1, 9, 2), (58, 2, 29, 2), (62, 2, 29, 3)]
theorem flkL9_ok : ∀ e ∈ flkL9, wokF 9 e := List.forall_mem_cons.mpr ⟨lw_at lw_m2 64 rfl, List.forall_mem_cons.mpr ⟨lw_at lw_m2 70 rfl, List.forall_mem_cons.mpr ⟨lw_at lw_m2 71 rfl, List.forall_mem_cons.mpr ⟨lw_at lw_m2 66 rfl, List.forall_mem_cons.mpr ⟨lw_at lw_m1 175 rfl, List.forall_mem_cons.mpr ⟨lw_at lw_m2 72 rfl, List.forall_mem_cons.mpr ⟨lw_at lw_m2 68 rfl, List.forall_mem_cons.mpr ⟨lw_at lw_m9 110 rfl, List.forall_mem_cons.mpr ⟨lw_at lw_m9 112 rfl, fun e h => by cases h⟩⟩⟩⟩⟩⟩⟩⟩⟩
def flkL10 : List (Nat × Nat × Nat × Nat) := [(11, 1, 10, 0), (15, 1, 10, 1), (18, 1, 10, 2), (22, 1, 10, 3), (25, 1, 10, 4), (33, 1, 10, 5)]
theorem flkL10_ok : ∀ e ∈ flkL10, wokF 10 e := List.forall_mem_cons.mpr ⟨lw_at lw_m2 100 rfl, List.forall_mem_cons.mpr ⟨lw_at lw_m2 101 rfl, List.forall_mem_cons.mpr ⟨lw_at lw_m2 103 rfl, List.forall_mem_cons.mpr ⟨lw_at lw_m2 105 rfl, List.forall_mem_cons.mpr ⟨lw_at lw_m2 107 rfl, List.forall_mem_cons.mpr ⟨lw_at lw_m2 109 rfl, fun e h => by cases h⟩⟩⟩⟩⟩⟩
def flkL11 : List (Nat × Nat × Nat × Nat) := [(13, 1, 11, 0), (19, 1, 11, 1), (23, 1, 11, 2), (26, 1, 11, 3), (30, 1, 11, 4), (33, 1, 11, 7), (37, 1, 11, 8), (40, 1, 11, 9), (44, 1, 11, 10), (48, 1, 11, 11), (51, 1, 11, 12), (54, 1, 11, 5), (57, 1, 11, 6), (60, 2, 6, 4), (63, 2, 20, 3), (95, 2, 22, 0), (99, 2, 21, 0), (104, 2, 20, 0)]
theorem flkL11_ok : ∀ e ∈ flkL11, wokF 11 e := List.forall_mem_cons.mpr ⟨lw_at lw_m2 133 rfl, List.forall_mem_cons.mpr ⟨lw_at lw_m2 135 rfl, List.forall_mem_cons.mpr ⟨lw_at lw_m2 137 rfl, List.forall_mem_cons.mpr ⟨lw_at lw_m2 139 rfl, List.forall_mem_cons.mpr ⟨lw_at lw_m2 140 rfl, List.forall_mem_cons.mpr ⟨lw_at lw_m2 145 rfl, List.forall_mem_cons.mpr ⟨lw_at lw_m2 146 rfl, List.forall_mem_cons.mpr ⟨lw_at lw_m2 147 rfl, List.forall_mem_cons.mpr ⟨lw_at lw_m2 149 rfl, List.forall_mem_cons.mpr ⟨lw_at lw_m2 151 rfl, List.forall_mem_cons.mpr ⟨lw_at lw_m2 153 rfl, List.forall_mem_cons.mpr ⟨lw_at lw_m2 141 rfl, List.forall_mem_cons.mpr ⟨lw_at lw_m2 143 rfl, List.forall_mem_cons.mpr ⟨lw_at lw_m1 179 rfl, List.forall_mem_cons.mpr ⟨lw_at lw_m5 148 rfl, List.forall_mem_cons.mpr ⟨lw_at lw_m6 147 rfl, List.forall_mem_cons.mpr ⟨lw_at lw_m6 98 rfl, List.forall_mem_cons.mpr ⟨lw_at lw_m5 141 rfl, fun e h => by cases h⟩⟩⟩⟩⟩⟩⟩⟩⟩⟩⟩⟩⟩⟩⟩⟩⟩⟩
def flkL12 : List (Nat × Nat × Nat × Nat) := [(12, 1, 12, 0), (20, 1, 12, 1), (24, 1, 12, 2), (28, 1, 12, 4), (34, 1, 12, 5), (38, 1, 12, 7), (42, 1, 12, 3), (49, 2, 7, 1), (54, 2, 24, 0), (63, 1, 12, 6), (66, 2, 13, 3), (69, 2, 13, 1), (72, 2, 20, 0), (81, 2, 13, 2), (82, 2, 13, 4), (114, 2, 13, 5)]
theorem flkL12_ok : ∀ e ∈ flkL12, wokF 12 e := List.forall_mem_cons.mpr ⟨lw_at lw_m2 228 rfl, List.forall_mem_cons.mpr ⟨lw_at lw_m2 229 rfl, List.forall_mem_cons.mpr ⟨lw_at lw_m2 231 rfl, List.forall_mem_cons.mpr ⟨lw_at lw_m2 235 rfl, List.forall_mem_cons.mpr ⟨lw_at lw_m2 236 rfl, List.forall_mem_cons.mpr ⟨lw_at lw_m2 238 rfl, List.forall_mem_cons.mpr ⟨lw_at lw_m2 233 rfl, List.forall_mem_cons.mpr ⟨lw_at lw_m1 213 rfl, List.forall_mem_cons.mpr ⟨lw_at lw_m7 98 rfl, List.forall_mem_cons.mpr ⟨lw_at lw_m2 237 rfl, List.forall_mem_cons.mpr ⟨lw_at lw_m2 207 rfl, List.forall_mem_cons.mpr ⟨lw_at lw_m2 202 rfl, List.forall_mem_cons.mpr ⟨lw_at lw_m5 140 rfl, List.forall_mem_cons.mpr ⟨lw_at lw_m2 204 rfl, List.forall_mem_cons.mpr ⟨lw_at lw_m2 210 rfl, List.forall_mem_cons.mpr ⟨lw_at lw_m2 213 rfl, fun e h => by cases h⟩⟩⟩⟩⟩⟩⟩⟩⟩⟩⟩⟩⟩⟩⟩⟩
def flkL13 : List (Nat × Nat × Nat × Nat) := [(11, 1, 13, 0), (21, 1, 13, 1), (25, 1, 13, 2), (29, 2, 7, 1), (30, 1, 13, 3), (33, 2, 7, 0), (34, 1, 13, 4), (37, 1, 13, 5)]
theorem flkL13_ok : ∀ e ∈ flkL13, wokF 13 e := List.forall_mem_cons.mpr ⟨lw_at lw_m2 199 rfl, List.forall_mem_cons.mpr ⟨lw_at lw_m2 201 rfl, List.forall_mem_cons.mpr ⟨lw_at lw_m2 203 rfl, List.forall_mem_cons.mpr ⟨lw_at lw_m1 212 rfl, List.forall_mem_cons.mpr ⟨lw_at lw_m2 206 rfl, List.forall_mem_cons.mpr ⟨lw_at lw_m1 210 rfl, List.forall_mem_cons.mpr ⟨lw_at lw_m2 209 rfl, List.forall_mem_cons.mpr ⟨lw_at lw_m2 212 rfl, fun e h => by cases h⟩⟩⟩⟩⟩⟩⟩⟩
def flkL14 : List (Nat × Nat × Nat × Nat) := [(13, 1, 14, 0), (17, 1, 14, 1), (20, 1, 14, 2), (23, 1, 14, 3), (26, 1, 14, 4), (29, 1, 14, 7), (32, 1, 14, 8), (35, 1, 14, 9), (38, 1, 14, 10), (41, 1, 14, 11), (44, 1, 14, 12), (47, 1, 14, 13), (50, 1, 14, 14), (53, 2, 4, 0), (57, 2, 4, 2), (73, 1, 14, 15), (89, 1, 14, 16), (92, 2, 4, 1), (111, 1, 14, 5), (112, 1, 14, 6), (115, 2, 24, 2), (122, 2, 24, 5)]
theorem flkL14_ok : ∀ e ∈ flkL14, wokF 14 e := List.forall_mem_cons.mpr ⟨lw_at lw_m3 22 rfl, List.forall_mem_cons.mpr ⟨lw_at lw_m3 23 rfl, List.forall_mem_cons.mpr ⟨lw_at lw_m3 24 rfl, List.forall_mem_cons.mpr ⟨lw_at lw_m3 25 rfl, List.forall_mem_cons.mpr ⟨lw_at lw_m3 26 rfl, List.forall_mem_cons.mpr ⟨lw_at lw_m3 31 rfl, List.forall_mem_cons.mpr ⟨lw_at lw_m3 32 rfl, List.forall_mem_cons.mpr ⟨lw_at lw_m3 33 rfl, List.forall_mem_cons.mpr ⟨lw_at lw_m3 34 rfl, List.forall_mem_cons.mpr ⟨lw_at lw_m3 35 rfl, List.forall_mem_cons.mpr ⟨lw_at lw_m3 36 rfl, List.forall_mem_cons.mpr ⟨lw_at lw_m3 37 rfl, List.forall_mem_cons.mpr ⟨lw_at lw_m3 38 rfl, List.forall_mem_cons.mpr ⟨lw_at lw_m1 83 rfl, List.forall_mem_cons.mpr ⟨lw_at lw_m1 95 rfl, List.forall_mem_cons.mpr ⟨lw_at lw_m3 39 rfl, List.forall_mem_cons.mpr ⟨lw_at lw_m3 40 rfl, List.forall_mem_cons.mpr ⟨lw_at lw_m1 89 rfl, List.forall_mem_cons.mpr ⟨lw_at lw_m3 27 rfl, List.forall_mem_cons.mpr ⟨lw_at lw_m3 29 rfl, List.forall_mem_cons.mpr ⟨lw_at lw_m7 102 rfl, List.forall_mem_cons.mpr ⟨lw_at lw_m7 107 rfl, fun e h => by cases h⟩⟩⟩⟩⟩⟩⟩⟩⟩⟩⟩⟩⟩⟩⟩⟩⟩⟩⟩⟩⟩⟩
def flkL15 : List (Nat × Nat × Nat × Nat) := [(11, 1, 15, 0), (15, 1, 15, 1), (18, 1, 15, 2), (21, 1, 15, 3), (24, 1, 15, 4)]
theorem flkL15_ok : ∀ e ∈ flkL15, wokF 15 e := List.forall_mem_cons.mpr ⟨lw_at lw_m3 82 rfl, List.forall_mem_cons.mpr ⟨lw_at lw_m3 83 rfl, List.forall_mem_cons.mpr ⟨lw_at lw_m3 84 rfl, List.forall_mem_cons.mpr ⟨lw_at lw_m3 85 rfl, List.forall_mem_cons.mpr ⟨lw_at lw_m3 86 rfl, fun e h => by cases h⟩⟩⟩⟩⟩
def flkL16 : List (Nat × Nat × Nat × Nat) := [(13, 1, 16, 0), (19, 1, 16, 2), (23, 1, 16, 3), (27, 1, 16, 4), (30, 2, 4, 2), (54, 1, 16, 7), (68, 1, 16, 5), (71, 1, 16, 6), (78, 2, 4, 1), (86, 1, 16, 1), (94, 2, 30, 3), (95, 2, 30, 4), (96, 2, 30, 5)]
theorem flkL16_ok : ∀ e ∈ flkL16, wokF 16 e := List.forall_mem_cons.mpr ⟨lw_at lw_m3 108 rfl, List.forall_mem_cons.mpr ⟨lw_at lw_m3 112 rfl, List.forall_mem_cons.mpr ⟨lw_at lw_m3 113 rfl, List.forall_mem_cons.mpr ⟨lw_at lw_m3 114 rfl, List.forall_mem_cons.mpr ⟨lw_at lw_m1 92 rfl, List.forall_mem_cons.mpr ⟨lw_at lw_m3 117 rfl, List.forall_mem_cons.mpr ⟨lw_at lw_m3 115 rfl, List.forall_mem_cons.mpr ⟨lw_at lw_m3 116 rfl, List.forall_mem_cons.mpr ⟨lw_at lw_m1 88 rfl, List.forall_mem_cons.mpr ⟨lw_at lw_m3 110 rfl, List.forall_mem_cons.mpr ⟨lw_at lw_m12 7 rfl, List.forall_mem_cons.mpr ⟨lw_at lw_m12 10 rfl, List.forall_mem_cons.mpr ⟨lw_at lw_m12 13 rfl, fun e h => by cases h⟩⟩⟩⟩⟩⟩⟩⟩⟩⟩⟩⟩⟩
def flkL17 : List (Nat × Nat × Nat × Nat) := [(7, 1, 17, 1), (13, 1, 17, 8), (16, 1, 17, 9), (20, 1, 17, 10), (23, 1, 17, 11), (26, 1, 17, 12), (29, 1, 17, 13), (33, 1, 17, 14), (36, 1, 17, 19), (39, 1, 17, 22), (42, 1, 17, 23), (45, 1, 17, 24), (48, 1, 17, 25), (51, 1, 17, 26), (54, 1, 17, 27), (57, 1, 17, 28), (60, 1, 17, 31), (63, 1, 17, 32), (66, 1, 17, 33), (69, 1, 17, 34), (72, 1, 17, 36), (75, 1, 17, 37), (78, 1, 17, 38), (81, 1, 17, 39), (84, 1, 17, 41), (87, 1, 17, 42), (90, 1, 17, 43), (93, 1, 17, 45), (96, 1, 17, 46), (99, 1, 17, 47), (102, 1, 17, 48), (105, 1, 17, 49), (108, 1, 17, 50), (111, 1, 17, 51), (114, 1, 17, 52), (117, 1, 17, 53), (120, 1, 17, 54), (123, 1, 17, 56), (126, 1, 17, 57), (129, 1, 17, 58), (132, 1, 17, 59), (135, 1, 17, 60), (138, 1, 17, 62), (141, 1, 17, 63), (144, 1, 17, 65), (147, 1, 17, 66), (150, 1, 17, 67), (153, 1, 17, 68), (156, 1, 17, 69), (159, 1, 17, 70), (162, 1, 17, 71), (165, 1, 17, 73), (168, 1, 17, 74), (171, 1, 17, 75), (174, 1, 17, 78), (177, 1, 17, 79), (180, 1, 17, 81), (183, 1, 17, 82), (186, 1, 17, 83), (189, 1, 17, 84), (192, 1, 17, 85), (195, 1, 17, 87), (198, 1, 17, 88), (201, 1, 17, 91), (205, 1, 17, 92), (209, 1, 17, 93), (212, 1, 17, 94), (215, 1, 17, 95), (219, 1, 17, 96), (222, 1, 17, 97), (225, 1, 17, 98), (228, 1, 17, 99), (231, 1, 17, 100), (234, 1, 17, 101), (237, 1, 17, 102), (240, 1, 17, 103), (244, 1, 17, 104), (247, 1, 17, 105), (250, 1, 17, 106), (253, 1, 17, 108), (256, 1, 17, 109), (259, 1, 17, 110), (262, 1, 17, 111), (265, 1, 17, 112), (268, 1, 17, 113), (271, 1, 17, 114), (274, 1, 17, 115), (277, 1, 17, 116), (280, 1, 17, 118), (283, 1, 17, 120), (286, 1, 17, 121), (289, 1, 17, 122), (292, 1, 17, 123), (295, 1, 17, 124), (298, 1, 17, 125), (301, 1, 17, 126), (304, 1, 17, 128), (307, 1, 17, 130), (310, 1, 17, 131), (313, 1, 17, 132), (316, 1, 17, 133), (319, 1, 17, 135), (322, 1, 17, 136), (325, 1, 17, 137), (328, 1, 17, 139), (331, 1, 17, 140), (334, 1, 17, 141), (337, 1, 17, 142), (340, 1, 17, 143), (343, 1, 17, 146), (346, 1, 17, 147), (349, 1, 17, 148), (352, 1, 17, 149), (355, 1, 17, 151), (358, 1, 17, 152), (361, 1, 17, 153), (364, 1, 17, 154), (367, 1, 17, 156), (370, 1, 17, 157), (373, 1, 17, 158), (376, 1, 17, 159), (379, 1, 17, 160), (382, 1, 17, 161), (385, 1, 17, 162), (388, 1, 17, 163), (391, 1, 17, 164), (395, 1, 17, 165), (398, 1, 17, 0), (401, 1, 17, 2), (412, 1, 17, 4), (415, 1, 17, 3), (429, 1, 17, 5), (432, 1, 17, 7), (450, 1, 17, 6), (466, 1, 17, 17), (469, 1, 17, 18), (491, 1, 17, 15), (498, 1, 17, 20), (507, 1, 17, 21), (517, 1, 17, 35), (528, 1, 17, 29), (539, 1, 17, 30), (542, 1, 17, 40), (559, 1, 17, 55), (580, 1, 17, 44), (586, 1, 17, 16), (599, 1, 17, 64), (642, 1, 17, 61), (657, 1, 17, 72), (660, 1, 17, 80), (680, 1, 17, 77), (693, 1, 17, 76), (697, 1, 17, 86), (706, 1, 17, 89), (712, 1, 17, 90), (734, 1, 17, 150), (737, 1, 17, 145), (758, 1, 17, 107), (782, 1, 17, 117), (794, 1, 17, 119), (806, 1, 17, 134), (815, 1, 17, 138), (827, 1, 17, 127), (830, 1, 17, 129), (833, 1, 17, 144), (845, 1, 17, 155), (873, 1, 17, 166), (876, 1, 17, 169), (879, 1, 17, 167), (888, 1, 17, 168)]
theorem flkL17_ok : ∀ e ∈ flkL17, wokF 17 e := List.forall_mem_cons.mpr ⟨lw_at lw_m12 139 rfl, List.forall_mem_cons.mpr ⟨lw_at lw_m12 146 rfl, List.forall_mem_cons.mpr ⟨lw_at lw_m12 147 rfl, List.forall_mem_cons.mpr ⟨lw_at lw_m12 148 rfl, List.forall_mem_cons.mpr ⟨lw_at lw_m12 149 rfl, List.forall_mem_cons.mpr ⟨lw_at lw_m12 150 rfl, List.forall_mem_cons.mpr ⟨lw_at lw_m12 151 rfl, List.forall_mem_cons.mpr ⟨lw_at lw_m12 152 rfl, List.forall_mem_cons.mpr ⟨lw_at lw_m12 157 rfl, List.forall_mem_cons.mpr ⟨lw_at lw_m12 160 rfl, List.forall_mem_cons.mpr ⟨lw_at lw_m12 161 rfl, List.forall_mem_cons.mpr ⟨lw_at lw_m12 162 rfl, List.forall_mem_cons.mpr ⟨lw_at lw_m12 163 rfl, List.forall_mem_cons.mpr ⟨lw_at lw_m12 164 rfl, List.forall_mem_cons.mpr ⟨lw_at lw_m12 165 rfl, List.forall_mem_cons.mpr ⟨lw_at lw_m12 166 rfl, List.forall_mem_cons.mpr ⟨lw_at lw_m12 169 rfl, List.forall_mem_cons.mpr ⟨lw_at lw_m12 170 rfl, List.forall_mem_cons.mpr ⟨lw_at lw_m12 171 rfl, List.forall_mem_cons.mpr ⟨lw_at lw_m12 172 rfl, List.forall_mem_cons.mpr ⟨lw_at lw_m12 174 rfl, List.forall_mem_cons.mpr ⟨lw_at lw_m12 175 rfl, List.forall_mem_cons.mpr ⟨lw_at lw_m12 176 rfl, List.forall_mem_cons.mpr ⟨lw_at lw_m12 177 rfl, List.forall_mem_cons.mpr ⟨lw_at lw_m12 179 rfl, List.forall_mem_cons.mpr ⟨lw_at lw_m12 180 rfl, List.forall_mem_cons.mpr ⟨lw_at lw_m12 181 rfl, List.forall_mem_cons.mpr ⟨lw_at lw_m12 183 rfl, List.forall_mem_cons.mpr ⟨lw_at lw_m12 184 rfl, List.forall_mem_cons.mpr ⟨lw_at lw_m12 185 rfl, List.forall_mem_cons.mpr ⟨lw_at lw_m12 186 rfl, List.forall_mem_cons.mpr ⟨lw_at lw_m12 187 rfl, List.forall_mem_cons.mpr ⟨lw_at lw_m12 188 rfl, List.forall_mem_cons.mpr ⟨lw_at lw_m12 189 rfl, List.forall_mem_cons.mpr ⟨lw_at lw_m12 190 rfl, List.forall_mem_cons.mpr ⟨lw_at lw_m12 191 rfl, List.forall_mem_cons.mpr ⟨lw_at lw_m12 192 rfl, List.forall_mem_cons.mpr ⟨lw_at lw_m12 194 rfl, List.forall_mem_cons.mpr ⟨lw_at lw_m12 195 rfl, List.forall_mem_cons.mpr ⟨lw_at lw_m12 196 rfl, List.forall_mem_cons.mpr ⟨lw_at lw_m12 197 rfl, List.forall_mem_cons.mpr ⟨lw_at lw_m12 198 rfl, List.forall_mem_cons.mpr ⟨lw_at lw_m12 200 rfl, List.forall_mem_cons.mpr ⟨lw_at lw_m12 201 rfl, List.forall_mem_cons.mpr ⟨lw_at lw_m12 203 rfl, List.forall_mem_cons.mpr ⟨lw_at lw_m12 204 rfl, List.forall_mem_cons.mpr ⟨lw_at lw_m12 205 rfl, List.forall_mem_cons.mpr ⟨lw_at lw_m12 206 rfl, List.forall_mem_cons.mpr ⟨lw_at lw_m12 207 rfl, List.forall_mem_cons.mpr ⟨lw_at lw_m12 208 rfl, List.forall_mem_cons.mpr ⟨lw_at lw_m12 209 rfl, List.forall_mem_cons.mpr ⟨lw_at lw_m12 211 rfl, List.forall_mem_cons.mpr ⟨lw_at lw_m12 212 rfl, List.forall_mem_cons.mpr ⟨lw_at lw_m12 213 rfl, List.forall_mem_cons.mpr ⟨lw_at lw_m12 216 rfl, List.forall_mem_cons.mpr ⟨lw_at lw_m12 217 rfl, List.forall_mem_cons.mpr ⟨lw_at lw_m12 219 rfl, List.forall_mem_cons.mpr ⟨lw_at lw_m12 220 rfl, List.forall_mem_cons.mpr ⟨lw_at lw_m12 221 rfl, List.forall_mem_cons.mpr ⟨lw_at lw_m12 222 rfl, List.forall_mem_cons.mpr ⟨lw_at lw_m12 223 rfl, List.forall_mem_cons.mpr ⟨lw_at lw_m12 225 rfl, List.forall_mem_cons.mpr ⟨lw_at lw_m12 226 rfl, List.forall_mem_cons.mpr ⟨lw_at lw_m12 229 rfl, List.forall_mem_cons.mpr ⟨lw_at lw_m12 230 rfl, List.forall_mem_cons.mpr ⟨lw_at lw_m12 231 rfl, List.forall_mem_cons.mpr ⟨lw_at lw_m12 232 rfl, List.forall_mem_cons.mpr ⟨lw_at lw_m12 233 rfl, List.forall_mem_cons.mpr ⟨lw_at lw_m12 234 rfl, List.forall_mem_cons.mpr ⟨lw_at lw_m12 235 rfl, List.forall_mem_cons.mpr ⟨lw_at lw_m12 236 rfl, List.forall_mem_cons.mpr ⟨lw_at lw_m12 237 rfl, List.forall_mem_cons.mpr ⟨lw_at lw_m12 238 rfl, List.forall_mem_cons.mpr ⟨lw_at lw_m12 239 rfl, List.forall_mem_cons.mpr ⟨lw_at lw_m13 0 rfl, List.forall_mem_cons.mpr ⟨lw_at lw_m13 1 rfl, List.forall_mem_cons.mpr ⟨lw_at lw_m13 2 rfl, List.forall_mem_cons.mpr ⟨lw_at lw_m13 3 rfl, List.forall_mem_cons.mpr ⟨lw_at lw_m13 4 rfl, List.forall_mem_cons.mpr ⟨lw_at lw_m13 6 rfl, List.forall_mem_cons.mpr ⟨lw_at lw_m13 7 rfl, List.forall_mem_cons.mpr ⟨lw_at lw_m13 8 rfl, List.forall_mem_cons.mpr ⟨lw_at lw_m13 9 rfl, List.forall_mem_cons.mpr ⟨lw_at lw_m13 10 rfl, List.forall_mem_cons.mpr ⟨lw_at lw_m13 11 rfl, List.forall_mem_cons.mpr ⟨lw_at lw_m13 12 rfl, List.forall_mem_cons.mpr ⟨lw_at lw_m13 13 rfl, List.forall_mem_cons.mpr ⟨lw_at lw_m13 14 rfl, List.forall_mem_cons.mpr ⟨lw_at lw_m13 16 rfl, List.forall_mem_cons.mpr ⟨lw_at lw_m13 18 rfl, List.forall_mem_cons.mpr ⟨lw_at lw_m13 19 rfl, List.forall_mem_cons.mpr ⟨lw_at lw_m13 20 rfl, List.forall_mem_cons.mpr ⟨lw_at lw_m13 21 rfl, List.forall_mem_cons.mpr ⟨lw_at lw_m13 22 rfl, List.forall_mem_cons.mpr ⟨lw_at lw_m13 23 rfl, List.forall_mem_cons.mpr ⟨lw_at lw_m13 24 rfl, List.forall_mem_cons.mpr ⟨lw_at lw_m13 26 rfl, List.forall_mem_cons.mpr ⟨lw_at lw_m13 28 rfl, List.forall_mem_cons.mpr ⟨lw_at lw_m13 29 rfl, List.forall_mem_cons.mpr ⟨lw_at lw_m13 30 rfl, List.forall_mem_cons.mpr ⟨lw_at lw_m13 31 rfl, List.forall_mem_cons.mpr ⟨lw_at lw_m13 33 rfl, List.forall_mem_cons.mpr ⟨lw_at lw_m13 34 rfl, List.forall_mem_cons.mpr ⟨lw_at lw_m13 35 rfl, List.forall_mem_cons.mpr ⟨lw_at lw_m13 37 rfl, List.forall_mem_cons.mpr ⟨lw_at lw_m13 38 rfl, List.forall_mem_cons.mpr ⟨lw_at lw_m13 39 rfl, List.forall_mem_cons.mpr ⟨lw_at lw_m13 40 rfl, List.forall_mem_cons.mpr ⟨lw_at lw_m13 41 rfl, List.forall_mem_cons.mpr ⟨lw_at lw_m13 44 rfl, List.forall_mem_cons.mpr ⟨lw_at lw_m13 45 rfl, List.forall_mem_cons.mpr ⟨lw_at lw_m13 46 rfl, List.forall_mem_cons.mpr ⟨lw_at lw_m13 47 rfl, List.forall_mem_cons.mpr ⟨lw_at lw_m13 49 rfl, List.forall_mem_cons.mpr ⟨lw_at lw_m13 50 rfl, List.forall_mem_cons.mpr ⟨lw_at lw_m13 51 rfl, List.forall_mem_cons.mpr ⟨lw_at lw_m13 52 rfl, List.forall_mem_cons.mpr ⟨lw_at lw_m13 54 rfl, List.forall_mem_cons.mpr ⟨lw_at lw_m13 55 rfl, List.forall_mem_cons.mpr ⟨lw_at lw_m13 56 rfl, List.forall_mem_cons.mpr ⟨lw_at lw_m13 57 rfl, List.forall_mem_cons.mpr ⟨lw_at lw_m13 58 rfl, List.forall_mem_cons.mpr ⟨lw_at lw_m13 59 rfl, List.forall_mem_cons.mpr ⟨lw_at lw_m13 60 rfl, List.forall_mem_cons.mpr ⟨lw_at lw_m13 61 rfl, List.forall_mem_cons.mpr ⟨lw_at lw_m13 62 rfl, List.forall_mem_cons.mpr ⟨lw_at lw_m13 63 rfl, List.forall_mem_cons.mpr ⟨lw_at lw_m12 138 rfl, List.forall_mem_cons.mpr ⟨lw_at lw_m12 140 rfl, List.forall_mem_cons.mpr ⟨lw_at lw_m12 142 rfl, List.forall_mem_cons.mpr ⟨lw_at lw_m12 141 rfl, List.forall_mem_cons.mpr ⟨lw_at lw_m12 143 rfl, List.forall_mem_cons.mpr ⟨lw_at lw_m12 145 rfl, List.forall_mem_cons.mpr ⟨lw_at lw_m12 144 rfl, List.forall_mem_cons.mpr ⟨lw_at lw_m12 155 rfl, List.forall_mem_cons.mpr ⟨lw_at lw_m12 156 rfl, List.forall_mem_cons.mpr ⟨lw_at lw_m12 153 rfl, List.forall_mem_cons.mpr ⟨lw_at lw_m12 158 rfl, List.forall_mem_cons.mpr ⟨lw_at lw_m12 159 rfl, List.forall_mem_cons.mpr ⟨lw_at lw_m12 173 rfl, List.forall_mem_cons.mpr ⟨lw_at lw_m12 167 rfl, List.forall_mem_cons.mpr ⟨lw_at lw_m12 168 rfl, List.forall_mem_cons.mpr ⟨lw_at lw_m12 178 rfl, List.forall_mem_cons.mpr ⟨lw_at lw_m12 193 rfl, List.forall_mem_cons.mpr ⟨lw_at lw_m12 182 rfl, List.forall_mem_cons.mpr ⟨lw_at lw_m12 154 rfl, List.forall_mem_cons.mpr ⟨lw_at lw_m12 202 rfl, List.forall_mem_cons.mpr ⟨lw_at lw_m12 199 rfl, List.forall_mem_cons.mpr ⟨lw_at lw_m12 210 rfl, List.forall_mem_cons.mpr ⟨lw_at lw_m12 218 rfl, List.forall_mem_cons.mpr ⟨lw_at lw_m12 215 rfl, List.forall_mem_cons.mpr ⟨lw_at lw_m12 214 rfl, List.forall_mem_cons.mpr ⟨lw_at lw_m12 224 rfl, List.forall_mem_cons.mpr ⟨lw_at lw_m12 227 rfl, List.forall_mem_cons.mpr ⟨lw_at lw_m12 228 rfl, List.forall_mem_cons.mpr ⟨lw_at lw_m13 48 rfl, List.forall_mem_cons.mpr ⟨lw_at lw_m13 43 rfl, List.forall_mem_cons.mpr ⟨lw_at lw_m13 5 rfl, List.forall_mem_cons.mpr ⟨lw_at lw_m13 15 rfl, List.forall_mem_cons.mpr ⟨lw_at lw_m13 17 rfl, List.forall_mem_cons.mpr ⟨lw_at lw_m13 32 rfl, List.forall_mem_cons.mpr ⟨lw_at lw_m13 36 rfl, List.forall_mem_cons.mpr ⟨lw_at lw_m13 25 rfl, List.forall_mem_cons.mpr ⟨lw_at lw_m13 27 rfl, List.forall_mem_cons.mpr ⟨lw_at lw_m13 42 rfl, List.forall_mem_cons.mpr ⟨lw_at lw_m13 53 rfl, List.forall_mem_cons.mpr ⟨lw_at lw_m13 64 rfl, List.forall_mem_cons.mpr ⟨lw_at lw_m13 67 rfl, List.forall_mem_cons.mpr ⟨lw_at lw_m13 65 rfl, List.forall_mem_cons.mpr ⟨lw_at lw_m13 66 rfl, fun e h => by cases h⟩⟩⟩⟩⟩⟩⟩⟩⟩⟩⟩⟩⟩⟩⟩⟩⟩⟩⟩⟩⟩⟩⟩⟩⟩⟩⟩⟩⟩⟩⟩⟩⟩⟩⟩⟩⟩⟩⟩⟩⟩⟩⟩⟩⟩⟩⟩⟩⟩⟩⟩⟩⟩⟩⟩⟩⟩⟩⟩⟩⟩⟩⟩⟩⟩⟩⟩⟩⟩⟩⟩⟩⟩⟩⟩⟩⟩⟩⟩⟩⟩⟩⟩⟩⟩⟩⟩⟩⟩⟩⟩⟩⟩⟩⟩⟩⟩⟩⟩⟩⟩⟩⟩⟩⟩⟩⟩⟩⟩⟩⟩⟩⟩⟩⟩⟩⟩⟩⟩⟩⟩⟩⟩⟩⟩⟩⟩⟩⟩⟩⟩⟩⟩⟩⟩⟩⟩⟩⟩⟩⟩⟩⟩⟩⟩⟩⟩⟩⟩⟩⟩⟩⟩⟩⟩⟩⟩⟩⟩⟩⟩⟩⟩⟩⟩⟩⟩⟩⟩⟩
def flkL19 : List (Nat × Nat × Nat × Nat) := [(7, 1, 19, 0), (13, 1, 19, 4), (17, 1, 19, 1), (20, 1, 19, 2), (23, 1, 19, 3)]
theorem flkL19_ok : ∀ e ∈ flkL19, wokF 19 e := List.forall_mem_cons.mpr ⟨lw_at lw_m5 21 rfl, List.forall_mem_cons.mpr ⟨lw_at lw_m5 37 rfl, List.forall_mem_cons.mpr ⟨lw_at lw_m5 25 rfl, List.forall_mem_cons.mpr ⟨lw_at lw_m5 30 rfl, List.forall_mem_cons.mpr ⟨lw_at lw_m5 34 rfl, fun e h => by cases h⟩⟩⟩⟩⟩
def flkL20 : List (Nat × Nat × Nat × Nat) := [(9, 1, 20, 3), (16, 1, 20, 7), (19, 1, 20, 8), (22, 1, 20, 9), (27, 1, 20, 10), (31, 1, 20, 0), (34, 1, 20, 1), (37, 1, 20, 2), (40, 1, 20, 4), (43, 2, 19, 1), (46, 1, 20, 5), (49, 2, 19, 2), (50, 1, 20, 6), (53, 2, 19, 3)]
theorem flkL20_ok : ∀ e ∈ flkL20, wokF 20 e := List.forall_mem_cons.mpr ⟨lw_at lw_m5 147 rfl, List.forall_mem_cons.mpr ⟨lw_at lw_m5 157 rfl, List.forall_mem_cons.mpr ⟨lw_at lw_m5 159 rfl, List.forall_mem_cons.mpr ⟨lw_at lw_m5 161 rfl, List.forall_mem_cons.mpr ⟨lw_at lw_m5 163 rfl, List.forall_mem_cons.mpr ⟨lw_at lw_m5 137 rfl, List.forall_mem_cons.mpr ⟨lw_at lw_m5 142 rfl, List.forall_mem_cons.mpr ⟨lw_at lw_m5 144 rfl, List.forall_mem_cons.mpr ⟨lw_at lw_m5 151 rfl, List.forall_mem_cons.mpr ⟨lw_at lw_m5 26 rfl, List.forall_mem_cons.mpr ⟨lw_at lw_m5 153 rfl, List.forall_mem_cons.mpr ⟨lw_at lw_m5 31 rfl, List.forall_mem_cons.mpr ⟨lw_at lw_m5 155 rfl, List.forall_mem_cons.mpr ⟨lw_at lw_m5 35 rfl, fun e h => by cases h⟩⟩⟩⟩⟩⟩⟩⟩⟩⟩⟩⟩⟩⟩
def flkL21 : List (Nat × Nat × Nat × Nat) := [(7, 1, 21, 0), (13, 1, 21, 3), (17, 1, 21, 1), (20, 1, 21, 2), (23, 1, 21, 7), (27, 2, 22, 1), (33, 2, 22, 5), (36, 2, 20, 11)]
theorem flkL21_ok : ∀ e ∈ flkL21, wokF 21 e := List.forall_mem_cons.mpr ⟨lw_at lw_m6 96 rfl, List.forall_mem_cons.mpr ⟨lw_at lw_m6 105 rfl, List.forall_mem_cons.mpr ⟨lw_at lw_m6 100 rfl, List.forall_mem_cons.mpr ⟨lw_at lw_m6 103 rfl, List.forall_mem_cons.mpr ⟨lw_at lw_m6 112 rfl, List.forall_mem_cons.mpr ⟨lw_at lw_m6 150 rfl, List.forall_mem_cons.mpr ⟨lw_at lw_m6 160 rfl, List.forall_mem_cons.mpr ⟨lw_at lw_m5 164 rfl, fun e h => by cases h⟩⟩⟩⟩⟩⟩⟩⟩
def flkL22 : List (Nat × Nat × Nat × Nat) := [(9, 1, 22, 0), (15, 1, 22, 1), (19, 1, 22, 5), (23, 2, 20, 0), (29, 1, 22, 2), (32, 1, 22, 3), (35, 1, 22, 4), (39, 2, 23, 0), (42, 2, 23, 4), (45, 2, 23, 2)]
theorem flkL22_ok : ∀ e ∈ flkL22, wokF 22 e := List.forall_mem_cons.mpr ⟨lw_at lw_m6 145 rfl, List.forall_mem_cons.mpr ⟨lw_at lw_m6 149 rfl, List.forall_mem_cons.mpr ⟨lw_at lw_m6 159 rfl, List.forall_mem_cons.mpr ⟨lw_at lw_m5 138 rfl, List.forall_mem_cons.mpr ⟨lw_at lw_m6 153 rfl, List.forall_mem_cons.mpr ⟨lw_at lw_m6 155 rfl, List.forall_mem_cons.mpr ⟨lw_at lw_m6 157 rfl, List.forall_mem_cons.mpr ⟨lw_at lw_m6 189 rfl, List.forall_mem_cons.mpr ⟨lw_at lw_m6 197 rfl, List.forall_mem_cons.mpr ⟨lw_at lw_m6 193 rfl, fun e h => by cases h⟩⟩⟩⟩⟩⟩⟩⟩⟩⟩
def flkL23 : List (Nat × Nat × Nat × Nat) := [(7, 1, 23, 0), (13, 1, 23, 3), (17, 1, 23, 1), (20, 1, 23, 2), (23, 1, 23, 4)]
theorem flkL23_ok : ∀ e ∈ flkL23, wokF 23 e := List.forall_mem_cons.mpr ⟨lw_at lw_m6 188 rfl, List.forall_mem_cons.mpr ⟨lw_at lw_m6 194 rfl, List.forall_mem_cons.mpr ⟨lw_at lw_m6 190 rfl, List.forall_mem_cons.mpr ⟨lw_at lw_m6 192 rfl, List.forall_mem_cons.mpr ⟨lw_at lw_m6 196 rfl, fun e h => by cases h⟩⟩⟩⟩⟩
def flkL24 : List (Nat × Nat × Nat × Nat) := [(11, 1, 24, 3), (17, 1, 24, 7), (27, 1, 24, 8), (30, 1, 24, 0), (34, 1, 24, 1), (37, 1, 24, 2), (40, 2, 26, 1), (47, 2, 19, 1)]
theorem flkL24_ok : ∀ e ∈ flkL24, wokF 24 e := List.forall_mem_cons.mpr ⟨lw_at lw_m7 104 rfl, List.forall_mem_cons.mpr ⟨lw_at lw_m7 110 rfl, List.forall_mem_cons.mpr ⟨lw_at lw_m7 114 rfl, List.forall_mem_cons.mpr ⟨lw_at lw_m7 97 rfl, List.forall_mem_cons.mpr ⟨lw_at lw_m7 99 rfl, List.forall_mem_cons.mpr ⟨lw_at lw_m7 101 rfl, List.forall_mem_cons.mpr ⟨lw_at lw_m7 219 rfl, List.forall_mem_cons.mpr ⟨lw_at lw_m5 27 rfl, fun e h => by cases h⟩⟩⟩⟩⟩⟩⟩⟩
def flkL25 : List (Nat × Nat × Nat × Nat) := [(7, 1, 25, 0), (13, 1, 25, 1), (17, 1, 25, 2)]
theorem flkL25_ok : ∀ e ∈ flkL25, wokF 25 e := List.forall_mem_cons.mpr ⟨lw_at lw_m7 164 rfl, List.forall_mem_cons.mpr ⟨lw_at lw_m7 166 rfl, List.forall_mem_cons.mpr ⟨lw_at lw_m7 168 rfl, fun e h => by cases h⟩⟩⟩
def flkL26 : List (Nat × Nat × Nat × Nat) := [(7, 1, 26, 0), (13, 1, 26, 2), (17, 1, 26, 1), (20, 2, 22, 0), (26, 2, 21, 3)]
theorem flkL26_ok : ∀ e ∈ flkL26, wokF 26 e := List.forall_mem_cons.mpr ⟨lw_at lw_m7 216 rfl, List.forall_mem_cons.mpr ⟨lw_at lw_m7 222 rfl, List.forall_mem_cons.mpr ⟨lw_at lw_m7 218 rfl, List.forall_mem_cons.mpr ⟨lw_at lw_m6 146 rfl, List.forall_mem_cons.mpr ⟨lw_at lw_m6 106 rfl, fun e h => by cases h⟩⟩⟩⟩⟩
def flkL27 : List (Nat × Nat × Nat × Nat) := [(7, 1, 27, 0), (13, 1, 27, 1), (16, 1, 27, 2)]
theorem flkL27_ok : ∀ e ∈ flkL27, wokF 27 e := List.forall_mem_cons.mpr ⟨lw_at lw_m8 150 rfl, List.forall_mem_cons.mpr ⟨lw_at lw_m8 151 rfl, List.forall_mem_cons.mpr ⟨lw_at lw_m8 152 rfl, fun e h => by cases h⟩⟩⟩
def flkL28 : List (Nat × Nat × Nat × Nat) := [(7, 1, 28, 0), (13, 1, 28, 1)]
theorem flkL28_ok : ∀ e ∈ flkL28, wokF 28 e := List.forall_mem_cons.mpr ⟨lw_at lw_m9 8 rfl, List.forall_mem_cons.mpr ⟨lw_at lw_m9 10 rfl, fun e h => by cases h⟩⟩
def flkL29 : List (Nat × Nat × Nat × Nat) := [(11, 1, 29, 2), (17, 1, 29, 3), (21, 1, 29, 0), (24, 1, 29, 1)]
theorem flkL29_ok : ∀ e ∈ flkL29, wokF 29 e := List.forall_mem_cons.mpr ⟨lw_at lw_m9 109 rfl, List.forall_mem_cons.mpr ⟨lw_at lw_m9 111 rfl, List.forall_mem_cons.mpr ⟨lw_at lw_m9 107 rfl, List.forall_mem_cons.mpr ⟨lw_at lw_m9 108 rfl, fun e h => by cases h⟩⟩⟩⟩
def flkL30 : List (Nat × Nat × Nat × Nat) := [(11, 1, 30, 3), (15, 1, 30, 4), (19, 1, 30, 5), (22, 1, 30, 6), (27, 1, 30, 7), (31, 1, 30, 0), (35, 1, 30, 1), (38, 1, 30, 2)]
theorem flkL30_ok : ∀ e ∈ flkL30, wokF 30 e := List.forall_mem_cons.mpr ⟨lw_at lw_m12 6 rfl, List.forall_mem_cons.mpr ⟨lw_at lw_m12 9 rfl, List.forall_mem_cons.mpr ⟨lw_at lw_m12 12 rfl, List.forall_mem_cons.mpr ⟨lw_at lw_m12 15 rfl, List.forall_mem_cons.mpr ⟨lw_at lw_m12 17 rfl, List.forall_mem_cons.mpr ⟨lw_at lw_m12 0 rfl, List.forall_mem_cons.mpr ⟨lw_at lw_m12 2 rfl, List.forall_mem_cons.mpr ⟨lw_at lw_m12 4 rfl, fun e h => by cases h⟩⟩⟩⟩⟩⟩⟩⟩
def flkL36 : List (Nat × Nat × Nat × Nat) := []
theorem flkL36_ok : ∀ e ∈ flkL36, wokF 36 e := fun e h => by cases h
def flkL (c : Nat) : List (Nat × Nat × Nat × Nat) := bif Nat.blt c 18 then bif Nat.blt c 9 then bif Nat.blt c 4 then bif Nat.blt c 2 then bif Nat.blt c 1 then flkL0 else flkL1 else bif Nat.blt c 3 then flkL2 else flkL3 else bif Nat.blt c 6 then bif Nat.blt c 5 then flkL4 else flkL5 else bif Nat.blt c 7 then flkL6 else bif Nat.blt c 8 then flkL7 else flkL8 else bif Nat.blt c 13 then bif Nat.blt c 11 then bif Nat.blt c 10 then flkL9 else flkL10 else bif Nat.blt c 12 then flkL11 else flkL12 else bif Nat.blt c 15 then bif Nat.blt c 14 then flkL13 else flkL14 else bif Nat.blt c 16 then flkL15 else bif Nat.blt c 17 then flkL16 else flkL17 else bif Nat.blt c 27 then bif Nat.blt c 22 then bif Nat.blt c 20 then bif Nat.blt c 19 then [] else flkL19 else bif Nat.blt c 21 then flkL20 else flkL21 else bif Nat.blt c 24 then bif Nat.blt c 23 then flkL22 else flkL23 else bif Nat.blt c 25 then flkL24 else bif Nat.blt c 26 then flkL25 else flkL26 else bif Nat.blt c 32 then bif Nat.blt c 29 then bif Nat.blt c 28 then flkL27 else flkL28 else bif Nat.blt c 30 then flkL29 else bif Nat.blt c 31 then flkL30 else [] else bif Nat.blt c 34 then bif Nat.blt c 33 then [] else [] else bif Nat.blt c 35 then [] else bif Nat.blt c 36 then [] else flkL36
theorem flkL_ok : ∀ c, ∀ e ∈ flkL c, wokF c e := by
  intro c
  by_cases hc : c < 37
  · unfold flkL
    rcases c with _ | _ | _ | _ | _ | _ | _ | _ | _ | _ | _ | _ | _ | _ | _ | _ | _ | _ | _ | _ | _ | _ | _ | _ | _ | _ | _ | _ | _ | _ | _ | _ | _ | _ | _ | _ | _ | c
    · exact flkL0_ok
    · exact flkL1_ok
    · exact flkL2_ok
    · exact flkL3_ok
    · exact flkL4_ok
    · exact flkL5_ok
    · exact flkL6_ok
    · exact flkL7_ok
    · exact flkL8_ok
    · exact flkL9_ok
    · exact flkL10_ok
    · exact flkL11_ok
    · exact flkL12_ok
    · exact flkL13_ok
    · exact flkL14_ok
    · exact flkL15_ok
    · exact flkL16_ok
    · exact flkL17_ok
    · exact fun e h => by cases h
    · exact flkL19_ok
    · exact flkL20_ok
    · exact flkL21_ok
    · exact flkL22_ok
    · exact flkL23_ok
    · exact flkL24_ok
    · exact flkL25_ok
    · exact flkL26_ok
    · exact flkL27_ok
    · exact flkL28_ok
    · exact flkL29_ok
    · exact flkL30_ok
    · exact fun e h => by cases h
    · exact fun e h => by cases h
    · exact fun e h => by cases h
    · exact fun e h => by cases h
    · exact fun e h => by cases h
    · exact flkL36_ok
    · omega
  · have : flkL c = [] := by
      unfold flkL
      simp only [blt_f (a := c) (b := 18) (by omega), blt_f (a := c) (b := 27) (by omega), blt_f (a := c) (b := 32) (by omega), blt_f (a := c) (b := 34) (by omega), blt_f (a := c) (b := 35) (by omega), blt_f (a := c) (b := 36) (by omega), cond_false]
      rfl
    rw [this]; intro e h; cases h
def wokC (c : Nat) (e : Nat × Nat) : Prop := Cond.classLink (cx_nm c) e.1 (cx_nm e.2) ∈ lw_tbl
def clkL0 : List (Nat × Nat) := [(8, 1), (13, 32), (19, 33), (28, 34), (34, 35), (232, 17)]
theorem clkL0_ok : ∀ e ∈ clkL0, wokC 0 e := List.forall_mem_cons.mpr ⟨lw_at lw_m1 41 rfl, List.forall_mem_cons.mpr ⟨lw_at lw_m4 55 rfl, List.forall_mem_cons.mpr ⟨lw_at lw_m4 146 rfl, List.forall_mem_cons.mpr ⟨lw_at lw_m5 53 rfl, List.forall_mem_cons.mpr ⟨lw_at lw_m5 212 rfl, List.forall_mem_cons.mpr ⟨lw_at lw_m12 130 rfl, fun e h => by cases h⟩⟩⟩⟩⟩⟩
def clkL1 : List (Nat × Nat) := [(1, 33), (7, 34), (10, 35), (13, 32), (49, 2), (56, 3)]
theorem clkL1_ok : ∀ e ∈ clkL1, wokC 1 e := List.forall_mem_cons.mpr ⟨lw_at lw_m4 158 rfl, List.forall_mem_cons.mpr ⟨lw_at lw_m5 65 rfl, List.forall_mem_cons.mpr ⟨lw_at lw_m5 228 rfl, List.forall_mem_cons.mpr ⟨lw_at lw_m4 67 rfl, List.forall_mem_cons.mpr ⟨lw_at lw_m1 49 rfl, List.forall_mem_cons.mpr ⟨lw_at lw_m1 70 rfl, fun e h => by cases h⟩⟩⟩⟩⟩⟩
def clkL2 : List (Nat × Nat) := []
theorem clkL2_ok : ∀ e ∈ clkL2, wokC 2 e := fun e h => by cases h
def clkL3 : List (Nat × Nat) := [(9, 4), (18, 5), (25, 6), (32, 7), (39, 8), (46, 9), (53, 21), (59, 23), (65, 24), (71, 28), (77, 10), (84, 11), (91, 12), (98, 14), (105, 15), (112, 16), (127, 22), (244, 33), (402, 25), (441, 32), (444, 26), (504, 27), (566, 29)]
theorem clkL3_ok : ∀ e ∈ clkL3, wokC 3 e := List.forall_mem_cons.mpr ⟨lw_at lw_m1 76 rfl, List.forall_mem_cons.mpr ⟨lw_at lw_m1 104 rfl, List.forall_mem_cons.mpr ⟨lw_at lw_m1 162 rfl, List.forall_mem_cons.mpr ⟨lw_at lw_m1 202 rfl, List.forall_mem_cons.mpr ⟨lw_at lw_m2 3 rfl, List.forall_mem_cons.mpr ⟨lw_at lw_m2 55 rfl, List.forall_mem_cons.mpr ⟨lw_at lw_m2 86 rfl, List.forall_mem_cons.mpr ⟨lw_at lw_m2 88 rfl, List.forall_mem_cons.mpr ⟨lw_at lw_m2 90 rfl, List.forall_mem_cons.mpr ⟨lw_at lw_m2 92 rfl, List.forall_mem_cons.mpr ⟨lw_at lw_m2 94 rfl, List.forall_mem_cons.mpr ⟨lw_at lw_m2 124 rfl, List.forall_mem_cons.mpr ⟨lw_at lw_m2 182 rfl, List.forall_mem_cons.mpr ⟨lw_at lw_m3 16 rfl, List.forall_mem_cons.mpr ⟨lw_at lw_m3 76 rfl, List.forall_mem_cons.mpr ⟨lw_at lw_m3 99 rfl, List.forall_mem_cons.mpr ⟨lw_at lw_m3 135 rfl, List.forall_mem_cons.mpr ⟨lw_at lw_m6 18 rfl, List.forall_mem_cons.mpr ⟨lw_at lw_m7 158 rfl, List.forall_mem_cons.mpr ⟨lw_at lw_m7 208 rfl, List.forall_mem_cons.mpr ⟨lw_at lw_m7 210 rfl, List.forall_mem_cons.mpr ⟨lw_at lw_m8 144 rfl, List.forall_mem_cons.mpr ⟨lw_at lw_m9 101 rfl, fun e h => by cases h⟩⟩⟩⟩⟩⟩⟩⟩⟩⟩⟩⟩⟩⟩⟩⟩⟩⟩⟩⟩⟩⟩⟩
def clkL4 : List (Nat × Nat) := [(22, 18)]
theorem clkL4_ok : ∀ e ∈ clkL4, wokC 4 e := List.forall_mem_cons.mpr ⟨lw_at lw_m4 218 rfl, fun e h => by cases h⟩
def clkL5 : List (Nat × Nat) := [(13, 19), (123, 18), (125, 32)]
theorem clkL5_ok : ∀ e ∈ clkL5, wokC 5 e := List.forall_mem_cons.mpr ⟨lw_at lw_m1 110 rfl, List.forall_mem_cons.mpr ⟨lw_at lw_m4 192 rfl, List.forall_mem_cons.mpr ⟨lw_at lw_m5 10 rfl, fun e h => by cases h⟩⟩⟩
def clkL6 : List (Nat × Nat) := [(19, 20), (81, 18), (85, 32)]
theorem clkL6_ok : ∀ e ∈ clkL6, wokC 6 e := List.forall_mem_cons.mpr ⟨lw_at lw_m1 168 rfl, List.forall_mem_cons.mpr ⟨lw_at lw_m5 84 rfl, List.forall_mem_cons.mpr ⟨lw_at lw_m5 121 rfl, fun e h => by cases h⟩⟩⟩
def clkL7 : List (Nat × Nat) := [(11, 20)]
theorem clkL7_ok : ∀ e ∈ clkL7, wokC 7 e := List.forall_mem_cons.mpr ⟨lw_at lw_m1 208 rfl, fun e h => by cases h⟩
def clkL8 : List (Nat × Nat) := [(11, 27), (115, 34)]
theorem clkL8_ok : ∀ e ∈ clkL8, wokC 8 e := List.forall_mem_cons.mpr ⟨lw_at lw_m2 9 rfl, List.forall_mem_cons.mpr ⟨lw_at lw_m8 208 rfl, fun e h => by cases h⟩⟩
def clkL9 : List (Nat × Nat) := [(11, 29)]
theorem clkL9_ok : ∀ e ∈ clkL9, wokC 9 e := List.forall_mem_cons.mpr ⟨lw_at lw_m2 61 rfl, fun e h => by cases h⟩
def clkL10 : List (Nat × Nat) := []
theorem clkL10_ok : ∀ e ∈ clkL10, wokC 10 e := fun e h => by cases h
def clkL11 : List (Nat × Nat) := [(11, 22), (17, 20)]
theorem clkL11_ok : ∀ e ∈ clkL11, wokC 11 e := List.forall_mem_cons.mpr ⟨lw_at lw_m2 130 rfl, List.forall_mem_cons.mpr ⟨lw_at lw_m2 132 rfl, fun e h => by cases h⟩⟩
def clkL12 : List (Nat × Nat) := [(9, 7), (18, 13), (32, 20)]
theorem clkL12_ok : ∀ e ∈ clkL12, wokC 12 e := List.forall_mem_cons.mpr ⟨lw_at lw_m2 188 rfl, List.forall_mem_cons.mpr ⟨lw_at lw_m2 190 rfl, List.forall_mem_cons.mpr ⟨lw_at lw_m2 192 rfl, fun e h => by cases h⟩⟩⟩
def clkL13 : List (Nat × Nat) := [(19, 20)]
theorem clkL13_ok : ∀ e ∈ clkL13, wokC 13 e := List.forall_mem_cons.mpr ⟨lw_at lw_m2 198 rfl, fun e h => by cases h⟩
def clkL14 : List (Nat × Nat) := [(105, 18)]
theorem clkL14_ok : ∀ e ∈ clkL14, wokC 14 e := List.forall_mem_cons.mpr ⟨lw_at lw_m11 82 rfl, fun e h => by cases h⟩
def clkL15 : List (Nat × Nat) := []
theorem clkL15_ok : ∀ e ∈ clkL15, wokC 15 e := fun e h => by cases h
def clkL16 : List (Nat × Nat) := [(11, 30), (17, 19), (84, 18)]
theorem clkL16_ok : ∀ e ∈ clkL16, wokC 16 e := List.forall_mem_cons.mpr ⟨lw_at lw_m3 105 rfl, List.forall_mem_cons.mpr ⟨lw_at lw_m3 107 rfl, List.forall_mem_cons.mpr ⟨lw_at lw_m11 211 rfl, fun e h => by cases h⟩⟩⟩
def clkL17 : List (Nat × Nat) := []
theorem clkL17_ok : ∀ e ∈ clkL17, wokC 17 e := fun e h => by cases h
def clkL19 : List (Nat × Nat) := []
theorem clkL19_ok : ∀ e ∈ clkL19, wokC 19 e := fun e h => by cases h
def clkL20 : List (Nat × Nat) := []
theorem clkL20_ok : ∀ e ∈ clkL20, wokC 20 e := fun e h => by cases h
def clkL21 : List (Nat × Nat) := [(28, 22)]
theorem clkL21_ok : ∀ e ∈ clkL21, wokC 21 e := List.forall_mem_cons.mpr ⟨lw_at lw_m6 139 rfl, fun e h => by cases h⟩
def clkL22 : List (Nat × Nat) := []
theorem clkL22_ok : ∀ e ∈ clkL22, wokC 22 e := fun e h => by cases h
def clkL23 : List (Nat × Nat) := []
theorem clkL23_ok : ∀ e ∈ clkL23, wokC 23 e := fun e h => by cases h
def clkL24 : List (Nat × Nat) := [(9, 25), (15, 26)]
theorem clkL24_ok : ∀ e ∈ clkL24, wokC 24 e := List.forall_mem_cons.mpr ⟨lw_at lw_m7 91 rfl, List.forall_mem_cons.mpr ⟨lw_at lw_m7 93 rfl, fun e h => by cases h⟩⟩
def clkL25 : List (Nat × Nat) := []
theorem clkL25_ok : ∀ e ∈ clkL25, wokC 25 e := fun e h => by cases h
def clkL26 : List (Nat × Nat) := []
theorem clkL26_ok : ∀ e ∈ clkL26, wokC 26 e := fun e h => by cases h
def clkL27 : List (Nat × Nat) := []
theorem clkL27_ok : ∀ e ∈ clkL27, wokC 27 e := fun e h => by cases h
def clkL28 : List (Nat × Nat) := []
theorem clkL28_ok : ∀ e ∈ clkL28, wokC 28 e := fun e h => by cases h
def clkL29 : List (Nat × Nat) := []
theorem clkL29_ok : ∀ e ∈ clkL29, wokC 29 e := fun e h => by cases h
def clkL30 : List (Nat × Nat) := [(9, 19), (25, 21)]
theorem clkL30_ok : ∀ e ∈ clkL30, wokC 30 e := List.forall_mem_cons.mpr ⟨lw_at lw_m11 238 rfl, List.forall_mem_cons.mpr ⟨lw_at lw_m11 239 rfl, fun e h => by cases h⟩⟩
def clkL36 : List (Nat × Nat) := []
theorem clkL36_ok : ∀ e ∈ clkL36, wokC 36 e := fun e h => by cases h
def clkL (c : Nat) : List (Nat × Nat) := bif Nat.blt c 18 then bif Nat.blt c 9 then bif Nat.blt c 4 then bif Nat.blt c 2 then bif Nat.blt c 1 then clkL0 else clkL1 else bif Nat.blt c 3 then clkL2 else clkL3 else bif Nat.blt c 6 then bif Nat.blt c 5 then clkL4 else clkL5 else bif Nat.blt c 7 then clkL6 else bif Nat.blt c 8 then clkL7 else clkL8 else bif Nat.blt c 13 then bif Nat.blt c 11 then bif Nat.blt c 10 then clkL9 else clkL10 else bif Nat.blt c 12 then clkL11 else clkL12 else bif Nat.blt c 15 then bif Nat.blt c 14 then clkL13 else clkL14 else bif Nat.blt c 16 then clkL15 else bif Nat.blt c 17 then clkL16 else clkL17 else bif Nat.blt c 27 then bif Nat.blt c 22 then bif Nat.blt c 20 then bif Nat.blt c 19 then [] else clkL19 else bif Nat.blt c 21 then clkL20 else clkL21 else bif Nat.blt c 24 then bif Nat.blt c 23 then clkL22 else clkL23 else bif Nat.blt c 25 then clkL24 else bif Nat.blt c 26 then clkL25 else clkL26 else bif Nat.blt c 32 then bif Nat.blt c 29 then bif Nat.blt c 28 then clkL27 else clkL28 else bif Nat.blt c 30 then clkL29 else bif Nat.blt c 31 then clkL30 else [] else bif Nat.blt c 34 then bif Nat.blt c 33 then [] else [] else bif Nat.blt c 35 then [] else bif Nat.blt c 36 then [] else clkL36
theorem clkL_ok : ∀ c, ∀ e ∈ clkL c, wokC c e := by
  intro c
  by_cases hc : c < 37
  · unfold clkL
    rcases c with _ | _ | _ | _ | _ | _ | _ | _ | _ | _ | _ | _ | _ | _ | _ | _ | _ | _ | _ | _ | _ | _ | _ | _ | _ | _ | _ | _ | _ | _ | _ | _ | _ | _ | _ | _ | _ | c
    · exact clkL0_ok
    · exact clkL1_ok
    · exact clkL2_ok
    · exact clkL3_ok
    · exact clkL4_ok
    · exact clkL5_ok
    · exact clkL6_ok
    · exact clkL7_ok
    · exact clkL8_ok
    · exact clkL9_ok
    · exact clkL10_ok
    · exact clkL11_ok
    · exact clkL12_ok
    · exact clkL13_ok
    · exact clkL14_ok
    · exact clkL15_ok
    · exact clkL16_ok
    · exact clkL17_ok
    · exact fun e h => by cases h
    · exact clkL19_ok
    · exact clkL20_ok
    · exact clkL21_ok
    · exact clkL22_ok
    · exact clkL23_ok
    · exact clkL24_ok
    · exact clkL25_ok
    · exact clkL26_ok
    · exact clkL27_ok
    · exact clkL28_ok
    · exact clkL29_ok
    · exact clkL30_ok
    · exact fun e h => by cases h
    · exact fun e h => by cases h
    · exact fun e h => by cases h
    · exact fun e h => by cases h
    · exact fun e h => by cases h
    · exact clkL36_ok
    · omega
  · have : clkL c = [] := by
      unfold clkL
      simp only [blt_f (a := c) (b := 18) (by omega), blt_f (a := c) (b := 27) (by omega), blt_f (a := c) (b := 32) (by omega), blt_f (a := c) (b := 34) (by omega), blt_f (a := c) (b := 35) (by omega), blt_f (a := c) (b := 36) (by omega), cond_false]
      rfl
    rw [this]; intro e h; cases h
def wokK (c : Nat) (e : Nat × Int32) : Prop := Cond.constant (cx_nm c) e.1 e.2 ∈ lw_tbl
def kstL0 : List (Nat × Int32) := []
theorem kstL0_ok : ∀ e ∈ kstL0, wokK 0 e := fun e h => by cases h
def kstL1 : List (Nat × Int32) := []
theorem kstL1_ok : ∀ e ∈ kstL1, wokK 1 e := fun e h => by cases h
def kstL2 : List (Nat × Int32) := [(9, 132000)]
theorem kstL2_ok : ∀ e ∈ kstL2, wokK 2 e := List.forall_mem_cons.mpr ⟨lw_at lw_m1 55 rfl, fun e h => by cases h⟩
def kstL3 : List (Nat × Int32) := [(247, 10000000), (495, 1000000), (496, 100000), (528, 40000000)]
theorem kstL3_ok : ∀ e ∈ kstL3, wokK 3 e := List.forall_mem_cons.mpr ⟨lw_at lw_m6 31 rfl, List.forall_mem_cons.mpr ⟨lw_at lw_m8 142 rfl, List.forall_mem_cons.mpr ⟨lw_at lw_m8 143 rfl, List.forall_mem_cons.mpr ⟨lw_at lw_m9 2 rfl, fun e h => by cases h⟩⟩⟩⟩
def kstL4 : List (Nat × Int32) := []
theorem kstL4_ok : ∀ e ∈ kstL4, wokK 4 e := fun e h => by cases h
def kstL5 : List (Nat × Int32) := [(98, 50000), (99, 100000)]
theorem kstL5_ok : ∀ e ∈ kstL5, wokK 5 e := List.forall_mem_cons.mpr ⟨lw_at lw_m5 8 rfl, List.forall_mem_cons.mpr ⟨lw_at lw_m5 9 rfl, fun e h => by cases h⟩⟩
def kstL6 : List (Nat × Int32) := []
theorem kstL6_ok : ∀ e ∈ kstL6, wokK 6 e := fun e h => by cases h
def kstL7 : List (Nat × Int32) := [(95, 268435456)]
theorem kstL7_ok : ∀ e ∈ kstL7, wokK 7 e := List.forall_mem_cons.mpr ⟨lw_at lw_m8 70 rfl, fun e h => by cases h⟩
def kstL8 : List (Nat × Int32) := []
theorem kstL8_ok : ∀ e ∈ kstL8, wokK 8 e := fun e h => by cases h
def kstL9 : List (Nat × Int32) := [(19, 161600)]
theorem kstL9_ok : ∀ e ∈ kstL9, wokK 9 e := List.forall_mem_cons.mpr ⟨lw_at lw_m2 63 rfl, fun e h => by cases h⟩
def kstL10 : List (Nat × Int32) := []
theorem kstL10_ok : ∀ e ∈ kstL10, wokK 10 e := fun e h => by cases h
def kstL11 : List (Nat × Int32) := []
theorem kstL11_ok : ∀ e ∈ kstL11, wokK 11 e := fun e h => by cases h
def kstL12 : List (Nat × Int32) := []
theorem kstL12_ok : ∀ e ∈ kstL12, wokK 12 e := fun e h => by cases h
def kstL13 : List (Nat × Int32) := []
theorem kstL13_ok : ∀ e ∈ kstL13, wokK 13 e := fun e h => by cases h
def kstL14 : List (Nat × Int32) := [(87, 40000000), (88, 100000)]
theorem kstL14_ok : ∀ e ∈ kstL14, wokK 14 e := List.forall_mem_cons.mpr ⟨lw_at lw_m11 104 rfl, List.forall_mem_cons.mpr ⟨lw_at lw_m11 105 rfl, fun e h => by cases h⟩⟩
def kstL15 : List (Nat × Int32) := []
theorem kstL15_ok : ∀ e ∈ kstL15, wokK 15 e := fun e h => by cases h
def kstL16 : List (Nat × Int32) := []
theorem kstL16_ok : ∀ e ∈ kstL16, wokK 16 e := fun e h => by cases h
def kstL17 : List (Nat × Int32) := [(208, 161600), (394, 132024), (445, 50000), (449, 100000), (510, 1000000), (527, 10000000), (625, 16777216), (696, 40000000)]
theorem kstL17_ok : ∀ e ∈ kstL17, wokK 17 e := List.forall_mem_cons.mpr ⟨lw_at lw_m12 136 rfl, List.forall_mem_cons.mpr ⟨lw_at lw_m12 137 rfl, List.forall_mem_cons.mpr ⟨lw_at lw_m16 56 rfl, List.forall_mem_cons.mpr ⟨lw_at lw_m16 57 rfl, List.forall_mem_cons.mpr ⟨lw_at lw_m16 81 rfl, List.forall_mem_cons.mpr ⟨lw_at lw_m16 86 rfl, List.forall_mem_cons.mpr ⟨lw_at lw_m15 77 rfl, List.forall_mem_cons.mpr ⟨lw_at lw_m16 214 rfl, fun e h => by cases h⟩⟩⟩⟩⟩⟩⟩⟩
def kstL19 : List (Nat × Int32) := []
theorem kstL19_ok : ∀ e ∈ kstL19, wokK 19 e := fun e h => by cases h
def kstL20 : List (Nat × Int32) := [(15, 1000000)]
theorem kstL20_ok : ∀ e ∈ kstL20, wokK 20 e := List.forall_mem_cons.mpr ⟨lw_at lw_m5 136 rfl, fun e h => by cases h⟩
def kstL21 : List (Nat × Int32) := []
theorem kstL21_ok : ∀ e ∈ kstL21, wokK 21 e := fun e h => by cases h
def kstL22 : List (Nat × Int32) := []
theorem kstL22_ok : ∀ e ∈ kstL22, wokK 22 e := fun e h => by cases h
def kstL23 : List (Nat × Int32) := []
theorem kstL23_ok : ∀ e ∈ kstL23, wokK 23 e := fun e h => by cases h
def kstL24 : List (Nat × Int32) := []
theorem kstL24_ok : ∀ e ∈ kstL24, wokK 24 e := fun e h => by cases h
def kstL25 : List (Nat × Int32) := []
theorem kstL25_ok : ∀ e ∈ kstL25, wokK 25 e := fun e h => by cases h
def kstL26 : List (Nat × Int32) := []
theorem kstL26_ok : ∀ e ∈ kstL26, wokK 26 e := fun e h => by cases h
def kstL27 : List (Nat × Int32) := []
theorem kstL27_ok : ∀ e ∈ kstL27, wokK 27 e := fun e h => by cases h
def kstL28 : List (Nat × Int32) := []
theorem kstL28_ok : ∀ e ∈ kstL28, wokK 28 e := fun e h => by cases h
def kstL29 : List (Nat × Int32) := []
theorem kstL29_ok : ∀ e ∈ kstL29, wokK 29 e := fun e h => by cases h
def kstL30 : List (Nat × Int32) := []
theorem kstL30_ok : ∀ e ∈ kstL30, wokK 30 e := fun e h => by cases h
def kstL36 : List (Nat × Int32) := []
theorem kstL36_ok : ∀ e ∈ kstL36, wokK 36 e := fun e h => by cases h
def kstL (c : Nat) : List (Nat × Int32) := bif Nat.blt c 18 then bif Nat.blt c 9 then bif Nat.blt c 4 then bif Nat.blt c 2 then bif Nat.blt c 1 then kstL0 else kstL1 else bif Nat.blt c 3 then kstL2 else kstL3 else bif Nat.blt c 6 then bif Nat.blt c 5 then kstL4 else kstL5 else bif Nat.blt c 7 then kstL6 else bif Nat.blt c 8 then kstL7 else kstL8 else bif Nat.blt c 13 then bif Nat.blt c 11 then bif Nat.blt c 10 then kstL9 else kstL10 else bif Nat.blt c 12 then kstL11 else kstL12 else bif Nat.blt c 15 then bif Nat.blt c 14 then kstL13 else kstL14 else bif Nat.blt c 16 then kstL15 else bif Nat.blt c 17 then kstL16 else kstL17 else bif Nat.blt c 27 then bif Nat.blt c 22 then bif Nat.blt c 20 then bif Nat.blt c 19 then [] else kstL19 else bif Nat.blt c 21 then kstL20 else kstL21 else bif Nat.blt c 24 then bif Nat.blt c 23 then kstL22 else kstL23 else bif Nat.blt c 25 then kstL24 else bif Nat.blt c 26 then kstL25 else kstL26 else bif Nat.blt c 32 then bif Nat.blt c 29 then bif Nat.blt c 28 then kstL27 else kstL28 else bif Nat.blt c 30 then kstL29 else bif Nat.blt c 31 then kstL30 else [] else bif Nat.blt c 34 then bif Nat.blt c 33 then [] else [] else bif Nat.blt c 35 then [] else bif Nat.blt c 36 then [] else kstL36
theorem kstL_ok : ∀ c, ∀ e ∈ kstL c, wokK c e := by
  intro c
  by_cases hc : c < 37
  · unfold kstL
    rcases c with _ | _ | _ | _ | _ | _ | _ | _ | _ | _ | _ | _ | _ | _ | _ | _ | _ | _ | _ | _ | _ | _ | _ | _ | _ | _ | _ | _ | _ | _ | _ | _ | _ | _ | _ | _ | _ | c
    · exact kstL0_ok
    · exact kstL1_ok
    · exact kstL2_ok
    · exact kstL3_ok
    · exact kstL4_ok
    · exact kstL5_ok
    · exact kstL6_ok
    · exact kstL7_ok
    · exact kstL8_ok
    · exact kstL9_ok
    · exact kstL10_ok
    · exact kstL11_ok
    · exact kstL12_ok
    · exact kstL13_ok
    · exact kstL14_ok
    · exact kstL15_ok
    · exact kstL16_ok
    · exact kstL17_ok
    · exact fun e h => by cases h
    · exact kstL19_ok
    · exact kstL20_ok
    · exact kstL21_ok
    · exact kstL22_ok
    · exact kstL23_ok
    · exact kstL24_ok
    · exact kstL25_ok
    · exact kstL26_ok
    · exact kstL27_ok
    · exact kstL28_ok
    · exact kstL29_ok
    · exact kstL30_ok
    · exact fun e h => by cases h
    · exact fun e h => by cases h
    · exact fun e h => by cases h
    · exact fun e h => by cases h
    · exact fun e h => by cases h
    · exact kstL36_ok
    · omega
  · have : kstL c = [] := by
      unfold kstL
      simp only [blt_f (a := c) (b := 18) (by omega), blt_f (a := c) (b := 27) (by omega), blt_f (a := c) (b := 32) (by omega), blt_f (a := c) (b := 34) (by omega), blt_f (a := c) (b := 35) (by omega), blt_f (a := c) (b := 36) (by omega), cond_false]
      rfl
    rw [this]; intro e h; cases h
def wokJ (c : Nat) (e : Nat × Int64) : Prop := Cond.constantLong (cx_nm c) e.1 e.2 ∈ lw_tbl
def kstJ0 : List (Nat × Int64) := [(448, 4294967295)]
theorem kstJ0_ok : ∀ e ∈ kstJ0, wokJ 0 e := List.forall_mem_cons.mpr ⟨lw_at lw_m18 110 rfl, fun e h => by cases h⟩
def kstJ1 : List (Nat × Int64) := [(16, 10), (18, 4000), (26, 1000), (37, 10000)]
theorem kstJ1_ok : ∀ e ∈ kstJ1, wokJ 1 e := List.forall_mem_cons.mpr ⟨lw_at lw_m4 30 rfl, List.forall_mem_cons.mpr ⟨lw_at lw_m4 36 rfl, List.forall_mem_cons.mpr ⟨lw_at lw_m4 37 rfl, List.forall_mem_cons.mpr ⟨lw_at lw_m4 38 rfl, fun e h => by cases h⟩⟩⟩⟩
def kstJ2 : List (Nat × Int64) := []
theorem kstJ2_ok : ∀ e ∈ kstJ2, wokJ 2 e := fun e h => by cases h
def kstJ3 : List (Nat × Int64) := [(808, 400000000000), (810, 410000000000), (812, 10), (818, 10000)]
theorem kstJ3_ok : ∀ e ∈ kstJ3, wokJ 3 e := List.forall_mem_cons.mpr ⟨lw_at lw_m4 24 rfl, List.forall_mem_cons.mpr ⟨lw_at lw_m4 25 rfl, List.forall_mem_cons.mpr ⟨lw_at lw_m4 26 rfl, List.forall_mem_cons.mpr ⟨lw_at lw_m4 31 rfl, fun e h => by cases h⟩⟩⟩⟩
def kstJ4 : List (Nat × Int64) := []
theorem kstJ4_ok : ∀ e ∈ kstJ4, wokJ 4 e := fun e h => by cases h
def kstJ5 : List (Nat × Int64) := []
theorem kstJ5_ok : ∀ e ∈ kstJ5, wokJ 5 e := fun e h => by cases h
def kstJ6 : List (Nat × Int64) := []
theorem kstJ6_ok : ∀ e ∈ kstJ6, wokJ 6 e := fun e h => by cases h
def kstJ7 : List (Nat × Int64) := []
theorem kstJ7_ok : ∀ e ∈ kstJ7, wokJ 7 e := fun e h => by cases h
def kstJ8 : List (Nat × Int64) := [(102, 9223372036854775807), (104, 8000)]
theorem kstJ8_ok : ∀ e ∈ kstJ8, wokJ 8 e := List.forall_mem_cons.mpr ⟨lw_at lw_m8 195 rfl, List.forall_mem_cons.mpr ⟨lw_at lw_m8 196 rfl, fun e h => by cases h⟩⟩
def kstJ9 : List (Nat × Int64) := []
theorem kstJ9_ok : ∀ e ∈ kstJ9, wokJ 9 e := fun e h => by cases h
def kstJ10 : List (Nat × Int64) := []
theorem kstJ10_ok : ∀ e ∈ kstJ10, wokJ 10 e := fun e h => by cases h
def kstJ11 : List (Nat × Int64) := [(66, 1099511627776), (72, (-1125899906842624))]
theorem kstJ11_ok : ∀ e ∈ kstJ11, wokJ 11 e := List.forall_mem_cons.mpr ⟨lw_at lw_m10 125 rfl, List.forall_mem_cons.mpr ⟨lw_at lw_m10 127 rfl, fun e h => by cases h⟩⟩
def kstJ12 : List (Nat × Int64) := []
theorem kstJ12_ok : ∀ e ∈ kstJ12, wokJ 12 e := fun e h => by cases h
def kstJ13 : List (Nat × Int64) := []
theorem kstJ13_ok : ∀ e ∈ kstJ13, wokJ 13 e := fun e h => by cases h
def kstJ14 : List (Nat × Int64) := []
theorem kstJ14_ok : ∀ e ∈ kstJ14, wokJ 14 e := fun e h => by cases h
def kstJ15 : List (Nat × Int64) := []
theorem kstJ15_ok : ∀ e ∈ kstJ15, wokJ 15 e := fun e h => by cases h
def kstJ16 : List (Nat × Int64) := []
theorem kstJ16_ok : ∀ e ∈ kstJ16, wokJ 16 e := fun e h => by cases h
def kstJ17 : List (Nat × Int64) := [(851, 10), (853, 4000), (855, 1000), (857, 10000), (863, 400000000000), (865, 409999999999), (867, 100000), (869, 100000000), (871, 100)]
theorem kstJ17_ok : ∀ e ∈ kstJ17, wokJ 17 e := List.forall_mem_cons.mpr ⟨lw_at lw_m15 205 rfl, List.forall_mem_cons.mpr ⟨lw_at lw_m15 202 rfl, List.forall_mem_cons.mpr ⟨lw_at lw_m15 203 rfl, List.forall_mem_cons.mpr ⟨lw_at lw_m15 204 rfl, List.forall_mem_cons.mpr ⟨lw_at lw_m15 213 rfl, List.forall_mem_cons.mpr ⟨lw_at lw_m15 214 rfl, List.forall_mem_cons.mpr ⟨lw_at lw_m15 215 rfl, List.forall_mem_cons.mpr ⟨lw_at lw_m15 216 rfl, List.forall_mem_cons.mpr ⟨lw_at lw_m15 217 rfl, fun e h => by cases h⟩⟩⟩⟩⟩⟩⟩⟩⟩
def kstJ19 : List (Nat × Int64) := []
theorem kstJ19_ok : ∀ e ∈ kstJ19, wokJ 19 e := fun e h => by cases h
def kstJ20 : List (Nat × Int64) := []
theorem kstJ20_ok : ∀ e ∈ kstJ20, wokJ 20 e := fun e h => by cases h
def kstJ21 : List (Nat × Int64) := []
theorem kstJ21_ok : ∀ e ∈ kstJ21, wokJ 21 e := fun e h => by cases h
def kstJ22 : List (Nat × Int64) := []
theorem kstJ22_ok : ∀ e ∈ kstJ22, wokJ 22 e := fun e h => by cases h
def kstJ23 : List (Nat × Int64) := []
theorem kstJ23_ok : ∀ e ∈ kstJ23, wokJ 23 e := fun e h => by cases h
def kstJ24 : List (Nat × Int64) := []
theorem kstJ24_ok : ∀ e ∈ kstJ24, wokJ 24 e := fun e h => by cases h
def kstJ25 : List (Nat × Int64) := []
theorem kstJ25_ok : ∀ e ∈ kstJ25, wokJ 25 e := fun e h => by cases h
def kstJ26 : List (Nat × Int64) := []
theorem kstJ26_ok : ∀ e ∈ kstJ26, wokJ 26 e := fun e h => by cases h
def kstJ27 : List (Nat × Int64) := []
theorem kstJ27_ok : ∀ e ∈ kstJ27, wokJ 27 e := fun e h => by cases h
def kstJ28 : List (Nat × Int64) := []
theorem kstJ28_ok : ∀ e ∈ kstJ28, wokJ 28 e := fun e h => by cases h
def kstJ29 : List (Nat × Int64) := []
theorem kstJ29_ok : ∀ e ∈ kstJ29, wokJ 29 e := fun e h => by cases h
def kstJ30 : List (Nat × Int64) := []
theorem kstJ30_ok : ∀ e ∈ kstJ30, wokJ 30 e := fun e h => by cases h
def kstJ36 : List (Nat × Int64) := []
theorem kstJ36_ok : ∀ e ∈ kstJ36, wokJ 36 e := fun e h => by cases h
def kstJ (c : Nat) : List (Nat × Int64) := bif Nat.blt c 18 then bif Nat.blt c 9 then bif Nat.blt c 4 then bif Nat.blt c 2 then bif Nat.blt c 1 then kstJ0 else kstJ1 else bif Nat.blt c 3 then kstJ2 else kstJ3 else bif Nat.blt c 6 then bif Nat.blt c 5 then kstJ4 else kstJ5 else bif Nat.blt c 7 then kstJ6 else bif Nat.blt c 8 then kstJ7 else kstJ8 else bif Nat.blt c 13 then bif Nat.blt c 11 then bif Nat.blt c 10 then kstJ9 else kstJ10 else bif Nat.blt c 12 then kstJ11 else kstJ12 else bif Nat.blt c 15 then bif Nat.blt c 14 then kstJ13 else kstJ14 else bif Nat.blt c 16 then kstJ15 else bif Nat.blt c 17 then kstJ16 else kstJ17 else bif Nat.blt c 27 then bif Nat.blt c 22 then bif Nat.blt c 20 then bif Nat.blt c 19 then [] else kstJ19 else bif Nat.blt c 21 then kstJ20 else kstJ21 else bif Nat.blt c 24 then bif Nat.blt c 23 then kstJ22 else kstJ23 else bif Nat.blt c 25 then kstJ24 else bif Nat.blt c 26 then kstJ25 else kstJ26 else bif Nat.blt c 32 then bif Nat.blt c 29 then bif Nat.blt c 28 then kstJ27 else kstJ28 else bif Nat.blt c 30 then kstJ29 else bif Nat.blt c 31 then kstJ30 else [] else bif Nat.blt c 34 then bif Nat.blt c 33 then [] else [] else bif Nat.blt c 35 then [] else bif Nat.blt c 36 then [] else kstJ36
theorem kstJ_ok : ∀ c, ∀ e ∈ kstJ c, wokJ c e := by
  intro c
  by_cases hc : c < 37
  · unfold kstJ
    rcases c with _ | _ | _ | _ | _ | _ | _ | _ | _ | _ | _ | _ | _ | _ | _ | _ | _ | _ | _ | _ | _ | _ | _ | _ | _ | _ | _ | _ | _ | _ | _ | _ | _ | _ | _ | _ | _ | c
    · exact kstJ0_ok
    · exact kstJ1_ok
    · exact kstJ2_ok
    · exact kstJ3_ok
    · exact kstJ4_ok
    · exact kstJ5_ok
    · exact kstJ6_ok
    · exact kstJ7_ok
    · exact kstJ8_ok
    · exact kstJ9_ok
    · exact kstJ10_ok
    · exact kstJ11_ok
    · exact kstJ12_ok
    · exact kstJ13_ok
    · exact kstJ14_ok
    · exact kstJ15_ok
    · exact kstJ16_ok
    · exact kstJ17_ok
    · exact fun e h => by cases h
    · exact kstJ19_ok
    · exact kstJ20_ok
    · exact kstJ21_ok
    · exact kstJ22_ok
    · exact kstJ23_ok
    · exact kstJ24_ok
    · exact kstJ25_ok
    · exact kstJ26_ok
    · exact kstJ27_ok
    · exact kstJ28_ok
    · exact kstJ29_ok
    · exact kstJ30_ok
    · exact fun e h => by cases h
    · exact fun e h => by cases h
    · exact fun e h => by cases h
    · exact fun e h => by cases h
    · exact fun e h => by cases h
    · exact kstJ36_ok
    · omega
  · have : kstJ c = [] := by
      unfold kstJ
      simp only [blt_f (a := c) (b := 18) (by omega), blt_f (a := c) (b := 27) (by omega), blt_f (a := c) (b := 32) (by omega), blt_f (a := c) (b := 34) (by omega), blt_f (a := c) (b := 35) (by omega), blt_f (a := c) (b := 36) (by omega), cond_false]
      rfl
    rw [this]; intro e h; cases h
def snm (b q : Nat) : String × String × String := bif Nat.beq b 31 then ("WholeWarehouse$State", bif Nat.beq q 0 then "OPEN" else bif Nat.beq q 1 then "ALLOCATED" else bif Nat.beq q 2 then "PICKED" else bif Nat.beq q 3 then "PACKED" else bif Nat.beq q 4 then "LOADED" else "SHIPPED", "LWholeWarehouse$State;") else ("WholeWarehouse$Log", "ARGUMENTS", "[I")
def wokS (c : Nat) (e : Nat × Nat × Nat × Nat) : Prop := match e.2.1 with
  | 1 => Cond.fieldLink (cx_nm c) e.1 (snm e.2.2.1 e.2.2.2).1 (snm e.2.2.1 e.2.2.2).2.1 (snm e.2.2.1 e.2.2.2).2.2 ∈ lw_tbl
  | 2 => Cond.fieldLinkNest (cx_nm c) e.1 (snm e.2.2.1 e.2.2.2).1 (snm e.2.2.1 e.2.2.2).2.1 (snm e.2.2.1 e.2.2.2).2.2 "WholeWarehouse" ∈ lw_tbl
  | _ => False
def slkL0 : List (Nat × Nat × Nat × Nat) := []
theorem slkL0_ok : ∀ e ∈ slkL0, wokS 0 e := fun e h => by cases h
def slkL1 : List (Nat × Nat × Nat × Nat) := [(207, 2, 1997, 0)]
theorem slkL1_ok : ∀ e ∈ slkL1, wokS 1 e := List.forall_mem_cons.mpr ⟨lw_at lw_m12 113 rfl, fun e h => by cases h⟩
def slkL2 : List (Nat × Nat × Nat × Nat) := [(26, 1, 1997, 0)]
theorem slkL2_ok : ∀ e ∈ slkL2, wokS 2 e := List.forall_mem_cons.mpr ⟨lw_at lw_m4 141 rfl, fun e h => by cases h⟩
def slkL3 : List (Nat × Nat × Nat × Nat) := [(385, 1, 31, 0), (453, 1, 31, 1), (490, 1, 31, 2), (518, 1, 31, 3), (549, 1, 31, 4), (552, 1, 31, 5)]
theorem slkL3_ok : ∀ e ∈ slkL3, wokS 3 e := List.forall_mem_cons.mpr ⟨lw_at lw_m7 153 rfl, List.forall_mem_cons.mpr ⟨lw_at lw_m7 235 rfl, List.forall_mem_cons.mpr ⟨lw_at lw_m8 125 rfl, List.forall_mem_cons.mpr ⟨lw_at lw_m8 218 rfl, List.forall_mem_cons.mpr ⟨lw_at lw_m9 43 rfl, List.forall_mem_cons.mpr ⟨lw_at lw_m9 56 rfl, fun e h => by cases h⟩⟩⟩⟩⟩⟩
def slkL4 : List (Nat × Nat × Nat × Nat) := []
theorem slkL4_ok : ∀ e ∈ slkL4, wokS 4 e := fun e h => by cases h
def slkL5 : List (Nat × Nat × Nat × Nat) := []
theorem slkL5_ok : ∀ e ∈ slkL5, wokS 5 e := fun e h => by cases h
def slkL6 : List (Nat × Nat × Nat × Nat) := []
theorem slkL6_ok : ∀ e ∈ slkL6, wokS 6 e := fun e h => by cases h
def slkL7 : List (Nat × Nat × Nat × Nat) := []
theorem slkL7_ok : ∀ e ∈ slkL7, wokS 7 e := fun e h => by cases h
def slkL8 : List (Nat × Nat × Nat × Nat) := []
theorem slkL8_ok : ∀ e ∈ slkL8, wokS 8 e := fun e h => by cases h
def slkL9 : List (Nat × Nat × Nat × Nat) := []
theorem slkL9_ok : ∀ e ∈ slkL9, wokS 9 e := fun e h => by cases h
def slkL10 : List (Nat × Nat × Nat × Nat) := []
theorem slkL10_ok : ∀ e ∈ slkL10, wokS 10 e := fun e h => by cases h
def slkL11 : List (Nat × Nat × Nat × Nat) := []
theorem slkL11_ok : ∀ e ∈ slkL11, wokS 11 e := fun e h => by cases h
def slkL12 : List (Nat × Nat × Nat × Nat) := []
theorem slkL12_ok : ∀ e ∈ slkL12, wokS 12 e := fun e h => by cases h
def slkL13 : List (Nat × Nat × Nat × Nat) := []
theorem slkL13_ok : ∀ e ∈ slkL13, wokS 13 e := fun e h => by cases h
def slkL14 : List (Nat × Nat × Nat × Nat) := []
theorem slkL14_ok : ∀ e ∈ slkL14, wokS 14 e := fun e h => by cases h
def slkL15 : List (Nat × Nat × Nat × Nat) := []
theorem slkL15_ok : ∀ e ∈ slkL15, wokS 15 e := fun e h => by cases h
def slkL16 : List (Nat × Nat × Nat × Nat) := []
theorem slkL16_ok : ∀ e ∈ slkL16, wokS 16 e := fun e h => by cases h
def slkL17 : List (Nat × Nat × Nat × Nat) := []
theorem slkL17_ok : ∀ e ∈ slkL17, wokS 17 e := fun e h => by cases h
def slkL19 : List (Nat × Nat × Nat × Nat) := []
theorem slkL19_ok : ∀ e ∈ slkL19, wokS 19 e := fun e h => by cases h
def slkL20 : List (Nat × Nat × Nat × Nat) := []
theorem slkL20_ok : ∀ e ∈ slkL20, wokS 20 e := fun e h => by cases h
def slkL21 : List (Nat × Nat × Nat × Nat) := []
theorem slkL21_ok : ∀ e ∈ slkL21, wokS 21 e := fun e h => by cases h
def slkL22 : List (Nat × Nat × Nat × Nat) := []
theorem slkL22_ok : ∀ e ∈ slkL22, wokS 22 e := fun e h => by cases h
def slkL23 : List (Nat × Nat × Nat × Nat) := []
theorem slkL23_ok : ∀ e ∈ slkL23, wokS 23 e := fun e h => by cases h
def slkL24 : List (Nat × Nat × Nat × Nat) := [(21, 1, 31, 0)]
theorem slkL24_ok : ∀ e ∈ slkL24, wokS 24 e := List.forall_mem_cons.mpr ⟨lw_at lw_m7 95 rfl, fun e h => by cases h⟩
def slkL25 : List (Nat × Nat × Nat × Nat) := []
theorem slkL25_ok : ∀ e ∈ slkL25, wokS 25 e := fun e h => by cases h
def slkL26 : List (Nat × Nat × Nat × Nat) := []
theorem slkL26_ok : ∀ e ∈ slkL26, wokS 26 e := fun e h => by cases h
def slkL27 : List (Nat × Nat × Nat × Nat) := []
theorem slkL27_ok : ∀ e ∈ slkL27, wokS 27 e := fun e h => by cases h
def slkL28 : List (Nat × Nat × Nat × Nat) := []
theorem slkL28_ok : ∀ e ∈ slkL28, wokS 28 e := fun e h => by cases h
def slkL29 : List (Nat × Nat × Nat × Nat) := []
theorem slkL29_ok : ∀ e ∈ slkL29, wokS 29 e := fun e h => by cases h
def slkL30 : List (Nat × Nat × Nat × Nat) := []
theorem slkL30_ok : ∀ e ∈ slkL30, wokS 30 e := fun e h => by cases h
def slkL36 : List (Nat × Nat × Nat × Nat) := []
theorem slkL36_ok : ∀ e ∈ slkL36, wokS 36 e := fun e h => by cases h
def slkL (c : Nat) : List (Nat × Nat × Nat × Nat) := bif Nat.blt c 18 then bif Nat.blt c 9 then bif Nat.blt c 4 then bif Nat.blt c 2 then bif Nat.blt c 1 then slkL0 else slkL1 else bif Nat.blt c 3 then slkL2 else slkL3 else bif Nat.blt c 6 then bif Nat.blt c 5 then slkL4 else slkL5 else bif Nat.blt c 7 then slkL6 else bif Nat.blt c 8 then slkL7 else slkL8 else bif Nat.blt c 13 then bif Nat.blt c 11 then bif Nat.blt c 10 then slkL9 else slkL10 else bif Nat.blt c 12 then slkL11 else slkL12 else bif Nat.blt c 15 then bif Nat.blt c 14 then slkL13 else slkL14 else bif Nat.blt c 16 then slkL15 else bif Nat.blt c 17 then slkL16 else slkL17 else bif Nat.blt c 27 then bif Nat.blt c 22 then bif Nat.blt c 20 then bif Nat.blt c 19 then [] else slkL19 else bif Nat.blt c 21 then slkL20 else slkL21 else bif Nat.blt c 24 then bif Nat.blt c 23 then slkL22 else slkL23 else bif Nat.blt c 25 then slkL24 else bif Nat.blt c 26 then slkL25 else slkL26 else bif Nat.blt c 32 then bif Nat.blt c 29 then bif Nat.blt c 28 then slkL27 else slkL28 else bif Nat.blt c 30 then slkL29 else bif Nat.blt c 31 then slkL30 else [] else bif Nat.blt c 34 then bif Nat.blt c 33 then [] else [] else bif Nat.blt c 35 then [] else bif Nat.blt c 36 then [] else slkL36
theorem slkL_ok : ∀ c, ∀ e ∈ slkL c, wokS c e := by
  intro c
  by_cases hc : c < 37
  · unfold slkL
    rcases c with _ | _ | _ | _ | _ | _ | _ | _ | _ | _ | _ | _ | _ | _ | _ | _ | _ | _ | _ | _ | _ | _ | _ | _ | _ | _ | _ | _ | _ | _ | _ | _ | _ | _ | _ | _ | _ | c
    · exact slkL0_ok
    · exact slkL1_ok
    · exact slkL2_ok
    · exact slkL3_ok
    · exact slkL4_ok
    · exact slkL5_ok
    · exact slkL6_ok
    · exact slkL7_ok
    · exact slkL8_ok
    · exact slkL9_ok
    · exact slkL10_ok
    · exact slkL11_ok
    · exact slkL12_ok
    · exact slkL13_ok
    · exact slkL14_ok
    · exact slkL15_ok
    · exact slkL16_ok
    · exact slkL17_ok
    · exact fun e h => by cases h
    · exact slkL19_ok
    · exact slkL20_ok
    · exact slkL21_ok
    · exact slkL22_ok
    · exact slkL23_ok
    · exact slkL24_ok
    · exact slkL25_ok
    · exact slkL26_ok
    · exact slkL27_ok
    · exact slkL28_ok
    · exact slkL29_ok
    · exact slkL30_ok
    · exact fun e h => by cases h
    · exact fun e h => by cases h
    · exact fun e h => by cases h
    · exact fun e h => by cases h
    · exact fun e h => by cases h
    · exact slkL36_ok
    · omega
  · have : slkL c = [] := by
      unfold slkL
      simp only [blt_f (a := c) (b := 18) (by omega), blt_f (a := c) (b := 27) (by omega), blt_f (a := c) (b := 32) (by omega), blt_f (a := c) (b := 34) (by omega), blt_f (a := c) (b := 35) (by omega), blt_f (a := c) (b := 36) (by omega), cond_false]
      rfl
    rw [this]; intro e h; cases h
theorem iv1 {P : Nat → Prop} {a b : Nat} (e : b = a + 1) (h : P a) : ∀ n, a ≤ n → n < b → P n := fun n h1 h2 => by rw [show n = a by omega]; exact h
theorem ivj {P : Nat → Prop} {a m b : Nat} (h : ∀ n, a ≤ n → n < m → P n) (k : ∀ n, m ≤ n → n < b → P n) : ∀ n, a ≤ n → n < b → P n := fun n h1 h2 => by by_cases hm : n < m; exact h n h1 hm; exact k n (Nat.le_of_not_lt hm) h2
def mth_0_0_0 (n : Nat) : MethodName := bif Nat.blt n 1 then ⟨"WholeWarehouseLaw", "law", "([I)Z"⟩ else ⟨"WholeWarehouse", "<init>", "()V"⟩
def mth_0_0_1 (n : Nat) : MethodName := bif Nat.blt n 3 then ⟨"WholeWarehouse$Log", "<init>", "()V"⟩ else ⟨"WholeWarehouse$House", "<init>", "()V"⟩
def mth_0_0_2 (n : Nat) : MethodName := bif Nat.blt n 5 then ⟨"WholeWarehouse$Tape", "<init>", "()V"⟩ else ⟨"WholeWarehouse$Catalogue", "<init>", "()V"⟩
def mth_0_0_3 (n : Nat) : MethodName := bif Nat.blt n 7 then ⟨"WholeWarehouse$Floor", "<init>", "()V"⟩ else ⟨"WholeWarehouse$Walker", "<init>", "()V"⟩
def mth_0_0_4 (n : Nat) : MethodName := bif Nat.blt n 9 then ⟨"WholeWarehouse$Packer", "<init>", "()V"⟩ else ⟨"WholeWarehouse$Fleet", "<init>", "()V"⟩
def mth_0_0 (n : Nat) : MethodName := bif Nat.blt n 4 then bif Nat.blt n 2 then mth_0_0_0 n else mth_0_0_1 n else bif Nat.blt n 6 then mth_0_0_2 n else bif Nat.blt n 8 then mth_0_0_3 n else mth_0_0_4 n
def mth_0_1_0 (n : Nat) : MethodName := bif Nat.blt n 11 then ⟨"WholeWarehouse$Books", "<init>", "()V"⟩ else ⟨"WholeWarehouse$Loader", "<init>", "()V"⟩
def mth_0_1_1 (n : Nat) : MethodName := bif Nat.blt n 13 then ⟨"WholeWarehouse$Batches", "<init>", "()V"⟩ else ⟨"WholeWarehouse$Batch", "<init>", "()V"⟩
def mth_0_1_2 (n : Nat) : MethodName := bif Nat.blt n 15 then ⟨"WholeWarehouse$Carriers", "<init>", "()V"⟩ else ⟨"WholeWarehouse$Editions", "<init>", "()V"⟩
def mth_0_1_3 (n : Nat) : MethodName := bif Nat.blt n 17 then ⟨"WholeWarehouse$Advisor", "<init>", "()V"⟩ else ⟨"WholeWarehouseModel", "<init>", "()V"⟩
def mth_0_1_4 (n : Nat) : MethodName := bif Nat.blt n 19 then ⟨"WholeWarehouse", "counted", "(I)I"⟩ else ⟨"WholeWarehouse$House", "counted", "(I)I"⟩
def mth_0_1 (n : Nat) : MethodName := bif Nat.blt n 14 then bif Nat.blt n 12 then mth_0_1_0 n else mth_0_1_1 n else bif Nat.blt n 16 then mth_0_1_2 n else bif Nat.blt n 18 then mth_0_1_3 n else mth_0_1_4 n
def mth_0_2_0 (n : Nat) : MethodName := bif Nat.blt n 21 then ⟨"WholeWarehouse$Floor", "isThere", "()Z"⟩ else ⟨"WholeWarehouseModel", "counted", "(I)I"⟩
def mth_0_2_1 (n : Nat) : MethodName := bif Nat.blt n 23 then ⟨"WholeWarehouse", "more", "(I)I"⟩ else ⟨"WholeWarehouse$Log", "size", "()I"⟩
def mth_0_2_2 (n : Nat) : MethodName := bif Nat.blt n 25 then ⟨"WholeWarehouse$House", "more", "(I)I"⟩ else ⟨"WholeWarehouseModel", "more", "(I)I"⟩
def mth_0_2_3 (n : Nat) : MethodName := bif Nat.blt n 27 then ⟨"WholeWarehouseLaw", "crash", "(LWholeWarehouse;I[J)I"⟩ else ⟨"WholeWarehouse", "crash", "(I)I"⟩
def mth_0_2_4 (n : Nat) : MethodName := bif Nat.blt n 29 then ⟨"WholeWarehouse", "in", "(III)Z"⟩ else ⟨"WholeWarehouse", "check", "(Z)V"⟩
def mth_0_2 (n : Nat) : MethodName := bif Nat.blt n 24 then bif Nat.blt n 22 then mth_0_2_0 n else mth_0_2_1 n else bif Nat.blt n 26 then mth_0_2_2 n else bif Nat.blt n 28 then mth_0_2_3 n else mth_0_2_4 n
def mth_0_3_0 (n : Nat) : MethodName := bif Nat.blt n 31 then ⟨"WholeWarehouse", "room", "(Z)V"⟩ else ⟨"WholeWarehouse$Log", "cut", "(I)I"⟩
def mth_0_3_1 (n : Nat) : MethodName := bif Nat.blt n 33 then ⟨"WholeWarehouse", "again", "(I)V"⟩ else ⟨"WholeWarehouse", "argument", "(II)I"⟩
def mth_0_3_2 (n : Nat) : MethodName := bif Nat.blt n 35 then ⟨"WholeWarehouse$Log", "act", "(I)I"⟩ else ⟨"WholeWarehouse$Log", "argument", "(II)I"⟩
def mth_0_3_3 (n : Nat) : MethodName := bif Nat.blt n 37 then ⟨"WholeWarehouse$House", "edition", "(IIII)I"⟩ else ⟨"WholeWarehouse$Editions", "set", "(IIII)I"⟩
def mth_0_3_4 (n : Nat) : MethodName := bif Nat.blt n 39 then ⟨"WholeWarehouse$Editions", "find", "(III)I"⟩ else ⟨"WholeWarehouse$House", "face", "(IIII)V"⟩
def mth_0_3 (n : Nat) : MethodName := bif Nat.blt n 34 then bif Nat.blt n 32 then mth_0_3_0 n else mth_0_3_1 n else bif Nat.blt n 36 then mth_0_3_2 n else bif Nat.blt n 38 then mth_0_3_3 n else mth_0_3_4 n
def mth_0_4_0 (n : Nat) : MethodName := bif Nat.blt n 41 then ⟨"WholeWarehouse$House", "binAt", "(I)LWholeWarehouse$Bin;"⟩ else ⟨"WholeWarehouse", "need", "(Z)V"⟩
def mth_0_4_1 (n : Nat) : MethodName := bif Nat.blt n 43 then ⟨"WholeWarehouse$House", "goodAt", "(I)LWholeWarehouse$Good;"⟩ else ⟨"WholeWarehouse$House", "rate", "(II)V"⟩
def mth_0_4_2 (n : Nat) : MethodName := bif Nat.blt n 45 then ⟨"WholeWarehouse$House", "cancel", "(I)V"⟩ else ⟨"WholeWarehouse$House", "orderAt", "(I)LWholeWarehouse$Order;"⟩
def mth_0_4_3 (n : Nat) : MethodName := bif Nat.blt n 47 then ⟨"WholeWarehouse$Order", "is", "(LWholeWarehouse$State;)Z"⟩ else ⟨"WholeWarehouse", "must", "(Z)V"⟩
def mth_0_4_4 (n : Nat) : MethodName := bif Nat.blt n 49 then ⟨"WholeWarehouse$House", "line", "(IIII)I"⟩ else ⟨"WholeWarehouse$Line", "<init>", "(LWholeWarehouse$Good;II)V"⟩
def mth_0_4 (n : Nat) : MethodName := bif Nat.blt n 44 then bif Nat.blt n 42 then mth_0_4_0 n else mth_0_4_1 n else bif Nat.blt n 46 then mth_0_4_2 n else bif Nat.blt n 48 then mth_0_4_3 n else mth_0_4_4 n
def mth_0_5_0 (n : Nat) : MethodName := bif Nat.blt n 51 then ⟨"WholeWarehouse$House", "move", "(IIII)I"⟩ else ⟨"WholeWarehouse$House", "lotAt", "(I)LWholeWarehouse$Lot;"⟩
def mth_0_5_1 (n : Nat) : MethodName := bif Nat.blt n 53 then ⟨"WholeWarehouse$House", "binOf", "(I)LWholeWarehouse$Bin;"⟩ else ⟨"WholeWarehouse$House", "roomForChanges", "(I)V"⟩
def mth_0_5_2 (n : Nat) : MethodName := bif Nat.blt n 55 then ⟨"WholeWarehouse$Lot", "find", "(LWholeWarehouse$Bin;)LWholeWarehouse$Pile;"⟩ else ⟨"WholeWarehouse$Pile", "free", "()I"⟩
def mth_0_5_3 (n : Nat) : MethodName := bif Nat.blt n 57 then ⟨"WholeWarehouse$House", "alter", "(LWholeWarehouse$Pile;I)V"⟩ else ⟨"WholeWarehouse$Bin", "add", "(LWholeWarehouse$Good;I)V"⟩
def mth_0_5_4 (n : Nat) : MethodName := bif Nat.blt n 59 then ⟨"WholeWarehouse$Change", "<init>", "(ILWholeWarehouse$Pile;IILWholeWarehouse$Change;)V"⟩ else ⟨"WholeWarehouse$Lot", "make", "(LWholeWarehouse$Bin;)LWholeWarehouse$Pile;"⟩
def mth_0_5 (n : Nat) : MethodName := bif Nat.blt n 54 then bif Nat.blt n 52 then mth_0_5_0 n else mth_0_5_1 n else bif Nat.blt n 56 then mth_0_5_2 n else bif Nat.blt n 58 then mth_0_5_3 n else mth_0_5_4 n
def mth_0_6_0 (n : Nat) : MethodName := bif Nat.blt n 61 then ⟨"WholeWarehouse$Pile", "<init>", "(LWholeWarehouse$Lot;LWholeWarehouse$Bin;LWholeWarehouse$Pile;)V"⟩ else ⟨"WholeWarehouse$House", "pay", "(IIII)V"⟩
def mth_0_6_1 (n : Nat) : MethodName := bif Nat.blt n 63 then ⟨"WholeWarehouse$House", "rateOn", "(III)I"⟩ else ⟨"WholeWarehouse$Editions", "on", "(IIII)I"⟩
def mth_0_6_2 (n : Nat) : MethodName := bif Nat.blt n 65 then ⟨"WholeWarehouse$Books", "pay", "(IIJ)V"⟩ else ⟨"WholeWarehouse$House", "bar", "(LWholeWarehouse$Bin;LWholeWarehouse$Good;I)I"⟩
def mth_0_6_3 (n : Nat) : MethodName := bif Nat.blt n 67 then ⟨"WholeWarehouse$Bin", "set", "()I"⟩ else ⟨"WholeWarehouse$House", "hold", "(IZ)V"⟩
def mth_0_6_4 (n : Nat) : MethodName := bif Nat.blt n 69 then ⟨"WholeWarehouse$House", "arrive", "(IIII)I"⟩ else ⟨"WholeWarehouse$House", "arrives", "(LWholeWarehouse$Good;III)LWholeWarehouse$Lot;"⟩
def mth_0_6 (n : Nat) : MethodName := bif Nat.blt n 64 then bif Nat.blt n 62 then mth_0_6_0 n else mth_0_6_1 n else bif Nat.blt n 66 then mth_0_6_2 n else bif Nat.blt n 68 then mth_0_6_3 n else mth_0_6_4 n
def mth_0_7_0 (n : Nat) : MethodName := bif Nat.blt n 71 then ⟨"WholeWarehouse$Lot", "<init>", "(ILWholeWarehouse$Good;II)V"⟩ else ⟨"WholeWarehouse$House", "limits", "(IIII)V"⟩
def mth_0_7_1 (n : Nat) : MethodName := bif Nat.blt n 73 then ⟨"WholeWarehouse$House", "feed", "(IIIII)V"⟩ else ⟨"WholeWarehouse$Tape", "word", "(I)V"⟩
def mth_0_7_2 (n : Nat) : MethodName := bif Nat.blt n 75 then ⟨"WholeWarehouse", "short2", "(IIII)V"⟩ else ⟨"WholeWarehouse$House", "bill", "(I)J"⟩
def mth_0_7_3 (n : Nat) : MethodName := bif Nat.blt n 77 then ⟨"WholeWarehouse$Books", "bill", "(II)J"⟩ else ⟨"WholeWarehouse$Books", "sum", "(I)J"⟩
def mth_0_7_4 (n : Nat) : MethodName := ⟨"WholeWarehouse$House", "tick", "(I)I"⟩
def mth_0_7 (n : Nat) : MethodName := bif Nat.blt n 74 then bif Nat.blt n 72 then mth_0_7_0 n else mth_0_7_1 n else bif Nat.blt n 76 then mth_0_7_2 n else bif Nat.blt n 78 then mth_0_7_3 n else mth_0_7_4 n
def mth_0 (n : Nat) : MethodName := bif Nat.blt n 40 then bif Nat.blt n 20 then bif Nat.blt n 10 then mth_0_0 n else mth_0_1 n else bif Nat.blt n 30 then mth_0_2 n else mth_0_3 n else bif Nat.blt n 60 then bif Nat.blt n 50 then mth_0_4 n else mth_0_5 n else bif Nat.blt n 70 then mth_0_6 n else mth_0_7 n
def mth_1_0_0 (n : Nat) : MethodName := bif Nat.blt n 80 then ⟨"WholeWarehouse$House", "send", "(II)I"⟩ else ⟨"WholeWarehouse$House", "robotAt", "(I)LWholeWarehouse$Robot;"⟩
def mth_1_0_1 (n : Nat) : MethodName := bif Nat.blt n 82 then ⟨"WholeWarehouse$Floor", "isOpen", "(I)Z"⟩ else ⟨"WholeWarehouse$Robot", "over", "()I"⟩
def mth_1_0_2 (n : Nat) : MethodName := bif Nat.blt n 84 then ⟨"WholeWarehouse$Fleet", "plan", "(LWholeWarehouse$Robot;LWholeWarehouse$Floor;I)I"⟩ else ⟨"WholeWarehouse$Fleet", "reach", "(LWholeWarehouse$Robot;LWholeWarehouse$Floor;I)I"⟩
def mth_1_0_3 (n : Nat) : MethodName := bif Nat.blt n 86 then ⟨"WholeWarehouse$Robot", "at", "(I)I"⟩ else ⟨"WholeWarehouse$Fleet", "isWanted", "(IILWholeWarehouse$Robot;)Z"⟩
def mth_1_0_4 (n : Nat) : MethodName := bif Nat.blt n 88 then ⟨"WholeWarehouse$Fleet", "turn", "(LWholeWarehouse$Floor;II)I"⟩ else ⟨"WholeWarehouse$Floor", "goes", "(II)I"⟩
def mth_1_0 (n : Nat) : MethodName := bif Nat.blt n 83 then bif Nat.blt n 81 then mth_1_0_0 n else mth_1_0_1 n else bif Nat.blt n 85 then mth_1_0_2 n else bif Nat.blt n 87 then mth_1_0_3 n else mth_1_0_4 n
def mth_1_1_0 (n : Nat) : MethodName := bif Nat.blt n 90 then ⟨"WholeWarehouse$Floor", "wayOf", "(I)I"⟩ else ⟨"WholeWarehouse$Floor", "cellIn", "(II)I"⟩
def mth_1_1_1 (n : Nat) : MethodName := bif Nat.blt n 92 then ⟨"WholeWarehouse$Fleet", "isFree", "(LWholeWarehouse$Robot;III)Z"⟩ else ⟨"WholeWarehouse$Fleet", "back", "(LWholeWarehouse$Robot;LWholeWarehouse$Floor;II)V"⟩
def mth_1_1_2 (n : Nat) : MethodName := bif Nat.blt n 94 then ⟨"WholeWarehouse$Fleet", "leads", "(LWholeWarehouse$Robot;LWholeWarehouse$Floor;III)Z"⟩ else ⟨"WholeWarehouse$House", "robot", "(I)I"⟩
def mth_1_1_3 (n : Nat) : MethodName := bif Nat.blt n 96 then ⟨"WholeWarehouse$Robot", "<init>", "(III)V"⟩ else ⟨"WholeWarehouse$House", "back", "(III)I"⟩
def mth_1_1_4 (n : Nat) : MethodName := bif Nat.blt n 98 then ⟨"WholeWarehouse$House", "depart", "(I)I"⟩ else ⟨"WholeWarehouse$House", "truckAt", "(I)LWholeWarehouse$Truck;"⟩
def mth_1_1 (n : Nat) : MethodName := bif Nat.blt n 93 then bif Nat.blt n 91 then mth_1_1_0 n else mth_1_1_1 n else bif Nat.blt n 95 then mth_1_1_2 n else bif Nat.blt n 97 then mth_1_1_3 n else mth_1_1_4 n
def mth_1_2_0 (n : Nat) : MethodName := bif Nat.blt n 100 then ⟨"WholeWarehouse$Carriers", "cheapest", "(LWholeWarehouse$Order;I)I"⟩ else ⟨"WholeWarehouse$Order", "grams", "()I"⟩
def mth_1_2_1 (n : Nat) : MethodName := bif Nat.blt n 102 then ⟨"WholeWarehouse$Pick", "good", "()LWholeWarehouse$Good;"⟩ else ⟨"WholeWarehouse$Carriers", "cost", "(IIII)I"⟩
def mth_1_2_2 (n : Nat) : MethodName := bif Nat.blt n 104 then ⟨"WholeWarehouse$House", "load", "(II)Z"⟩ else ⟨"WholeWarehouse$House", "truck", "(I)I"⟩
def mth_1_2_3 (n : Nat) : MethodName := bif Nat.blt n 106 then ⟨"WholeWarehouse$Truck", "<init>", "(II)V"⟩ else ⟨"WholeWarehouse$House", "pack", "(I)I"⟩
def mth_1_2_4 (n : Nat) : MethodName := bif Nat.blt n 108 then ⟨"WholeWarehouse$Packer", "pack", "(LWholeWarehouse$Order;)I"⟩ else ⟨"WholeWarehouse$Packer", "gather", "(LWholeWarehouse$Order;)Z"⟩
def mth_1_2 (n : Nat) : MethodName := bif Nat.blt n 103 then bif Nat.blt n 101 then mth_1_2_0 n else mth_1_2_1 n else bif Nat.blt n 105 then mth_1_2_2 n else bif Nat.blt n 107 then mth_1_2_3 n else mth_1_2_4 n
def mth_1_3_0 (n : Nat) : MethodName := bif Nat.blt n 110 then ⟨"WholeWarehouse$Kind", "holds", "(II)Z"⟩ else ⟨"WholeWarehouse$Packer", "bySets", "()V"⟩
def mth_1_3_1 (n : Nat) : MethodName := bif Nat.blt n 112 then ⟨"WholeWarehouse$Packer", "lowest", "(I)I"⟩ else ⟨"java/lang/Math", "min", "(JJ)J"⟩
def mth_1_3_2 (n : Nat) : MethodName := bif Nat.blt n 114 then ⟨"WholeWarehouse$Packer", "firstBox", "(I)I"⟩ else ⟨"WholeWarehouse$Packer", "begin", "(I)V"⟩
def mth_1_3_3 (n : Nat) : MethodName := bif Nat.blt n 116 then ⟨"WholeWarehouse$Packer", "oneByOne", "()V"⟩ else ⟨"WholeWarehouse$Packer", "cheapest", "(I)I"⟩
def mth_1_3_4 (n : Nat) : MethodName := bif Nat.blt n 118 then ⟨"WholeWarehouse$House", "kind", "(III)I"⟩ else ⟨"WholeWarehouse$Kind", "<init>", "(III)V"⟩
def mth_1_3 (n : Nat) : MethodName := bif Nat.blt n 113 then bif Nat.blt n 111 then mth_1_3_0 n else mth_1_3_1 n else bif Nat.blt n 115 then mth_1_3_2 n else bif Nat.blt n 117 then mth_1_3_3 n else mth_1_3_4 n
def mth_1_4_0 (n : Nat) : MethodName := bif Nat.blt n 120 then ⟨"WholeWarehouse$House", "picked", "(I)I"⟩ else ⟨"WholeWarehouse$Order", "units", "()I"⟩
def mth_1_4_1 (n : Nat) : MethodName := bif Nat.blt n 122 then ⟨"WholeWarehouse$House", "allocate", "(I)I"⟩ else ⟨"WholeWarehouse$House", "takesAll", "(IZ)I"⟩
def mth_1_4_2 (n : Nat) : MethodName := bif Nat.blt n 124 then ⟨"WholeWarehouse$House", "take", "(ILWholeWarehouse$Good;IIIZ)Z"⟩ else ⟨"WholeWarehouse$House", "lotsFor", "(LWholeWarehouse$Good;II)I"⟩
def mth_1_4_3 (n : Nat) : MethodName := bif Nat.blt n 126 then ⟨"WholeWarehouse$House", "takeFrom", "(LWholeWarehouse$Pile;II)I"⟩ else ⟨"WholeWarehouse$House", "giveBack", "()V"⟩
def mth_1_4_4 (n : Nat) : MethodName := bif Nat.blt n 128 then ⟨"WholeWarehouse$Pick", "<init>", "(ILWholeWarehouse$Pile;I)V"⟩ else ⟨"WholeWarehouse$House", "order", "(II)I"⟩
def mth_1_4 (n : Nat) : MethodName := bif Nat.blt n 123 then bif Nat.blt n 121 then mth_1_4_0 n else mth_1_4_1 n else bif Nat.blt n 125 then mth_1_4_2 n else bif Nat.blt n 127 then mth_1_4_3 n else mth_1_4_4 n
def mth_1_5_0 (n : Nat) : MethodName := bif Nat.blt n 130 then ⟨"WholeWarehouse$Order", "<init>", "(III)V"⟩ else ⟨"WholeWarehouse$House", "count", "(III)I"⟩
def mth_1_5_1 (n : Nat) : MethodName := bif Nat.blt n 132 then ⟨"WholeWarehouse$House", "day", "(I)I"⟩ else ⟨"WholeWarehouse$House", "floor", "()I"⟩
def mth_1_5_2 (n : Nat) : MethodName := bif Nat.blt n 134 then ⟨"WholeWarehouse$Floor", "read", "(LWholeWarehouse$Tape;)I"⟩ else ⟨"WholeWarehouse$Floor", "rows", "(LWholeWarehouse$Tape;)I"⟩
def mth_1_5_3 (n : Nat) : MethodName := bif Nat.blt n 136 then ⟨"WholeWarehouse$Floor", "judge", "(LWholeWarehouse$Tape;)V"⟩ else ⟨"WholeWarehouse$Floor", "count", "(I)I"⟩
def mth_1_5_4 (n : Nat) : MethodName := bif Nat.blt n 138 then ⟨"WholeWarehouse$Tape", "fail", "(I)V"⟩ else ⟨"WholeWarehouse$Floor", "rowOf", "(LWholeWarehouse$Tape;I)I"⟩
def mth_1_5 (n : Nat) : MethodName := bif Nat.blt n 133 then bif Nat.blt n 131 then mth_1_5_0 n else mth_1_5_1 n else bif Nat.blt n 135 then mth_1_5_2 n else bif Nat.blt n 137 then mth_1_5_3 n else mth_1_5_4 n
def mth_1_6_0 (n : Nat) : MethodName := bif Nat.blt n 140 then ⟨"WholeWarehouse$Tape", "next", "()I"⟩ else ⟨"WholeWarehouse$Floor", "isSign", "(I)Z"⟩
def mth_1_6_1 (n : Nat) : MethodName := bif Nat.blt n 142 then ⟨"WholeWarehouse$Floor", "bins", "()I"⟩ else ⟨"WholeWarehouse$Floor", "layOut", "()V"⟩
def mth_1_6_2 (n : Nat) : MethodName := bif Nat.blt n 144 then ⟨"WholeWarehouse$Floor", "beside", "(I)[I"⟩ else ⟨"WholeWarehouse$Bin", "<init>", "(II[I)V"⟩
def mth_1_6_3 (n : Nat) : MethodName := bif Nat.blt n 146 then ⟨"WholeWarehouse$Floor", "search", "(I)[I"⟩ else ⟨"WholeWarehouse$Floor", "least", "(LWholeWarehouse$Bin;)I"⟩
def mth_1_6_4 (n : Nat) : MethodName := bif Nat.blt n 148 then ⟨"WholeWarehouse$House", "goods", "()I"⟩ else ⟨"WholeWarehouse$Catalogue", "read", "(LWholeWarehouse$Tape;)I"⟩
def mth_1_6 (n : Nat) : MethodName := bif Nat.blt n 143 then bif Nat.blt n 141 then mth_1_6_0 n else mth_1_6_1 n else bif Nat.blt n 145 then mth_1_6_2 n else bif Nat.blt n 147 then mth_1_6_3 n else mth_1_6_4 n
def mth_1_7_0 (n : Nat) : MethodName := bif Nat.blt n 150 then ⟨"WholeWarehouse$Catalogue", "lines", "(LWholeWarehouse$Tape;)V"⟩ else ⟨"WholeWarehouse$Catalogue", "line", "(LWholeWarehouse$Tape;)V"⟩
def mth_1_7_1 (n : Nat) : MethodName := bif Nat.blt n 152 then ⟨"WholeWarehouse$Catalogue", "hazard", "(LWholeWarehouse$Tape;)V"⟩ else ⟨"WholeWarehouse$Tape", "take", "(I)V"⟩
def mth_1_7_2 (n : Nat) : MethodName := bif Nat.blt n 154 then ⟨"WholeWarehouse$Tape", "number", "(II)I"⟩ else ⟨"WholeWarehouse$Catalogue", "name", "(LWholeWarehouse$Tape;)V"⟩
def mth_1_7_3 (n : Nat) : MethodName := bif Nat.blt n 156 then ⟨"WholeWarehouse$Catalogue", "isNamed", "(ILWholeWarehouse$Tape;II)Z"⟩ else ⟨"WholeWarehouse$Catalogue", "make", "(I)V"⟩
def mth_1_7_4 (n : Nat) : MethodName := ⟨"WholeWarehouse$Good", "<init>", "(I[BIII)V"⟩
def mth_1_7 (n : Nat) : MethodName := bif Nat.blt n 153 then bif Nat.blt n 151 then mth_1_7_0 n else mth_1_7_1 n else bif Nat.blt n 155 then mth_1_7_2 n else bif Nat.blt n 157 then mth_1_7_3 n else mth_1_7_4 n
def mth_1 (n : Nat) : MethodName := bif Nat.blt n 119 then bif Nat.blt n 99 then bif Nat.blt n 89 then mth_1_0 n else mth_1_1 n else bif Nat.blt n 109 then mth_1_2 n else mth_1_3 n else bif Nat.blt n 139 then bif Nat.blt n 129 then mth_1_4 n else mth_1_5 n else bif Nat.blt n 149 then mth_1_6 n else mth_1_7 n
def mth_2_0_0 (n : Nat) : MethodName := bif Nat.blt n 159 then ⟨"WholeWarehouse$House", "cut", "(I)I"⟩ else ⟨"WholeWarehouse", "grown", "(IIII)V"⟩
def mth_2_0_1 (n : Nat) : MethodName := bif Nat.blt n 161 then ⟨"WholeWarehouse$House", "close", "(I)I"⟩ else ⟨"WholeWarehouse$House", "adviceAt", "(I)LWholeWarehouse$Advice;"⟩
def mth_2_0_2 (n : Nat) : MethodName := bif Nat.blt n 163 then ⟨"WholeWarehouse$Advice", "differences", "()I"⟩ else ⟨"java/lang/Math", "abs", "(I)I"⟩
def mth_2_0_3 (n : Nat) : MethodName := bif Nat.blt n 165 then ⟨"WholeWarehouse$House", "receive", "(III)I"⟩ else ⟨"WholeWarehouse$House", "advice", "()I"⟩
def mth_2_0_4 (n : Nat) : MethodName := bif Nat.blt n 167 then ⟨"WholeWarehouse$Advisor", "read", "(LWholeWarehouse$Tape;LWholeWarehouse$Catalogue;)I"⟩ else ⟨"WholeWarehouse$Advisor", "text", "(LWholeWarehouse$Tape;LWholeWarehouse$Catalogue;)V"⟩
def mth_2_0 (n : Nat) : MethodName := bif Nat.blt n 162 then bif Nat.blt n 160 then mth_2_0_0 n else mth_2_0_1 n else bif Nat.blt n 164 then mth_2_0_2 n else bif Nat.blt n 166 then mth_2_0_3 n else mth_2_0_4 n
def mth_2_1_0 (n : Nat) : MethodName := bif Nat.blt n 169 then ⟨"WholeWarehouse$Advisor", "line", "(LWholeWarehouse$Tape;LWholeWarehouse$Catalogue;)V"⟩ else ⟨"WholeWarehouse$Advisor", "good", "(LWholeWarehouse$Tape;LWholeWarehouse$Catalogue;)LWholeWarehouse$Good;"⟩
def mth_2_1_1 (n : Nat) : MethodName := bif Nat.blt n 171 then ⟨"WholeWarehouse$Catalogue", "named", "(LWholeWarehouse$Tape;II)LWholeWarehouse$Good;"⟩ else ⟨"WholeWarehouse$Advice", "<init>", "(III)V"⟩
def mth_2_1_2 (n : Nat) : MethodName := bif Nat.blt n 173 then ⟨"WholeWarehouse$House", "credit", "(I)J"⟩ else ⟨"WholeWarehouse$Books", "credit", "(I)J"⟩
def mth_2_1_3 (n : Nat) : MethodName := bif Nat.blt n 175 then ⟨"WholeWarehouse$Books", "all", "(I)J"⟩ else ⟨"WholeWarehouse$House", "carriers", "()I"⟩
def mth_2_1_4 (n : Nat) : MethodName := bif Nat.blt n 177 then ⟨"WholeWarehouse$Carriers", "read", "(LWholeWarehouse$Tape;)I"⟩ else ⟨"WholeWarehouse$Carriers", "lines", "(LWholeWarehouse$Tape;)V"⟩
def mth_2_1 (n : Nat) : MethodName := bif Nat.blt n 172 then bif Nat.blt n 170 then mth_2_1_0 n else mth_2_1_1 n else bif Nat.blt n 174 then mth_2_1_2 n else bif Nat.blt n 176 then mth_2_1_3 n else mth_2_1_4 n
def mth_2_2_0 (n : Nat) : MethodName := bif Nat.blt n 179 then ⟨"WholeWarehouse$Carriers", "carrier", "(LWholeWarehouse$Tape;)V"⟩ else ⟨"WholeWarehouse$Carriers", "isName", "(LWholeWarehouse$Tape;III)Z"⟩
def mth_2_2_1 (n : Nat) : MethodName := bif Nat.blt n 181 then ⟨"WholeWarehouse$Carriers", "rate", "(LWholeWarehouse$Tape;)V"⟩ else ⟨"WholeWarehouse$House", "cross", "(I)I"⟩
def mth_2_2_2 (n : Nat) : MethodName := bif Nat.blt n 183 then ⟨"WholeWarehouse$House", "refill", "(I)I"⟩ else ⟨"WholeWarehouse$House", "hasRoom", "()Z"⟩
def mth_2_2_3 (n : Nat) : MethodName := bif Nat.blt n 185 then ⟨"WholeWarehouse$House", "fill", "(LWholeWarehouse$Bin;I)I"⟩ else ⟨"WholeWarehouse$House", "lying", "(LWholeWarehouse$Bin;LWholeWarehouse$Good;I)I"⟩
def mth_2_2_4 (n : Nat) : MethodName := bif Nat.blt n 187 then ⟨"WholeWarehouse$Lot", "hasFree", "(LWholeWarehouse$Good;)Z"⟩ else ⟨"java/lang/Math", "min", "(II)I"⟩
def mth_2_2 (n : Nat) : MethodName := bif Nat.blt n 182 then bif Nat.blt n 180 then mth_2_2_0 n else mth_2_2_1 n else bif Nat.blt n 184 then mth_2_2_2 n else bif Nat.blt n 186 then mth_2_2_3 n else mth_2_2_4 n
def mth_2_3_0 (n : Nat) : MethodName := bif Nat.blt n 189 then ⟨"WholeWarehouse$Bin", "lets", "(LWholeWarehouse$Good;)I"⟩ else ⟨"WholeWarehouse$House", "shift", "(LWholeWarehouse$Pile;LWholeWarehouse$Bin;I)V"⟩
def mth_2_3_1 (n : Nat) : MethodName := bif Nat.blt n 191 then ⟨"WholeWarehouse$House", "place", "(I)I"⟩ else ⟨"WholeWarehouse$Loader", "begin", "(LWholeWarehouse$Floor;)V"⟩
def mth_2_3_2 (n : Nat) : MethodName := bif Nat.blt n 193 then ⟨"WholeWarehouse$Loader", "isFull", "()Z"⟩ else ⟨"WholeWarehouse$Loader", "add", "(LWholeWarehouse$Pile;)V"⟩
def mth_2_3_3 (n : Nat) : MethodName := bif Nat.blt n 195 then ⟨"WholeWarehouse$Loader", "let", "(IIZ)V"⟩ else ⟨"WholeWarehouse$Loader", "plan", "()I"⟩
def mth_2_3_4 (n : Nat) : MethodName := bif Nat.blt n 197 then ⟨"WholeWarehouse$Loader", "measure", "(I)V"⟩ else ⟨"WholeWarehouse$Loader", "best", "([JIII)J"⟩
def mth_2_3 (n : Nat) : MethodName := bif Nat.blt n 192 then bif Nat.blt n 190 then mth_2_3_0 n else mth_2_3_1 n else bif Nat.blt n 194 then mth_2_3_2 n else bif Nat.blt n 196 then mth_2_3_3 n else mth_2_3_4 n
def mth_2_4_0 (n : Nat) : MethodName := bif Nat.blt n 199 then ⟨"WholeWarehouse$Loader", "worth", "(II)J"⟩ else ⟨"java/lang/Math", "max", "(JJ)J"⟩
def mth_2_4_1 (n : Nat) : MethodName := bif Nat.blt n 201 then ⟨"WholeWarehouse$Loader", "without", "(II)J"⟩ else ⟨"WholeWarehouse$Loader", "tell", "()V"⟩
def mth_2_4_2 (n : Nat) : MethodName := bif Nat.blt n 203 then ⟨"WholeWarehouse$House", "apart", "(II)I"⟩ else ⟨"WholeWarehouse$Catalogue", "parts", "(LWholeWarehouse$Good;)I"⟩
def mth_2_4_3 (n : Nat) : MethodName := bif Nat.blt n 205 then ⟨"WholeWarehouse$Catalogue", "part", "(LWholeWarehouse$Good;I)LWholeWarehouse$Good;"⟩ else ⟨"WholeWarehouse$Catalogue", "unitsOf", "(LWholeWarehouse$Good;I)I"⟩
def mth_2_4_4 (n : Nat) : MethodName := bif Nat.blt n 207 then ⟨"WholeWarehouse$House", "assemble", "(III)I"⟩ else ⟨"WholeWarehouse$House", "part", "(III)I"⟩
def mth_2_4 (n : Nat) : MethodName := bif Nat.blt n 202 then bif Nat.blt n 200 then mth_2_4_0 n else mth_2_4_1 n else bif Nat.blt n 204 then mth_2_4_2 n else bif Nat.blt n 206 then mth_2_4_3 n else mth_2_4_4 n
def mth_2_5_0 (n : Nat) : MethodName := bif Nat.blt n 209 then ⟨"WholeWarehouse$Catalogue", "partOf", "(LWholeWarehouse$Good;LWholeWarehouse$Good;)I"⟩ else ⟨"WholeWarehouse$Catalogue", "dropPart", "(LWholeWarehouse$Good;I)V"⟩
def mth_2_5_1 (n : Nat) : MethodName := bif Nat.blt n 211 then ⟨"WholeWarehouse$Catalogue", "leads", "(LWholeWarehouse$Good;LWholeWarehouse$Good;)Z"⟩ else ⟨"WholeWarehouse$Catalogue", "setPart", "(LWholeWarehouse$Good;ILWholeWarehouse$Good;I)V"⟩
def mth_2_5_2 (n : Nat) : MethodName := bif Nat.blt n 213 then ⟨"WholeWarehouse$House", "weigh", "(II)Z"⟩ else ⟨"java/lang/Math", "max", "(II)I"⟩
def mth_2_5_3 (n : Nat) : MethodName := bif Nat.blt n 215 then ⟨"WholeWarehouseModel", "crash", "(I)I"⟩ else ⟨"WholeWarehouseModel", "in", "(III)Z"⟩
def mth_2_5_4 (n : Nat) : MethodName := bif Nat.blt n 217 then ⟨"WholeWarehouseModel", "forget", "()V"⟩ else ⟨"WholeWarehouseModel", "numbersOf", "(I)I"⟩
def mth_2_5 (n : Nat) : MethodName := bif Nat.blt n 212 then bif Nat.blt n 210 then mth_2_5_0 n else mth_2_5_1 n else bif Nat.blt n 214 then mth_2_5_2 n else bif Nat.blt n 216 then mth_2_5_3 n else mth_2_5_4 n
def mth_2_6_0 (n : Nat) : MethodName := bif Nat.blt n 219 then ⟨"WholeWarehouseModel", "numberAt", "(II)I"⟩ else ⟨"WholeWarehouseModel", "perform", "(IIIIII)V"⟩
def mth_2_6_1 (n : Nat) : MethodName := bif Nat.blt n 221 then ⟨"WholeWarehouseModel", "doDepart", "(I)I"⟩ else ⟨"WholeWarehouseModel", "isTruck", "(I)Z"⟩
def mth_2_6_2 (n : Nat) : MethodName := bif Nat.blt n 223 then ⟨"WholeWarehouseModel", "cheapestFreight", "(I)I"⟩ else ⟨"WholeWarehouseModel", "picksOf", "(II)I"⟩
def mth_2_6_3 (n : Nat) : MethodName := bif Nat.blt n 225 then ⟨"WholeWarehouseModel", "pay", "(IIJ)V"⟩ else ⟨"WholeWarehouseModel", "doLoad", "(II)Z"⟩
def mth_2_6_4 (n : Nat) : MethodName := bif Nat.blt n 227 then ⟨"WholeWarehouseModel", "isOrder", "(I)Z"⟩ else ⟨"WholeWarehouseModel", "doTruck", "(I)I"⟩
def mth_2_6 (n : Nat) : MethodName := bif Nat.blt n 222 then bif Nat.blt n 220 then mth_2_6_0 n else mth_2_6_1 n else bif Nat.blt n 224 then mth_2_6_2 n else bif Nat.blt n 226 then mth_2_6_3 n else mth_2_6_4 n
def mth_2_7_0 (n : Nat) : MethodName := bif Nat.blt n 229 then ⟨"WholeWarehouseModel", "doPack", "(I)I"⟩ else ⟨"WholeWarehouseModel", "spread", "(I)Z"⟩
def mth_2_7_1 (n : Nat) : MethodName := bif Nat.blt n 231 then ⟨"WholeWarehouseModel", "cheapest", "(JJ)I"⟩ else ⟨"WholeWarehouseModel", "packOn", "()I"⟩
def mth_2_7_2 (n : Nat) : MethodName := bif Nat.blt n 233 then ⟨"WholeWarehouseModel", "packAll", "()I"⟩ else ⟨"WholeWarehouseModel", "costOf", "(I)I"⟩
def mth_2_7_3 (n : Nat) : MethodName := bif Nat.blt n 235 then ⟨"WholeWarehouseModel", "isFirst", "(I)Z"⟩ else ⟨"WholeWarehouseModel", "setOf", "([III)I"⟩
def mth_2_7_4 (n : Nat) : MethodName := ⟨"WholeWarehouseModel", "nextParting", "()Z"⟩
def mth_2_7 (n : Nat) : MethodName := bif Nat.blt n 232 then bif Nat.blt n 230 then mth_2_7_0 n else mth_2_7_1 n else bif Nat.blt n 234 then mth_2_7_2 n else bif Nat.blt n 236 then mth_2_7_3 n else mth_2_7_4 n
def mth_2 (n : Nat) : MethodName := bif Nat.blt n 198 then bif Nat.blt n 178 then bif Nat.blt n 168 then mth_2_0 n else mth_2_1 n else bif Nat.blt n 188 then mth_2_2 n else mth_2_3 n else bif Nat.blt n 218 then bif Nat.blt n 208 then mth_2_4 n else mth_2_5 n else bif Nat.blt n 228 then mth_2_6 n else mth_2_7 n
def mth_3_0_0 (n : Nat) : MethodName := bif Nat.blt n 238 then ⟨"WholeWarehouseModel", "doKind", "(III)I"⟩ else ⟨"WholeWarehouseModel", "doPicked", "(I)I"⟩
def mth_3_0_1 (n : Nat) : MethodName := bif Nat.blt n 240 then ⟨"WholeWarehouseModel", "alter", "(III)V"⟩ else ⟨"WholeWarehouseModel", "heapAt", "(II)I"⟩
def mth_3_0_2 (n : Nat) : MethodName := bif Nat.blt n 242 then ⟨"WholeWarehouseModel", "rateOn", "(III)I"⟩ else ⟨"WholeWarehouseModel", "doCancel", "(I)V"⟩
def mth_3_0_3 (n : Nat) : MethodName := bif Nat.blt n 244 then ⟨"WholeWarehouseModel", "doAllocate", "(I)I"⟩ else ⟨"WholeWarehouseModel", "allocated", "(IZ)I"⟩
def mth_3_0_4 (n : Nat) : MethodName := bif Nat.blt n 246 then ⟨"WholeWarehouseModel", "tryLines", "(I)I"⟩ else ⟨"WholeWarehouseModel", "markTaken", "()V"⟩
def mth_3_0 (n : Nat) : MethodName := bif Nat.blt n 241 then bif Nat.blt n 239 then mth_3_0_0 n else mth_3_0_1 n else bif Nat.blt n 243 then mth_3_0_2 n else bif Nat.blt n 245 then mth_3_0_3 n else mth_3_0_4 n
def mth_3_1_0 (n : Nat) : MethodName := bif Nat.blt n 248 then ⟨"WholeWarehouseModel", "takesUnits", "(IIIII)Z"⟩ else ⟨"WholeWarehouseModel", "nextHeap", "(IIII)I"⟩
def mth_3_1_1 (n : Nat) : MethodName := bif Nat.blt n 250 then ⟨"WholeWarehouseModel", "mayBeTaken", "(IIII)Z"⟩ else ⟨"WholeWarehouseModel", "isBefore", "(II)Z"⟩
def mth_3_1_2 (n : Nat) : MethodName := bif Nat.blt n 252 then ⟨"WholeWarehouseModel", "doLine", "(IIII)I"⟩ else ⟨"WholeWarehouseModel", "isGood", "(I)Z"⟩
def mth_3_1_3 (n : Nat) : MethodName := bif Nat.blt n 254 then ⟨"WholeWarehouseModel", "doOrder", "(II)I"⟩ else ⟨"WholeWarehouseModel", "doCount", "(III)I"⟩
def mth_3_1_4 (n : Nat) : MethodName := bif Nat.blt n 256 then ⟨"WholeWarehouseModel", "isLot", "(I)Z"⟩ else ⟨"WholeWarehouseModel", "isPlace", "(I)Z"⟩
def mth_3_1 (n : Nat) : MethodName := bif Nat.blt n 251 then bif Nat.blt n 249 then mth_3_1_0 n else mth_3_1_1 n else bif Nat.blt n 253 then mth_3_1_2 n else bif Nat.blt n 255 then mth_3_1_3 n else mth_3_1_4 n
def mth_3_2_0 (n : Nat) : MethodName := bif Nat.blt n 258 then ⟨"WholeWarehouseModel", "stockOf", "(II)I"⟩ else ⟨"WholeWarehouseModel", "taken", "(II)I"⟩
def mth_3_2_1 (n : Nat) : MethodName := bif Nat.blt n 260 then ⟨"WholeWarehouseModel", "isAbove", "(III)Z"⟩ else ⟨"WholeWarehouseModel", "lies", "(II)J"⟩
def mth_3_2_2 (n : Nat) : MethodName := bif Nat.blt n 262 then ⟨"WholeWarehouseModel", "doMove", "(IIII)I"⟩ else ⟨"WholeWarehouseModel", "bars", "(III)I"⟩
def mth_3_2_3 (n : Nat) : MethodName := bif Nat.blt n 264 then ⟨"WholeWarehouseModel", "clashes", "(II)Z"⟩ else ⟨"WholeWarehouseModel", "doHold", "(IZ)V"⟩
def mth_3_2_4 (n : Nat) : MethodName := bif Nat.blt n 266 then ⟨"WholeWarehouseModel", "doArrive", "(IIII)I"⟩ else ⟨"WholeWarehouseModel", "newLot", "(IIII)I"⟩
def mth_3_2 (n : Nat) : MethodName := bif Nat.blt n 261 then bif Nat.blt n 259 then mth_3_2_0 n else mth_3_2_1 n else bif Nat.blt n 263 then mth_3_2_2 n else bif Nat.blt n 265 then mth_3_2_3 n else mth_3_2_4 n
def mth_3_3_0 (n : Nat) : MethodName := bif Nat.blt n 268 then ⟨"WholeWarehouseModel", "doDay", "(I)I"⟩ else ⟨"WholeWarehouseModel", "doLimits", "(IIII)V"⟩
def mth_3_3_1 (n : Nat) : MethodName := bif Nat.blt n 270 then ⟨"WholeWarehouseModel", "isBin", "(I)Z"⟩ else ⟨"WholeWarehouseModel", "doFloor", "()I"⟩
def mth_3_3_2 (n : Nat) : MethodName := bif Nat.blt n 272 then ⟨"WholeWarehouseModel", "floorText", "()Z"⟩ else ⟨"WholeWarehouseModel", "rows", "()Z"⟩
def mth_3_3_3 (n : Nat) : MethodName := bif Nat.blt n 274 then ⟨"WholeWarehouseModel", "byteAt", "(I)I"⟩ else ⟨"WholeWarehouseModel", "isWrong", "(I)Z"⟩
def mth_3_3_4 (n : Nat) : MethodName := bif Nat.blt n 276 then ⟨"WholeWarehouseModel", "isSign", "(I)Z"⟩ else ⟨"WholeWarehouseModel", "isOpenBeside", "(II)Z"⟩
def mth_3_3 (n : Nat) : MethodName := bif Nat.blt n 271 then bif Nat.blt n 269 then mth_3_3_0 n else mth_3_3_1 n else bif Nat.blt n 273 then mth_3_3_2 n else bif Nat.blt n 275 then mth_3_3_3 n else mth_3_3_4 n
def mth_3_4_0 (n : Nat) : MethodName := bif Nat.blt n 278 then ⟨"WholeWarehouseModel", "beside", "(II)I"⟩ else ⟨"WholeWarehouseModel", "isOpen", "(I)Z"⟩
def mth_3_4_1 (n : Nat) : MethodName := bif Nat.blt n 280 then ⟨"WholeWarehouseModel", "cellsOf", "(I)I"⟩ else ⟨"WholeWarehouseModel", "wave", "(I)V"⟩
def mth_3_4_2 (n : Nat) : MethodName := bif Nat.blt n 282 then ⟨"WholeWarehouseModel", "goes", "(II)I"⟩ else ⟨"WholeWarehouseModel", "addBin", "(I)V"⟩
def mth_3_4_3 (n : Nat) : MethodName := bif Nat.blt n 284 then ⟨"WholeWarehouseModel", "doGoods", "()I"⟩ else ⟨"WholeWarehouseModel", "goodsText", "()Z"⟩
def mth_3_4_4 (n : Nat) : MethodName := bif Nat.blt n 286 then ⟨"WholeWarehouseModel", "hazardLine", "()Z"⟩ else ⟨"WholeWarehouseModel", "reads", "(I)Z"⟩
def mth_3_4 (n : Nat) : MethodName := bif Nat.blt n 281 then bif Nat.blt n 279 then mth_3_4_0 n else mth_3_4_1 n else bif Nat.blt n 283 then mth_3_4_2 n else bif Nat.blt n 285 then mth_3_4_3 n else mth_3_4_4 n
def mth_3_5_0 (n : Nat) : MethodName := bif Nat.blt n 288 then ⟨"WholeWarehouseModel", "number", "(II)Z"⟩ else ⟨"WholeWarehouseModel", "isDigit", "(I)Z"⟩
def mth_3_5_1 (n : Nat) : MethodName := bif Nat.blt n 290 then ⟨"WholeWarehouseModel", "isLetter", "(I)Z"⟩ else ⟨"WholeWarehouseModel", "goodLine", "()Z"⟩
def mth_3_5_2 (n : Nat) : MethodName := bif Nat.blt n 292 then ⟨"WholeWarehouseModel", "isKnown", "(II)Z"⟩ else ⟨"WholeWarehouseModel", "doCut", "(I)I"⟩
def mth_3_5_3 (n : Nat) : MethodName := bif Nat.blt n 294 then ⟨"WholeWarehouseModel", "doFeed", "(IIIII)V"⟩ else ⟨"WholeWarehouseModel", "four", "(I)V"⟩
def mth_3_5_4 (n : Nat) : MethodName := bif Nat.blt n 296 then ⟨"WholeWarehouseModel", "performMore", "(IIIII)V"⟩ else ⟨"WholeWarehouseModel", "doClose", "(I)I"⟩
def mth_3_5 (n : Nat) : MethodName := bif Nat.blt n 291 then bif Nat.blt n 289 then mth_3_5_0 n else mth_3_5_1 n else bif Nat.blt n 293 then mth_3_5_2 n else bif Nat.blt n 295 then mth_3_5_3 n else mth_3_5_4 n
def mth_3_6_0 (n : Nat) : MethodName := bif Nat.blt n 298 then ⟨"WholeWarehouseModel", "isAdvice", "(I)Z"⟩ else ⟨"WholeWarehouseModel", "doReceive", "(III)I"⟩
def mth_3_6_1 (n : Nat) : MethodName := bif Nat.blt n 300 then ⟨"WholeWarehouseModel", "doAdvice", "()I"⟩ else ⟨"WholeWarehouseModel", "adviceText", "()Z"⟩
def mth_3_6_2 (n : Nat) : MethodName := bif Nat.blt n 302 then ⟨"WholeWarehouseModel", "adviceLine", "(I)Z"⟩ else ⟨"WholeWarehouseModel", "goodNamed", "(II)I"⟩
def mth_3_6_3 (n : Nat) : MethodName := bif Nat.blt n 304 then ⟨"WholeWarehouseModel", "doCredit", "(I)J"⟩ else ⟨"WholeWarehouseModel", "isInvoice", "(I)Z"⟩
def mth_3_6_4 (n : Nat) : MethodName := bif Nat.blt n 306 then ⟨"WholeWarehouseModel", "invoiced", "(I)J"⟩ else ⟨"WholeWarehouseModel", "owed", "(I)J"⟩
def mth_3_6 (n : Nat) : MethodName := bif Nat.blt n 301 then bif Nat.blt n 299 then mth_3_6_0 n else mth_3_6_1 n else bif Nat.blt n 303 then mth_3_6_2 n else bif Nat.blt n 305 then mth_3_6_3 n else mth_3_6_4 n
def mth_3_7_0 (n : Nat) : MethodName := bif Nat.blt n 308 then ⟨"WholeWarehouseModel", "doEdition", "(IIII)I"⟩ else ⟨"WholeWarehouseModel", "doCarriers", "()I"⟩
def mth_3_7_1 (n : Nat) : MethodName := bif Nat.blt n 310 then ⟨"WholeWarehouseModel", "carriersText", "()Z"⟩ else ⟨"WholeWarehouseModel", "isGreat", "(I)Z"⟩
def mth_3_7_2 (n : Nat) : MethodName := bif Nat.blt n 312 then ⟨"WholeWarehouseModel", "carrierLine", "()Z"⟩ else ⟨"WholeWarehouseModel", "isCarrier", "(II)Z"⟩
def mth_3_7_3 (n : Nat) : MethodName := bif Nat.blt n 314 then ⟨"WholeWarehouseModel", "freightLine", "()Z"⟩ else ⟨"WholeWarehouseModel", "doCross", "(I)I"⟩
def mth_3_7_4 (n : Nat) : MethodName := ⟨"WholeWarehouseModel", "doRefill", "(I)I"⟩
def mth_3_7 (n : Nat) : MethodName := bif Nat.blt n 311 then bif Nat.blt n 309 then mth_3_7_0 n else mth_3_7_1 n else bif Nat.blt n 313 then mth_3_7_2 n else bif Nat.blt n 315 then mth_3_7_3 n else mth_3_7_4 n
def mth_3 (n : Nat) : MethodName := bif Nat.blt n 277 then bif Nat.blt n 257 then bif Nat.blt n 247 then mth_3_0 n else mth_3_1 n else bif Nat.blt n 267 then mth_3_2 n else mth_3_3 n else bif Nat.blt n 297 then bif Nat.blt n 287 then mth_3_4 n else mth_3_5 n else bif Nat.blt n 307 then mth_3_6 n else mth_3_7 n
def mth_4_0_0 (n : Nat) : MethodName := bif Nat.blt n 317 then ⟨"WholeWarehouseModel", "liesOf", "(III)I"⟩ else ⟨"WholeWarehouseModel", "fitting", "(III)I"⟩
def mth_4_0_1 (n : Nat) : MethodName := bif Nat.blt n 319 then ⟨"WholeWarehouseModel", "doFace", "(IIII)V"⟩ else ⟨"WholeWarehouseModel", "doPlace", "(I)I"⟩
def mth_4_0_2 (n : Nat) : MethodName := bif Nat.blt n 321 then ⟨"WholeWarehouseModel", "findLoads", "(I)V"⟩ else ⟨"WholeWarehouseModel", "sumBins", "()V"⟩
def mth_4_0_3 (n : Nat) : MethodName := bif Nat.blt n 323 then ⟨"WholeWarehouseModel", "mayGo", "(II)Z"⟩ else ⟨"WholeWarehouseModel", "choose", "(II)V"⟩
def mth_4_0_4 (n : Nat) : MethodName := bif Nat.blt n 325 then ⟨"WholeWarehouseModel", "bestPlan", "()I"⟩ else ⟨"WholeWarehouseModel", "triedBin", "(I)I"⟩
def mth_4_0 (n : Nat) : MethodName := bif Nat.blt n 320 then bif Nat.blt n 318 then mth_4_0_0 n else mth_4_0_1 n else bif Nat.blt n 322 then mth_4_0_2 n else bif Nat.blt n 324 then mth_4_0_3 n else mth_4_0_4 n
def mth_4_1_0 (n : Nat) : MethodName := bif Nat.blt n 327 then ⟨"WholeWarehouseModel", "isPlan", "()Z"⟩ else ⟨"WholeWarehouseModel", "isEarlier", "()Z"⟩
def mth_4_1_1 (n : Nat) : MethodName := bif Nat.blt n 329 then ⟨"WholeWarehouseModel", "doApart", "(II)I"⟩ else ⟨"WholeWarehouseModel", "freeAtDock", "(I)I"⟩
def mth_4_1_2 (n : Nat) : MethodName := bif Nat.blt n 331 then ⟨"WholeWarehouseModel", "doAssemble", "(III)I"⟩ else ⟨"WholeWarehouseModel", "doPart", "(III)I"⟩
def mth_4_1_3 (n : Nat) : MethodName := bif Nat.blt n 333 then ⟨"WholeWarehouseModel", "partAt", "(II)I"⟩ else ⟨"WholeWarehouseModel", "leads", "(II)Z"⟩
def mth_4_1_4 (n : Nat) : MethodName := bif Nat.blt n 335 then ⟨"WholeWarehouseModel", "doBill", "(I)J"⟩ else ⟨"WholeWarehouseModel", "doRate", "(II)V"⟩
def mth_4_1 (n : Nat) : MethodName := bif Nat.blt n 330 then bif Nat.blt n 328 then mth_4_1_0 n else mth_4_1_1 n else bif Nat.blt n 332 then mth_4_1_2 n else bif Nat.blt n 334 then mth_4_1_3 n else mth_4_1_4 n
def mth_4_2_0 (n : Nat) : MethodName := bif Nat.blt n 337 then ⟨"WholeWarehouseModel", "doTick", "(I)I"⟩ else ⟨"WholeWarehouseModel", "doSend", "(II)I"⟩
def mth_4_2_1 (n : Nat) : MethodName := bif Nat.blt n 339 then ⟨"WholeWarehouseModel", "isRobot", "(I)Z"⟩ else ⟨"WholeWarehouseModel", "reach", "(II)I"⟩
def mth_4_2_2 (n : Nat) : MethodName := bif Nat.blt n 341 then ⟨"WholeWarehouseModel", "isFree", "(III)Z"⟩ else ⟨"WholeWarehouseModel", "isOn", "(III)Z"⟩
def mth_4_2_3 (n : Nat) : MethodName := bif Nat.blt n 343 then ⟨"WholeWarehouseModel", "goesTo", "(IIII)I"⟩ else ⟨"WholeWarehouseModel", "markBack", "(III)V"⟩
def mth_4_2_4 (n : Nat) : MethodName := bif Nat.blt n 345 then ⟨"WholeWarehouseModel", "isOpenCell", "(I)Z"⟩ else ⟨"WholeWarehouseModel", "doRobot", "(I)I"⟩
def mth_4_2 (n : Nat) : MethodName := bif Nat.blt n 340 then bif Nat.blt n 338 then mth_4_2_0 n else mth_4_2_1 n else bif Nat.blt n 342 then mth_4_2_2 n else bif Nat.blt n 344 then mth_4_2_3 n else mth_4_2_4 n
def mth_4_3_0 (n : Nat) : MethodName := bif Nat.blt n 347 then ⟨"WholeWarehouseModel", "doBack", "(III)I"⟩ else ⟨"WholeWarehouseModel", "pickAt", "(II)I"⟩
def mth_4_3_1 (n : Nat) : MethodName := bif Nat.blt n 349 then ⟨"WholeWarehouseModel", "doWeigh", "(II)Z"⟩ else ⟨"WholeWarehouseModel", "thrown", "()I"⟩
def mth_4_3_2 (n : Nat) : MethodName := bif Nat.blt n 351 then ⟨"WholeWarehouse", "logged", "(I)I"⟩ else ⟨"WholeWarehouseModel", "logged", "(I)I"⟩
def mth_4_3_3 (n : Nat) : MethodName := bif Nat.blt n 353 then ⟨"WholeWarehouse", "scan", "(J)I"⟩ else ⟨"WholeWarehouse$House", "scan", "(J)I"⟩
def mth_4_3_4 (n : Nat) : MethodName := bif Nat.blt n 355 then ⟨"WholeWarehouse", "checkOf", "(J)I"⟩ else ⟨"WholeWarehouse", "labelOf", "(LWholeWarehouse$Lot;)J"⟩
def mth_4_3 (n : Nat) : MethodName := bif Nat.blt n 350 then bif Nat.blt n 348 then mth_4_3_0 n else mth_4_3_1 n else bif Nat.blt n 352 then mth_4_3_2 n else bif Nat.blt n 354 then mth_4_3_3 n else mth_4_3_4 n
def mth_4_4_0 (n : Nat) : MethodName := bif Nat.blt n 357 then ⟨"WholeWarehouseModel", "scan", "(J)I"⟩ else ⟨"WholeWarehouseModel", "checked", "(J)I"⟩
def mth_4_4_1 (n : Nat) : MethodName := bif Nat.blt n 359 then ⟨"WholeWarehouseLaw", "label", "(LWholeWarehouse;I[J)I"⟩ else ⟨"WholeWarehouse", "label", "(I)J"⟩
def mth_4_4_2 (n : Nat) : MethodName := bif Nat.blt n 361 then ⟨"WholeWarehouse$House", "label", "(I)J"⟩ else ⟨"WholeWarehouseModel", "label", "(I)J"⟩
def mth_4_4_3 (n : Nat) : MethodName := bif Nat.blt n 363 then ⟨"WholeWarehouseLaw", "advised", "(LWholeWarehouse;III[J)I"⟩ else ⟨"WholeWarehouse", "advised", "(III)I"⟩
def mth_4_4_4 (n : Nat) : MethodName := bif Nat.blt n 365 then ⟨"WholeWarehouse$House", "advised", "(III)I"⟩ else ⟨"WholeWarehouseModel", "advised", "(III)I"⟩
def mth_4_4 (n : Nat) : MethodName := bif Nat.blt n 360 then bif Nat.blt n 358 then mth_4_4_0 n else mth_4_4_1 n else bif Nat.blt n 362 then mth_4_4_2 n else bif Nat.blt n 364 then mth_4_4_3 n else mth_4_4_4 n
def mth_4_5_0 (n : Nat) : MethodName := bif Nat.blt n 367 then ⟨"WholeWarehouseLaw", "close", "(LWholeWarehouse;I[J)I"⟩ else ⟨"WholeWarehouse", "close", "(I)I"⟩
def mth_4_5_1 (n : Nat) : MethodName := bif Nat.blt n 369 then ⟨"WholeWarehouse", "kept", "(IIIII)I"⟩ else ⟨"WholeWarehouse$Log", "add", "(IIIIII)V"⟩
def mth_4_5_2 (n : Nat) : MethodName := bif Nat.blt n 371 then ⟨"WholeWarehouseModel", "close", "(I)I"⟩ else ⟨"WholeWarehouseModel", "keep", "(IIIIII)V"⟩
def mth_4_5_3 (n : Nat) : MethodName := bif Nat.blt n 373 then ⟨"WholeWarehouseModel", "keepNumber", "(I)V"⟩ else ⟨"WholeWarehouseLaw", "receive", "(LWholeWarehouse;III[J)I"⟩
def mth_4_5_4 (n : Nat) : MethodName := bif Nat.blt n 375 then ⟨"WholeWarehouse", "receive", "(III)I"⟩ else ⟨"WholeWarehouseModel", "receive", "(III)I"⟩
def mth_4_5 (n : Nat) : MethodName := bif Nat.blt n 370 then bif Nat.blt n 368 then mth_4_5_0 n else mth_4_5_1 n else bif Nat.blt n 372 then mth_4_5_2 n else bif Nat.blt n 374 then mth_4_5_3 n else mth_4_5_4 n
def mth_4_6_0 (n : Nat) : MethodName := bif Nat.blt n 377 then ⟨"WholeWarehouseLaw", "advice", "(LWholeWarehouse;[J)I"⟩ else ⟨"WholeWarehouse", "advice", "()I"⟩
def mth_4_6_1 (n : Nat) : MethodName := bif Nat.blt n 379 then ⟨"WholeWarehouseModel", "advice", "()I"⟩ else ⟨"WholeWarehouseLaw", "credit", "(LWholeWarehouse;I[J)I"⟩
def mth_4_6_2 (n : Nat) : MethodName := bif Nat.blt n 381 then ⟨"WholeWarehouse", "credit", "(I)J"⟩ else ⟨"WholeWarehouseModel", "credit", "(I)J"⟩
def mth_4_6_3 (n : Nat) : MethodName := bif Nat.blt n 383 then ⟨"WholeWarehouseLaw", "invoice", "(LWholeWarehouse;II[J)I"⟩ else ⟨"WholeWarehouse", "invoice", "(II)J"⟩
def mth_4_6_4 (n : Nat) : MethodName := bif Nat.blt n 385 then ⟨"WholeWarehouse$House", "invoice", "(II)J"⟩ else ⟨"WholeWarehouseModel", "invoice", "(II)J"⟩
def mth_4_6 (n : Nat) : MethodName := bif Nat.blt n 380 then bif Nat.blt n 378 then mth_4_6_0 n else mth_4_6_1 n else bif Nat.blt n 382 then mth_4_6_2 n else bif Nat.blt n 384 then mth_4_6_3 n else mth_4_6_4 n
def mth_4_7_0 (n : Nat) : MethodName := bif Nat.blt n 387 then ⟨"WholeWarehouseLaw", "rated", "(LWholeWarehouse;III[J)I"⟩ else ⟨"WholeWarehouse", "rated", "(III)I"⟩
def mth_4_7_1 (n : Nat) : MethodName := bif Nat.blt n 389 then ⟨"WholeWarehouse$House", "rated", "(III)I"⟩ else ⟨"WholeWarehouseModel", "rated", "(III)I"⟩
def mth_4_7_2 (n : Nat) : MethodName := bif Nat.blt n 391 then ⟨"WholeWarehouseLaw", "edition", "(LWholeWarehouse;IIII[J)I"⟩ else ⟨"WholeWarehouse", "edition", "(IIII)I"⟩
def mth_4_7_3 (n : Nat) : MethodName := bif Nat.blt n 393 then ⟨"WholeWarehouseModel", "edition", "(IIII)I"⟩ else ⟨"WholeWarehouseLaw", "weigh", "(LWholeWarehouse;II[J)I"⟩
def mth_4_7_4 (n : Nat) : MethodName := ⟨"WholeWarehouse", "weigh", "(II)Z"⟩
def mth_4_7 (n : Nat) : MethodName := bif Nat.blt n 390 then bif Nat.blt n 388 then mth_4_7_0 n else mth_4_7_1 n else bif Nat.blt n 392 then mth_4_7_2 n else bif Nat.blt n 394 then mth_4_7_3 n else mth_4_7_4 n
def mth_4 (n : Nat) : MethodName := bif Nat.blt n 356 then bif Nat.blt n 336 then bif Nat.blt n 326 then mth_4_0 n else mth_4_1 n else bif Nat.blt n 346 then mth_4_2 n else mth_4_3 n else bif Nat.blt n 376 then bif Nat.blt n 366 then mth_4_4 n else mth_4_5 n else bif Nat.blt n 386 then mth_4_6 n else mth_4_7 n
def mth_5_0_0 (n : Nat) : MethodName := bif Nat.blt n 396 then ⟨"WholeWarehouseModel", "weigh", "(II)Z"⟩ else ⟨"WholeWarehouseLaw", "freight", "(LWholeWarehouse;II[J)I"⟩
def mth_5_0_1 (n : Nat) : MethodName := bif Nat.blt n 398 then ⟨"WholeWarehouse", "freight", "(II)I"⟩ else ⟨"WholeWarehouse$House", "freight", "(II)I"⟩
def mth_5_0_2 (n : Nat) : MethodName := bif Nat.blt n 400 then ⟨"WholeWarehouseModel", "freight", "(II)I"⟩ else ⟨"WholeWarehouseLaw", "carriers", "(LWholeWarehouse;[J)I"⟩
def mth_5_0_3 (n : Nat) : MethodName := bif Nat.blt n 402 then ⟨"WholeWarehouse", "carriers", "()I"⟩ else ⟨"WholeWarehouseModel", "carriers", "()I"⟩
def mth_5_0_4 (n : Nat) : MethodName := bif Nat.blt n 404 then ⟨"WholeWarehouseLaw", "share", "(LWholeWarehouse;I[J)I"⟩ else ⟨"WholeWarehouse", "share", "(I)I"⟩
def mth_5_0 (n : Nat) : MethodName := bif Nat.blt n 399 then bif Nat.blt n 397 then mth_5_0_0 n else mth_5_0_1 n else bif Nat.blt n 401 then mth_5_0_2 n else bif Nat.blt n 403 then mth_5_0_3 n else mth_5_0_4 n
def mth_5_1_0 (n : Nat) : MethodName := bif Nat.blt n 406 then ⟨"WholeWarehouse$House", "share", "(I)I"⟩ else ⟨"WholeWarehouse$Batches", "share", "(I)I"⟩
def mth_5_1_1 (n : Nat) : MethodName := bif Nat.blt n 408 then ⟨"WholeWarehouseModel", "share", "(I)I"⟩ else ⟨"WholeWarehouseLaw", "batched", "(LWholeWarehouse;II[J)I"⟩
def mth_5_1_2 (n : Nat) : MethodName := bif Nat.blt n 410 then ⟨"WholeWarehouse", "batched", "(II)I"⟩ else ⟨"WholeWarehouse$House", "batched", "(II)I"⟩
def mth_5_1_3 (n : Nat) : MethodName := bif Nat.blt n 412 then ⟨"WholeWarehouseModel", "batched", "(II)I"⟩ else ⟨"WholeWarehouseLaw", "batch", "(LWholeWarehouse;I[J)I"⟩
def mth_5_1_4 (n : Nat) : MethodName := bif Nat.blt n 414 then ⟨"WholeWarehouse", "batch", "(I)I"⟩ else ⟨"WholeWarehouse$House", "batch", "(I)I"⟩
def mth_5_1 (n : Nat) : MethodName := bif Nat.blt n 409 then bif Nat.blt n 407 then mth_5_1_0 n else mth_5_1_1 n else bif Nat.blt n 411 then mth_5_1_2 n else bif Nat.blt n 413 then mth_5_1_3 n else mth_5_1_4 n
def mth_5_2_0 (n : Nat) : MethodName := bif Nat.blt n 416 then ⟨"WholeWarehouse$Batches", "begin", "()V"⟩ else ⟨"WholeWarehouse$Batches", "add", "(LWholeWarehouse$Order;LWholeWarehouse$Floor;)V"⟩
def mth_5_2_1 (n : Nat) : MethodName := bif Nat.blt n 418 then ⟨"WholeWarehouse$Walker", "gather", "(LWholeWarehouse$Order;)V"⟩ else ⟨"WholeWarehouse$Walker", "walk", "(LWholeWarehouse$Floor;)I"⟩
def mth_5_2_2 (n : Nat) : MethodName := bif Nat.blt n 420 then ⟨"WholeWarehouse$Walker", "least", "(LWholeWarehouse$Floor;)I"⟩ else ⟨"WholeWarehouse$Walker", "measure", "(LWholeWarehouse$Floor;)V"⟩
def mth_5_2_3 (n : Nat) : MethodName := bif Nat.blt n 422 then ⟨"WholeWarehouse$Walker", "spots", "()I"⟩ else ⟨"WholeWarehouse$Walker", "isSpot", "(I)Z"⟩
def mth_5_2_4 (n : Nat) : MethodName := bif Nat.blt n 424 then ⟨"WholeWarehouse$Walker", "cellOf", "(I)I"⟩ else ⟨"WholeWarehouse$Walker", "way", "(II)I"⟩
def mth_5_2 (n : Nat) : MethodName := bif Nat.blt n 419 then bif Nat.blt n 417 then mth_5_2_0 n else mth_5_2_1 n else bif Nat.blt n 421 then mth_5_2_2 n else bif Nat.blt n 423 then mth_5_2_3 n else mth_5_2_4 n
def mth_5_3_0 (n : Nat) : MethodName := bif Nat.blt n 426 then ⟨"WholeWarehouse$Walker", "by", "(III)I"⟩ else ⟨"WholeWarehouse$Walker", "follow", "(III)V"⟩
def mth_5_3_1 (n : Nat) : MethodName := bif Nat.blt n 428 then ⟨"WholeWarehouse$Walker", "goesOn", "(IIII)Z"⟩ else ⟨"WholeWarehouse$Walker", "isNext", "(IIIII)Z"⟩
def mth_5_3_2 (n : Nat) : MethodName := bif Nat.blt n 430 then ⟨"WholeWarehouse$Walker", "ordered", "(II)I"⟩ else ⟨"WholeWarehouse$Walker", "nearest", "(LWholeWarehouse$Floor;)I"⟩
def mth_5_3_3 (n : Nat) : MethodName := bif Nat.blt n 432 then ⟨"WholeWarehouse$Walker", "keep", "(LWholeWarehouse$Bin;I)V"⟩ else ⟨"WholeWarehouse$Batch", "begin", "(ILWholeWarehouse$Walker;I)V"⟩
def mth_5_3_4 (n : Nat) : MethodName := bif Nat.blt n 434 then ⟨"WholeWarehouse$Batches", "grow", "(ILWholeWarehouse$Floor;)V"⟩ else ⟨"WholeWarehouse$Batches", "measure", "(IILWholeWarehouse$Floor;)V"⟩
def mth_5_3 (n : Nat) : MethodName := bif Nat.blt n 429 then bif Nat.blt n 427 then mth_5_3_0 n else mth_5_3_1 n else bif Nat.blt n 431 then mth_5_3_2 n else bif Nat.blt n 433 then mth_5_3_3 n else mth_5_3_4 n
def mth_5_4_0 (n : Nat) : MethodName := bif Nat.blt n 436 then ⟨"WholeWarehouse$Batches", "unite", "(LWholeWarehouse$Batch;LWholeWarehouse$Batch;)V"⟩ else ⟨"WholeWarehouse$Walker", "take", "([LWholeWarehouse$Bin;I)V"⟩
def mth_5_4_1 (n : Nat) : MethodName := bif Nat.blt n 438 then ⟨"WholeWarehouse$Batches", "joinsBest", "(ILWholeWarehouse$Floor;)Z"⟩ else ⟨"WholeWarehouse$Batches", "saving", "(III)I"⟩
def mth_5_4_2 (n : Nat) : MethodName := bif Nat.blt n 440 then ⟨"WholeWarehouse$Batch", "join", "(LWholeWarehouse$Batch;[LWholeWarehouse$Bin;II)V"⟩ else ⟨"WholeWarehouse$Batches", "drop", "(I)V"⟩
def mth_5_4_3 (n : Nat) : MethodName := bif Nat.blt n 442 then ⟨"WholeWarehouseModel", "batch", "(I)I"⟩ else ⟨"WholeWarehouseModel", "addBatch", "(I)V"⟩
def mth_5_4_4 (n : Nat) : MethodName := bif Nat.blt n 444 then ⟨"WholeWarehouseModel", "binsOf", "(I)I"⟩ else ⟨"WholeWarehouseModel", "leastWalk", "(I)I"⟩
def mth_5_4 (n : Nat) : MethodName := bif Nat.blt n 439 then bif Nat.blt n 437 then mth_5_4_0 n else mth_5_4_1 n else bif Nat.blt n 441 then mth_5_4_2 n else bif Nat.blt n 443 then mth_5_4_3 n else mth_5_4_4 n
def mth_5_5_0 (n : Nat) : MethodName := bif Nat.blt n 446 then ⟨"WholeWarehouseModel", "measure", "(I)V"⟩ else ⟨"WholeWarehouseModel", "besideBin", "(II)I"⟩
def mth_5_5_1 (n : Nat) : MethodName := bif Nat.blt n 448 then ⟨"WholeWarehouseModel", "pointAt", "(I)I"⟩ else ⟨"WholeWarehouseModel", "walkBy", "(I)I"⟩
def mth_5_5_2 (n : Nat) : MethodName := bif Nat.blt n 450 then ⟨"WholeWarehouseModel", "nextTurn", "(I)Z"⟩ else ⟨"WholeWarehouseModel", "swap", "(II)V"⟩
def mth_5_5_3 (n : Nat) : MethodName := bif Nat.blt n 452 then ⟨"WholeWarehouseModel", "saving", "(III)I"⟩ else ⟨"WholeWarehouseModel", "joinBins", "(II)I"⟩
def mth_5_5_4 (n : Nat) : MethodName := bif Nat.blt n 454 then ⟨"WholeWarehouseModel", "join", "(II)V"⟩ else ⟨"WholeWarehouseLaw", "cross", "(LWholeWarehouse;I[J)I"⟩
def mth_5_5 (n : Nat) : MethodName := bif Nat.blt n 449 then bif Nat.blt n 447 then mth_5_5_0 n else mth_5_5_1 n else bif Nat.blt n 451 then mth_5_5_2 n else bif Nat.blt n 453 then mth_5_5_3 n else mth_5_5_4 n
def mth_5_6_0 (n : Nat) : MethodName := bif Nat.blt n 456 then ⟨"WholeWarehouse", "cross", "(I)I"⟩ else ⟨"WholeWarehouseModel", "cross", "(I)I"⟩
def mth_5_6_1 (n : Nat) : MethodName := bif Nat.blt n 458 then ⟨"WholeWarehouseLaw", "refill", "(LWholeWarehouse;I[J)I"⟩ else ⟨"WholeWarehouse", "refill", "(I)I"⟩
def mth_5_6_2 (n : Nat) : MethodName := bif Nat.blt n 460 then ⟨"WholeWarehouseModel", "refill", "(I)I"⟩ else ⟨"WholeWarehouseLaw", "faced", "(LWholeWarehouse;II[J)I"⟩
def mth_5_6_3 (n : Nat) : MethodName := bif Nat.blt n 462 then ⟨"WholeWarehouse", "faced", "(II)I"⟩ else ⟨"WholeWarehouse$House", "faced", "(II)I"⟩
def mth_5_6_4 (n : Nat) : MethodName := bif Nat.blt n 464 then ⟨"WholeWarehouseModel", "faced", "(II)I"⟩ else ⟨"WholeWarehouseLaw", "face", "(LWholeWarehouse;IIII)I"⟩
def mth_5_6 (n : Nat) : MethodName := bif Nat.blt n 459 then bif Nat.blt n 457 then mth_5_6_0 n else mth_5_6_1 n else bif Nat.blt n 461 then mth_5_6_2 n else bif Nat.blt n 463 then mth_5_6_3 n else mth_5_6_4 n
def mth_5_7_0 (n : Nat) : MethodName := bif Nat.blt n 466 then ⟨"WholeWarehouse", "face", "(IIII)V"⟩ else ⟨"WholeWarehouseModel", "face", "(IIII)V"⟩
def mth_5_7_1 (n : Nat) : MethodName := bif Nat.blt n 468 then ⟨"WholeWarehouseLaw", "placed", "(LWholeWarehouse;II[J)I"⟩ else ⟨"WholeWarehouse", "placed", "(II)I"⟩
def mth_5_7_2 (n : Nat) : MethodName := bif Nat.blt n 470 then ⟨"WholeWarehouse$House", "placed", "(II)I"⟩ else ⟨"WholeWarehouseModel", "placed", "(II)I"⟩
def mth_5_7_3 (n : Nat) : MethodName := bif Nat.blt n 472 then ⟨"WholeWarehouseLaw", "place", "(LWholeWarehouse;I[J)I"⟩ else ⟨"WholeWarehouse", "place", "(I)I"⟩
def mth_5_7_4 (n : Nat) : MethodName := ⟨"WholeWarehouseModel", "place", "(I)I"⟩
def mth_5_7 (n : Nat) : MethodName := bif Nat.blt n 469 then bif Nat.blt n 467 then mth_5_7_0 n else mth_5_7_1 n else bif Nat.blt n 471 then mth_5_7_2 n else bif Nat.blt n 473 then mth_5_7_3 n else mth_5_7_4 n
def mth_5 (n : Nat) : MethodName := bif Nat.blt n 435 then bif Nat.blt n 415 then bif Nat.blt n 405 then mth_5_0 n else mth_5_1 n else bif Nat.blt n 425 then mth_5_2 n else mth_5_3 n else bif Nat.blt n 455 then bif Nat.blt n 445 then mth_5_4 n else mth_5_5 n else bif Nat.blt n 465 then mth_5_6 n else mth_5_7 n
def mth_6_0_0 (n : Nat) : MethodName := bif Nat.blt n 475 then ⟨"WholeWarehouseLaw", "apart", "(LWholeWarehouse;II[J)I"⟩ else ⟨"WholeWarehouse", "apart", "(II)I"⟩
def mth_6_0_1 (n : Nat) : MethodName := bif Nat.blt n 477 then ⟨"WholeWarehouseModel", "apart", "(II)I"⟩ else ⟨"WholeWarehouseLaw", "assemble", "(LWholeWarehouse;III[J)I"⟩
def mth_6_0_2 (n : Nat) : MethodName := bif Nat.blt n 479 then ⟨"WholeWarehouse", "assemble", "(III)I"⟩ else ⟨"WholeWarehouseModel", "assemble", "(III)I"⟩
def mth_6_0_3 (n : Nat) : MethodName := bif Nat.blt n 481 then ⟨"WholeWarehouseLaw", "recipe", "(LWholeWarehouse;III[J)I"⟩ else ⟨"WholeWarehouse", "recipe", "(III)I"⟩
def mth_6_0_4 (n : Nat) : MethodName := bif Nat.blt n 483 then ⟨"WholeWarehouse$House", "recipe", "(III)I"⟩ else ⟨"WholeWarehouseModel", "recipe", "(III)I"⟩
def mth_6_0 (n : Nat) : MethodName := bif Nat.blt n 478 then bif Nat.blt n 476 then mth_6_0_0 n else mth_6_0_1 n else bif Nat.blt n 480 then mth_6_0_2 n else bif Nat.blt n 482 then mth_6_0_3 n else mth_6_0_4 n
def mth_6_1_0 (n : Nat) : MethodName := bif Nat.blt n 485 then ⟨"WholeWarehouseLaw", "part", "(LWholeWarehouse;III[J)I"⟩ else ⟨"WholeWarehouse", "part", "(III)I"⟩
def mth_6_1_1 (n : Nat) : MethodName := bif Nat.blt n 487 then ⟨"WholeWarehouseModel", "part", "(III)I"⟩ else ⟨"WholeWarehouseLaw", "told", "(LWholeWarehouse;II[J)I"⟩
def mth_6_1_2 (n : Nat) : MethodName := bif Nat.blt n 489 then ⟨"WholeWarehouse", "told", "(II)I"⟩ else ⟨"WholeWarehouse$House", "told", "(II)I"⟩
def mth_6_1_3 (n : Nat) : MethodName := bif Nat.blt n 491 then ⟨"WholeWarehouseModel", "told", "(II)I"⟩ else ⟨"WholeWarehouseLaw", "bill", "(LWholeWarehouse;I[J)I"⟩
def mth_6_1_4 (n : Nat) : MethodName := bif Nat.blt n 493 then ⟨"WholeWarehouse", "bill", "(I)J"⟩ else ⟨"WholeWarehouseModel", "bill", "(I)J"⟩
def mth_6_1 (n : Nat) : MethodName := bif Nat.blt n 488 then bif Nat.blt n 486 then mth_6_1_0 n else mth_6_1_1 n else bif Nat.blt n 490 then mth_6_1_2 n else bif Nat.blt n 492 then mth_6_1_3 n else mth_6_1_4 n
def mth_6_2_0 (n : Nat) : MethodName := bif Nat.blt n 495 then ⟨"WholeWarehouseLaw", "sum", "(LWholeWarehouse;I[J)I"⟩ else ⟨"WholeWarehouse", "sum", "(I)J"⟩
def mth_6_2_1 (n : Nat) : MethodName := bif Nat.blt n 497 then ⟨"WholeWarehouse$House", "sum", "(I)J"⟩ else ⟨"WholeWarehouseModel", "sum", "(I)J"⟩
def mth_6_2_2 (n : Nat) : MethodName := bif Nat.blt n 499 then ⟨"WholeWarehouseLaw", "rate", "(LWholeWarehouse;II)I"⟩ else ⟨"WholeWarehouse", "rate", "(II)V"⟩
def mth_6_2_3 (n : Nat) : MethodName := bif Nat.blt n 501 then ⟨"WholeWarehouseModel", "rate", "(II)V"⟩ else ⟨"WholeWarehouseLaw", "at", "(LWholeWarehouse;II[J)I"⟩
def mth_6_2_4 (n : Nat) : MethodName := bif Nat.blt n 503 then ⟨"WholeWarehouse", "at", "(II)I"⟩ else ⟨"WholeWarehouse$House", "at", "(II)I"⟩
def mth_6_2 (n : Nat) : MethodName := bif Nat.blt n 498 then bif Nat.blt n 496 then mth_6_2_0 n else mth_6_2_1 n else bif Nat.blt n 500 then mth_6_2_2 n else bif Nat.blt n 502 then mth_6_2_3 n else mth_6_2_4 n
def mth_6_3_0 (n : Nat) : MethodName := bif Nat.blt n 505 then ⟨"WholeWarehouseModel", "at", "(II)I"⟩ else ⟨"WholeWarehouseLaw", "tick", "(LWholeWarehouse;I[J)I"⟩
def mth_6_3_1 (n : Nat) : MethodName := bif Nat.blt n 507 then ⟨"WholeWarehouse", "tick", "(I)I"⟩ else ⟨"WholeWarehouseModel", "tick", "(I)I"⟩
def mth_6_3_2 (n : Nat) : MethodName := bif Nat.blt n 509 then ⟨"WholeWarehouseLaw", "send", "(LWholeWarehouse;II[J)I"⟩ else ⟨"WholeWarehouse", "send", "(II)I"⟩
def mth_6_3_3 (n : Nat) : MethodName := bif Nat.blt n 511 then ⟨"WholeWarehouseModel", "send", "(II)I"⟩ else ⟨"WholeWarehouseLaw", "robot", "(LWholeWarehouse;I[J)I"⟩
def mth_6_3_4 (n : Nat) : MethodName := bif Nat.blt n 513 then ⟨"WholeWarehouse", "robot", "(I)I"⟩ else ⟨"WholeWarehouseModel", "robot", "(I)I"⟩
def mth_6_3 (n : Nat) : MethodName := bif Nat.blt n 508 then bif Nat.blt n 506 then mth_6_3_0 n else mth_6_3_1 n else bif Nat.blt n 510 then mth_6_3_2 n else bif Nat.blt n 512 then mth_6_3_3 n else mth_6_3_4 n
def mth_6_4_0 (n : Nat) : MethodName := bif Nat.blt n 515 then ⟨"WholeWarehouseLaw", "back", "(LWholeWarehouse;III[J)I"⟩ else ⟨"WholeWarehouse", "back", "(III)I"⟩
def mth_6_4_1 (n : Nat) : MethodName := bif Nat.blt n 517 then ⟨"WholeWarehouseModel", "back", "(III)I"⟩ else ⟨"WholeWarehouseLaw", "depart", "(LWholeWarehouse;I[J)I"⟩
def mth_6_4_2 (n : Nat) : MethodName := bif Nat.blt n 519 then ⟨"WholeWarehouse", "depart", "(I)I"⟩ else ⟨"WholeWarehouseModel", "depart", "(I)I"⟩
def mth_6_4_3 (n : Nat) : MethodName := bif Nat.blt n 521 then ⟨"WholeWarehouseLaw", "load", "(LWholeWarehouse;II[J)I"⟩ else ⟨"WholeWarehouse", "load", "(II)Z"⟩
def mth_6_4_4 (n : Nat) : MethodName := bif Nat.blt n 523 then ⟨"WholeWarehouseModel", "load", "(II)Z"⟩ else ⟨"WholeWarehouseLaw", "truck", "(LWholeWarehouse;I[J)I"⟩
def mth_6_4 (n : Nat) : MethodName := bif Nat.blt n 518 then bif Nat.blt n 516 then mth_6_4_0 n else mth_6_4_1 n else bif Nat.blt n 520 then mth_6_4_2 n else bif Nat.blt n 522 then mth_6_4_3 n else mth_6_4_4 n
def mth_6_5_0 (n : Nat) : MethodName := bif Nat.blt n 525 then ⟨"WholeWarehouse", "truck", "(I)I"⟩ else ⟨"WholeWarehouseModel", "truck", "(I)I"⟩
def mth_6_5_1 (n : Nat) : MethodName := bif Nat.blt n 527 then ⟨"WholeWarehouseLaw", "packed", "(LWholeWarehouse;II[J)I"⟩ else ⟨"WholeWarehouse", "packed", "(II)I"⟩
def mth_6_5_2 (n : Nat) : MethodName := bif Nat.blt n 529 then ⟨"WholeWarehouse$House", "packed", "(II)I"⟩ else ⟨"WholeWarehouseModel", "packed", "(II)I"⟩
def mth_6_5_3 (n : Nat) : MethodName := bif Nat.blt n 531 then ⟨"WholeWarehouseLaw", "pack", "(LWholeWarehouse;I[J)I"⟩ else ⟨"WholeWarehouse", "pack", "(I)I"⟩
def mth_6_5_4 (n : Nat) : MethodName := bif Nat.blt n 533 then ⟨"WholeWarehouseModel", "pack", "(I)I"⟩ else ⟨"WholeWarehouseLaw", "kind", "(LWholeWarehouse;III[J)I"⟩
def mth_6_5 (n : Nat) : MethodName := bif Nat.blt n 528 then bif Nat.blt n 526 then mth_6_5_0 n else mth_6_5_1 n else bif Nat.blt n 530 then mth_6_5_2 n else bif Nat.blt n 532 then mth_6_5_3 n else mth_6_5_4 n
def mth_6_6_0 (n : Nat) : MethodName := bif Nat.blt n 535 then ⟨"WholeWarehouse", "kind", "(III)I"⟩ else ⟨"WholeWarehouseModel", "kind", "(III)I"⟩
def mth_6_6_1 (n : Nat) : MethodName := bif Nat.blt n 537 then ⟨"WholeWarehouseLaw", "picked", "(LWholeWarehouse;I[J)I"⟩ else ⟨"WholeWarehouse", "picked", "(I)I"⟩
def mth_6_6_2 (n : Nat) : MethodName := bif Nat.blt n 539 then ⟨"WholeWarehouseModel", "picked", "(I)I"⟩ else ⟨"WholeWarehouseLaw", "stop", "(LWholeWarehouse;II[J)I"⟩
def mth_6_6_3 (n : Nat) : MethodName := bif Nat.blt n 541 then ⟨"WholeWarehouse", "stop", "(II)I"⟩ else ⟨"WholeWarehouse$House", "stop", "(II)I"⟩
def mth_6_6_4 (n : Nat) : MethodName := bif Nat.blt n 543 then ⟨"WholeWarehouseModel", "stop", "(II)I"⟩ else ⟨"WholeWarehouseLaw", "walk", "(LWholeWarehouse;I[J)I"⟩
def mth_6_6 (n : Nat) : MethodName := bif Nat.blt n 538 then bif Nat.blt n 536 then mth_6_6_0 n else mth_6_6_1 n else bif Nat.blt n 540 then mth_6_6_2 n else bif Nat.blt n 542 then mth_6_6_3 n else mth_6_6_4 n
def mth_6_7_0 (n : Nat) : MethodName := bif Nat.blt n 545 then ⟨"WholeWarehouse", "walk", "(I)I"⟩ else ⟨"WholeWarehouse$House", "walk", "(I)I"⟩
def mth_6_7_1 (n : Nat) : MethodName := bif Nat.blt n 547 then ⟨"WholeWarehouseModel", "walk", "(I)I"⟩ else ⟨"WholeWarehouseModel", "walkOn", "(I)I"⟩
def mth_6_7_2 (n : Nat) : MethodName := bif Nat.blt n 549 then ⟨"WholeWarehouseModel", "walkAll", "(I)I"⟩ else ⟨"WholeWarehouseLaw", "pick", "(LWholeWarehouse;III[J)I"⟩
def mth_6_7_3 (n : Nat) : MethodName := bif Nat.blt n 551 then ⟨"WholeWarehouse", "pick", "(III)I"⟩ else ⟨"WholeWarehouse$House", "pick", "(III)I"⟩
def mth_6_7_4 (n : Nat) : MethodName := ⟨"WholeWarehouse$Pile", "place", "()I"⟩
def mth_6_7 (n : Nat) : MethodName := bif Nat.blt n 548 then bif Nat.blt n 546 then mth_6_7_0 n else mth_6_7_1 n else bif Nat.blt n 550 then mth_6_7_2 n else bif Nat.blt n 552 then mth_6_7_3 n else mth_6_7_4 n
def mth_6 (n : Nat) : MethodName := bif Nat.blt n 514 then bif Nat.blt n 494 then bif Nat.blt n 484 then mth_6_0 n else mth_6_1 n else bif Nat.blt n 504 then mth_6_2 n else mth_6_3 n else bif Nat.blt n 534 then bif Nat.blt n 524 then mth_6_4 n else mth_6_5 n else bif Nat.blt n 544 then mth_6_6 n else mth_6_7 n
def mth_7_0_0 (n : Nat) : MethodName := bif Nat.blt n 554 then ⟨"WholeWarehouseModel", "pick", "(III)I"⟩ else ⟨"WholeWarehouseLaw", "promise", "(LWholeWarehouse;III[J)I"⟩
def mth_7_0_1 (n : Nat) : MethodName := bif Nat.blt n 556 then ⟨"WholeWarehouse", "promise", "(III)I"⟩ else ⟨"WholeWarehouse$House", "promise", "(III)I"⟩
def mth_7_0_2 (n : Nat) : MethodName := bif Nat.blt n 558 then ⟨"WholeWarehouseModel", "promise", "(III)I"⟩ else ⟨"WholeWarehouseLaw", "cancel", "(LWholeWarehouse;I)I"⟩
def mth_7_0_3 (n : Nat) : MethodName := bif Nat.blt n 560 then ⟨"WholeWarehouse", "cancel", "(I)V"⟩ else ⟨"WholeWarehouseModel", "cancel", "(I)V"⟩
def mth_7_0_4 (n : Nat) : MethodName := bif Nat.blt n 562 then ⟨"WholeWarehouseLaw", "allocate", "(LWholeWarehouse;I[J)I"⟩ else ⟨"WholeWarehouse", "allocate", "(I)I"⟩
def mth_7_0 (n : Nat) : MethodName := bif Nat.blt n 557 then bif Nat.blt n 555 then mth_7_0_0 n else mth_7_0_1 n else bif Nat.blt n 559 then mth_7_0_2 n else bif Nat.blt n 561 then mth_7_0_3 n else mth_7_0_4 n
def mth_7_1_0 (n : Nat) : MethodName := bif Nat.blt n 564 then ⟨"WholeWarehouseModel", "allocate", "(I)I"⟩ else ⟨"WholeWarehouseLaw", "line", "(LWholeWarehouse;IIII[J)I"⟩
def mth_7_1_1 (n : Nat) : MethodName := bif Nat.blt n 566 then ⟨"WholeWarehouse", "line", "(IIII)I"⟩ else ⟨"WholeWarehouseModel", "line", "(IIII)I"⟩
def mth_7_1_2 (n : Nat) : MethodName := bif Nat.blt n 568 then ⟨"WholeWarehouseLaw", "order", "(LWholeWarehouse;II[J)I"⟩ else ⟨"WholeWarehouse", "order", "(II)I"⟩
def mth_7_1_3 (n : Nat) : MethodName := bif Nat.blt n 570 then ⟨"WholeWarehouseModel", "order", "(II)I"⟩ else ⟨"WholeWarehouseLaw", "was", "(LWholeWarehouse;III[J)I"⟩
def mth_7_1_4 (n : Nat) : MethodName := bif Nat.blt n 572 then ⟨"WholeWarehouse", "was", "(III)I"⟩ else ⟨"WholeWarehouse$House", "was", "(III)I"⟩
def mth_7_1 (n : Nat) : MethodName := bif Nat.blt n 567 then bif Nat.blt n 565 then mth_7_1_0 n else mth_7_1_1 n else bif Nat.blt n 569 then mth_7_1_2 n else bif Nat.blt n 571 then mth_7_1_3 n else mth_7_1_4 n
def mth_7_2_0 (n : Nat) : MethodName := bif Nat.blt n 574 then ⟨"WholeWarehouse$Pile", "was", "(I)I"⟩ else ⟨"WholeWarehouseModel", "was", "(III)I"⟩
def mth_7_2_1 (n : Nat) : MethodName := bif Nat.blt n 576 then ⟨"WholeWarehouseLaw", "change", "(LWholeWarehouse;II[J)I"⟩ else ⟨"WholeWarehouse", "change", "(II)I"⟩
def mth_7_2_2 (n : Nat) : MethodName := bif Nat.blt n 578 then ⟨"WholeWarehouse$House", "change", "(II)I"⟩ else ⟨"WholeWarehouseModel", "change", "(II)I"⟩
def mth_7_2_3 (n : Nat) : MethodName := bif Nat.blt n 580 then ⟨"WholeWarehouseLaw", "count", "(LWholeWarehouse;III[J)I"⟩ else ⟨"WholeWarehouse", "count", "(III)I"⟩
def mth_7_2_4 (n : Nat) : MethodName := bif Nat.blt n 582 then ⟨"WholeWarehouseModel", "count", "(III)I"⟩ else ⟨"WholeWarehouseLaw", "lot", "(LWholeWarehouse;II[J)I"⟩
def mth_7_2 (n : Nat) : MethodName := bif Nat.blt n 577 then bif Nat.blt n 575 then mth_7_2_0 n else mth_7_2_1 n else bif Nat.blt n 579 then mth_7_2_2 n else bif Nat.blt n 581 then mth_7_2_3 n else mth_7_2_4 n
def mth_7_3_0 (n : Nat) : MethodName := bif Nat.blt n 584 then ⟨"WholeWarehouse", "lot", "(II)I"⟩ else ⟨"WholeWarehouse$House", "lot", "(II)I"⟩
def mth_7_3_1 (n : Nat) : MethodName := bif Nat.blt n 586 then ⟨"WholeWarehouseModel", "lot", "(II)I"⟩ else ⟨"WholeWarehouseLaw", "stock", "(LWholeWarehouse;III[J)I"⟩
def mth_7_3_2 (n : Nat) : MethodName := bif Nat.blt n 588 then ⟨"WholeWarehouse", "stock", "(III)I"⟩ else ⟨"WholeWarehouse$House", "stock", "(III)I"⟩
def mth_7_3_3 (n : Nat) : MethodName := bif Nat.blt n 590 then ⟨"WholeWarehouseModel", "stock", "(III)I"⟩ else ⟨"WholeWarehouseLaw", "move", "(LWholeWarehouse;IIII[J)I"⟩
def mth_7_3_4 (n : Nat) : MethodName := bif Nat.blt n 592 then ⟨"WholeWarehouse", "move", "(IIII)I"⟩ else ⟨"WholeWarehouseModel", "move", "(IIII)I"⟩
def mth_7_3 (n : Nat) : MethodName := bif Nat.blt n 587 then bif Nat.blt n 585 then mth_7_3_0 n else mth_7_3_1 n else bif Nat.blt n 589 then mth_7_3_2 n else bif Nat.blt n 591 then mth_7_3_3 n else mth_7_3_4 n
def mth_7_4_0 (n : Nat) : MethodName := bif Nat.blt n 594 then ⟨"WholeWarehouseLaw", "hold", "(LWholeWarehouse;IZ)I"⟩ else ⟨"WholeWarehouse", "hold", "(IZ)V"⟩
def mth_7_4_1 (n : Nat) : MethodName := bif Nat.blt n 596 then ⟨"WholeWarehouseModel", "hold", "(IZ)V"⟩ else ⟨"WholeWarehouseLaw", "arrive", "(LWholeWarehouse;IIII[J)I"⟩
def mth_7_4_2 (n : Nat) : MethodName := bif Nat.blt n 598 then ⟨"WholeWarehouse", "arrive", "(IIII)I"⟩ else ⟨"WholeWarehouseModel", "arrive", "(IIII)I"⟩
def mth_7_4_3 (n : Nat) : MethodName := bif Nat.blt n 600 then ⟨"WholeWarehouseLaw", "day", "(LWholeWarehouse;I[J)I"⟩ else ⟨"WholeWarehouse", "day", "(I)I"⟩
def mth_7_4_4 (n : Nat) : MethodName := bif Nat.blt n 602 then ⟨"WholeWarehouseModel", "day", "(I)I"⟩ else ⟨"WholeWarehouseLaw", "steps", "(LWholeWarehouse;II[J)I"⟩
def mth_7_4 (n : Nat) : MethodName := bif Nat.blt n 597 then bif Nat.blt n 595 then mth_7_4_0 n else mth_7_4_1 n else bif Nat.blt n 599 then mth_7_4_2 n else bif Nat.blt n 601 then mth_7_4_3 n else mth_7_4_4 n
def mth_7_5_0 (n : Nat) : MethodName := bif Nat.blt n 604 then ⟨"WholeWarehouse", "steps", "(II)I"⟩ else ⟨"WholeWarehouse$House", "steps", "(II)I"⟩
def mth_7_5_1 (n : Nat) : MethodName := bif Nat.blt n 606 then ⟨"WholeWarehouseModel", "steps", "(II)I"⟩ else ⟨"WholeWarehouseLaw", "limits", "(LWholeWarehouse;IIII)I"⟩
def mth_7_5_2 (n : Nat) : MethodName := bif Nat.blt n 608 then ⟨"WholeWarehouse", "limits", "(IIII)V"⟩ else ⟨"WholeWarehouseModel", "limits", "(IIII)V"⟩
def mth_7_5_3 (n : Nat) : MethodName := bif Nat.blt n 610 then ⟨"WholeWarehouseLaw", "bin", "(LWholeWarehouse;II[J)I"⟩ else ⟨"WholeWarehouse", "bin", "(II)I"⟩
def mth_7_5_4 (n : Nat) : MethodName := bif Nat.blt n 612 then ⟨"WholeWarehouse$House", "bin", "(II)I"⟩ else ⟨"WholeWarehouseModel", "bin", "(II)I"⟩
def mth_7_5 (n : Nat) : MethodName := bif Nat.blt n 607 then bif Nat.blt n 605 then mth_7_5_0 n else mth_7_5_1 n else bif Nat.blt n 609 then mth_7_5_2 n else bif Nat.blt n 611 then mth_7_5_3 n else mth_7_5_4 n
def mth_7_6_0 (n : Nat) : MethodName := bif Nat.blt n 614 then ⟨"WholeWarehouseLaw", "good", "(LWholeWarehouse;II[J)I"⟩ else ⟨"WholeWarehouse", "good", "(II)I"⟩
def mth_7_6_1 (n : Nat) : MethodName := bif Nat.blt n 616 then ⟨"WholeWarehouse$House", "good", "(II)I"⟩ else ⟨"WholeWarehouseModel", "good", "(II)I"⟩
def mth_7_6_2 (n : Nat) : MethodName := bif Nat.blt n 618 then ⟨"WholeWarehouseLaw", "floor", "(LWholeWarehouse;[J)I"⟩ else ⟨"WholeWarehouse", "floor", "()I"⟩
def mth_7_6_3 (n : Nat) : MethodName := bif Nat.blt n 620 then ⟨"WholeWarehouseModel", "floor", "()I"⟩ else ⟨"WholeWarehouseLaw", "goods", "(LWholeWarehouse;[J)I"⟩
def mth_7_6_4 (n : Nat) : MethodName := bif Nat.blt n 622 then ⟨"WholeWarehouse", "goods", "()I"⟩ else ⟨"WholeWarehouseModel", "goods", "()I"⟩
def mth_7_6 (n : Nat) : MethodName := bif Nat.blt n 617 then bif Nat.blt n 615 then mth_7_6_0 n else mth_7_6_1 n else bif Nat.blt n 619 then mth_7_6_2 n else bif Nat.blt n 621 then mth_7_6_3 n else mth_7_6_4 n
def mth_7_7 (n : Nat) : MethodName := bif Nat.blt n 626 then bif Nat.blt n 624 then ⟨"WholeWarehouseLaw", "cut", "(LWholeWarehouse;I[J)I"⟩ else bif Nat.blt n 625 then ⟨"WholeWarehouse", "cut", "(I)I"⟩ else ⟨"WholeWarehouseModel", "cut", "(I)I"⟩ else bif Nat.blt n 627 then ⟨"WholeWarehouseLaw", "feed", "(LWholeWarehouse;IIIII)I"⟩ else bif Nat.blt n 628 then ⟨"WholeWarehouse", "feed", "(IIIII)V"⟩ else ⟨"WholeWarehouseModel", "feed", "(IIIII)V"⟩
def mth_7 (n : Nat) : MethodName := bif Nat.blt n 593 then bif Nat.blt n 573 then bif Nat.blt n 563 then mth_7_0 n else mth_7_1 n else bif Nat.blt n 583 then mth_7_2 n else mth_7_3 n else bif Nat.blt n 613 then bif Nat.blt n 603 then mth_7_4 n else mth_7_5 n else bif Nat.blt n 623 then mth_7_6 n else mth_7_7 n
def mth (n : Nat) : MethodName := bif Nat.blt n 316 then bif Nat.blt n 158 then bif Nat.blt n 79 then mth_0 n else mth_1 n else bif Nat.blt n 237 then mth_2 n else mth_3 n else bif Nat.blt n 474 then bif Nat.blt n 395 then mth_4 n else mth_5 n else bif Nat.blt n 553 then mth_6 n else mth_7 n
def mby_0_0_0 (n : Nat) : ByteArray := bif Nat.blt n 1 then code else prog_1_method_8_code
def mby_0_0_1 (n : Nat) : ByteArray := bif Nat.blt n 3 then prog_19_method_1_code else prog_15_method_1_code
def mby_0_0_2 (n : Nat) : ByteArray := bif Nat.blt n 5 then prog_27_method_1_code else prog_9_method_1_code
def mby_0_0_3 (n : Nat) : ByteArray := bif Nat.blt n 7 then prog_13_method_1_code else prog_29_method_1_code
def mby_0_0_4 (n : Nat) : ByteArray := bif Nat.blt n 9 then prog_22_method_1_code else prog_12_method_1_code
def mby_0_0 (n : Nat) : ByteArray := bif Nat.blt n 4 then bif Nat.blt n 2 then mby_0_0_0 n else mby_0_0_1 n else bif Nat.blt n 6 then mby_0_0_2 n else bif Nat.blt n 8 then mby_0_0_3 n else mby_0_0_4 n
def mby_0_1_0 (n : Nat) : ByteArray := bif Nat.blt n 11 then prog_7_method_1_code else prog_18_method_1_code
def mby_0_1_1 (n : Nat) : ByteArray := bif Nat.blt n 13 then prog_5_method_1_code else prog_4_method_1_code
def mby_0_1_2 (n : Nat) : ByteArray := bif Nat.blt n 15 then prog_8_method_1_code else prog_11_method_1_code
def mby_0_1_3 (n : Nat) : ByteArray := bif Nat.blt n 17 then prog_3_method_1_code else prog_32_method_1_code
def mby_0_1_4 (n : Nat) : ByteArray := bif Nat.blt n 19 then prog_1_method_84_code else prog_15_method_62_code
def mby_0_1 (n : Nat) : ByteArray := bif Nat.blt n 14 then bif Nat.blt n 12 then mby_0_1_0 n else mby_0_1_1 n else bif Nat.blt n 16 then mby_0_1_2 n else bif Nat.blt n 18 then mby_0_1_3 n else mby_0_1_4 n
def mby_0_2_0 (n : Nat) : ByteArray := bif Nat.blt n 21 then prog_13_method_2_code else prog_32_method_224_code
def mby_0_2_1 (n : Nat) : ByteArray := bif Nat.blt n 23 then prog_1_method_15_code else prog_19_method_2_code
def mby_0_2_2 (n : Nat) : ByteArray := bif Nat.blt n 25 then prog_15_method_93_code else prog_32_method_181_code
def mby_0_2_3 (n : Nat) : ByteArray := bif Nat.blt n 27 then method_69_code else prog_1_method_14_code
def mby_0_2_4 (n : Nat) : ByteArray := bif Nat.blt n 29 then prog_1_method_5_code else prog_1_method_1_code
def mby_0_2 (n : Nat) : ByteArray := bif Nat.blt n 24 then bif Nat.blt n 22 then mby_0_2_0 n else mby_0_2_1 n else bif Nat.blt n 26 then mby_0_2_2 n else bif Nat.blt n 28 then mby_0_2_3 n else mby_0_2_4 n
def mby_0_3_0 (n : Nat) : ByteArray := bif Nat.blt n 31 then prog_1_method_4_code else prog_19_method_6_code
def mby_0_3_1 (n : Nat) : ByteArray := bif Nat.blt n 33 then prog_1_method_9_code else prog_1_method_12_code
def mby_0_3_2 (n : Nat) : ByteArray := bif Nat.blt n 35 then prog_19_method_4_code else prog_19_method_5_code
def mby_0_3_3 (n : Nat) : ByteArray := bif Nat.blt n 37 then prog_15_method_82_code else prog_11_method_3_code
def mby_0_3_4 (n : Nat) : ByteArray := bif Nat.blt n 39 then prog_11_method_2_code else prog_15_method_70_code
def mby_0_3 (n : Nat) : ByteArray := bif Nat.blt n 34 then bif Nat.blt n 32 then mby_0_3_0 n else mby_0_3_1 n else bif Nat.blt n 36 then mby_0_3_2 n else bif Nat.blt n 38 then mby_0_3_3 n else mby_0_3_4 n
def mby_0_4_0 (n : Nat) : ByteArray := bif Nat.blt n 41 then prog_15_method_7_code else prog_1_method_3_code
def mby_0_4_1 (n : Nat) : ByteArray := bif Nat.blt n 43 then prog_15_method_6_code else prog_15_method_58_code
def mby_0_4_2 (n : Nat) : ByteArray := bif Nat.blt n 45 then prog_15_method_41_code else prog_15_method_10_code
def mby_0_4_3 (n : Nat) : ByteArray := bif Nat.blt n 47 then prog_21_method_2_code else prog_1_method_2_code
def mby_0_4_4 (n : Nat) : ByteArray := bif Nat.blt n 49 then prog_15_method_33_code else prog_17_method_1_code
def mby_0_4 (n : Nat) : ByteArray := bif Nat.blt n 44 then bif Nat.blt n 42 then mby_0_4_0 n else mby_0_4_1 n else bif Nat.blt n 46 then mby_0_4_2 n else bif Nat.blt n 48 then mby_0_4_3 n else mby_0_4_4 n
def mby_0_5_0 (n : Nat) : ByteArray := bif Nat.blt n 51 then prog_15_method_26_code else prog_15_method_9_code
def mby_0_5_1 (n : Nat) : ByteArray := bif Nat.blt n 53 then prog_15_method_8_code else prog_15_method_20_code
def mby_0_5_2 (n : Nat) : ByteArray := bif Nat.blt n 55 then prog_20_method_2_code else prog_24_method_3_code
def mby_0_5_3 (n : Nat) : ByteArray := bif Nat.blt n 57 then prog_15_method_21_code else prog_6_method_2_code
def mby_0_5_4 (n : Nat) : ByteArray := bif Nat.blt n 59 then prog_10_method_1_code else prog_20_method_4_code
def mby_0_5 (n : Nat) : ByteArray := bif Nat.blt n 54 then bif Nat.blt n 52 then mby_0_5_0 n else mby_0_5_1 n else bif Nat.blt n 56 then mby_0_5_2 n else bif Nat.blt n 58 then mby_0_5_3 n else mby_0_5_4 n
def mby_0_6_0 (n : Nat) : ByteArray := bif Nat.blt n 61 then prog_24_method_1_code else prog_15_method_19_code
def mby_0_6_1 (n : Nat) : ByteArray := bif Nat.blt n 63 then prog_15_method_18_code else prog_11_method_4_code
def mby_0_6_2 (n : Nat) : ByteArray := bif Nat.blt n 65 then prog_7_method_2_code else prog_15_method_25_code
def mby_0_6_3 (n : Nat) : ByteArray := bif Nat.blt n 67 then prog_6_method_4_code else prog_15_method_24_code
def mby_0_6_4 (n : Nat) : ByteArray := bif Nat.blt n 69 then prog_15_method_22_code else prog_15_method_23_code
def mby_0_6 (n : Nat) : ByteArray := bif Nat.blt n 64 then bif Nat.blt n 62 then mby_0_6_0 n else mby_0_6_1 n else bif Nat.blt n 66 then mby_0_6_2 n else bif Nat.blt n 68 then mby_0_6_3 n else mby_0_6_4 n
def mby_0_7_0 (n : Nat) : ByteArray := bif Nat.blt n 71 then prog_20_method_1_code else prog_15_method_15_code
def mby_0_7_1 (n : Nat) : ByteArray := bif Nat.blt n 73 then prog_15_method_2_code else prog_27_method_2_code
def mby_0_7_2 (n : Nat) : ByteArray := bif Nat.blt n 75 then prog_1_method_10_code else prog_15_method_60_code
def mby_0_7_3 (n : Nat) : ByteArray := bif Nat.blt n 77 then prog_7_method_4_code else prog_7_method_3_code
def mby_0_7_4 (n : Nat) : ByteArray := prog_15_method_56_code
def mby_0_7 (n : Nat) : ByteArray := bif Nat.blt n 74 then bif Nat.blt n 72 then mby_0_7_0 n else mby_0_7_1 n else bif Nat.blt n 76 then mby_0_7_2 n else bif Nat.blt n 78 then mby_0_7_3 n else mby_0_7_4 n
def mby_0 (n : Nat) : ByteArray := bif Nat.blt n 40 then bif Nat.blt n 20 then bif Nat.blt n 10 then mby_0_0 n else mby_0_1 n else bif Nat.blt n 30 then mby_0_2 n else mby_0_3 n else bif Nat.blt n 60 then bif Nat.blt n 50 then mby_0_4 n else mby_0_5 n else bif Nat.blt n 70 then mby_0_6 n else mby_0_7 n
def mby_1_0_0 (n : Nat) : ByteArray := bif Nat.blt n 80 then prog_15_method_55_code else prog_15_method_12_code
def mby_1_0_1 (n : Nat) : ByteArray := bif Nat.blt n 82 then prog_13_method_12_code else prog_25_method_3_code
def mby_1_0_2 (n : Nat) : ByteArray := bif Nat.blt n 84 then prog_12_method_5_code else prog_12_method_7_code
def mby_1_0_3 (n : Nat) : ByteArray := bif Nat.blt n 86 then prog_25_method_2_code else prog_12_method_2_code
def mby_1_0_4 (n : Nat) : ByteArray := bif Nat.blt n 88 then prog_12_method_4_code else prog_13_method_16_code
def mby_1_0 (n : Nat) : ByteArray := bif Nat.blt n 83 then bif Nat.blt n 81 then mby_1_0_0 n else mby_1_0_1 n else bif Nat.blt n 85 then mby_1_0_2 n else bif Nat.blt n 87 then mby_1_0_3 n else mby_1_0_4 n
def mby_1_1_0 (n : Nat) : ByteArray := bif Nat.blt n 90 then prog_13_method_4_code else prog_13_method_13_code
def mby_1_1_1 (n : Nat) : ByteArray := bif Nat.blt n 92 then prog_12_method_3_code else prog_12_method_8_code
def mby_1_1_2 (n : Nat) : ByteArray := bif Nat.blt n 94 then prog_12_method_6_code else prog_15_method_54_code
def mby_1_1_3 (n : Nat) : ByteArray := bif Nat.blt n 96 then prog_25_method_1_code else prog_15_method_53_code
def mby_1_1_4 (n : Nat) : ByteArray := bif Nat.blt n 98 then prog_15_method_52_code else prog_15_method_11_code
def mby_1_1 (n : Nat) : ByteArray := bif Nat.blt n 93 then bif Nat.blt n 91 then mby_1_1_0 n else mby_1_1_1 n else bif Nat.blt n 95 then mby_1_1_2 n else bif Nat.blt n 97 then mby_1_1_3 n else mby_1_1_4 n
def mby_1_2_0 (n : Nat) : ByteArray := bif Nat.blt n 100 then prog_8_method_8_code else prog_21_method_4_code
def mby_1_2_1 (n : Nat) : ByteArray := bif Nat.blt n 102 then prog_23_method_2_code else prog_8_method_7_code
def mby_1_2_2 (n : Nat) : ByteArray := bif Nat.blt n 104 then prog_15_method_51_code else prog_15_method_50_code
def mby_1_2_3 (n : Nat) : ByteArray := bif Nat.blt n 106 then prog_28_method_1_code else prog_15_method_48_code
def mby_1_2_4 (n : Nat) : ByteArray := bif Nat.blt n 108 then prog_22_method_3_code else prog_22_method_4_code
def mby_1_2 (n : Nat) : ByteArray := bif Nat.blt n 103 then bif Nat.blt n 101 then mby_1_2_0 n else mby_1_2_1 n else bif Nat.blt n 105 then mby_1_2_2 n else bif Nat.blt n 107 then mby_1_2_3 n else mby_1_2_4 n
def mby_1_3_0 (n : Nat) : ByteArray := bif Nat.blt n 110 then prog_16_method_2_code else prog_22_method_8_code
def mby_1_3_1 (n : Nat) : ByteArray := bif Nat.blt n 112 then prog_22_method_7_code else prog_37_method_70_code
def mby_1_3_2 (n : Nat) : ByteArray := bif Nat.blt n 114 then prog_22_method_9_code else prog_22_method_5_code
def mby_1_3_3 (n : Nat) : ByteArray := bif Nat.blt n 116 then prog_22_method_6_code else prog_22_method_2_code
def mby_1_3_4 (n : Nat) : ByteArray := bif Nat.blt n 118 then prog_15_method_47_code else prog_16_method_1_code
def mby_1_3 (n : Nat) : ByteArray := bif Nat.blt n 113 then bif Nat.blt n 111 then mby_1_3_0 n else mby_1_3_1 n else bif Nat.blt n 115 then mby_1_3_2 n else bif Nat.blt n 117 then mby_1_3_3 n else mby_1_3_4 n
def mby_1_4_0 (n : Nat) : ByteArray := bif Nat.blt n 120 then prog_15_method_46_code else prog_21_method_3_code
def mby_1_4_1 (n : Nat) : ByteArray := bif Nat.blt n 122 then prog_15_method_38_code else prog_15_method_40_code
def mby_1_4_2 (n : Nat) : ByteArray := bif Nat.blt n 124 then prog_15_method_36_code else prog_15_method_34_code
def mby_1_4_3 (n : Nat) : ByteArray := bif Nat.blt n 126 then prog_15_method_35_code else prog_15_method_37_code
def mby_1_4_4 (n : Nat) : ByteArray := bif Nat.blt n 128 then prog_23_method_1_code else prog_15_method_32_code
def mby_1_4 (n : Nat) : ByteArray := bif Nat.blt n 123 then bif Nat.blt n 121 then mby_1_4_0 n else mby_1_4_1 n else bif Nat.blt n 125 then mby_1_4_2 n else bif Nat.blt n 127 then mby_1_4_3 n else mby_1_4_4 n
def mby_1_5_0 (n : Nat) : ByteArray := bif Nat.blt n 130 then prog_21_method_1_code else prog_15_method_29_code
def mby_1_5_1 (n : Nat) : ByteArray := bif Nat.blt n 132 then prog_15_method_17_code else prog_15_method_5_code
def mby_1_5_2 (n : Nat) : ByteArray := bif Nat.blt n 134 then prog_13_method_9_code else prog_13_method_6_code
def mby_1_5_3 (n : Nat) : ByteArray := bif Nat.blt n 136 then prog_13_method_7_code else prog_13_method_14_code
def mby_1_5_4 (n : Nat) : ByteArray := bif Nat.blt n 138 then prog_27_method_4_code else prog_13_method_5_code
def mby_1_5 (n : Nat) : ByteArray := bif Nat.blt n 133 then bif Nat.blt n 131 then mby_1_5_0 n else mby_1_5_1 n else bif Nat.blt n 135 then mby_1_5_2 n else bif Nat.blt n 137 then mby_1_5_3 n else mby_1_5_4 n
def mby_1_6_0 (n : Nat) : ByteArray := bif Nat.blt n 140 then prog_27_method_3_code else prog_13_method_3_code
def mby_1_6_1 (n : Nat) : ByteArray := bif Nat.blt n 142 then prog_13_method_8_code else prog_13_method_10_code
def mby_1_6_2 (n : Nat) : ByteArray := bif Nat.blt n 144 then prog_13_method_15_code else prog_6_method_1_code
def mby_1_6_3 (n : Nat) : ByteArray := bif Nat.blt n 146 then prog_13_method_17_code else prog_13_method_11_code
def mby_1_6_4 (n : Nat) : ByteArray := bif Nat.blt n 148 then prog_15_method_4_code else prog_9_method_16_code
def mby_1_6 (n : Nat) : ByteArray := bif Nat.blt n 143 then bif Nat.blt n 141 then mby_1_6_0 n else mby_1_6_1 n else bif Nat.blt n 145 then mby_1_6_2 n else bif Nat.blt n 147 then mby_1_6_3 n else mby_1_6_4 n
def mby_1_7_0 (n : Nat) : ByteArray := bif Nat.blt n 150 then prog_9_method_14_code else prog_9_method_5_code
def mby_1_7_1 (n : Nat) : ByteArray := bif Nat.blt n 152 then prog_9_method_4_code else prog_27_method_5_code
def mby_1_7_2 (n : Nat) : ByteArray := bif Nat.blt n 154 then prog_27_method_6_code else prog_9_method_3_code
def mby_1_7_3 (n : Nat) : ByteArray := bif Nat.blt n 156 then prog_9_method_2_code else prog_9_method_15_code
def mby_1_7_4 (n : Nat) : ByteArray := prog_14_method_1_code
def mby_1_7 (n : Nat) : ByteArray := bif Nat.blt n 153 then bif Nat.blt n 151 then mby_1_7_0 n else mby_1_7_1 n else bif Nat.blt n 155 then mby_1_7_2 n else bif Nat.blt n 157 then mby_1_7_3 n else mby_1_7_4 n
def mby_1 (n : Nat) : ByteArray := bif Nat.blt n 119 then bif Nat.blt n 99 then bif Nat.blt n 89 then mby_1_0 n else mby_1_1 n else bif Nat.blt n 109 then mby_1_2 n else mby_1_3 n else bif Nat.blt n 139 then bif Nat.blt n 129 then mby_1_4 n else mby_1_5 n else bif Nat.blt n 149 then mby_1_6 n else mby_1_7 n
def mby_2_0_0 (n : Nat) : ByteArray := bif Nat.blt n 159 then prog_15_method_3_code else prog_1_method_11_code
def mby_2_0_1 (n : Nat) : ByteArray := bif Nat.blt n 161 then prog_15_method_89_code else prog_15_method_87_code
def mby_2_0_2 (n : Nat) : ByteArray := bif Nat.blt n 163 then prog_2_method_2_code else prog_37_method_59_code
def mby_2_0_3 (n : Nat) : ByteArray := bif Nat.blt n 165 then prog_15_method_88_code else prog_15_method_86_code
def mby_2_0_4 (n : Nat) : ByteArray := bif Nat.blt n 167 then prog_3_method_5_code else prog_3_method_4_code
def mby_2_0 (n : Nat) : ByteArray := bif Nat.blt n 162 then bif Nat.blt n 160 then mby_2_0_0 n else mby_2_0_1 n else bif Nat.blt n 164 then mby_2_0_2 n else bif Nat.blt n 166 then mby_2_0_3 n else mby_2_0_4 n
def mby_2_1_0 (n : Nat) : ByteArray := bif Nat.blt n 169 then prog_3_method_3_code else prog_3_method_2_code
def mby_2_1_1 (n : Nat) : ByteArray := bif Nat.blt n 171 then prog_9_method_13_code else prog_2_method_1_code
def mby_2_1_2 (n : Nat) : ByteArray := bif Nat.blt n 173 then prog_15_method_85_code else prog_7_method_6_code
def mby_2_1_3 (n : Nat) : ByteArray := bif Nat.blt n 175 then prog_7_method_5_code else prog_15_method_79_code
def mby_2_1_4 (n : Nat) : ByteArray := bif Nat.blt n 177 then prog_8_method_6_code else prog_8_method_5_code
def mby_2_1 (n : Nat) : ByteArray := bif Nat.blt n 172 then bif Nat.blt n 170 then mby_2_1_0 n else mby_2_1_1 n else bif Nat.blt n 174 then mby_2_1_2 n else bif Nat.blt n 176 then mby_2_1_3 n else mby_2_1_4 n
def mby_2_2_0 (n : Nat) : ByteArray := bif Nat.blt n 179 then prog_8_method_3_code else prog_8_method_2_code
def mby_2_2_1 (n : Nat) : ByteArray := bif Nat.blt n 181 then prog_8_method_4_code else prog_15_method_39_code
def mby_2_2_2 (n : Nat) : ByteArray := bif Nat.blt n 183 then prog_15_method_72_code else prog_15_method_73_code
def mby_2_2_3 (n : Nat) : ByteArray := bif Nat.blt n 185 then prog_15_method_75_code else prog_15_method_74_code
def mby_2_2_4 (n : Nat) : ByteArray := bif Nat.blt n 187 then prog_20_method_3_code else prog_37_method_69_code
def mby_2_2 (n : Nat) : ByteArray := bif Nat.blt n 182 then bif Nat.blt n 180 then mby_2_2_0 n else mby_2_2_1 n else bif Nat.blt n 184 then mby_2_2_2 n else bif Nat.blt n 186 then mby_2_2_3 n else mby_2_2_4 n
def mby_2_3_0 (n : Nat) : ByteArray := bif Nat.blt n 189 then prog_6_method_3_code else prog_15_method_68_code
def mby_2_3_1 (n : Nat) : ByteArray := bif Nat.blt n 191 then prog_15_method_67_code else prog_18_method_2_code
def mby_2_3_2 (n : Nat) : ByteArray := bif Nat.blt n 193 then prog_18_method_3_code else prog_18_method_4_code
def mby_2_3_3 (n : Nat) : ByteArray := bif Nat.blt n 195 then prog_18_method_5_code else prog_18_method_10_code
def mby_2_3_4 (n : Nat) : ByteArray := bif Nat.blt n 197 then prog_18_method_8_code else prog_18_method_7_code
def mby_2_3 (n : Nat) : ByteArray := bif Nat.blt n 192 then bif Nat.blt n 190 then mby_2_3_0 n else mby_2_3_1 n else bif Nat.blt n 194 then mby_2_3_2 n else bif Nat.blt n 196 then mby_2_3_3 n else mby_2_3_4 n
def mby_2_4_0 (n : Nat) : ByteArray := bif Nat.blt n 199 then prog_18_method_6_code else prog_37_method_66_code
def mby_2_4_1 (n : Nat) : ByteArray := bif Nat.blt n 201 then prog_18_method_9_code else prog_18_method_11_code
def mby_2_4_2 (n : Nat) : ByteArray := bif Nat.blt n 203 then prog_15_method_66_code else prog_9_method_6_code
def mby_2_4_3 (n : Nat) : ByteArray := bif Nat.blt n 205 then prog_9_method_7_code else prog_9_method_8_code
def mby_2_4_4 (n : Nat) : ByteArray := bif Nat.blt n 207 then prog_15_method_65_code else prog_15_method_63_code
def mby_2_4 (n : Nat) : ByteArray := bif Nat.blt n 202 then bif Nat.blt n 200 then mby_2_4_0 n else mby_2_4_1 n else bif Nat.blt n 204 then mby_2_4_2 n else bif Nat.blt n 206 then mby_2_4_3 n else mby_2_4_4 n
def mby_2_5_0 (n : Nat) : ByteArray := bif Nat.blt n 209 then prog_9_method_9_code else prog_9_method_12_code
def mby_2_5_1 (n : Nat) : ByteArray := bif Nat.blt n 211 then prog_9_method_10_code else prog_9_method_11_code
def mby_2_5_2 (n : Nat) : ByteArray := bif Nat.blt n 213 then prog_15_method_81_code else prog_37_method_65_code
def mby_2_5_3 (n : Nat) : ByteArray := bif Nat.blt n 215 then prog_32_method_180_code else prog_32_method_3_code
def mby_2_5_4 (n : Nat) : ByteArray := bif Nat.blt n 217 then prog_32_method_179_code else prog_32_method_174_code
def mby_2_5 (n : Nat) : ByteArray := bif Nat.blt n 212 then bif Nat.blt n 210 then mby_2_5_0 n else mby_2_5_1 n else bif Nat.blt n 214 then mby_2_5_2 n else bif Nat.blt n 216 then mby_2_5_3 n else mby_2_5_4 n
def mby_2_6_0 (n : Nat) : ByteArray := bif Nat.blt n 219 then prog_32_method_178_code else prog_32_method_182_code
def mby_2_6_1 (n : Nat) : ByteArray := bif Nat.blt n 221 then prog_32_method_99_code else prog_32_method_97_code
def mby_2_6_2 (n : Nat) : ByteArray := bif Nat.blt n 223 then prog_32_method_160_code else prog_32_method_70_code
def mby_2_6_3 (n : Nat) : ByteArray := bif Nat.blt n 225 then prog_32_method_115_code else prog_32_method_98_code
def mby_2_6_4 (n : Nat) : ByteArray := bif Nat.blt n 227 then prog_32_method_56_code else prog_32_method_96_code
def mby_2_6 (n : Nat) : ByteArray := bif Nat.blt n 222 then bif Nat.blt n 220 then mby_2_6_0 n else mby_2_6_1 n else bif Nat.blt n 224 then mby_2_6_2 n else bif Nat.blt n 226 then mby_2_6_3 n else mby_2_6_4 n
def mby_2_7_0 (n : Nat) : ByteArray := bif Nat.blt n 229 then prog_32_method_94_code else prog_32_method_87_code
def mby_2_7_1 (n : Nat) : ByteArray := bif Nat.blt n 231 then prog_32_method_86_code else prog_32_method_93_code
def mby_2_7_2 (n : Nat) : ByteArray := bif Nat.blt n 233 then prog_32_method_92_code else prog_32_method_88_code
def mby_2_7_3 (n : Nat) : ByteArray := bif Nat.blt n 235 then prog_32_method_90_code else prog_32_method_89_code
def mby_2_7_4 (n : Nat) : ByteArray := prog_32_method_91_code
def mby_2_7 (n : Nat) : ByteArray := bif Nat.blt n 232 then bif Nat.blt n 230 then mby_2_7_0 n else mby_2_7_1 n else bif Nat.blt n 234 then mby_2_7_2 n else bif Nat.blt n 236 then mby_2_7_3 n else mby_2_7_4 n
def mby_2 (n : Nat) : ByteArray := bif Nat.blt n 198 then bif Nat.blt n 178 then bif Nat.blt n 168 then mby_2_0 n else mby_2_1 n else bif Nat.blt n 188 then mby_2_2 n else mby_2_3 n else bif Nat.blt n 218 then bif Nat.blt n 208 then mby_2_4 n else mby_2_5 n else bif Nat.blt n 228 then mby_2_6 n else mby_2_7 n
def mby_3_0_0 (n : Nat) : ByteArray := bif Nat.blt n 238 then prog_32_method_85_code else prog_32_method_84_code
def mby_3_0_1 (n : Nat) : ByteArray := bif Nat.blt n 240 then prog_32_method_41_code else prog_32_method_40_code
def mby_3_0_2 (n : Nat) : ByteArray := bif Nat.blt n 242 then prog_32_method_117_code else prog_32_method_67_code
def mby_3_0_3 (n : Nat) : ByteArray := bif Nat.blt n 244 then prog_32_method_65_code else prog_32_method_66_code
def mby_3_0_4 (n : Nat) : ByteArray := bif Nat.blt n 246 then prog_32_method_64_code else prog_32_method_60_code
def mby_3_0 (n : Nat) : ByteArray := bif Nat.blt n 241 then bif Nat.blt n 239 then mby_3_0_0 n else mby_3_0_1 n else bif Nat.blt n 243 then mby_3_0_2 n else bif Nat.blt n 245 then mby_3_0_3 n else mby_3_0_4 n
def mby_3_1_0 (n : Nat) : ByteArray := bif Nat.blt n 248 then prog_32_method_63_code else prog_32_method_62_code
def mby_3_1_1 (n : Nat) : ByteArray := bif Nat.blt n 250 then prog_32_method_59_code else prog_32_method_61_code
def mby_3_1_2 (n : Nat) : ByteArray := bif Nat.blt n 252 then prog_32_method_58_code else prog_32_method_18_code
def mby_3_1_3 (n : Nat) : ByteArray := bif Nat.blt n 254 then prog_32_method_57_code else prog_32_method_53_code
def mby_3_1_4 (n : Nat) : ByteArray := bif Nat.blt n 256 then prog_32_method_38_code else prog_32_method_39_code
def mby_3_1 (n : Nat) : ByteArray := bif Nat.blt n 251 then bif Nat.blt n 249 then mby_3_1_0 n else mby_3_1_1 n else bif Nat.blt n 253 then mby_3_1_2 n else bif Nat.blt n 255 then mby_3_1_3 n else mby_3_1_4 n
def mby_3_2_0 (n : Nat) : ByteArray := bif Nat.blt n 258 then prog_32_method_45_code else prog_32_method_46_code
def mby_3_2_1 (n : Nat) : ByteArray := bif Nat.blt n 260 then prog_32_method_52_code else prog_32_method_34_code
def mby_3_2_2 (n : Nat) : ByteArray := bif Nat.blt n 262 then prog_32_method_49_code else prog_32_method_48_code
def mby_3_2_3 (n : Nat) : ByteArray := bif Nat.blt n 264 then prog_32_method_47_code else prog_32_method_44_code
def mby_3_2_4 (n : Nat) : ByteArray := bif Nat.blt n 266 then prog_32_method_42_code else prog_32_method_43_code
def mby_3_2 (n : Nat) : ByteArray := bif Nat.blt n 261 then bif Nat.blt n 259 then mby_3_2_0 n else mby_3_2_1 n else bif Nat.blt n 263 then mby_3_2_2 n else bif Nat.blt n 265 then mby_3_2_3 n else mby_3_2_4 n
def mby_3_3_0 (n : Nat) : ByteArray := bif Nat.blt n 268 then prog_32_method_37_code else prog_32_method_36_code
def mby_3_3_1 (n : Nat) : ByteArray := bif Nat.blt n 270 then prog_32_method_33_code else prog_32_method_27_code
def mby_3_3_2 (n : Nat) : ByteArray := bif Nat.blt n 272 then prog_32_method_26_code else prog_32_method_21_code
def mby_3_3_3 (n : Nat) : ByteArray := bif Nat.blt n 274 then prog_32_method_7_code else prog_32_method_8_code
def mby_3_3_4 (n : Nat) : ByteArray := bif Nat.blt n 276 then prog_32_method_20_code else prog_32_method_24_code
def mby_3_3 (n : Nat) : ByteArray := bif Nat.blt n 271 then bif Nat.blt n 269 then mby_3_3_0 n else mby_3_3_1 n else bif Nat.blt n 273 then mby_3_3_2 n else bif Nat.blt n 275 then mby_3_3_3 n else mby_3_3_4 n
def mby_3_4_0 (n : Nat) : ByteArray := bif Nat.blt n 278 then prog_32_method_23_code else prog_32_method_22_code
def mby_3_4_1 (n : Nat) : ByteArray := bif Nat.blt n 280 then prog_32_method_25_code else prog_32_method_30_code
def mby_3_4_2 (n : Nat) : ByteArray := bif Nat.blt n 282 then prog_32_method_29_code else prog_32_method_28_code
def mby_3_4_3 (n : Nat) : ByteArray := bif Nat.blt n 284 then prog_32_method_17_code else prog_32_method_16_code
def mby_3_4_4 (n : Nat) : ByteArray := bif Nat.blt n 286 then prog_32_method_15_code else prog_32_method_9_code
def mby_3_4 (n : Nat) : ByteArray := bif Nat.blt n 281 then bif Nat.blt n 279 then mby_3_4_0 n else mby_3_4_1 n else bif Nat.blt n 283 then mby_3_4_2 n else bif Nat.blt n 285 then mby_3_4_3 n else mby_3_4_4 n
def mby_3_5_0 (n : Nat) : ByteArray := bif Nat.blt n 288 then prog_32_method_11_code else prog_32_method_10_code
def mby_3_5_1 (n : Nat) : ByteArray := bif Nat.blt n 290 then prog_32_method_12_code else prog_32_method_14_code
def mby_3_5_2 (n : Nat) : ByteArray := bif Nat.blt n 292 then prog_32_method_13_code else prog_32_method_6_code
def mby_3_5_3 (n : Nat) : ByteArray := bif Nat.blt n 294 then prog_32_method_4_code else prog_32_method_5_code
def mby_3_5_4 (n : Nat) : ByteArray := bif Nat.blt n 296 then prog_32_method_183_code else prog_32_method_169_code
def mby_3_5 (n : Nat) : ByteArray := bif Nat.blt n 291 then bif Nat.blt n 289 then mby_3_5_0 n else mby_3_5_1 n else bif Nat.blt n 293 then mby_3_5_2 n else bif Nat.blt n 295 then mby_3_5_3 n else mby_3_5_4 n
def mby_3_6_0 (n : Nat) : ByteArray := bif Nat.blt n 298 then prog_32_method_167_code else prog_32_method_168_code
def mby_3_6_1 (n : Nat) : ByteArray := bif Nat.blt n 300 then prog_32_method_166_code else prog_32_method_165_code
def mby_3_6_2 (n : Nat) : ByteArray := bif Nat.blt n 302 then prog_32_method_164_code else prog_32_method_163_code
def mby_3_6_3 (n : Nat) : ByteArray := bif Nat.blt n 304 then prog_32_method_123_code else prog_32_method_120_code
def mby_3_6_4 (n : Nat) : ByteArray := bif Nat.blt n 306 then prog_32_method_121_code else prog_32_method_116_code
def mby_3_6 (n : Nat) : ByteArray := bif Nat.blt n 301 then bif Nat.blt n 299 then mby_3_6_0 n else mby_3_6_1 n else bif Nat.blt n 303 then mby_3_6_2 n else bif Nat.blt n 305 then mby_3_6_3 n else mby_3_6_4 n
def mby_3_7_0 (n : Nat) : ByteArray := bif Nat.blt n 308 then prog_32_method_118_code else prog_32_method_159_code
def mby_3_7_1 (n : Nat) : ByteArray := bif Nat.blt n 310 then prog_32_method_158_code else prog_32_method_154_code
def mby_3_7_2 (n : Nat) : ByteArray := bif Nat.blt n 312 then prog_32_method_156_code else prog_32_method_155_code
def mby_3_7_3 (n : Nat) : ByteArray := bif Nat.blt n 314 then prog_32_method_157_code else prog_32_method_146_code
def mby_3_7_4 (n : Nat) : ByteArray := prog_32_method_145_code
def mby_3_7 (n : Nat) : ByteArray := bif Nat.blt n 311 then bif Nat.blt n 309 then mby_3_7_0 n else mby_3_7_1 n else bif Nat.blt n 313 then mby_3_7_2 n else bif Nat.blt n 315 then mby_3_7_3 n else mby_3_7_4 n
def mby_3 (n : Nat) : ByteArray := bif Nat.blt n 277 then bif Nat.blt n 257 then bif Nat.blt n 247 then mby_3_0 n else mby_3_1 n else bif Nat.blt n 267 then mby_3_2 n else mby_3_3 n else bif Nat.blt n 297 then bif Nat.blt n 287 then mby_3_4 n else mby_3_5 n else bif Nat.blt n 307 then mby_3_6 n else mby_3_7 n
def mby_4_0_0 (n : Nat) : ByteArray := bif Nat.blt n 317 then prog_32_method_143_code else prog_32_method_144_code
def mby_4_0_1 (n : Nat) : ByteArray := bif Nat.blt n 319 then prog_32_method_141_code else prog_32_method_139_code
def mby_4_0_2 (n : Nat) : ByteArray := bif Nat.blt n 321 then prog_32_method_131_code else prog_32_method_132_code
def mby_4_0_3 (n : Nat) : ByteArray := bif Nat.blt n 323 then prog_32_method_133_code else prog_32_method_134_code
def mby_4_0_4 (n : Nat) : ByteArray := bif Nat.blt n 325 then prog_32_method_138_code else prog_32_method_135_code
def mby_4_0 (n : Nat) : ByteArray := bif Nat.blt n 320 then bif Nat.blt n 318 then mby_4_0_0 n else mby_4_0_1 n else bif Nat.blt n 322 then mby_4_0_2 n else bif Nat.blt n 324 then mby_4_0_3 n else mby_4_0_4 n
def mby_4_1_0 (n : Nat) : ByteArray := bif Nat.blt n 327 then prog_32_method_136_code else prog_32_method_137_code
def mby_4_1_1 (n : Nat) : ByteArray := bif Nat.blt n 329 then prog_32_method_130_code else prog_32_method_129_code
def mby_4_1_2 (n : Nat) : ByteArray := bif Nat.blt n 331 then prog_32_method_128_code else prog_32_method_126_code
def mby_4_1_3 (n : Nat) : ByteArray := bif Nat.blt n 333 then prog_32_method_124_code else prog_32_method_125_code
def mby_4_1_4 (n : Nat) : ByteArray := bif Nat.blt n 335 then prog_32_method_113_code else prog_32_method_111_code
def mby_4_1 (n : Nat) : ByteArray := bif Nat.blt n 330 then bif Nat.blt n 328 then mby_4_1_0 n else mby_4_1_1 n else bif Nat.blt n 332 then mby_4_1_2 n else bif Nat.blt n 334 then mby_4_1_3 n else mby_4_1_4 n
def mby_4_2_0 (n : Nat) : ByteArray := bif Nat.blt n 337 then prog_32_method_109_code else prog_32_method_108_code
def mby_4_2_1 (n : Nat) : ByteArray := bif Nat.blt n 339 then prog_32_method_107_code else prog_32_method_105_code
def mby_4_2_2 (n : Nat) : ByteArray := bif Nat.blt n 341 then prog_32_method_102_code else prog_32_method_101_code
def mby_4_2_3 (n : Nat) : ByteArray := bif Nat.blt n 343 then prog_32_method_104_code else prog_32_method_106_code
def mby_4_2_4 (n : Nat) : ByteArray := bif Nat.blt n 345 then prog_32_method_31_code else prog_32_method_103_code
def mby_4_2 (n : Nat) : ByteArray := bif Nat.blt n 340 then bif Nat.blt n 338 then mby_4_2_0 n else mby_4_2_1 n else bif Nat.blt n 342 then mby_4_2_2 n else bif Nat.blt n 344 then mby_4_2_3 n else mby_4_2_4 n
def mby_4_3_0 (n : Nat) : ByteArray := bif Nat.blt n 347 then prog_32_method_100_code else prog_32_method_69_code
def mby_4_3_1 (n : Nat) : ByteArray := bif Nat.blt n 349 then prog_32_method_162_code else prog_32_method_2_code
def mby_4_3_2 (n : Nat) : ByteArray := bif Nat.blt n 351 then prog_1_method_13_code else prog_32_method_177_code
def mby_4_3_3 (n : Nat) : ByteArray := bif Nat.blt n 353 then prog_1_method_83_code else prog_15_method_92_code
def mby_4_3_4 (n : Nat) : ByteArray := bif Nat.blt n 355 then prog_1_method_6_code else prog_1_method_7_code
def mby_4_3 (n : Nat) : ByteArray := bif Nat.blt n 350 then bif Nat.blt n 348 then mby_4_3_0 n else mby_4_3_1 n else bif Nat.blt n 352 then mby_4_3_2 n else bif Nat.blt n 354 then mby_4_3_3 n else mby_4_3_4 n
def mby_4_4_0 (n : Nat) : ByteArray := bif Nat.blt n 357 then prog_32_method_173_code else prog_32_method_171_code
def mby_4_4_1 (n : Nat) : ByteArray := bif Nat.blt n 359 then method_68_code else prog_1_method_82_code
def mby_4_4_2 (n : Nat) : ByteArray := bif Nat.blt n 361 then prog_15_method_91_code else prog_32_method_172_code
def mby_4_4_3 (n : Nat) : ByteArray := bif Nat.blt n 363 then method_67_code else prog_1_method_81_code
def mby_4_4_4 (n : Nat) : ByteArray := bif Nat.blt n 365 then prog_15_method_90_code else prog_32_method_170_code
def mby_4_4 (n : Nat) : ByteArray := bif Nat.blt n 360 then bif Nat.blt n 358 then mby_4_4_0 n else mby_4_4_1 n else bif Nat.blt n 362 then mby_4_4_2 n else bif Nat.blt n 364 then mby_4_4_3 n else mby_4_4_4 n
def mby_4_5_0 (n : Nat) : ByteArray := bif Nat.blt n 367 then method_66_code else prog_1_method_80_code
def mby_4_5_1 (n : Nat) : ByteArray := bif Nat.blt n 369 then prog_1_method_16_code else prog_19_method_3_code
def mby_4_5_2 (n : Nat) : ByteArray := bif Nat.blt n 371 then prog_32_method_222_code else prog_32_method_176_code
def mby_4_5_3 (n : Nat) : ByteArray := bif Nat.blt n 373 then prog_32_method_175_code else method_65_code
def mby_4_5_4 (n : Nat) : ByteArray := bif Nat.blt n 375 then prog_1_method_79_code else prog_32_method_221_code
def mby_4_5 (n : Nat) : ByteArray := bif Nat.blt n 370 then bif Nat.blt n 368 then mby_4_5_0 n else mby_4_5_1 n else bif Nat.blt n 372 then mby_4_5_2 n else bif Nat.blt n 374 then mby_4_5_3 n else mby_4_5_4 n
def mby_4_6_0 (n : Nat) : ByteArray := bif Nat.blt n 377 then method_64_code else prog_1_method_78_code
def mby_4_6_1 (n : Nat) : ByteArray := bif Nat.blt n 379 then prog_32_method_220_code else method_63_code
def mby_4_6_2 (n : Nat) : ByteArray := bif Nat.blt n 381 then prog_1_method_77_code else prog_32_method_219_code
def mby_4_6_3 (n : Nat) : ByteArray := bif Nat.blt n 383 then method_62_code else prog_1_method_76_code
def mby_4_6_4 (n : Nat) : ByteArray := bif Nat.blt n 385 then prog_15_method_84_code else prog_32_method_122_code
def mby_4_6 (n : Nat) : ByteArray := bif Nat.blt n 380 then bif Nat.blt n 378 then mby_4_6_0 n else mby_4_6_1 n else bif Nat.blt n 382 then mby_4_6_2 n else bif Nat.blt n 384 then mby_4_6_3 n else mby_4_6_4 n
def mby_4_7_0 (n : Nat) : ByteArray := bif Nat.blt n 387 then method_61_code else prog_1_method_75_code
def mby_4_7_1 (n : Nat) : ByteArray := bif Nat.blt n 389 then prog_15_method_83_code else prog_32_method_119_code
def mby_4_7_2 (n : Nat) : ByteArray := bif Nat.blt n 391 then method_60_code else prog_1_method_74_code
def mby_4_7_3 (n : Nat) : ByteArray := bif Nat.blt n 393 then prog_32_method_218_code else method_59_code
def mby_4_7_4 (n : Nat) : ByteArray := prog_1_method_73_code
def mby_4_7 (n : Nat) : ByteArray := bif Nat.blt n 390 then bif Nat.blt n 388 then mby_4_7_0 n else mby_4_7_1 n else bif Nat.blt n 392 then mby_4_7_2 n else bif Nat.blt n 394 then mby_4_7_3 n else mby_4_7_4 n
def mby_4 (n : Nat) : ByteArray := bif Nat.blt n 356 then bif Nat.blt n 336 then bif Nat.blt n 326 then mby_4_0 n else mby_4_1 n else bif Nat.blt n 346 then mby_4_2 n else mby_4_3 n else bif Nat.blt n 376 then bif Nat.blt n 366 then mby_4_4 n else mby_4_5 n else bif Nat.blt n 386 then mby_4_6 n else mby_4_7 n
def mby_5_0_0 (n : Nat) : ByteArray := bif Nat.blt n 396 then prog_32_method_223_code else method_58_code
def mby_5_0_1 (n : Nat) : ByteArray := bif Nat.blt n 398 then prog_1_method_72_code else prog_15_method_80_code
def mby_5_0_2 (n : Nat) : ByteArray := bif Nat.blt n 400 then prog_32_method_161_code else method_57_code
def mby_5_0_3 (n : Nat) : ByteArray := bif Nat.blt n 402 then prog_1_method_71_code else prog_32_method_217_code
def mby_5_0_4 (n : Nat) : ByteArray := bif Nat.blt n 404 then method_56_code else prog_1_method_70_code
def mby_5_0 (n : Nat) : ByteArray := bif Nat.blt n 399 then bif Nat.blt n 397 then mby_5_0_0 n else mby_5_0_1 n else bif Nat.blt n 401 then mby_5_0_2 n else bif Nat.blt n 403 then mby_5_0_3 n else mby_5_0_4 n
def mby_5_1_0 (n : Nat) : ByteArray := bif Nat.blt n 406 then prog_15_method_78_code else prog_5_method_10_code
def mby_5_1_1 (n : Nat) : ByteArray := bif Nat.blt n 408 then prog_32_method_153_code else method_55_code
def mby_5_1_2 (n : Nat) : ByteArray := bif Nat.blt n 410 then prog_1_method_69_code else prog_15_method_77_code
def mby_5_1_3 (n : Nat) : ByteArray := bif Nat.blt n 412 then prog_32_method_152_code else method_54_code
def mby_5_1_4 (n : Nat) : ByteArray := bif Nat.blt n 414 then prog_1_method_68_code else prog_15_method_76_code
def mby_5_1 (n : Nat) : ByteArray := bif Nat.blt n 409 then bif Nat.blt n 407 then mby_5_1_0 n else mby_5_1_1 n else bif Nat.blt n 411 then mby_5_1_2 n else bif Nat.blt n 413 then mby_5_1_3 n else mby_5_1_4 n
def mby_5_2_0 (n : Nat) : ByteArray := bif Nat.blt n 416 then prog_5_method_2_code else prog_5_method_3_code
def mby_5_2_1 (n : Nat) : ByteArray := bif Nat.blt n 418 then prog_29_method_2_code else prog_29_method_5_code
def mby_5_2_2 (n : Nat) : ByteArray := bif Nat.blt n 420 then prog_29_method_12_code else prog_29_method_9_code
def mby_5_2_3 (n : Nat) : ByteArray := bif Nat.blt n 422 then prog_29_method_6_code else prog_29_method_8_code
def mby_5_2_4 (n : Nat) : ByteArray := bif Nat.blt n 424 then prog_29_method_7_code else prog_29_method_10_code
def mby_5_2 (n : Nat) : ByteArray := bif Nat.blt n 419 then bif Nat.blt n 417 then mby_5_2_0 n else mby_5_2_1 n else bif Nat.blt n 421 then mby_5_2_2 n else bif Nat.blt n 423 then mby_5_2_3 n else mby_5_2_4 n
def mby_5_3_0 (n : Nat) : ByteArray := bif Nat.blt n 426 then prog_29_method_11_code else prog_29_method_13_code
def mby_5_3_1 (n : Nat) : ByteArray := bif Nat.blt n 428 then prog_29_method_14_code else prog_29_method_15_code
def mby_5_3_2 (n : Nat) : ByteArray := bif Nat.blt n 430 then prog_29_method_16_code else prog_29_method_17_code
def mby_5_3_3 (n : Nat) : ByteArray := bif Nat.blt n 432 then prog_29_method_3_code else prog_4_method_2_code
def mby_5_3_4 (n : Nat) : ByteArray := bif Nat.blt n 434 then prog_5_method_7_code else prog_5_method_5_code
def mby_5_3 (n : Nat) : ByteArray := bif Nat.blt n 429 then bif Nat.blt n 427 then mby_5_3_0 n else mby_5_3_1 n else bif Nat.blt n 431 then mby_5_3_2 n else bif Nat.blt n 433 then mby_5_3_3 n else mby_5_3_4 n
def mby_5_4_0 (n : Nat) : ByteArray := bif Nat.blt n 436 then prog_5_method_4_code else prog_29_method_4_code
def mby_5_4_1 (n : Nat) : ByteArray := bif Nat.blt n 438 then prog_5_method_8_code else prog_5_method_6_code
def mby_5_4_2 (n : Nat) : ByteArray := bif Nat.blt n 440 then prog_4_method_3_code else prog_5_method_9_code
def mby_5_4_3 (n : Nat) : ByteArray := bif Nat.blt n 442 then prog_32_method_151_code else prog_32_method_147_code
def mby_5_4_4 (n : Nat) : ByteArray := bif Nat.blt n 444 then prog_32_method_72_code else prog_32_method_79_code
def mby_5_4 (n : Nat) : ByteArray := bif Nat.blt n 439 then bif Nat.blt n 437 then mby_5_4_0 n else mby_5_4_1 n else bif Nat.blt n 441 then mby_5_4_2 n else bif Nat.blt n 443 then mby_5_4_3 n else mby_5_4_4 n
def mby_5_5_0 (n : Nat) : ByteArray := bif Nat.blt n 446 then prog_32_method_75_code else prog_32_method_73_code
def mby_5_5_1 (n : Nat) : ByteArray := bif Nat.blt n 448 then prog_32_method_74_code else prog_32_method_76_code
def mby_5_5_2 (n : Nat) : ByteArray := bif Nat.blt n 450 then prog_32_method_77_code else prog_32_method_78_code
def mby_5_5_3 (n : Nat) : ByteArray := bif Nat.blt n 452 then prog_32_method_149_code else prog_32_method_148_code
def mby_5_5_4 (n : Nat) : ByteArray := bif Nat.blt n 454 then prog_32_method_150_code else method_53_code
def mby_5_5 (n : Nat) : ByteArray := bif Nat.blt n 449 then bif Nat.blt n 447 then mby_5_5_0 n else mby_5_5_1 n else bif Nat.blt n 451 then mby_5_5_2 n else bif Nat.blt n 453 then mby_5_5_3 n else mby_5_5_4 n
def mby_5_6_0 (n : Nat) : ByteArray := bif Nat.blt n 456 then prog_1_method_67_code else prog_32_method_216_code
def mby_5_6_1 (n : Nat) : ByteArray := bif Nat.blt n 458 then method_52_code else prog_1_method_66_code
def mby_5_6_2 (n : Nat) : ByteArray := bif Nat.blt n 460 then prog_32_method_215_code else method_51_code
def mby_5_6_3 (n : Nat) : ByteArray := bif Nat.blt n 462 then prog_1_method_65_code else prog_15_method_71_code
def mby_5_6_4 (n : Nat) : ByteArray := bif Nat.blt n 464 then prog_32_method_142_code else method_50_code
def mby_5_6 (n : Nat) : ByteArray := bif Nat.blt n 459 then bif Nat.blt n 457 then mby_5_6_0 n else mby_5_6_1 n else bif Nat.blt n 461 then mby_5_6_2 n else bif Nat.blt n 463 then mby_5_6_3 n else mby_5_6_4 n
def mby_5_7_0 (n : Nat) : ByteArray := bif Nat.blt n 466 then prog_1_method_64_code else prog_32_method_214_code
def mby_5_7_1 (n : Nat) : ByteArray := bif Nat.blt n 468 then method_49_code else prog_1_method_63_code
def mby_5_7_2 (n : Nat) : ByteArray := bif Nat.blt n 470 then prog_15_method_69_code else prog_32_method_140_code
def mby_5_7_3 (n : Nat) : ByteArray := bif Nat.blt n 472 then method_48_code else prog_1_method_62_code
def mby_5_7_4 (n : Nat) : ByteArray := prog_32_method_213_code
def mby_5_7 (n : Nat) : ByteArray := bif Nat.blt n 469 then bif Nat.blt n 467 then mby_5_7_0 n else mby_5_7_1 n else bif Nat.blt n 471 then mby_5_7_2 n else bif Nat.blt n 473 then mby_5_7_3 n else mby_5_7_4 n
def mby_5 (n : Nat) : ByteArray := bif Nat.blt n 435 then bif Nat.blt n 415 then bif Nat.blt n 405 then mby_5_0 n else mby_5_1 n else bif Nat.blt n 425 then mby_5_2 n else mby_5_3 n else bif Nat.blt n 455 then bif Nat.blt n 445 then mby_5_4 n else mby_5_5 n else bif Nat.blt n 465 then mby_5_6 n else mby_5_7 n
def mby_6_0_0 (n : Nat) : ByteArray := bif Nat.blt n 475 then method_47_code else prog_1_method_61_code
def mby_6_0_1 (n : Nat) : ByteArray := bif Nat.blt n 477 then prog_32_method_212_code else method_46_code
def mby_6_0_2 (n : Nat) : ByteArray := bif Nat.blt n 479 then prog_1_method_60_code else prog_32_method_211_code
def mby_6_0_3 (n : Nat) : ByteArray := bif Nat.blt n 481 then method_45_code else prog_1_method_59_code
def mby_6_0_4 (n : Nat) : ByteArray := bif Nat.blt n 483 then prog_15_method_64_code else prog_32_method_127_code
def mby_6_0 (n : Nat) : ByteArray := bif Nat.blt n 478 then bif Nat.blt n 476 then mby_6_0_0 n else mby_6_0_1 n else bif Nat.blt n 480 then mby_6_0_2 n else bif Nat.blt n 482 then mby_6_0_3 n else mby_6_0_4 n
def mby_6_1_0 (n : Nat) : ByteArray := bif Nat.blt n 485 then method_44_code else prog_1_method_58_code
def mby_6_1_1 (n : Nat) : ByteArray := bif Nat.blt n 487 then prog_32_method_210_code else method_43_code
def mby_6_1_2 (n : Nat) : ByteArray := bif Nat.blt n 489 then prog_1_method_57_code else prog_15_method_61_code
def mby_6_1_3 (n : Nat) : ByteArray := bif Nat.blt n 491 then prog_32_method_114_code else method_42_code
def mby_6_1_4 (n : Nat) : ByteArray := bif Nat.blt n 493 then prog_1_method_56_code else prog_32_method_209_code
def mby_6_1 (n : Nat) : ByteArray := bif Nat.blt n 488 then bif Nat.blt n 486 then mby_6_1_0 n else mby_6_1_1 n else bif Nat.blt n 490 then mby_6_1_2 n else bif Nat.blt n 492 then mby_6_1_3 n else mby_6_1_4 n
def mby_6_2_0 (n : Nat) : ByteArray := bif Nat.blt n 495 then method_41_code else prog_1_method_55_code
def mby_6_2_1 (n : Nat) : ByteArray := bif Nat.blt n 497 then prog_15_method_59_code else prog_32_method_112_code
def mby_6_2_2 (n : Nat) : ByteArray := bif Nat.blt n 499 then method_40_code else prog_1_method_54_code
def mby_6_2_3 (n : Nat) : ByteArray := bif Nat.blt n 501 then prog_32_method_208_code else method_39_code
def mby_6_2_4 (n : Nat) : ByteArray := bif Nat.blt n 503 then prog_1_method_53_code else prog_15_method_57_code
def mby_6_2 (n : Nat) : ByteArray := bif Nat.blt n 498 then bif Nat.blt n 496 then mby_6_2_0 n else mby_6_2_1 n else bif Nat.blt n 500 then mby_6_2_2 n else bif Nat.blt n 502 then mby_6_2_3 n else mby_6_2_4 n
def mby_6_3_0 (n : Nat) : ByteArray := bif Nat.blt n 505 then prog_32_method_110_code else method_38_code
def mby_6_3_1 (n : Nat) : ByteArray := bif Nat.blt n 507 then prog_1_method_52_code else prog_32_method_207_code
def mby_6_3_2 (n : Nat) : ByteArray := bif Nat.blt n 509 then method_37_code else prog_1_method_51_code
def mby_6_3_3 (n : Nat) : ByteArray := bif Nat.blt n 511 then prog_32_method_206_code else method_36_code
def mby_6_3_4 (n : Nat) : ByteArray := bif Nat.blt n 513 then prog_1_method_50_code else prog_32_method_205_code
def mby_6_3 (n : Nat) : ByteArray := bif Nat.blt n 508 then bif Nat.blt n 506 then mby_6_3_0 n else mby_6_3_1 n else bif Nat.blt n 510 then mby_6_3_2 n else bif Nat.blt n 512 then mby_6_3_3 n else mby_6_3_4 n
def mby_6_4_0 (n : Nat) : ByteArray := bif Nat.blt n 515 then method_35_code else prog_1_method_49_code
def mby_6_4_1 (n : Nat) : ByteArray := bif Nat.blt n 517 then prog_32_method_204_code else method_34_code
def mby_6_4_2 (n : Nat) : ByteArray := bif Nat.blt n 519 then prog_1_method_48_code else prog_32_method_203_code
def mby_6_4_3 (n : Nat) : ByteArray := bif Nat.blt n 521 then method_33_code else prog_1_method_47_code
def mby_6_4_4 (n : Nat) : ByteArray := bif Nat.blt n 523 then prog_32_method_202_code else method_32_code
def mby_6_4 (n : Nat) : ByteArray := bif Nat.blt n 518 then bif Nat.blt n 516 then mby_6_4_0 n else mby_6_4_1 n else bif Nat.blt n 520 then mby_6_4_2 n else bif Nat.blt n 522 then mby_6_4_3 n else mby_6_4_4 n
def mby_6_5_0 (n : Nat) : ByteArray := bif Nat.blt n 525 then prog_1_method_46_code else prog_32_method_201_code
def mby_6_5_1 (n : Nat) : ByteArray := bif Nat.blt n 527 then method_31_code else prog_1_method_45_code
def mby_6_5_2 (n : Nat) : ByteArray := bif Nat.blt n 529 then prog_15_method_49_code else prog_32_method_95_code
def mby_6_5_3 (n : Nat) : ByteArray := bif Nat.blt n 531 then method_30_code else prog_1_method_44_code
def mby_6_5_4 (n : Nat) : ByteArray := bif Nat.blt n 533 then prog_32_method_200_code else method_29_code
def mby_6_5 (n : Nat) : ByteArray := bif Nat.blt n 528 then bif Nat.blt n 526 then mby_6_5_0 n else mby_6_5_1 n else bif Nat.blt n 530 then mby_6_5_2 n else bif Nat.blt n 532 then mby_6_5_3 n else mby_6_5_4 n
def mby_6_6_0 (n : Nat) : ByteArray := bif Nat.blt n 535 then prog_1_method_43_code else prog_32_method_199_code
def mby_6_6_1 (n : Nat) : ByteArray := bif Nat.blt n 537 then method_28_code else prog_1_method_42_code
def mby_6_6_2 (n : Nat) : ByteArray := bif Nat.blt n 539 then prog_32_method_198_code else method_27_code
def mby_6_6_3 (n : Nat) : ByteArray := bif Nat.blt n 541 then prog_1_method_41_code else prog_15_method_45_code
def mby_6_6_4 (n : Nat) : ByteArray := bif Nat.blt n 543 then prog_32_method_83_code else method_26_code
def mby_6_6 (n : Nat) : ByteArray := bif Nat.blt n 538 then bif Nat.blt n 536 then mby_6_6_0 n else mby_6_6_1 n else bif Nat.blt n 540 then mby_6_6_2 n else bif Nat.blt n 542 then mby_6_6_3 n else mby_6_6_4 n
def mby_6_7_0 (n : Nat) : ByteArray := bif Nat.blt n 545 then prog_1_method_40_code else prog_15_method_44_code
def mby_6_7_1 (n : Nat) : ByteArray := bif Nat.blt n 547 then prog_32_method_82_code else prog_32_method_81_code
def mby_6_7_2 (n : Nat) : ByteArray := bif Nat.blt n 549 then prog_32_method_80_code else method_25_code
def mby_6_7_3 (n : Nat) : ByteArray := bif Nat.blt n 551 then prog_1_method_39_code else prog_15_method_43_code
def mby_6_7_4 (n : Nat) : ByteArray := prog_24_method_2_code
def mby_6_7 (n : Nat) : ByteArray := bif Nat.blt n 548 then bif Nat.blt n 546 then mby_6_7_0 n else mby_6_7_1 n else bif Nat.blt n 550 then mby_6_7_2 n else bif Nat.blt n 552 then mby_6_7_3 n else mby_6_7_4 n
def mby_6 (n : Nat) : ByteArray := bif Nat.blt n 514 then bif Nat.blt n 494 then bif Nat.blt n 484 then mby_6_0 n else mby_6_1 n else bif Nat.blt n 504 then mby_6_2 n else mby_6_3 n else bif Nat.blt n 534 then bif Nat.blt n 524 then mby_6_4 n else mby_6_5 n else bif Nat.blt n 544 then mby_6_6 n else mby_6_7 n
def mby_7_0_0 (n : Nat) : ByteArray := bif Nat.blt n 554 then prog_32_method_71_code else method_24_code
def mby_7_0_1 (n : Nat) : ByteArray := bif Nat.blt n 556 then prog_1_method_38_code else prog_15_method_42_code
def mby_7_0_2 (n : Nat) : ByteArray := bif Nat.blt n 558 then prog_32_method_68_code else method_23_code
def mby_7_0_3 (n : Nat) : ByteArray := bif Nat.blt n 560 then prog_1_method_37_code else prog_32_method_197_code
def mby_7_0_4 (n : Nat) : ByteArray := bif Nat.blt n 562 then method_22_code else prog_1_method_36_code
def mby_7_0 (n : Nat) : ByteArray := bif Nat.blt n 557 then bif Nat.blt n 555 then mby_7_0_0 n else mby_7_0_1 n else bif Nat.blt n 559 then mby_7_0_2 n else bif Nat.blt n 561 then mby_7_0_3 n else mby_7_0_4 n
def mby_7_1_0 (n : Nat) : ByteArray := bif Nat.blt n 564 then prog_32_method_196_code else method_21_code
def mby_7_1_1 (n : Nat) : ByteArray := bif Nat.blt n 566 then prog_1_method_35_code else prog_32_method_195_code
def mby_7_1_2 (n : Nat) : ByteArray := bif Nat.blt n 568 then method_20_code else prog_1_method_34_code
def mby_7_1_3 (n : Nat) : ByteArray := bif Nat.blt n 570 then prog_32_method_194_code else method_19_code
def mby_7_1_4 (n : Nat) : ByteArray := bif Nat.blt n 572 then prog_1_method_33_code else prog_15_method_31_code
def mby_7_1 (n : Nat) : ByteArray := bif Nat.blt n 567 then bif Nat.blt n 565 then mby_7_1_0 n else mby_7_1_1 n else bif Nat.blt n 569 then mby_7_1_2 n else bif Nat.blt n 571 then mby_7_1_3 n else mby_7_1_4 n
def mby_7_2_0 (n : Nat) : ByteArray := bif Nat.blt n 574 then prog_24_method_4_code else prog_32_method_55_code
def mby_7_2_1 (n : Nat) : ByteArray := bif Nat.blt n 576 then method_18_code else prog_1_method_32_code
def mby_7_2_2 (n : Nat) : ByteArray := bif Nat.blt n 578 then prog_15_method_30_code else prog_32_method_54_code
def mby_7_2_3 (n : Nat) : ByteArray := bif Nat.blt n 580 then method_17_code else prog_1_method_31_code
def mby_7_2_4 (n : Nat) : ByteArray := bif Nat.blt n 582 then prog_32_method_193_code else method_16_code
def mby_7_2 (n : Nat) : ByteArray := bif Nat.blt n 577 then bif Nat.blt n 575 then mby_7_2_0 n else mby_7_2_1 n else bif Nat.blt n 579 then mby_7_2_2 n else bif Nat.blt n 581 then mby_7_2_3 n else mby_7_2_4 n
def mby_7_3_0 (n : Nat) : ByteArray := bif Nat.blt n 584 then prog_1_method_30_code else prog_15_method_28_code
def mby_7_3_1 (n : Nat) : ByteArray := bif Nat.blt n 586 then prog_32_method_51_code else method_15_code
def mby_7_3_2 (n : Nat) : ByteArray := bif Nat.blt n 588 then prog_1_method_29_code else prog_15_method_27_code
def mby_7_3_3 (n : Nat) : ByteArray := bif Nat.blt n 590 then prog_32_method_50_code else method_14_code
def mby_7_3_4 (n : Nat) : ByteArray := bif Nat.blt n 592 then prog_1_method_28_code else prog_32_method_192_code
def mby_7_3 (n : Nat) : ByteArray := bif Nat.blt n 587 then bif Nat.blt n 585 then mby_7_3_0 n else mby_7_3_1 n else bif Nat.blt n 589 then mby_7_3_2 n else bif Nat.blt n 591 then mby_7_3_3 n else mby_7_3_4 n
def mby_7_4_0 (n : Nat) : ByteArray := bif Nat.blt n 594 then method_13_code else prog_1_method_27_code
def mby_7_4_1 (n : Nat) : ByteArray := bif Nat.blt n 596 then prog_32_method_191_code else method_12_code
def mby_7_4_2 (n : Nat) : ByteArray := bif Nat.blt n 598 then prog_1_method_26_code else prog_32_method_190_code
def mby_7_4_3 (n : Nat) : ByteArray := bif Nat.blt n 600 then method_11_code else prog_1_method_25_code
def mby_7_4_4 (n : Nat) : ByteArray := bif Nat.blt n 602 then prog_32_method_189_code else method_10_code
def mby_7_4 (n : Nat) : ByteArray := bif Nat.blt n 597 then bif Nat.blt n 595 then mby_7_4_0 n else mby_7_4_1 n else bif Nat.blt n 599 then mby_7_4_2 n else bif Nat.blt n 601 then mby_7_4_3 n else mby_7_4_4 n
def mby_7_5_0 (n : Nat) : ByteArray := bif Nat.blt n 604 then prog_1_method_24_code else prog_15_method_16_code
def mby_7_5_1 (n : Nat) : ByteArray := bif Nat.blt n 606 then prog_32_method_32_code else method_9_code
def mby_7_5_2 (n : Nat) : ByteArray := bif Nat.blt n 608 then prog_1_method_23_code else prog_32_method_188_code
def mby_7_5_3 (n : Nat) : ByteArray := bif Nat.blt n 610 then method_8_code else prog_1_method_22_code
def mby_7_5_4 (n : Nat) : ByteArray := bif Nat.blt n 612 then prog_15_method_14_code else prog_32_method_35_code
def mby_7_5 (n : Nat) : ByteArray := bif Nat.blt n 607 then bif Nat.blt n 605 then mby_7_5_0 n else mby_7_5_1 n else bif Nat.blt n 609 then mby_7_5_2 n else bif Nat.blt n 611 then mby_7_5_3 n else mby_7_5_4 n
def mby_7_6_0 (n : Nat) : ByteArray := bif Nat.blt n 614 then method_7_code else prog_1_method_21_code
def mby_7_6_1 (n : Nat) : ByteArray := bif Nat.blt n 616 then prog_15_method_13_code else prog_32_method_19_code
def mby_7_6_2 (n : Nat) : ByteArray := bif Nat.blt n 618 then method_6_code else prog_1_method_20_code
def mby_7_6_3 (n : Nat) : ByteArray := bif Nat.blt n 620 then prog_32_method_187_code else method_5_code
def mby_7_6_4 (n : Nat) : ByteArray := bif Nat.blt n 622 then prog_1_method_19_code else prog_32_method_186_code
def mby_7_6 (n : Nat) : ByteArray := bif Nat.blt n 617 then bif Nat.blt n 615 then mby_7_6_0 n else mby_7_6_1 n else bif Nat.blt n 619 then mby_7_6_2 n else bif Nat.blt n 621 then mby_7_6_3 n else mby_7_6_4 n
def mby_7_7 (n : Nat) : ByteArray := bif Nat.blt n 626 then bif Nat.blt n 624 then method_4_code else bif Nat.blt n 625 then prog_1_method_18_code else prog_32_method_185_code else bif Nat.blt n 627 then method_3_code else bif Nat.blt n 628 then prog_1_method_17_code else prog_32_method_184_code
def mby_7 (n : Nat) : ByteArray := bif Nat.blt n 593 then bif Nat.blt n 573 then bif Nat.blt n 563 then mby_7_0 n else mby_7_1 n else bif Nat.blt n 583 then mby_7_2 n else mby_7_3 n else bif Nat.blt n 613 then bif Nat.blt n 603 then mby_7_4 n else mby_7_5 n else bif Nat.blt n 623 then mby_7_6 n else mby_7_7 n
def mby (n : Nat) : ByteArray := bif Nat.blt n 316 then bif Nat.blt n 158 then bif Nat.blt n 79 then mby_0 n else mby_1 n else bif Nat.blt n 237 then mby_2 n else mby_3 n else bif Nat.blt n 474 then bif Nat.blt n 395 then mby_4 n else mby_5 n else bif Nat.blt n 553 then mby_6 n else mby_7 n
def mlo_0_0_0 (n : Nat) : Nat := bif Nat.blt n 1 then 8 else 1
def mlo_0_0_1 (n : Nat) : Nat := bif Nat.blt n 3 then 1 else 1
def mlo_0_0_2 (n : Nat) : Nat := bif Nat.blt n 5 then 1 else 1
def mlo_0_0_3 (n : Nat) : Nat := bif Nat.blt n 7 then 1 else 1
def mlo_0_0_4 (n : Nat) : Nat := bif Nat.blt n 9 then 1 else 1
def mlo_0_0 (n : Nat) : Nat := bif Nat.blt n 4 then bif Nat.blt n 2 then mlo_0_0_0 n else mlo_0_0_1 n else bif Nat.blt n 6 then mlo_0_0_2 n else bif Nat.blt n 8 then mlo_0_0_3 n else mlo_0_0_4 n
def mlo_0_1_0 (n : Nat) : Nat := bif Nat.blt n 11 then 1 else 1
def mlo_0_1_1 (n : Nat) : Nat := bif Nat.blt n 13 then 2 else 1
def mlo_0_1_2 (n : Nat) : Nat := bif Nat.blt n 15 then 1 else 1
def mlo_0_1_3 (n : Nat) : Nat := bif Nat.blt n 17 then 1 else 1
def mlo_0_1_4 (n : Nat) : Nat := bif Nat.blt n 19 then 2 else 2
def mlo_0_1 (n : Nat) : Nat := bif Nat.blt n 14 then bif Nat.blt n 12 then mlo_0_1_0 n else mlo_0_1_1 n else bif Nat.blt n 16 then mlo_0_1_2 n else bif Nat.blt n 18 then mlo_0_1_3 n else mlo_0_1_4 n
def mlo_0_2_0 (n : Nat) : Nat := bif Nat.blt n 21 then 1 else 2
def mlo_0_2_1 (n : Nat) : Nat := bif Nat.blt n 23 then 2 else 1
def mlo_0_2_2 (n : Nat) : Nat := bif Nat.blt n 25 then 2 else 2
def mlo_0_2_3 (n : Nat) : Nat := bif Nat.blt n 27 then 4 else 4
def mlo_0_2_4 (n : Nat) : Nat := bif Nat.blt n 29 then 3 else 1
def mlo_0_2 (n : Nat) : Nat := bif Nat.blt n 24 then bif Nat.blt n 22 then mlo_0_2_0 n else mlo_0_2_1 n else bif Nat.blt n 26 then mlo_0_2_2 n else bif Nat.blt n 28 then mlo_0_2_3 n else mlo_0_2_4 n
def mlo_0_3_0 (n : Nat) : Nat := bif Nat.blt n 31 then 1 else 2
def mlo_0_3_1 (n : Nat) : Nat := bif Nat.blt n 33 then 6 else 3
def mlo_0_3_2 (n : Nat) : Nat := bif Nat.blt n 35 then 2 else 5
def mlo_0_3_3 (n : Nat) : Nat := bif Nat.blt n 37 then 5 else 6
def mlo_0_3_4 (n : Nat) : Nat := bif Nat.blt n 39 then 5 else 7
def mlo_0_3 (n : Nat) : Nat := bif Nat.blt n 34 then bif Nat.blt n 32 then mlo_0_3_0 n else mlo_0_3_1 n else bif Nat.blt n 36 then mlo_0_3_2 n else bif Nat.blt n 38 then mlo_0_3_3 n else mlo_0_3_4 n
def mlo_0_4_0 (n : Nat) : Nat := bif Nat.blt n 41 then 2 else 1
def mlo_0_4_1 (n : Nat) : Nat := bif Nat.blt n 43 then 2 else 3
def mlo_0_4_2 (n : Nat) : Nat := bif Nat.blt n 45 then 4 else 2
def mlo_0_4_3 (n : Nat) : Nat := bif Nat.blt n 47 then 2 else 1
def mlo_0_4_4 (n : Nat) : Nat := bif Nat.blt n 49 then 7 else 4
def mlo_0_4 (n : Nat) : Nat := bif Nat.blt n 44 then bif Nat.blt n 42 then mlo_0_4_0 n else mlo_0_4_1 n else bif Nat.blt n 46 then mlo_0_4_2 n else bif Nat.blt n 48 then mlo_0_4_3 n else mlo_0_4_4 n
def mlo_0_5_0 (n : Nat) : Nat := bif Nat.blt n 51 then 10 else 2
def mlo_0_5_1 (n : Nat) : Nat := bif Nat.blt n 53 then 2 else 2
def mlo_0_5_2 (n : Nat) : Nat := bif Nat.blt n 55 then 3 else 1
def mlo_0_5_3 (n : Nat) : Nat := bif Nat.blt n 57 then 3 else 3
def mlo_0_5_4 (n : Nat) : Nat := bif Nat.blt n 59 then 6 else 3
def mlo_0_5 (n : Nat) : Nat := bif Nat.blt n 54 then bif Nat.blt n 52 then mlo_0_5_0 n else mlo_0_5_1 n else bif Nat.blt n 56 then mlo_0_5_2 n else bif Nat.blt n 58 then mlo_0_5_3 n else mlo_0_5_4 n
def mlo_0_6_0 (n : Nat) : Nat := bif Nat.blt n 61 then 4 else 5
def mlo_0_6_1 (n : Nat) : Nat := bif Nat.blt n 63 then 4 else 7
def mlo_0_6_2 (n : Nat) : Nat := bif Nat.blt n 65 then 5 else 4
def mlo_0_6_3 (n : Nat) : Nat := bif Nat.blt n 67 then 3 else 4
def mlo_0_6_4 (n : Nat) : Nat := bif Nat.blt n 69 then 6 else 6
def mlo_0_6 (n : Nat) : Nat := bif Nat.blt n 64 then bif Nat.blt n 62 then mlo_0_6_0 n else mlo_0_6_1 n else bif Nat.blt n 66 then mlo_0_6_2 n else bif Nat.blt n 68 then mlo_0_6_3 n else mlo_0_6_4 n
def mlo_0_7_0 (n : Nat) : Nat := bif Nat.blt n 71 then 5 else 6
def mlo_0_7_1 (n : Nat) : Nat := bif Nat.blt n 73 then 6 else 3
def mlo_0_7_2 (n : Nat) : Nat := bif Nat.blt n 75 then 5 else 2
def mlo_0_7_3 (n : Nat) : Nat := bif Nat.blt n 77 then 8 else 5
def mlo_0_7_4 (n : Nat) : Nat := 2
def mlo_0_7 (n : Nat) : Nat := bif Nat.blt n 74 then bif Nat.blt n 72 then mlo_0_7_0 n else mlo_0_7_1 n else bif Nat.blt n 76 then mlo_0_7_2 n else bif Nat.blt n 78 then mlo_0_7_3 n else mlo_0_7_4 n
def mlo_0 (n : Nat) : Nat := bif Nat.blt n 40 then bif Nat.blt n 20 then bif Nat.blt n 10 then mlo_0_0 n else mlo_0_1 n else bif Nat.blt n 30 then mlo_0_2 n else mlo_0_3 n else bif Nat.blt n 60 then bif Nat.blt n 50 then mlo_0_4 n else mlo_0_5 n else bif Nat.blt n 70 then mlo_0_6 n else mlo_0_7 n
def mlo_1_0_0 (n : Nat) : Nat := bif Nat.blt n 80 then 4 else 2
def mlo_1_0_1 (n : Nat) : Nat := bif Nat.blt n 82 then 2 else 1
def mlo_1_0_2 (n : Nat) : Nat := bif Nat.blt n 84 then 8 else 8
def mlo_1_0_3 (n : Nat) : Nat := bif Nat.blt n 86 then 2 else 7
def mlo_1_0_4 (n : Nat) : Nat := bif Nat.blt n 88 then 3 else 5
def mlo_1_0 (n : Nat) : Nat := bif Nat.blt n 83 then bif Nat.blt n 81 then mlo_1_0_0 n else mlo_1_0_1 n else bif Nat.blt n 85 then mlo_1_0_2 n else bif Nat.blt n 87 then mlo_1_0_3 n else mlo_1_0_4 n
def mlo_1_1_0 (n : Nat) : Nat := bif Nat.blt n 90 then 1 else 3
def mlo_1_1_1 (n : Nat) : Nat := bif Nat.blt n 92 then 7 else 9
def mlo_1_1_2 (n : Nat) : Nat := bif Nat.blt n 94 then 7 else 2
def mlo_1_1_3 (n : Nat) : Nat := bif Nat.blt n 96 then 4 else 7
def mlo_1_1_4 (n : Nat) : Nat := bif Nat.blt n 98 then 6 else 2
def mlo_1_1 (n : Nat) : Nat := bif Nat.blt n 93 then bif Nat.blt n 91 then mlo_1_1_0 n else mlo_1_1_1 n else bif Nat.blt n 95 then mlo_1_1_2 n else bif Nat.blt n 97 then mlo_1_1_3 n else mlo_1_1_4 n
def mlo_1_2_0 (n : Nat) : Nat := bif Nat.blt n 100 then 7 else 3
def mlo_1_2_1 (n : Nat) : Nat := bif Nat.blt n 102 then 1 else 6
def mlo_1_2_2 (n : Nat) : Nat := bif Nat.blt n 104 then 5 else 2
def mlo_1_2_3 (n : Nat) : Nat := bif Nat.blt n 106 then 3 else 4
def mlo_1_2_4 (n : Nat) : Nat := bif Nat.blt n 108 then 2 else 6
def mlo_1_2 (n : Nat) : Nat := bif Nat.blt n 103 then bif Nat.blt n 101 then mlo_1_2_0 n else mlo_1_2_1 n else bif Nat.blt n 105 then mlo_1_2_2 n else bif Nat.blt n 107 then mlo_1_2_3 n else mlo_1_2_4 n
def mlo_1_3_0 (n : Nat) : Nat := bif Nat.blt n 110 then 3 else 8
def mlo_1_3_1 (n : Nat) : Nat := bif Nat.blt n 112 then 2 else 4
def mlo_1_3_2 (n : Nat) : Nat := bif Nat.blt n 114 then 6 else 2
def mlo_1_3_3 (n : Nat) : Nat := bif Nat.blt n 116 then 4 else 4
def mlo_1_3_4 (n : Nat) : Nat := bif Nat.blt n 118 then 4 else 4
def mlo_1_3 (n : Nat) : Nat := bif Nat.blt n 113 then bif Nat.blt n 111 then mlo_1_3_0 n else mlo_1_3_1 n else bif Nat.blt n 115 then mlo_1_3_2 n else bif Nat.blt n 117 then mlo_1_3_3 n else mlo_1_3_4 n
def mlo_1_4_0 (n : Nat) : Nat := bif Nat.blt n 120 then 5 else 3
def mlo_1_4_1 (n : Nat) : Nat := bif Nat.blt n 122 then 2 else 5
def mlo_1_4_2 (n : Nat) : Nat := bif Nat.blt n 124 then 11 else 8
def mlo_1_4_3 (n : Nat) : Nat := bif Nat.blt n 126 then 5 else 1
def mlo_1_4_4 (n : Nat) : Nat := bif Nat.blt n 128 then 4 else 3
def mlo_1_4 (n : Nat) : Nat := bif Nat.blt n 123 then bif Nat.blt n 121 then mlo_1_4_0 n else mlo_1_4_1 n else bif Nat.blt n 125 then mlo_1_4_2 n else bif Nat.blt n 127 then mlo_1_4_3 n else mlo_1_4_4 n
def mlo_1_5_0 (n : Nat) : Nat := bif Nat.blt n 130 then 4 else 8
def mlo_1_5_1 (n : Nat) : Nat := bif Nat.blt n 132 then 4 else 1
def mlo_1_5_2 (n : Nat) : Nat := bif Nat.blt n 134 then 3 else 6
def mlo_1_5_3 (n : Nat) : Nat := bif Nat.blt n 136 then 4 else 4
def mlo_1_5_4 (n : Nat) : Nat := bif Nat.blt n 138 then 2 else 3
def mlo_1_5 (n : Nat) : Nat := bif Nat.blt n 133 then bif Nat.blt n 131 then mlo_1_5_0 n else mlo_1_5_1 n else bif Nat.blt n 135 then mlo_1_5_2 n else bif Nat.blt n 137 then mlo_1_5_3 n else mlo_1_5_4 n
def mlo_1_6_0 (n : Nat) : Nat := bif Nat.blt n 140 then 1 else 1
def mlo_1_6_1 (n : Nat) : Nat := bif Nat.blt n 142 then 3 else 6
def mlo_1_6_2 (n : Nat) : Nat := bif Nat.blt n 144 then 7 else 4
def mlo_1_6_3 (n : Nat) : Nat := bif Nat.blt n 146 then 6 else 5
def mlo_1_6_4 (n : Nat) : Nat := bif Nat.blt n 148 then 1 else 3
def mlo_1_6 (n : Nat) : Nat := bif Nat.blt n 143 then bif Nat.blt n 141 then mlo_1_6_0 n else mlo_1_6_1 n else bif Nat.blt n 145 then mlo_1_6_2 n else bif Nat.blt n 147 then mlo_1_6_3 n else mlo_1_6_4 n
def mlo_1_7_0 (n : Nat) : Nat := bif Nat.blt n 150 then 2 else 2
def mlo_1_7_1 (n : Nat) : Nat := bif Nat.blt n 152 then 5 else 2
def mlo_1_7_2 (n : Nat) : Nat := bif Nat.blt n 154 then 5 else 5
def mlo_1_7_3 (n : Nat) : Nat := bif Nat.blt n 156 then 6 else 4
def mlo_1_7_4 (n : Nat) : Nat := 6
def mlo_1_7 (n : Nat) : Nat := bif Nat.blt n 153 then bif Nat.blt n 151 then mlo_1_7_0 n else mlo_1_7_1 n else bif Nat.blt n 155 then mlo_1_7_2 n else bif Nat.blt n 157 then mlo_1_7_3 n else mlo_1_7_4 n
def mlo_1 (n : Nat) : Nat := bif Nat.blt n 119 then bif Nat.blt n 99 then bif Nat.blt n 89 then mlo_1_0 n else mlo_1_1 n else bif Nat.blt n 109 then mlo_1_2 n else mlo_1_3 n else bif Nat.blt n 139 then bif Nat.blt n 129 then mlo_1_4 n else mlo_1_5 n else bif Nat.blt n 149 then mlo_1_6 n else mlo_1_7 n
def mlo_2_0_0 (n : Nat) : Nat := bif Nat.blt n 159 then 2 else 5
def mlo_2_0_1 (n : Nat) : Nat := bif Nat.blt n 161 then 4 else 2
def mlo_2_0_2 (n : Nat) : Nat := bif Nat.blt n 163 then 3 else 1
def mlo_2_0_3 (n : Nat) : Nat := bif Nat.blt n 165 then 6 else 1
def mlo_2_0_4 (n : Nat) : Nat := bif Nat.blt n 167 then 5 else 5
def mlo_2_0 (n : Nat) : Nat := bif Nat.blt n 162 then bif Nat.blt n 160 then mlo_2_0_0 n else mlo_2_0_1 n else bif Nat.blt n 164 then mlo_2_0_2 n else bif Nat.blt n 166 then mlo_2_0_3 n else mlo_2_0_4 n
def mlo_2_1_0 (n : Nat) : Nat := bif Nat.blt n 169 then 3 else 4
def mlo_2_1_1 (n : Nat) : Nat := bif Nat.blt n 171 then 5 else 4
def mlo_2_1_2 (n : Nat) : Nat := bif Nat.blt n 173 then 2 else 2
def mlo_2_1_3 (n : Nat) : Nat := bif Nat.blt n 175 then 5 else 1
def mlo_2_1_4 (n : Nat) : Nat := bif Nat.blt n 177 then 3 else 2
def mlo_2_1 (n : Nat) : Nat := bif Nat.blt n 172 then bif Nat.blt n 170 then mlo_2_1_0 n else mlo_2_1_1 n else bif Nat.blt n 174 then mlo_2_1_2 n else bif Nat.blt n 176 then mlo_2_1_3 n else mlo_2_1_4 n
def mlo_2_2_0 (n : Nat) : Nat := bif Nat.blt n 179 then 5 else 6
def mlo_2_2_1 (n : Nat) : Nat := bif Nat.blt n 181 then 6 else 2
def mlo_2_2_2 (n : Nat) : Nat := bif Nat.blt n 183 then 4 else 1
def mlo_2_2_3 (n : Nat) : Nat := bif Nat.blt n 185 then 14 else 7
def mlo_2_2_4 (n : Nat) : Nat := bif Nat.blt n 187 then 3 else 2
def mlo_2_2 (n : Nat) : Nat := bif Nat.blt n 182 then bif Nat.blt n 180 then mlo_2_2_0 n else mlo_2_2_1 n else bif Nat.blt n 184 then mlo_2_2_2 n else bif Nat.blt n 186 then mlo_2_2_3 n else mlo_2_2_4 n
def mlo_2_3_0 (n : Nat) : Nat := bif Nat.blt n 189 then 2 else 4
def mlo_2_3_1 (n : Nat) : Nat := bif Nat.blt n 191 then 7 else 3
def mlo_2_3_2 (n : Nat) : Nat := bif Nat.blt n 193 then 1 else 2
def mlo_2_3_3 (n : Nat) : Nat := bif Nat.blt n 195 then 4 else 7
def mlo_2_3_4 (n : Nat) : Nat := bif Nat.blt n 197 then 4 else 8
def mlo_2_3 (n : Nat) : Nat := bif Nat.blt n 192 then bif Nat.blt n 190 then mlo_2_3_0 n else mlo_2_3_1 n else bif Nat.blt n 194 then mlo_2_3_2 n else bif Nat.blt n 196 then mlo_2_3_3 n else mlo_2_3_4 n
def mlo_2_4_0 (n : Nat) : Nat := bif Nat.blt n 199 then 3 else 4
def mlo_2_4_1 (n : Nat) : Nat := bif Nat.blt n 201 then 6 else 2
def mlo_2_4_2 (n : Nat) : Nat := bif Nat.blt n 203 then 8 else 2
def mlo_2_4_3 (n : Nat) : Nat := bif Nat.blt n 205 then 3 else 3
def mlo_2_4_4 (n : Nat) : Nat := bif Nat.blt n 207 then 8 else 7
def mlo_2_4 (n : Nat) : Nat := bif Nat.blt n 202 then bif Nat.blt n 200 then mlo_2_4_0 n else mlo_2_4_1 n else bif Nat.blt n 204 then mlo_2_4_2 n else bif Nat.blt n 206 then mlo_2_4_3 n else mlo_2_4_4 n
def mlo_2_5_0 (n : Nat) : Nat := bif Nat.blt n 209 then 4 else 5
def mlo_2_5_1 (n : Nat) : Nat := bif Nat.blt n 211 then 8 else 6
def mlo_2_5_2 (n : Nat) : Nat := bif Nat.blt n 213 then 5 else 2
def mlo_2_5_3 (n : Nat) : Nat := bif Nat.blt n 215 then 3 else 3
def mlo_2_5_4 (n : Nat) : Nat := bif Nat.blt n 217 then 2 else 1
def mlo_2_5 (n : Nat) : Nat := bif Nat.blt n 212 then bif Nat.blt n 210 then mlo_2_5_0 n else mlo_2_5_1 n else bif Nat.blt n 214 then mlo_2_5_2 n else bif Nat.blt n 216 then mlo_2_5_3 n else mlo_2_5_4 n
def mlo_2_6_0 (n : Nat) : Nat := bif Nat.blt n 219 then 5 else 7
def mlo_2_6_1 (n : Nat) : Nat := bif Nat.blt n 221 then 5 else 2
def mlo_2_6_2 (n : Nat) : Nat := bif Nat.blt n 223 then 7 else 5
def mlo_2_6_3 (n : Nat) : Nat := bif Nat.blt n 225 then 5 else 6
def mlo_2_6_4 (n : Nat) : Nat := bif Nat.blt n 227 then 2 else 2
def mlo_2_6 (n : Nat) : Nat := bif Nat.blt n 222 then bif Nat.blt n 220 then mlo_2_6_0 n else mlo_2_6_1 n else bif Nat.blt n 224 then mlo_2_6_2 n else bif Nat.blt n 226 then mlo_2_6_3 n else mlo_2_6_4 n
def mlo_2_7_0 (n : Nat) : Nat := bif Nat.blt n 229 then 3 else 5
def mlo_2_7_1 (n : Nat) : Nat := bif Nat.blt n 231 then 7 else 10
def mlo_2_7_2 (n : Nat) : Nat := bif Nat.blt n 233 then 7 else 9
def mlo_2_7_3 (n : Nat) : Nat := bif Nat.blt n 235 then 5 else 5
def mlo_2_7_4 (n : Nat) : Nat := 4
def mlo_2_7 (n : Nat) : Nat := bif Nat.blt n 232 then bif Nat.blt n 230 then mlo_2_7_0 n else mlo_2_7_1 n else bif Nat.blt n 234 then mlo_2_7_2 n else bif Nat.blt n 236 then mlo_2_7_3 n else mlo_2_7_4 n
def mlo_2 (n : Nat) : Nat := bif Nat.blt n 198 then bif Nat.blt n 178 then bif Nat.blt n 168 then mlo_2_0 n else mlo_2_1 n else bif Nat.blt n 188 then mlo_2_2 n else mlo_2_3 n else bif Nat.blt n 218 then bif Nat.blt n 208 then mlo_2_4 n else mlo_2_5 n else bif Nat.blt n 228 then mlo_2_6 n else mlo_2_7 n
def mlo_3_0_0 (n : Nat) : Nat := bif Nat.blt n 238 then 4 else 3
def mlo_3_0_1 (n : Nat) : Nat := bif Nat.blt n 240 then 5 else 4
def mlo_3_0_2 (n : Nat) : Nat := bif Nat.blt n 242 then 6 else 3
def mlo_3_0_3 (n : Nat) : Nat := bif Nat.blt n 244 then 2 else 5
def mlo_3_0_4 (n : Nat) : Nat := bif Nat.blt n 246 then 4 else 2
def mlo_3_0 (n : Nat) : Nat := bif Nat.blt n 241 then bif Nat.blt n 239 then mlo_3_0_0 n else mlo_3_0_1 n else bif Nat.blt n 243 then mlo_3_0_2 n else bif Nat.blt n 245 then mlo_3_0_3 n else mlo_3_0_4 n
def mlo_3_1_0 (n : Nat) : Nat := bif Nat.blt n 248 then 9 else 7
def mlo_3_1_1 (n : Nat) : Nat := bif Nat.blt n 250 then 7 else 7
def mlo_3_1_2 (n : Nat) : Nat := bif Nat.blt n 252 then 6 else 2
def mlo_3_1_3 (n : Nat) : Nat := bif Nat.blt n 254 then 3 else 5
def mlo_3_1_4 (n : Nat) : Nat := bif Nat.blt n 256 then 2 else 2
def mlo_3_1 (n : Nat) : Nat := bif Nat.blt n 251 then bif Nat.blt n 249 then mlo_3_1_0 n else mlo_3_1_1 n else bif Nat.blt n 253 then mlo_3_1_2 n else bif Nat.blt n 255 then mlo_3_1_3 n else mlo_3_1_4 n
def mlo_3_2_0 (n : Nat) : Nat := bif Nat.blt n 258 then 4 else 5
def mlo_3_2_1 (n : Nat) : Nat := bif Nat.blt n 260 then 5 else 7
def mlo_3_2_2 (n : Nat) : Nat := bif Nat.blt n 262 then 6 else 5
def mlo_3_2_3 (n : Nat) : Nat := bif Nat.blt n 264 then 6 else 3
def mlo_3_2_4 (n : Nat) : Nat := bif Nat.blt n 266 then 5 else 5
def mlo_3_2 (n : Nat) : Nat := bif Nat.blt n 261 then bif Nat.blt n 259 then mlo_3_2_0 n else mlo_3_2_1 n else bif Nat.blt n 263 then mlo_3_2_2 n else bif Nat.blt n 265 then mlo_3_2_3 n else mlo_3_2_4 n
def mlo_3_3_0 (n : Nat) : Nat := bif Nat.blt n 268 then 6 else 5
def mlo_3_3_1 (n : Nat) : Nat := bif Nat.blt n 270 then 2 else 2
def mlo_3_3_2 (n : Nat) : Nat := bif Nat.blt n 272 then 4 else 4
def mlo_3_3_3 (n : Nat) : Nat := bif Nat.blt n 274 then 2 else 2
def mlo_3_3_4 (n : Nat) : Nat := bif Nat.blt n 276 then 1 else 4
def mlo_3_3 (n : Nat) : Nat := bif Nat.blt n 271 then bif Nat.blt n 269 then mlo_3_3_0 n else mlo_3_3_1 n else bif Nat.blt n 273 then mlo_3_3_2 n else bif Nat.blt n 275 then mlo_3_3_3 n else mlo_3_3_4 n
def mlo_3_4_0 (n : Nat) : Nat := bif Nat.blt n 278 then 5 else 2
def mlo_3_4_1 (n : Nat) : Nat := bif Nat.blt n 280 then 4 else 6
def mlo_3_4_2 (n : Nat) : Nat := bif Nat.blt n 282 then 4 else 4
def mlo_3_4_3 (n : Nat) : Nat := bif Nat.blt n 284 then 2 else 2
def mlo_3_4_4 (n : Nat) : Nat := bif Nat.blt n 286 then 4 else 2
def mlo_3_4 (n : Nat) : Nat := bif Nat.blt n 281 then bif Nat.blt n 279 then mlo_3_4_0 n else mlo_3_4_1 n else bif Nat.blt n 283 then mlo_3_4_2 n else bif Nat.blt n 285 then mlo_3_4_3 n else mlo_3_4_4 n
def mlo_3_5_0 (n : Nat) : Nat := bif Nat.blt n 288 then 5 else 2
def mlo_3_5_1 (n : Nat) : Nat := bif Nat.blt n 290 then 1 else 5
def mlo_3_5_2 (n : Nat) : Nat := bif Nat.blt n 292 then 6 else 2
def mlo_3_5_3 (n : Nat) : Nat := bif Nat.blt n 294 then 6 else 3
def mlo_3_5_4 (n : Nat) : Nat := bif Nat.blt n 296 then 6 else 5
def mlo_3_5 (n : Nat) : Nat := bif Nat.blt n 291 then bif Nat.blt n 289 then mlo_3_5_0 n else mlo_3_5_1 n else bif Nat.blt n 293 then mlo_3_5_2 n else bif Nat.blt n 295 then mlo_3_5_3 n else mlo_3_5_4 n
def mlo_3_6_0 (n : Nat) : Nat := bif Nat.blt n 298 then 2 else 5
def mlo_3_6_1 (n : Nat) : Nat := bif Nat.blt n 300 then 3 else 4
def mlo_3_6_2 (n : Nat) : Nat := bif Nat.blt n 302 then 3 else 7
def mlo_3_6_3 (n : Nat) : Nat := bif Nat.blt n 304 then 2 else 2
def mlo_3_6_4 (n : Nat) : Nat := bif Nat.blt n 306 then 5 else 5
def mlo_3_6 (n : Nat) : Nat := bif Nat.blt n 301 then bif Nat.blt n 299 then mlo_3_6_0 n else mlo_3_6_1 n else bif Nat.blt n 303 then mlo_3_6_2 n else bif Nat.blt n 305 then mlo_3_6_3 n else mlo_3_6_4 n
def mlo_3_7_0 (n : Nat) : Nat := bif Nat.blt n 308 then 6 else 2
def mlo_3_7_1 (n : Nat) : Nat := bif Nat.blt n 310 then 1 else 1
def mlo_3_7_2 (n : Nat) : Nat := bif Nat.blt n 312 then 4 else 6
def mlo_3_7_3 (n : Nat) : Nat := bif Nat.blt n 314 then 4 else 2
def mlo_3_7_4 (n : Nat) : Nat := 11
def mlo_3_7 (n : Nat) : Nat := bif Nat.blt n 311 then bif Nat.blt n 309 then mlo_3_7_0 n else mlo_3_7_1 n else bif Nat.blt n 313 then mlo_3_7_2 n else bif Nat.blt n 315 then mlo_3_7_3 n else mlo_3_7_4 n
def mlo_3 (n : Nat) : Nat := bif Nat.blt n 277 then bif Nat.blt n 257 then bif Nat.blt n 247 then mlo_3_0 n else mlo_3_1 n else bif Nat.blt n 267 then mlo_3_2 n else mlo_3_3 n else bif Nat.blt n 297 then bif Nat.blt n 287 then mlo_3_4 n else mlo_3_5 n else bif Nat.blt n 307 then mlo_3_6 n else mlo_3_7 n
def mlo_4_0_0 (n : Nat) : Nat := bif Nat.blt n 317 then 6 else 10
def mlo_4_0_1 (n : Nat) : Nat := bif Nat.blt n 319 then 5 else 4
def mlo_4_0_2 (n : Nat) : Nat := bif Nat.blt n 321 then 4 else 4
def mlo_4_0_3 (n : Nat) : Nat := bif Nat.blt n 323 then 6 else 5
def mlo_4_0_4 (n : Nat) : Nat := bif Nat.blt n 325 then 9 else 2
def mlo_4_0 (n : Nat) : Nat := bif Nat.blt n 320 then bif Nat.blt n 318 then mlo_4_0_0 n else mlo_4_0_1 n else bif Nat.blt n 322 then mlo_4_0_2 n else bif Nat.blt n 324 then mlo_4_0_3 n else mlo_4_0_4 n
def mlo_4_1_0 (n : Nat) : Nat := bif Nat.blt n 327 then 4 else 2
def mlo_4_1_1 (n : Nat) : Nat := bif Nat.blt n 329 then 7 else 2
def mlo_4_1_2 (n : Nat) : Nat := bif Nat.blt n 331 then 7 else 5
def mlo_4_1_3 (n : Nat) : Nat := bif Nat.blt n 333 then 5 else 6
def mlo_4_1_4 (n : Nat) : Nat := bif Nat.blt n 335 then 6 else 3
def mlo_4_1 (n : Nat) : Nat := bif Nat.blt n 330 then bif Nat.blt n 328 then mlo_4_1_0 n else mlo_4_1_1 n else bif Nat.blt n 332 then mlo_4_1_2 n else bif Nat.blt n 334 then mlo_4_1_3 n else mlo_4_1_4 n
def mlo_4_2_0 (n : Nat) : Nat := bif Nat.blt n 337 then 2 else 8
def mlo_4_2_1 (n : Nat) : Nat := bif Nat.blt n 339 then 2 else 8
def mlo_4_2_2 (n : Nat) : Nat := bif Nat.blt n 341 then 5 else 5
def mlo_4_2_3 (n : Nat) : Nat := bif Nat.blt n 343 then 7 else 9
def mlo_4_2_4 (n : Nat) : Nat := bif Nat.blt n 345 then 2 else 3
def mlo_4_2 (n : Nat) : Nat := bif Nat.blt n 340 then bif Nat.blt n 338 then mlo_4_2_0 n else mlo_4_2_1 n else bif Nat.blt n 342 then mlo_4_2_2 n else bif Nat.blt n 344 then mlo_4_2_3 n else mlo_4_2_4 n
def mlo_4_3_0 (n : Nat) : Nat := bif Nat.blt n 347 then 5 else 5
def mlo_4_3_1 (n : Nat) : Nat := bif Nat.blt n 349 then 5 else 1
def mlo_4_3_2 (n : Nat) : Nat := bif Nat.blt n 351 then 2 else 2
def mlo_4_3_3 (n : Nat) : Nat := bif Nat.blt n 353 then 3 else 4
def mlo_4_3_4 (n : Nat) : Nat := bif Nat.blt n 355 then 6 else 3
def mlo_4_3 (n : Nat) : Nat := bif Nat.blt n 350 then bif Nat.blt n 348 then mlo_4_3_0 n else mlo_4_3_1 n else bif Nat.blt n 352 then mlo_4_3_2 n else bif Nat.blt n 354 then mlo_4_3_3 n else mlo_4_3_4 n
def mlo_4_4_0 (n : Nat) : Nat := bif Nat.blt n 357 then 6 else 6
def mlo_4_4_1 (n : Nat) : Nat := bif Nat.blt n 359 then 4 else 2
def mlo_4_4_2 (n : Nat) : Nat := bif Nat.blt n 361 then 2 else 4
def mlo_4_4_3 (n : Nat) : Nat := bif Nat.blt n 363 then 6 else 4
def mlo_4_4_4 (n : Nat) : Nat := bif Nat.blt n 365 then 5 else 5
def mlo_4_4 (n : Nat) : Nat := bif Nat.blt n 360 then bif Nat.blt n 358 then mlo_4_4_0 n else mlo_4_4_1 n else bif Nat.blt n 362 then mlo_4_4_2 n else bif Nat.blt n 364 then mlo_4_4_3 n else mlo_4_4_4 n
def mlo_4_5_0 (n : Nat) : Nat := bif Nat.blt n 367 then 4 else 2
def mlo_4_5_1 (n : Nat) : Nat := bif Nat.blt n 369 then 6 else 12
def mlo_4_5_2 (n : Nat) : Nat := bif Nat.blt n 371 then 3 else 11
def mlo_4_5_3 (n : Nat) : Nat := bif Nat.blt n 373 then 3 else 6
def mlo_4_5_4 (n : Nat) : Nat := bif Nat.blt n 375 then 4 else 5
def mlo_4_5 (n : Nat) : Nat := bif Nat.blt n 370 then bif Nat.blt n 368 then mlo_4_5_0 n else mlo_4_5_1 n else bif Nat.blt n 372 then mlo_4_5_2 n else bif Nat.blt n 374 then mlo_4_5_3 n else mlo_4_5_4 n
def mlo_4_6_0 (n : Nat) : Nat := bif Nat.blt n 377 then 3 else 1
def mlo_4_6_1 (n : Nat) : Nat := bif Nat.blt n 379 then 2 else 4
def mlo_4_6_2 (n : Nat) : Nat := bif Nat.blt n 381 then 4 else 4
def mlo_4_6_3 (n : Nat) : Nat := bif Nat.blt n 383 then 5 else 3
def mlo_4_6_4 (n : Nat) : Nat := bif Nat.blt n 385 then 4 else 3
def mlo_4_6 (n : Nat) : Nat := bif Nat.blt n 380 then bif Nat.blt n 378 then mlo_4_6_0 n else mlo_4_6_1 n else bif Nat.blt n 382 then mlo_4_6_2 n else bif Nat.blt n 384 then mlo_4_6_3 n else mlo_4_6_4 n
def mlo_4_7_0 (n : Nat) : Nat := bif Nat.blt n 387 then 6 else 4
def mlo_4_7_1 (n : Nat) : Nat := bif Nat.blt n 389 then 4 else 4
def mlo_4_7_2 (n : Nat) : Nat := bif Nat.blt n 391 then 7 else 6
def mlo_4_7_3 (n : Nat) : Nat := bif Nat.blt n 393 then 6 else 5
def mlo_4_7_4 (n : Nat) : Nat := 4
def mlo_4_7 (n : Nat) : Nat := bif Nat.blt n 390 then bif Nat.blt n 388 then mlo_4_7_0 n else mlo_4_7_1 n else bif Nat.blt n 392 then mlo_4_7_2 n else bif Nat.blt n 394 then mlo_4_7_3 n else mlo_4_7_4 n
def mlo_4 (n : Nat) : Nat := bif Nat.blt n 356 then bif Nat.blt n 336 then bif Nat.blt n 326 then mlo_4_0 n else mlo_4_1 n else bif Nat.blt n 346 then mlo_4_2 n else mlo_4_3 n else bif Nat.blt n 376 then bif Nat.blt n 366 then mlo_4_4 n else mlo_4_5 n else bif Nat.blt n 386 then mlo_4_6 n else mlo_4_7 n
def mlo_5_0_0 (n : Nat) : Nat := bif Nat.blt n 396 then 4 else 5
def mlo_5_0_1 (n : Nat) : Nat := bif Nat.blt n 398 then 3 else 4
def mlo_5_0_2 (n : Nat) : Nat := bif Nat.blt n 400 then 4 else 3
def mlo_5_0_3 (n : Nat) : Nat := bif Nat.blt n 402 then 1 else 2
def mlo_5_0_4 (n : Nat) : Nat := bif Nat.blt n 404 then 4 else 2
def mlo_5_0 (n : Nat) : Nat := bif Nat.blt n 399 then bif Nat.blt n 397 then mlo_5_0_0 n else mlo_5_0_1 n else bif Nat.blt n 401 then mlo_5_0_2 n else bif Nat.blt n 403 then mlo_5_0_3 n else mlo_5_0_4 n
def mlo_5_1_0 (n : Nat) : Nat := bif Nat.blt n 406 then 2 else 7
def mlo_5_1_1 (n : Nat) : Nat := bif Nat.blt n 408 then 6 else 5
def mlo_5_1_2 (n : Nat) : Nat := bif Nat.blt n 410 then 3 else 4
def mlo_5_1_3 (n : Nat) : Nat := bif Nat.blt n 412 then 3 else 4
def mlo_5_1_4 (n : Nat) : Nat := bif Nat.blt n 414 then 2 else 3
def mlo_5_1 (n : Nat) : Nat := bif Nat.blt n 409 then bif Nat.blt n 407 then mlo_5_1_0 n else mlo_5_1_1 n else bif Nat.blt n 411 then mlo_5_1_2 n else bif Nat.blt n 413 then mlo_5_1_3 n else mlo_5_1_4 n
def mlo_5_2_0 (n : Nat) : Nat := bif Nat.blt n 416 then 1 else 4
def mlo_5_2_1 (n : Nat) : Nat := bif Nat.blt n 418 then 6 else 3
def mlo_5_2_2 (n : Nat) : Nat := bif Nat.blt n 420 then 7 else 7
def mlo_5_2_3 (n : Nat) : Nat := bif Nat.blt n 422 then 1 else 2
def mlo_5_2_4 (n : Nat) : Nat := bif Nat.blt n 424 then 2 else 3
def mlo_5_2 (n : Nat) : Nat := bif Nat.blt n 419 then bif Nat.blt n 417 then mlo_5_2_0 n else mlo_5_2_1 n else bif Nat.blt n 421 then mlo_5_2_2 n else bif Nat.blt n 423 then mlo_5_2_3 n else mlo_5_2_4 n
def mlo_5_3_0 (n : Nat) : Nat := bif Nat.blt n 426 then 6 else 10
def mlo_5_3_1 (n : Nat) : Nat := bif Nat.blt n 428 then 9 else 6
def mlo_5_3_2 (n : Nat) : Nat := bif Nat.blt n 430 then 8 else 11
def mlo_5_3_3 (n : Nat) : Nat := bif Nat.blt n 432 then 3 else 5
def mlo_5_3_4 (n : Nat) : Nat := bif Nat.blt n 434 then 5 else 5
def mlo_5_3 (n : Nat) : Nat := bif Nat.blt n 429 then bif Nat.blt n 427 then mlo_5_3_0 n else mlo_5_3_1 n else bif Nat.blt n 431 then mlo_5_3_2 n else bif Nat.blt n 433 then mlo_5_3_3 n else mlo_5_3_4 n
def mlo_5_4_0 (n : Nat) : Nat := bif Nat.blt n 436 then 7 else 4
def mlo_5_4_1 (n : Nat) : Nat := bif Nat.blt n 438 then 8 else 5
def mlo_5_4_2 (n : Nat) : Nat := bif Nat.blt n 440 then 7 else 5
def mlo_5_4_3 (n : Nat) : Nat := bif Nat.blt n 442 then 9 else 5
def mlo_5_4_4 (n : Nat) : Nat := bif Nat.blt n 444 then 6 else 6
def mlo_5_4 (n : Nat) : Nat := bif Nat.blt n 439 then bif Nat.blt n 437 then mlo_5_4_0 n else mlo_5_4_1 n else bif Nat.blt n 441 then mlo_5_4_2 n else bif Nat.blt n 443 then mlo_5_4_3 n else mlo_5_4_4 n
def mlo_5_5_0 (n : Nat) : Nat := bif Nat.blt n 446 then 8 else 5
def mlo_5_5_1 (n : Nat) : Nat := bif Nat.blt n 448 then 2 else 8
def mlo_5_5_2 (n : Nat) : Nat := bif Nat.blt n 450 then 6 else 4
def mlo_5_5_3 (n : Nat) : Nat := bif Nat.blt n 452 then 5 else 7
def mlo_5_5_4 (n : Nat) : Nat := bif Nat.blt n 454 then 6 else 4
def mlo_5_5 (n : Nat) : Nat := bif Nat.blt n 449 then bif Nat.blt n 447 then mlo_5_5_0 n else mlo_5_5_1 n else bif Nat.blt n 451 then mlo_5_5_2 n else bif Nat.blt n 453 then mlo_5_5_3 n else mlo_5_5_4 n
def mlo_5_6_0 (n : Nat) : Nat := bif Nat.blt n 456 then 2 else 3
def mlo_5_6_1 (n : Nat) : Nat := bif Nat.blt n 458 then 4 else 2
def mlo_5_6_2 (n : Nat) : Nat := bif Nat.blt n 460 then 3 else 5
def mlo_5_6_3 (n : Nat) : Nat := bif Nat.blt n 462 then 3 else 4
def mlo_5_6_4 (n : Nat) : Nat := bif Nat.blt n 464 then 3 else 6
def mlo_5_6 (n : Nat) : Nat := bif Nat.blt n 459 then bif Nat.blt n 457 then mlo_5_6_0 n else mlo_5_6_1 n else bif Nat.blt n 461 then mlo_5_6_2 n else bif Nat.blt n 463 then mlo_5_6_3 n else mlo_5_6_4 n
def mlo_5_7_0 (n : Nat) : Nat := bif Nat.blt n 466 then 5 else 5
def mlo_5_7_1 (n : Nat) : Nat := bif Nat.blt n 468 then 5 else 3
def mlo_5_7_2 (n : Nat) : Nat := bif Nat.blt n 470 then 3 else 3
def mlo_5_7_3 (n : Nat) : Nat := bif Nat.blt n 472 then 4 else 2
def mlo_5_7_4 (n : Nat) : Nat := 3
def mlo_5_7 (n : Nat) : Nat := bif Nat.blt n 469 then bif Nat.blt n 467 then mlo_5_7_0 n else mlo_5_7_1 n else bif Nat.blt n 471 then mlo_5_7_2 n else bif Nat.blt n 473 then mlo_5_7_3 n else mlo_5_7_4 n
def mlo_5 (n : Nat) : Nat := bif Nat.blt n 435 then bif Nat.blt n 415 then bif Nat.blt n 405 then mlo_5_0 n else mlo_5_1 n else bif Nat.blt n 425 then mlo_5_2 n else mlo_5_3 n else bif Nat.blt n 455 then bif Nat.blt n 445 then mlo_5_4 n else mlo_5_5 n else bif Nat.blt n 465 then mlo_5_6 n else mlo_5_7 n
def mlo_6_0_0 (n : Nat) : Nat := bif Nat.blt n 475 then 5 else 3
def mlo_6_0_1 (n : Nat) : Nat := bif Nat.blt n 477 then 4 else 6
def mlo_6_0_2 (n : Nat) : Nat := bif Nat.blt n 479 then 4 else 5
def mlo_6_0_3 (n : Nat) : Nat := bif Nat.blt n 481 then 6 else 4
def mlo_6_0_4 (n : Nat) : Nat := bif Nat.blt n 483 then 5 else 4
def mlo_6_0 (n : Nat) : Nat := bif Nat.blt n 478 then bif Nat.blt n 476 then mlo_6_0_0 n else mlo_6_0_1 n else bif Nat.blt n 480 then mlo_6_0_2 n else bif Nat.blt n 482 then mlo_6_0_3 n else mlo_6_0_4 n
def mlo_6_1_0 (n : Nat) : Nat := bif Nat.blt n 485 then 6 else 4
def mlo_6_1_1 (n : Nat) : Nat := bif Nat.blt n 487 then 5 else 5
def mlo_6_1_2 (n : Nat) : Nat := bif Nat.blt n 489 then 3 else 4
def mlo_6_1_3 (n : Nat) : Nat := bif Nat.blt n 491 then 3 else 4
def mlo_6_1_4 (n : Nat) : Nat := bif Nat.blt n 493 then 4 else 4
def mlo_6_1 (n : Nat) : Nat := bif Nat.blt n 488 then bif Nat.blt n 486 then mlo_6_1_0 n else mlo_6_1_1 n else bif Nat.blt n 490 then mlo_6_1_2 n else bif Nat.blt n 492 then mlo_6_1_3 n else mlo_6_1_4 n
def mlo_6_2_0 (n : Nat) : Nat := bif Nat.blt n 495 then 4 else 2
def mlo_6_2_1 (n : Nat) : Nat := bif Nat.blt n 497 then 2 else 2
def mlo_6_2_2 (n : Nat) : Nat := bif Nat.blt n 499 then 4 else 3
def mlo_6_2_3 (n : Nat) : Nat := bif Nat.blt n 501 then 3 else 5
def mlo_6_2_4 (n : Nat) : Nat := bif Nat.blt n 503 then 3 else 4
def mlo_6_2 (n : Nat) : Nat := bif Nat.blt n 498 then bif Nat.blt n 496 then mlo_6_2_0 n else mlo_6_2_1 n else bif Nat.blt n 500 then mlo_6_2_2 n else bif Nat.blt n 502 then mlo_6_2_3 n else mlo_6_2_4 n
def mlo_6_3_0 (n : Nat) : Nat := bif Nat.blt n 505 then 3 else 4
def mlo_6_3_1 (n : Nat) : Nat := bif Nat.blt n 507 then 2 else 3
def mlo_6_3_2 (n : Nat) : Nat := bif Nat.blt n 509 then 5 else 3
def mlo_6_3_3 (n : Nat) : Nat := bif Nat.blt n 511 then 4 else 4
def mlo_6_3_4 (n : Nat) : Nat := bif Nat.blt n 513 then 2 else 3
def mlo_6_3 (n : Nat) : Nat := bif Nat.blt n 508 then bif Nat.blt n 506 then mlo_6_3_0 n else mlo_6_3_1 n else bif Nat.blt n 510 then mlo_6_3_2 n else bif Nat.blt n 512 then mlo_6_3_3 n else mlo_6_3_4 n
def mlo_6_4_0 (n : Nat) : Nat := bif Nat.blt n 515 then 6 else 4
def mlo_6_4_1 (n : Nat) : Nat := bif Nat.blt n 517 then 5 else 4
def mlo_6_4_2 (n : Nat) : Nat := bif Nat.blt n 519 then 2 else 3
def mlo_6_4_3 (n : Nat) : Nat := bif Nat.blt n 521 then 5 else 4
def mlo_6_4_4 (n : Nat) : Nat := bif Nat.blt n 523 then 4 else 4
def mlo_6_4 (n : Nat) : Nat := bif Nat.blt n 518 then bif Nat.blt n 516 then mlo_6_4_0 n else mlo_6_4_1 n else bif Nat.blt n 520 then mlo_6_4_2 n else bif Nat.blt n 522 then mlo_6_4_3 n else mlo_6_4_4 n
def mlo_6_5_0 (n : Nat) : Nat := bif Nat.blt n 525 then 2 else 3
def mlo_6_5_1 (n : Nat) : Nat := bif Nat.blt n 527 then 5 else 3
def mlo_6_5_2 (n : Nat) : Nat := bif Nat.blt n 529 then 3 else 3
def mlo_6_5_3 (n : Nat) : Nat := bif Nat.blt n 531 then 4 else 2
def mlo_6_5_4 (n : Nat) : Nat := bif Nat.blt n 533 then 3 else 6
def mlo_6_5 (n : Nat) : Nat := bif Nat.blt n 528 then bif Nat.blt n 526 then mlo_6_5_0 n else mlo_6_5_1 n else bif Nat.blt n 530 then mlo_6_5_2 n else bif Nat.blt n 532 then mlo_6_5_3 n else mlo_6_5_4 n
def mlo_6_6_0 (n : Nat) : Nat := bif Nat.blt n 535 then 4 else 5
def mlo_6_6_1 (n : Nat) : Nat := bif Nat.blt n 537 then 4 else 2
def mlo_6_6_2 (n : Nat) : Nat := bif Nat.blt n 539 then 3 else 5
def mlo_6_6_3 (n : Nat) : Nat := bif Nat.blt n 541 then 3 else 3
def mlo_6_6_4 (n : Nat) : Nat := bif Nat.blt n 543 then 3 else 4
def mlo_6_6 (n : Nat) : Nat := bif Nat.blt n 538 then bif Nat.blt n 536 then mlo_6_6_0 n else mlo_6_6_1 n else bif Nat.blt n 540 then mlo_6_6_2 n else bif Nat.blt n 542 then mlo_6_6_3 n else mlo_6_6_4 n
def mlo_6_7_0 (n : Nat) : Nat := bif Nat.blt n 545 then 2 else 3
def mlo_6_7_1 (n : Nat) : Nat := bif Nat.blt n 547 then 3 else 10
def mlo_6_7_2 (n : Nat) : Nat := bif Nat.blt n 549 then 7 else 6
def mlo_6_7_3 (n : Nat) : Nat := bif Nat.blt n 551 then 4 else 6
def mlo_6_7_4 (n : Nat) : Nat := 1
def mlo_6_7 (n : Nat) : Nat := bif Nat.blt n 548 then bif Nat.blt n 546 then mlo_6_7_0 n else mlo_6_7_1 n else bif Nat.blt n 550 then mlo_6_7_2 n else bif Nat.blt n 552 then mlo_6_7_3 n else mlo_6_7_4 n
def mlo_6 (n : Nat) : Nat := bif Nat.blt n 514 then bif Nat.blt n 494 then bif Nat.blt n 484 then mlo_6_0 n else mlo_6_1 n else bif Nat.blt n 504 then mlo_6_2 n else mlo_6_3 n else bif Nat.blt n 534 then bif Nat.blt n 524 then mlo_6_4 n else mlo_6_5 n else bif Nat.blt n 544 then mlo_6_6 n else mlo_6_7 n
def mlo_7_0_0 (n : Nat) : Nat := bif Nat.blt n 554 then 5 else 6
def mlo_7_0_1 (n : Nat) : Nat := bif Nat.blt n 556 then 4 else 9
def mlo_7_0_2 (n : Nat) : Nat := bif Nat.blt n 558 then 6 else 3
def mlo_7_0_3 (n : Nat) : Nat := bif Nat.blt n 560 then 2 else 2
def mlo_7_0_4 (n : Nat) : Nat := bif Nat.blt n 562 then 4 else 2
def mlo_7_0 (n : Nat) : Nat := bif Nat.blt n 557 then bif Nat.blt n 555 then mlo_7_0_0 n else mlo_7_0_1 n else bif Nat.blt n 559 then mlo_7_0_2 n else bif Nat.blt n 561 then mlo_7_0_3 n else mlo_7_0_4 n
def mlo_7_1_0 (n : Nat) : Nat := bif Nat.blt n 564 then 3 else 7
def mlo_7_1_1 (n : Nat) : Nat := bif Nat.blt n 566 then 6 else 6
def mlo_7_1_2 (n : Nat) : Nat := bif Nat.blt n 568 then 5 else 3
def mlo_7_1_3 (n : Nat) : Nat := bif Nat.blt n 570 then 4 else 6
def mlo_7_1_4 (n : Nat) : Nat := bif Nat.blt n 572 then 4 else 7
def mlo_7_1 (n : Nat) : Nat := bif Nat.blt n 567 then bif Nat.blt n 565 then mlo_7_1_0 n else mlo_7_1_1 n else bif Nat.blt n 569 then mlo_7_1_2 n else bif Nat.blt n 571 then mlo_7_1_3 n else mlo_7_1_4 n
def mlo_7_2_0 (n : Nat) : Nat := bif Nat.blt n 574 then 3 else 6
def mlo_7_2_1 (n : Nat) : Nat := bif Nat.blt n 576 then 5 else 3
def mlo_7_2_2 (n : Nat) : Nat := bif Nat.blt n 578 then 4 else 3
def mlo_7_2_3 (n : Nat) : Nat := bif Nat.blt n 580 then 6 else 4
def mlo_7_2_4 (n : Nat) : Nat := bif Nat.blt n 582 then 5 else 5
def mlo_7_2 (n : Nat) : Nat := bif Nat.blt n 577 then bif Nat.blt n 575 then mlo_7_2_0 n else mlo_7_2_1 n else bif Nat.blt n 579 then mlo_7_2_2 n else bif Nat.blt n 581 then mlo_7_2_3 n else mlo_7_2_4 n
def mlo_7_3_0 (n : Nat) : Nat := bif Nat.blt n 584 then 3 else 4
def mlo_7_3_1 (n : Nat) : Nat := bif Nat.blt n 586 then 5 else 6
def mlo_7_3_2 (n : Nat) : Nat := bif Nat.blt n 588 then 4 else 7
def mlo_7_3_3 (n : Nat) : Nat := bif Nat.blt n 590 then 4 else 7
def mlo_7_3_4 (n : Nat) : Nat := bif Nat.blt n 592 then 6 else 6
def mlo_7_3 (n : Nat) : Nat := bif Nat.blt n 587 then bif Nat.blt n 585 then mlo_7_3_0 n else mlo_7_3_1 n else bif Nat.blt n 589 then mlo_7_3_2 n else bif Nat.blt n 591 then mlo_7_3_3 n else mlo_7_3_4 n
def mlo_7_4_0 (n : Nat) : Nat := bif Nat.blt n 594 then 4 else 3
def mlo_7_4_1 (n : Nat) : Nat := bif Nat.blt n 596 then 3 else 7
def mlo_7_4_2 (n : Nat) : Nat := bif Nat.blt n 598 then 6 else 6
def mlo_7_4_3 (n : Nat) : Nat := bif Nat.blt n 600 then 4 else 2
def mlo_7_4_4 (n : Nat) : Nat := bif Nat.blt n 602 then 3 else 5
def mlo_7_4 (n : Nat) : Nat := bif Nat.blt n 597 then bif Nat.blt n 595 then mlo_7_4_0 n else mlo_7_4_1 n else bif Nat.blt n 599 then mlo_7_4_2 n else bif Nat.blt n 601 then mlo_7_4_3 n else mlo_7_4_4 n
def mlo_7_5_0 (n : Nat) : Nat := bif Nat.blt n 604 then 3 else 3
def mlo_7_5_1 (n : Nat) : Nat := bif Nat.blt n 606 then 3 else 6
def mlo_7_5_2 (n : Nat) : Nat := bif Nat.blt n 608 then 5 else 5
def mlo_7_5_3 (n : Nat) : Nat := bif Nat.blt n 610 then 5 else 3
def mlo_7_5_4 (n : Nat) : Nat := bif Nat.blt n 612 then 4 else 3
def mlo_7_5 (n : Nat) : Nat := bif Nat.blt n 607 then bif Nat.blt n 605 then mlo_7_5_0 n else mlo_7_5_1 n else bif Nat.blt n 609 then mlo_7_5_2 n else bif Nat.blt n 611 then mlo_7_5_3 n else mlo_7_5_4 n
def mlo_7_6_0 (n : Nat) : Nat := bif Nat.blt n 614 then 5 else 3
def mlo_7_6_1 (n : Nat) : Nat := bif Nat.blt n 616 then 4 else 3
def mlo_7_6_2 (n : Nat) : Nat := bif Nat.blt n 618 then 3 else 1
def mlo_7_6_3 (n : Nat) : Nat := bif Nat.blt n 620 then 2 else 3
def mlo_7_6_4 (n : Nat) : Nat := bif Nat.blt n 622 then 1 else 2
def mlo_7_6 (n : Nat) : Nat := bif Nat.blt n 617 then bif Nat.blt n 615 then mlo_7_6_0 n else mlo_7_6_1 n else bif Nat.blt n 619 then mlo_7_6_2 n else bif Nat.blt n 621 then mlo_7_6_3 n else mlo_7_6_4 n
def mlo_7_7 (n : Nat) : Nat := bif Nat.blt n 626 then bif Nat.blt n 624 then 4 else bif Nat.blt n 625 then 2 else 3 else bif Nat.blt n 627 then 7 else bif Nat.blt n 628 then 6 else 6
def mlo_7 (n : Nat) : Nat := bif Nat.blt n 593 then bif Nat.blt n 573 then bif Nat.blt n 563 then mlo_7_0 n else mlo_7_1 n else bif Nat.blt n 583 then mlo_7_2 n else mlo_7_3 n else bif Nat.blt n 613 then bif Nat.blt n 603 then mlo_7_4 n else mlo_7_5 n else bif Nat.blt n 623 then mlo_7_6 n else mlo_7_7 n
def mlo (n : Nat) : Nat := bif Nat.blt n 316 then bif Nat.blt n 158 then bif Nat.blt n 79 then mlo_0 n else mlo_1 n else bif Nat.blt n 237 then mlo_2 n else mlo_3 n else bif Nat.blt n 474 then bif Nat.blt n 395 then mlo_4 n else mlo_5 n else bif Nat.blt n 553 then mlo_6 n else mlo_7 n
def mre_0_0_0 (n : Nat) : Option FieldType := bif Nat.blt n 1 then (some .boolean) else none
def mre_0_0_1 (n : Nat) : Option FieldType := bif Nat.blt n 3 then none else none
def mre_0_0_2 (n : Nat) : Option FieldType := bif Nat.blt n 5 then none else none
def mre_0_0_3 (n : Nat) : Option FieldType := bif Nat.blt n 7 then none else none
def mre_0_0_4 (n : Nat) : Option FieldType := bif Nat.blt n 9 then none else none
def mre_0_0 (n : Nat) : Option FieldType := bif Nat.blt n 4 then bif Nat.blt n 2 then mre_0_0_0 n else mre_0_0_1 n else bif Nat.blt n 6 then mre_0_0_2 n else bif Nat.blt n 8 then mre_0_0_3 n else mre_0_0_4 n
def mre_0_1_0 (n : Nat) : Option FieldType := bif Nat.blt n 11 then none else none
def mre_0_1_1 (n : Nat) : Option FieldType := bif Nat.blt n 13 then none else none
def mre_0_1_2 (n : Nat) : Option FieldType := bif Nat.blt n 15 then none else none
def mre_0_1_3 (n : Nat) : Option FieldType := bif Nat.blt n 17 then none else none
def mre_0_1_4 (n : Nat) : Option FieldType := bif Nat.blt n 19 then (some .int) else (some .int)
def mre_0_1 (n : Nat) : Option FieldType := bif Nat.blt n 14 then bif Nat.blt n 12 then mre_0_1_0 n else mre_0_1_1 n else bif Nat.blt n 16 then mre_0_1_2 n else bif Nat.blt n 18 then mre_0_1_3 n else mre_0_1_4 n
def mre_0_2_0 (n : Nat) : Option FieldType := bif Nat.blt n 21 then (some .boolean) else (some .int)
def mre_0_2_1 (n : Nat) : Option FieldType := bif Nat.blt n 23 then (some .int) else (some .int)
def mre_0_2_2 (n : Nat) : Option FieldType := bif Nat.blt n 25 then (some .int) else (some .int)
def mre_0_2_3 (n : Nat) : Option FieldType := bif Nat.blt n 27 then (some .int) else (some .int)
def mre_0_2_4 (n : Nat) : Option FieldType := bif Nat.blt n 29 then (some .boolean) else none
def mre_0_2 (n : Nat) : Option FieldType := bif Nat.blt n 24 then bif Nat.blt n 22 then mre_0_2_0 n else mre_0_2_1 n else bif Nat.blt n 26 then mre_0_2_2 n else bif Nat.blt n 28 then mre_0_2_3 n else mre_0_2_4 n
def mre_0_3_0 (n : Nat) : Option FieldType := bif Nat.blt n 31 then none else (some .int)
def mre_0_3_1 (n : Nat) : Option FieldType := bif Nat.blt n 33 then none else (some .int)
def mre_0_3_2 (n : Nat) : Option FieldType := bif Nat.blt n 35 then (some .int) else (some .int)
def mre_0_3_3 (n : Nat) : Option FieldType := bif Nat.blt n 37 then (some .int) else (some .int)
def mre_0_3_4 (n : Nat) : Option FieldType := bif Nat.blt n 39 then (some .int) else none
def mre_0_3 (n : Nat) : Option FieldType := bif Nat.blt n 34 then bif Nat.blt n 32 then mre_0_3_0 n else mre_0_3_1 n else bif Nat.blt n 36 then mre_0_3_2 n else bif Nat.blt n 38 then mre_0_3_3 n else mre_0_3_4 n
def mre_0_4_0 (n : Nat) : Option FieldType := bif Nat.blt n 41 then (some (.object "WholeWarehouse$Bin")) else none
def mre_0_4_1 (n : Nat) : Option FieldType := bif Nat.blt n 43 then (some (.object "WholeWarehouse$Good")) else none
def mre_0_4_2 (n : Nat) : Option FieldType := bif Nat.blt n 45 then none else (some (.object "WholeWarehouse$Order"))
def mre_0_4_3 (n : Nat) : Option FieldType := bif Nat.blt n 47 then (some .boolean) else none
def mre_0_4_4 (n : Nat) : Option FieldType := bif Nat.blt n 49 then (some .int) else none
def mre_0_4 (n : Nat) : Option FieldType := bif Nat.blt n 44 then bif Nat.blt n 42 then mre_0_4_0 n else mre_0_4_1 n else bif Nat.blt n 46 then mre_0_4_2 n else bif Nat.blt n 48 then mre_0_4_3 n else mre_0_4_4 n
def mre_0_5_0 (n : Nat) : Option FieldType := bif Nat.blt n 51 then (some .int) else (some (.object "WholeWarehouse$Lot"))
def mre_0_5_1 (n : Nat) : Option FieldType := bif Nat.blt n 53 then (some (.object "WholeWarehouse$Bin")) else none
def mre_0_5_2 (n : Nat) : Option FieldType := bif Nat.blt n 55 then (some (.object "WholeWarehouse$Pile")) else (some .int)
def mre_0_5_3 (n : Nat) : Option FieldType := bif Nat.blt n 57 then none else none
def mre_0_5_4 (n : Nat) : Option FieldType := bif Nat.blt n 59 then none else (some (.object "WholeWarehouse$Pile"))
def mre_0_5 (n : Nat) : Option FieldType := bif Nat.blt n 54 then bif Nat.blt n 52 then mre_0_5_0 n else mre_0_5_1 n else bif Nat.blt n 56 then mre_0_5_2 n else bif Nat.blt n 58 then mre_0_5_3 n else mre_0_5_4 n
def mre_0_6_0 (n : Nat) : Option FieldType := bif Nat.blt n 61 then none else none
def mre_0_6_1 (n : Nat) : Option FieldType := bif Nat.blt n 63 then (some .int) else (some .int)
def mre_0_6_2 (n : Nat) : Option FieldType := bif Nat.blt n 65 then none else (some .int)
def mre_0_6_3 (n : Nat) : Option FieldType := bif Nat.blt n 67 then (some .int) else none
def mre_0_6_4 (n : Nat) : Option FieldType := bif Nat.blt n 69 then (some .int) else (some (.object "WholeWarehouse$Lot"))
def mre_0_6 (n : Nat) : Option FieldType := bif Nat.blt n 64 then bif Nat.blt n 62 then mre_0_6_0 n else mre_0_6_1 n else bif Nat.blt n 66 then mre_0_6_2 n else bif Nat.blt n 68 then mre_0_6_3 n else mre_0_6_4 n
def mre_0_7_0 (n : Nat) : Option FieldType := bif Nat.blt n 71 then none else none
def mre_0_7_1 (n : Nat) : Option FieldType := bif Nat.blt n 73 then none else none
def mre_0_7_2 (n : Nat) : Option FieldType := bif Nat.blt n 75 then none else (some .long)
def mre_0_7_3 (n : Nat) : Option FieldType := bif Nat.blt n 77 then (some .long) else (some .long)
def mre_0_7_4 (n : Nat) : Option FieldType := (some .int)
def mre_0_7 (n : Nat) : Option FieldType := bif Nat.blt n 74 then bif Nat.blt n 72 then mre_0_7_0 n else mre_0_7_1 n else bif Nat.blt n 76 then mre_0_7_2 n else bif Nat.blt n 78 then mre_0_7_3 n else mre_0_7_4 n
def mre_0 (n : Nat) : Option FieldType := bif Nat.blt n 40 then bif Nat.blt n 20 then bif Nat.blt n 10 then mre_0_0 n else mre_0_1 n else bif Nat.blt n 30 then mre_0_2 n else mre_0_3 n else bif Nat.blt n 60 then bif Nat.blt n 50 then mre_0_4 n else mre_0_5 n else bif Nat.blt n 70 then mre_0_6 n else mre_0_7 n
def mre_1_0_0 (n : Nat) : Option FieldType := bif Nat.blt n 80 then (some .int) else (some (.object "WholeWarehouse$Robot"))
def mre_1_0_1 (n : Nat) : Option FieldType := bif Nat.blt n 82 then (some .boolean) else (some .int)
def mre_1_0_2 (n : Nat) : Option FieldType := bif Nat.blt n 84 then (some .int) else (some .int)
def mre_1_0_3 (n : Nat) : Option FieldType := bif Nat.blt n 86 then (some .int) else (some .boolean)
def mre_1_0_4 (n : Nat) : Option FieldType := bif Nat.blt n 88 then (some .int) else (some .int)
def mre_1_0 (n : Nat) : Option FieldType := bif Nat.blt n 83 then bif Nat.blt n 81 then mre_1_0_0 n else mre_1_0_1 n else bif Nat.blt n 85 then mre_1_0_2 n else bif Nat.blt n 87 then mre_1_0_3 n else mre_1_0_4 n
def mre_1_1_0 (n : Nat) : Option FieldType := bif Nat.blt n 90 then (some .int) else (some .int)
def mre_1_1_1 (n : Nat) : Option FieldType := bif Nat.blt n 92 then (some .boolean) else none
def mre_1_1_2 (n : Nat) : Option FieldType := bif Nat.blt n 94 then (some .boolean) else (some .int)
def mre_1_1_3 (n : Nat) : Option FieldType := bif Nat.blt n 96 then none else (some .int)
def mre_1_1_4 (n : Nat) : Option FieldType := bif Nat.blt n 98 then (some .int) else (some (.object "WholeWarehouse$Truck"))
def mre_1_1 (n : Nat) : Option FieldType := bif Nat.blt n 93 then bif Nat.blt n 91 then mre_1_1_0 n else mre_1_1_1 n else bif Nat.blt n 95 then mre_1_1_2 n else bif Nat.blt n 97 then mre_1_1_3 n else mre_1_1_4 n
def mre_1_2_0 (n : Nat) : Option FieldType := bif Nat.blt n 100 then (some .int) else (some .int)
def mre_1_2_1 (n : Nat) : Option FieldType := bif Nat.blt n 102 then (some (.object "WholeWarehouse$Good")) else (some .int)
def mre_1_2_2 (n : Nat) : Option FieldType := bif Nat.blt n 104 then (some .boolean) else (some .int)
def mre_1_2_3 (n : Nat) : Option FieldType := bif Nat.blt n 106 then none else (some .int)
def mre_1_2_4 (n : Nat) : Option FieldType := bif Nat.blt n 108 then (some .int) else (some .boolean)
def mre_1_2 (n : Nat) : Option FieldType := bif Nat.blt n 103 then bif Nat.blt n 101 then mre_1_2_0 n else mre_1_2_1 n else bif Nat.blt n 105 then mre_1_2_2 n else bif Nat.blt n 107 then mre_1_2_3 n else mre_1_2_4 n
def mre_1_3_0 (n : Nat) : Option FieldType := bif Nat.blt n 110 then (some .boolean) else none
def mre_1_3_1 (n : Nat) : Option FieldType := bif Nat.blt n 112 then (some .int) else (some .long)
def mre_1_3_2 (n : Nat) : Option FieldType := bif Nat.blt n 114 then (some .int) else none
def mre_1_3_3 (n : Nat) : Option FieldType := bif Nat.blt n 116 then none else (some .int)
def mre_1_3_4 (n : Nat) : Option FieldType := bif Nat.blt n 118 then (some .int) else none
def mre_1_3 (n : Nat) : Option FieldType := bif Nat.blt n 113 then bif Nat.blt n 111 then mre_1_3_0 n else mre_1_3_1 n else bif Nat.blt n 115 then mre_1_3_2 n else bif Nat.blt n 117 then mre_1_3_3 n else mre_1_3_4 n
def mre_1_4_0 (n : Nat) : Option FieldType := bif Nat.blt n 120 then (some .int) else (some .int)
def mre_1_4_1 (n : Nat) : Option FieldType := bif Nat.blt n 122 then (some .int) else (some .int)
def mre_1_4_2 (n : Nat) : Option FieldType := bif Nat.blt n 124 then (some .boolean) else (some .int)
def mre_1_4_3 (n : Nat) : Option FieldType := bif Nat.blt n 126 then (some .int) else none
def mre_1_4_4 (n : Nat) : Option FieldType := bif Nat.blt n 128 then none else (some .int)
def mre_1_4 (n : Nat) : Option FieldType := bif Nat.blt n 123 then bif Nat.blt n 121 then mre_1_4_0 n else mre_1_4_1 n else bif Nat.blt n 125 then mre_1_4_2 n else bif Nat.blt n 127 then mre_1_4_3 n else mre_1_4_4 n
def mre_1_5_0 (n : Nat) : Option FieldType := bif Nat.blt n 130 then none else (some .int)
def mre_1_5_1 (n : Nat) : Option FieldType := bif Nat.blt n 132 then (some .int) else (some .int)
def mre_1_5_2 (n : Nat) : Option FieldType := bif Nat.blt n 134 then (some .int) else (some .int)
def mre_1_5_3 (n : Nat) : Option FieldType := bif Nat.blt n 136 then none else (some .int)
def mre_1_5_4 (n : Nat) : Option FieldType := bif Nat.blt n 138 then none else (some .int)
def mre_1_5 (n : Nat) : Option FieldType := bif Nat.blt n 133 then bif Nat.blt n 131 then mre_1_5_0 n else mre_1_5_1 n else bif Nat.blt n 135 then mre_1_5_2 n else bif Nat.blt n 137 then mre_1_5_3 n else mre_1_5_4 n
def mre_1_6_0 (n : Nat) : Option FieldType := bif Nat.blt n 140 then (some .int) else (some .boolean)
def mre_1_6_1 (n : Nat) : Option FieldType := bif Nat.blt n 142 then (some .int) else none
def mre_1_6_2 (n : Nat) : Option FieldType := bif Nat.blt n 144 then (some (.array .int)) else none
def mre_1_6_3 (n : Nat) : Option FieldType := bif Nat.blt n 146 then (some (.array .int)) else (some .int)
def mre_1_6_4 (n : Nat) : Option FieldType := bif Nat.blt n 148 then (some .int) else (some .int)
def mre_1_6 (n : Nat) : Option FieldType := bif Nat.blt n 143 then bif Nat.blt n 141 then mre_1_6_0 n else mre_1_6_1 n else bif Nat.blt n 145 then mre_1_6_2 n else bif Nat.blt n 147 then mre_1_6_3 n else mre_1_6_4 n
def mre_1_7_0 (n : Nat) : Option FieldType := bif Nat.blt n 150 then none else none
def mre_1_7_1 (n : Nat) : Option FieldType := bif Nat.blt n 152 then none else none
def mre_1_7_2 (n : Nat) : Option FieldType := bif Nat.blt n 154 then (some .int) else none
def mre_1_7_3 (n : Nat) : Option FieldType := bif Nat.blt n 156 then (some .boolean) else none
def mre_1_7_4 (n : Nat) : Option FieldType := none
def mre_1_7 (n : Nat) : Option FieldType := bif Nat.blt n 153 then bif Nat.blt n 151 then mre_1_7_0 n else mre_1_7_1 n else bif Nat.blt n 155 then mre_1_7_2 n else bif Nat.blt n 157 then mre_1_7_3 n else mre_1_7_4 n
def mre_1 (n : Nat) : Option FieldType := bif Nat.blt n 119 then bif Nat.blt n 99 then bif Nat.blt n 89 then mre_1_0 n else mre_1_1 n else bif Nat.blt n 109 then mre_1_2 n else mre_1_3 n else bif Nat.blt n 139 then bif Nat.blt n 129 then mre_1_4 n else mre_1_5 n else bif Nat.blt n 149 then mre_1_6 n else mre_1_7 n
def mre_2_0_0 (n : Nat) : Option FieldType := bif Nat.blt n 159 then (some .int) else none
def mre_2_0_1 (n : Nat) : Option FieldType := bif Nat.blt n 161 then (some .int) else (some (.object "WholeWarehouse$Advice"))
def mre_2_0_2 (n : Nat) : Option FieldType := bif Nat.blt n 163 then (some .int) else (some .int)
def mre_2_0_3 (n : Nat) : Option FieldType := bif Nat.blt n 165 then (some .int) else (some .int)
def mre_2_0_4 (n : Nat) : Option FieldType := bif Nat.blt n 167 then (some .int) else none
def mre_2_0 (n : Nat) : Option FieldType := bif Nat.blt n 162 then bif Nat.blt n 160 then mre_2_0_0 n else mre_2_0_1 n else bif Nat.blt n 164 then mre_2_0_2 n else bif Nat.blt n 166 then mre_2_0_3 n else mre_2_0_4 n
def mre_2_1_0 (n : Nat) : Option FieldType := bif Nat.blt n 169 then none else (some (.object "WholeWarehouse$Good"))
def mre_2_1_1 (n : Nat) : Option FieldType := bif Nat.blt n 171 then (some (.object "WholeWarehouse$Good")) else none
def mre_2_1_2 (n : Nat) : Option FieldType := bif Nat.blt n 173 then (some .long) else (some .long)
def mre_2_1_3 (n : Nat) : Option FieldType := bif Nat.blt n 175 then (some .long) else (some .int)
def mre_2_1_4 (n : Nat) : Option FieldType := bif Nat.blt n 177 then (some .int) else none
def mre_2_1 (n : Nat) : Option FieldType := bif Nat.blt n 172 then bif Nat.blt n 170 then mre_2_1_0 n else mre_2_1_1 n else bif Nat.blt n 174 then mre_2_1_2 n else bif Nat.blt n 176 then mre_2_1_3 n else mre_2_1_4 n
def mre_2_2_0 (n : Nat) : Option FieldType := bif Nat.blt n 179 then none else (some .boolean)
def mre_2_2_1 (n : Nat) : Option FieldType := bif Nat.blt n 181 then none else (some .int)
def mre_2_2_2 (n : Nat) : Option FieldType := bif Nat.blt n 183 then (some .int) else (some .boolean)
def mre_2_2_3 (n : Nat) : Option FieldType := bif Nat.blt n 185 then (some .int) else (some .int)
def mre_2_2_4 (n : Nat) : Option FieldType := bif Nat.blt n 187 then (some .boolean) else (some .int)
def mre_2_2 (n : Nat) : Option FieldType := bif Nat.blt n 182 then bif Nat.blt n 180 then mre_2_2_0 n else mre_2_2_1 n else bif Nat.blt n 184 then mre_2_2_2 n else bif Nat.blt n 186 then mre_2_2_3 n else mre_2_2_4 n
def mre_2_3_0 (n : Nat) : Option FieldType := bif Nat.blt n 189 then (some .int) else none
def mre_2_3_1 (n : Nat) : Option FieldType := bif Nat.blt n 191 then (some .int) else none
def mre_2_3_2 (n : Nat) : Option FieldType := bif Nat.blt n 193 then (some .boolean) else none
def mre_2_3_3 (n : Nat) : Option FieldType := bif Nat.blt n 195 then none else (some .int)
def mre_2_3_4 (n : Nat) : Option FieldType := bif Nat.blt n 197 then none else (some .long)
def mre_2_3 (n : Nat) : Option FieldType := bif Nat.blt n 192 then bif Nat.blt n 190 then mre_2_3_0 n else mre_2_3_1 n else bif Nat.blt n 194 then mre_2_3_2 n else bif Nat.blt n 196 then mre_2_3_3 n else mre_2_3_4 n
def mre_2_4_0 (n : Nat) : Option FieldType := bif Nat.blt n 199 then (some .long) else (some .long)
def mre_2_4_1 (n : Nat) : Option FieldType := bif Nat.blt n 201 then (some .long) else none
def mre_2_4_2 (n : Nat) : Option FieldType := bif Nat.blt n 203 then (some .int) else (some .int)
def mre_2_4_3 (n : Nat) : Option FieldType := bif Nat.blt n 205 then (some (.object "WholeWarehouse$Good")) else (some .int)
def mre_2_4_4 (n : Nat) : Option FieldType := bif Nat.blt n 207 then (some .int) else (some .int)
def mre_2_4 (n : Nat) : Option FieldType := bif Nat.blt n 202 then bif Nat.blt n 200 then mre_2_4_0 n else mre_2_4_1 n else bif Nat.blt n 204 then mre_2_4_2 n else bif Nat.blt n 206 then mre_2_4_3 n else mre_2_4_4 n
def mre_2_5_0 (n : Nat) : Option FieldType := bif Nat.blt n 209 then (some .int) else none
def mre_2_5_1 (n : Nat) : Option FieldType := bif Nat.blt n 211 then (some .boolean) else none
def mre_2_5_2 (n : Nat) : Option FieldType := bif Nat.blt n 213 then (some .boolean) else (some .int)
def mre_2_5_3 (n : Nat) : Option FieldType := bif Nat.blt n 215 then (some .int) else (some .boolean)
def mre_2_5_4 (n : Nat) : Option FieldType := bif Nat.blt n 217 then none else (some .int)
def mre_2_5 (n : Nat) : Option FieldType := bif Nat.blt n 212 then bif Nat.blt n 210 then mre_2_5_0 n else mre_2_5_1 n else bif Nat.blt n 214 then mre_2_5_2 n else bif Nat.blt n 216 then mre_2_5_3 n else mre_2_5_4 n
def mre_2_6_0 (n : Nat) : Option FieldType := bif Nat.blt n 219 then (some .int) else none
def mre_2_6_1 (n : Nat) : Option FieldType := bif Nat.blt n 221 then (some .int) else (some .boolean)
def mre_2_6_2 (n : Nat) : Option FieldType := bif Nat.blt n 223 then (some .int) else (some .int)
def mre_2_6_3 (n : Nat) : Option FieldType := bif Nat.blt n 225 then none else (some .boolean)
def mre_2_6_4 (n : Nat) : Option FieldType := bif Nat.blt n 227 then (some .boolean) else (some .int)
def mre_2_6 (n : Nat) : Option FieldType := bif Nat.blt n 222 then bif Nat.blt n 220 then mre_2_6_0 n else mre_2_6_1 n else bif Nat.blt n 224 then mre_2_6_2 n else bif Nat.blt n 226 then mre_2_6_3 n else mre_2_6_4 n
def mre_2_7_0 (n : Nat) : Option FieldType := bif Nat.blt n 229 then (some .int) else (some .boolean)
def mre_2_7_1 (n : Nat) : Option FieldType := bif Nat.blt n 231 then (some .int) else (some .int)
def mre_2_7_2 (n : Nat) : Option FieldType := bif Nat.blt n 233 then (some .int) else (some .int)
def mre_2_7_3 (n : Nat) : Option FieldType := bif Nat.blt n 235 then (some .boolean) else (some .int)
def mre_2_7_4 (n : Nat) : Option FieldType := (some .boolean)
def mre_2_7 (n : Nat) : Option FieldType := bif Nat.blt n 232 then bif Nat.blt n 230 then mre_2_7_0 n else mre_2_7_1 n else bif Nat.blt n 234 then mre_2_7_2 n else bif Nat.blt n 236 then mre_2_7_3 n else mre_2_7_4 n
def mre_2 (n : Nat) : Option FieldType := bif Nat.blt n 198 then bif Nat.blt n 178 then bif Nat.blt n 168 then mre_2_0 n else mre_2_1 n else bif Nat.blt n 188 then mre_2_2 n else mre_2_3 n else bif Nat.blt n 218 then bif Nat.blt n 208 then mre_2_4 n else mre_2_5 n else bif Nat.blt n 228 then mre_2_6 n else mre_2_7 n
def mre_3_0_0 (n : Nat) : Option FieldType := bif Nat.blt n 238 then (some .int) else (some .int)
def mre_3_0_1 (n : Nat) : Option FieldType := bif Nat.blt n 240 then none else (some .int)
def mre_3_0_2 (n : Nat) : Option FieldType := bif Nat.blt n 242 then (some .int) else none
def mre_3_0_3 (n : Nat) : Option FieldType := bif Nat.blt n 244 then (some .int) else (some .int)
def mre_3_0_4 (n : Nat) : Option FieldType := bif Nat.blt n 246 then (some .int) else none
def mre_3_0 (n : Nat) : Option FieldType := bif Nat.blt n 241 then bif Nat.blt n 239 then mre_3_0_0 n else mre_3_0_1 n else bif Nat.blt n 243 then mre_3_0_2 n else bif Nat.blt n 245 then mre_3_0_3 n else mre_3_0_4 n
def mre_3_1_0 (n : Nat) : Option FieldType := bif Nat.blt n 248 then (some .boolean) else (some .int)
def mre_3_1_1 (n : Nat) : Option FieldType := bif Nat.blt n 250 then (some .boolean) else (some .boolean)
def mre_3_1_2 (n : Nat) : Option FieldType := bif Nat.blt n 252 then (some .int) else (some .boolean)
def mre_3_1_3 (n : Nat) : Option FieldType := bif Nat.blt n 254 then (some .int) else (some .int)
def mre_3_1_4 (n : Nat) : Option FieldType := bif Nat.blt n 256 then (some .boolean) else (some .boolean)
def mre_3_1 (n : Nat) : Option FieldType := bif Nat.blt n 251 then bif Nat.blt n 249 then mre_3_1_0 n else mre_3_1_1 n else bif Nat.blt n 253 then mre_3_1_2 n else bif Nat.blt n 255 then mre_3_1_3 n else mre_3_1_4 n
def mre_3_2_0 (n : Nat) : Option FieldType := bif Nat.blt n 258 then (some .int) else (some .int)
def mre_3_2_1 (n : Nat) : Option FieldType := bif Nat.blt n 260 then (some .boolean) else (some .long)
def mre_3_2_2 (n : Nat) : Option FieldType := bif Nat.blt n 262 then (some .int) else (some .int)
def mre_3_2_3 (n : Nat) : Option FieldType := bif Nat.blt n 264 then (some .boolean) else none
def mre_3_2_4 (n : Nat) : Option FieldType := bif Nat.blt n 266 then (some .int) else (some .int)
def mre_3_2 (n : Nat) : Option FieldType := bif Nat.blt n 261 then bif Nat.blt n 259 then mre_3_2_0 n else mre_3_2_1 n else bif Nat.blt n 263 then mre_3_2_2 n else bif Nat.blt n 265 then mre_3_2_3 n else mre_3_2_4 n
def mre_3_3_0 (n : Nat) : Option FieldType := bif Nat.blt n 268 then (some .int) else none
def mre_3_3_1 (n : Nat) : Option FieldType := bif Nat.blt n 270 then (some .boolean) else (some .int)
def mre_3_3_2 (n : Nat) : Option FieldType := bif Nat.blt n 272 then (some .boolean) else (some .boolean)
def mre_3_3_3 (n : Nat) : Option FieldType := bif Nat.blt n 274 then (some .int) else (some .boolean)
def mre_3_3_4 (n : Nat) : Option FieldType := bif Nat.blt n 276 then (some .boolean) else (some .boolean)
def mre_3_3 (n : Nat) : Option FieldType := bif Nat.blt n 271 then bif Nat.blt n 269 then mre_3_3_0 n else mre_3_3_1 n else bif Nat.blt n 273 then mre_3_3_2 n else bif Nat.blt n 275 then mre_3_3_3 n else mre_3_3_4 n
def mre_3_4_0 (n : Nat) : Option FieldType := bif Nat.blt n 278 then (some .int) else (some .boolean)
def mre_3_4_1 (n : Nat) : Option FieldType := bif Nat.blt n 280 then (some .int) else none
def mre_3_4_2 (n : Nat) : Option FieldType := bif Nat.blt n 282 then (some .int) else none
def mre_3_4_3 (n : Nat) : Option FieldType := bif Nat.blt n 284 then (some .int) else (some .boolean)
def mre_3_4_4 (n : Nat) : Option FieldType := bif Nat.blt n 286 then (some .boolean) else (some .boolean)
def mre_3_4 (n : Nat) : Option FieldType := bif Nat.blt n 281 then bif Nat.blt n 279 then mre_3_4_0 n else mre_3_4_1 n else bif Nat.blt n 283 then mre_3_4_2 n else bif Nat.blt n 285 then mre_3_4_3 n else mre_3_4_4 n
def mre_3_5_0 (n : Nat) : Option FieldType := bif Nat.blt n 288 then (some .boolean) else (some .boolean)
def mre_3_5_1 (n : Nat) : Option FieldType := bif Nat.blt n 290 then (some .boolean) else (some .boolean)
def mre_3_5_2 (n : Nat) : Option FieldType := bif Nat.blt n 292 then (some .boolean) else (some .int)
def mre_3_5_3 (n : Nat) : Option FieldType := bif Nat.blt n 294 then none else none
def mre_3_5_4 (n : Nat) : Option FieldType := bif Nat.blt n 296 then none else (some .int)
def mre_3_5 (n : Nat) : Option FieldType := bif Nat.blt n 291 then bif Nat.blt n 289 then mre_3_5_0 n else mre_3_5_1 n else bif Nat.blt n 293 then mre_3_5_2 n else bif Nat.blt n 295 then mre_3_5_3 n else mre_3_5_4 n
def mre_3_6_0 (n : Nat) : Option FieldType := bif Nat.blt n 298 then (some .boolean) else (some .int)
def mre_3_6_1 (n : Nat) : Option FieldType := bif Nat.blt n 300 then (some .int) else (some .boolean)
def mre_3_6_2 (n : Nat) : Option FieldType := bif Nat.blt n 302 then (some .boolean) else (some .int)
def mre_3_6_3 (n : Nat) : Option FieldType := bif Nat.blt n 304 then (some .long) else (some .boolean)
def mre_3_6_4 (n : Nat) : Option FieldType := bif Nat.blt n 306 then (some .long) else (some .long)
def mre_3_6 (n : Nat) : Option FieldType := bif Nat.blt n 301 then bif Nat.blt n 299 then mre_3_6_0 n else mre_3_6_1 n else bif Nat.blt n 303 then mre_3_6_2 n else bif Nat.blt n 305 then mre_3_6_3 n else mre_3_6_4 n
def mre_3_7_0 (n : Nat) : Option FieldType := bif Nat.blt n 308 then (some .int) else (some .int)
def mre_3_7_1 (n : Nat) : Option FieldType := bif Nat.blt n 310 then (some .boolean) else (some .boolean)
def mre_3_7_2 (n : Nat) : Option FieldType := bif Nat.blt n 312 then (some .boolean) else (some .boolean)
def mre_3_7_3 (n : Nat) : Option FieldType := bif Nat.blt n 314 then (some .boolean) else (some .int)
def mre_3_7_4 (n : Nat) : Option FieldType := (some .int)
def mre_3_7 (n : Nat) : Option FieldType := bif Nat.blt n 311 then bif Nat.blt n 309 then mre_3_7_0 n else mre_3_7_1 n else bif Nat.blt n 313 then mre_3_7_2 n else bif Nat.blt n 315 then mre_3_7_3 n else mre_3_7_4 n
def mre_3 (n : Nat) : Option FieldType := bif Nat.blt n 277 then bif Nat.blt n 257 then bif Nat.blt n 247 then mre_3_0 n else mre_3_1 n else bif Nat.blt n 267 then mre_3_2 n else mre_3_3 n else bif Nat.blt n 297 then bif Nat.blt n 287 then mre_3_4 n else mre_3_5 n else bif Nat.blt n 307 then mre_3_6 n else mre_3_7 n
def mre_4_0_0 (n : Nat) : Option FieldType := bif Nat.blt n 317 then (some .int) else (some .int)
def mre_4_0_1 (n : Nat) : Option FieldType := bif Nat.blt n 319 then none else (some .int)
def mre_4_0_2 (n : Nat) : Option FieldType := bif Nat.blt n 321 then none else none
def mre_4_0_3 (n : Nat) : Option FieldType := bif Nat.blt n 323 then (some .boolean) else none
def mre_4_0_4 (n : Nat) : Option FieldType := bif Nat.blt n 325 then (some .int) else (some .int)
def mre_4_0 (n : Nat) : Option FieldType := bif Nat.blt n 320 then bif Nat.blt n 318 then mre_4_0_0 n else mre_4_0_1 n else bif Nat.blt n 322 then mre_4_0_2 n else bif Nat.blt n 324 then mre_4_0_3 n else mre_4_0_4 n
def mre_4_1_0 (n : Nat) : Option FieldType := bif Nat.blt n 327 then (some .boolean) else (some .boolean)
def mre_4_1_1 (n : Nat) : Option FieldType := bif Nat.blt n 329 then (some .int) else (some .int)
def mre_4_1_2 (n : Nat) : Option FieldType := bif Nat.blt n 331 then (some .int) else (some .int)
def mre_4_1_3 (n : Nat) : Option FieldType := bif Nat.blt n 333 then (some .int) else (some .boolean)
def mre_4_1_4 (n : Nat) : Option FieldType := bif Nat.blt n 335 then (some .long) else none
def mre_4_1 (n : Nat) : Option FieldType := bif Nat.blt n 330 then bif Nat.blt n 328 then mre_4_1_0 n else mre_4_1_1 n else bif Nat.blt n 332 then mre_4_1_2 n else bif Nat.blt n 334 then mre_4_1_3 n else mre_4_1_4 n
def mre_4_2_0 (n : Nat) : Option FieldType := bif Nat.blt n 337 then (some .int) else (some .int)
def mre_4_2_1 (n : Nat) : Option FieldType := bif Nat.blt n 339 then (some .boolean) else (some .int)
def mre_4_2_2 (n : Nat) : Option FieldType := bif Nat.blt n 341 then (some .boolean) else (some .boolean)
def mre_4_2_3 (n : Nat) : Option FieldType := bif Nat.blt n 343 then (some .int) else none
def mre_4_2_4 (n : Nat) : Option FieldType := bif Nat.blt n 345 then (some .boolean) else (some .int)
def mre_4_2 (n : Nat) : Option FieldType := bif Nat.blt n 340 then bif Nat.blt n 338 then mre_4_2_0 n else mre_4_2_1 n else bif Nat.blt n 342 then mre_4_2_2 n else bif Nat.blt n 344 then mre_4_2_3 n else mre_4_2_4 n
def mre_4_3_0 (n : Nat) : Option FieldType := bif Nat.blt n 347 then (some .int) else (some .int)
def mre_4_3_1 (n : Nat) : Option FieldType := bif Nat.blt n 349 then (some .boolean) else (some .int)
def mre_4_3_2 (n : Nat) : Option FieldType := bif Nat.blt n 351 then (some .int) else (some .int)
def mre_4_3_3 (n : Nat) : Option FieldType := bif Nat.blt n 353 then (some .int) else (some .int)
def mre_4_3_4 (n : Nat) : Option FieldType := bif Nat.blt n 355 then (some .int) else (some .long)
def mre_4_3 (n : Nat) : Option FieldType := bif Nat.blt n 350 then bif Nat.blt n 348 then mre_4_3_0 n else mre_4_3_1 n else bif Nat.blt n 352 then mre_4_3_2 n else bif Nat.blt n 354 then mre_4_3_3 n else mre_4_3_4 n
def mre_4_4_0 (n : Nat) : Option FieldType := bif Nat.blt n 357 then (some .int) else (some .int)
def mre_4_4_1 (n : Nat) : Option FieldType := bif Nat.blt n 359 then (some .int) else (some .long)
def mre_4_4_2 (n : Nat) : Option FieldType := bif Nat.blt n 361 then (some .long) else (some .long)
def mre_4_4_3 (n : Nat) : Option FieldType := bif Nat.blt n 363 then (some .int) else (some .int)
def mre_4_4_4 (n : Nat) : Option FieldType := bif Nat.blt n 365 then (some .int) else (some .int)
def mre_4_4 (n : Nat) : Option FieldType := bif Nat.blt n 360 then bif Nat.blt n 358 then mre_4_4_0 n else mre_4_4_1 n else bif Nat.blt n 362 then mre_4_4_2 n else bif Nat.blt n 364 then mre_4_4_3 n else mre_4_4_4 n
def mre_4_5_0 (n : Nat) : Option FieldType := bif Nat.blt n 367 then (some .int) else (some .int)
def mre_4_5_1 (n : Nat) : Option FieldType := bif Nat.blt n 369 then (some .int) else none
def mre_4_5_2 (n : Nat) : Option FieldType := bif Nat.blt n 371 then (some .int) else none
def mre_4_5_3 (n : Nat) : Option FieldType := bif Nat.blt n 373 then none else (some .int)
def mre_4_5_4 (n : Nat) : Option FieldType := bif Nat.blt n 375 then (some .int) else (some .int)
def mre_4_5 (n : Nat) : Option FieldType := bif Nat.blt n 370 then bif Nat.blt n 368 then mre_4_5_0 n else mre_4_5_1 n else bif Nat.blt n 372 then mre_4_5_2 n else bif Nat.blt n 374 then mre_4_5_3 n else mre_4_5_4 n
def mre_4_6_0 (n : Nat) : Option FieldType := bif Nat.blt n 377 then (some .int) else (some .int)
def mre_4_6_1 (n : Nat) : Option FieldType := bif Nat.blt n 379 then (some .int) else (some .int)
def mre_4_6_2 (n : Nat) : Option FieldType := bif Nat.blt n 381 then (some .long) else (some .long)
def mre_4_6_3 (n : Nat) : Option FieldType := bif Nat.blt n 383 then (some .int) else (some .long)
def mre_4_6_4 (n : Nat) : Option FieldType := bif Nat.blt n 385 then (some .long) else (some .long)
def mre_4_6 (n : Nat) : Option FieldType := bif Nat.blt n 380 then bif Nat.blt n 378 then mre_4_6_0 n else mre_4_6_1 n else bif Nat.blt n 382 then mre_4_6_2 n else bif Nat.blt n 384 then mre_4_6_3 n else mre_4_6_4 n
def mre_4_7_0 (n : Nat) : Option FieldType := bif Nat.blt n 387 then (some .int) else (some .int)
def mre_4_7_1 (n : Nat) : Option FieldType := bif Nat.blt n 389 then (some .int) else (some .int)
def mre_4_7_2 (n : Nat) : Option FieldType := bif Nat.blt n 391 then (some .int) else (some .int)
def mre_4_7_3 (n : Nat) : Option FieldType := bif Nat.blt n 393 then (some .int) else (some .int)
def mre_4_7_4 (n : Nat) : Option FieldType := (some .boolean)
def mre_4_7 (n : Nat) : Option FieldType := bif Nat.blt n 390 then bif Nat.blt n 388 then mre_4_7_0 n else mre_4_7_1 n else bif Nat.blt n 392 then mre_4_7_2 n else bif Nat.blt n 394 then mre_4_7_3 n else mre_4_7_4 n
def mre_4 (n : Nat) : Option FieldType := bif Nat.blt n 356 then bif Nat.blt n 336 then bif Nat.blt n 326 then mre_4_0 n else mre_4_1 n else bif Nat.blt n 346 then mre_4_2 n else mre_4_3 n else bif Nat.blt n 376 then bif Nat.blt n 366 then mre_4_4 n else mre_4_5 n else bif Nat.blt n 386 then mre_4_6 n else mre_4_7 n
def mre_5_0_0 (n : Nat) : Option FieldType := bif Nat.blt n 396 then (some .boolean) else (some .int)
def mre_5_0_1 (n : Nat) : Option FieldType := bif Nat.blt n 398 then (some .int) else (some .int)
def mre_5_0_2 (n : Nat) : Option FieldType := bif Nat.blt n 400 then (some .int) else (some .int)
def mre_5_0_3 (n : Nat) : Option FieldType := bif Nat.blt n 402 then (some .int) else (some .int)
def mre_5_0_4 (n : Nat) : Option FieldType := bif Nat.blt n 404 then (some .int) else (some .int)
def mre_5_0 (n : Nat) : Option FieldType := bif Nat.blt n 399 then bif Nat.blt n 397 then mre_5_0_0 n else mre_5_0_1 n else bif Nat.blt n 401 then mre_5_0_2 n else bif Nat.blt n 403 then mre_5_0_3 n else mre_5_0_4 n
def mre_5_1_0 (n : Nat) : Option FieldType := bif Nat.blt n 406 then (some .int) else (some .int)
def mre_5_1_1 (n : Nat) : Option FieldType := bif Nat.blt n 408 then (some .int) else (some .int)
def mre_5_1_2 (n : Nat) : Option FieldType := bif Nat.blt n 410 then (some .int) else (some .int)
def mre_5_1_3 (n : Nat) : Option FieldType := bif Nat.blt n 412 then (some .int) else (some .int)
def mre_5_1_4 (n : Nat) : Option FieldType := bif Nat.blt n 414 then (some .int) else (some .int)
def mre_5_1 (n : Nat) : Option FieldType := bif Nat.blt n 409 then bif Nat.blt n 407 then mre_5_1_0 n else mre_5_1_1 n else bif Nat.blt n 411 then mre_5_1_2 n else bif Nat.blt n 413 then mre_5_1_3 n else mre_5_1_4 n
def mre_5_2_0 (n : Nat) : Option FieldType := bif Nat.blt n 416 then none else none
def mre_5_2_1 (n : Nat) : Option FieldType := bif Nat.blt n 418 then none else (some .int)
def mre_5_2_2 (n : Nat) : Option FieldType := bif Nat.blt n 420 then (some .int) else none
def mre_5_2_3 (n : Nat) : Option FieldType := bif Nat.blt n 422 then (some .int) else (some .boolean)
def mre_5_2_4 (n : Nat) : Option FieldType := bif Nat.blt n 424 then (some .int) else (some .int)
def mre_5_2 (n : Nat) : Option FieldType := bif Nat.blt n 419 then bif Nat.blt n 417 then mre_5_2_0 n else mre_5_2_1 n else bif Nat.blt n 421 then mre_5_2_2 n else bif Nat.blt n 423 then mre_5_2_3 n else mre_5_2_4 n
def mre_5_3_0 (n : Nat) : Option FieldType := bif Nat.blt n 426 then (some .int) else none
def mre_5_3_1 (n : Nat) : Option FieldType := bif Nat.blt n 428 then (some .boolean) else (some .boolean)
def mre_5_3_2 (n : Nat) : Option FieldType := bif Nat.blt n 430 then (some .int) else (some .int)
def mre_5_3_3 (n : Nat) : Option FieldType := bif Nat.blt n 432 then none else none
def mre_5_3_4 (n : Nat) : Option FieldType := bif Nat.blt n 434 then none else none
def mre_5_3 (n : Nat) : Option FieldType := bif Nat.blt n 429 then bif Nat.blt n 427 then mre_5_3_0 n else mre_5_3_1 n else bif Nat.blt n 431 then mre_5_3_2 n else bif Nat.blt n 433 then mre_5_3_3 n else mre_5_3_4 n
def mre_5_4_0 (n : Nat) : Option FieldType := bif Nat.blt n 436 then none else none
def mre_5_4_1 (n : Nat) : Option FieldType := bif Nat.blt n 438 then (some .boolean) else (some .int)
def mre_5_4_2 (n : Nat) : Option FieldType := bif Nat.blt n 440 then none else none
def mre_5_4_3 (n : Nat) : Option FieldType := bif Nat.blt n 442 then (some .int) else none
def mre_5_4_4 (n : Nat) : Option FieldType := bif Nat.blt n 444 then (some .int) else (some .int)
def mre_5_4 (n : Nat) : Option FieldType := bif Nat.blt n 439 then bif Nat.blt n 437 then mre_5_4_0 n else mre_5_4_1 n else bif Nat.blt n 441 then mre_5_4_2 n else bif Nat.blt n 443 then mre_5_4_3 n else mre_5_4_4 n
def mre_5_5_0 (n : Nat) : Option FieldType := bif Nat.blt n 446 then none else (some .int)
def mre_5_5_1 (n : Nat) : Option FieldType := bif Nat.blt n 448 then (some .int) else (some .int)
def mre_5_5_2 (n : Nat) : Option FieldType := bif Nat.blt n 450 then (some .boolean) else none
def mre_5_5_3 (n : Nat) : Option FieldType := bif Nat.blt n 452 then (some .int) else (some .int)
def mre_5_5_4 (n : Nat) : Option FieldType := bif Nat.blt n 454 then none else (some .int)
def mre_5_5 (n : Nat) : Option FieldType := bif Nat.blt n 449 then bif Nat.blt n 447 then mre_5_5_0 n else mre_5_5_1 n else bif Nat.blt n 451 then mre_5_5_2 n else bif Nat.blt n 453 then mre_5_5_3 n else mre_5_5_4 n
def mre_5_6_0 (n : Nat) : Option FieldType := bif Nat.blt n 456 then (some .int) else (some .int)
def mre_5_6_1 (n : Nat) : Option FieldType := bif Nat.blt n 458 then (some .int) else (some .int)
def mre_5_6_2 (n : Nat) : Option FieldType := bif Nat.blt n 460 then (some .int) else (some .int)
def mre_5_6_3 (n : Nat) : Option FieldType := bif Nat.blt n 462 then (some .int) else (some .int)
def mre_5_6_4 (n : Nat) : Option FieldType := bif Nat.blt n 464 then (some .int) else (some .int)
def mre_5_6 (n : Nat) : Option FieldType := bif Nat.blt n 459 then bif Nat.blt n 457 then mre_5_6_0 n else mre_5_6_1 n else bif Nat.blt n 461 then mre_5_6_2 n else bif Nat.blt n 463 then mre_5_6_3 n else mre_5_6_4 n
def mre_5_7_0 (n : Nat) : Option FieldType := bif Nat.blt n 466 then none else none
def mre_5_7_1 (n : Nat) : Option FieldType := bif Nat.blt n 468 then (some .int) else (some .int)
def mre_5_7_2 (n : Nat) : Option FieldType := bif Nat.blt n 470 then (some .int) else (some .int)
def mre_5_7_3 (n : Nat) : Option FieldType := bif Nat.blt n 472 then (some .int) else (some .int)
def mre_5_7_4 (n : Nat) : Option FieldType := (some .int)
def mre_5_7 (n : Nat) : Option FieldType := bif Nat.blt n 469 then bif Nat.blt n 467 then mre_5_7_0 n else mre_5_7_1 n else bif Nat.blt n 471 then mre_5_7_2 n else bif Nat.blt n 473 then mre_5_7_3 n else mre_5_7_4 n
def mre_5 (n : Nat) : Option FieldType := bif Nat.blt n 435 then bif Nat.blt n 415 then bif Nat.blt n 405 then mre_5_0 n else mre_5_1 n else bif Nat.blt n 425 then mre_5_2 n else mre_5_3 n else bif Nat.blt n 455 then bif Nat.blt n 445 then mre_5_4 n else mre_5_5 n else bif Nat.blt n 465 then mre_5_6 n else mre_5_7 n
def mre_6_0_0 (n : Nat) : Option FieldType := bif Nat.blt n 475 then (some .int) else (some .int)
def mre_6_0_1 (n : Nat) : Option FieldType := bif Nat.blt n 477 then (some .int) else (some .int)
def mre_6_0_2 (n : Nat) : Option FieldType := bif Nat.blt n 479 then (some .int) else (some .int)
def mre_6_0_3 (n : Nat) : Option FieldType := bif Nat.blt n 481 then (some .int) else (some .int)
def mre_6_0_4 (n : Nat) : Option FieldType := bif Nat.blt n 483 then (some .int) else (some .int)
def mre_6_0 (n : Nat) : Option FieldType := bif Nat.blt n 478 then bif Nat.blt n 476 then mre_6_0_0 n else mre_6_0_1 n else bif Nat.blt n 480 then mre_6_0_2 n else bif Nat.blt n 482 then mre_6_0_3 n else mre_6_0_4 n
def mre_6_1_0 (n : Nat) : Option FieldType := bif Nat.blt n 485 then (some .int) else (some .int)
def mre_6_1_1 (n : Nat) : Option FieldType := bif Nat.blt n 487 then (some .int) else (some .int)
def mre_6_1_2 (n : Nat) : Option FieldType := bif Nat.blt n 489 then (some .int) else (some .int)
def mre_6_1_3 (n : Nat) : Option FieldType := bif Nat.blt n 491 then (some .int) else (some .int)
def mre_6_1_4 (n : Nat) : Option FieldType := bif Nat.blt n 493 then (some .long) else (some .long)
def mre_6_1 (n : Nat) : Option FieldType := bif Nat.blt n 488 then bif Nat.blt n 486 then mre_6_1_0 n else mre_6_1_1 n else bif Nat.blt n 490 then mre_6_1_2 n else bif Nat.blt n 492 then mre_6_1_3 n else mre_6_1_4 n
def mre_6_2_0 (n : Nat) : Option FieldType := bif Nat.blt n 495 then (some .int) else (some .long)
def mre_6_2_1 (n : Nat) : Option FieldType := bif Nat.blt n 497 then (some .long) else (some .long)
def mre_6_2_2 (n : Nat) : Option FieldType := bif Nat.blt n 499 then (some .int) else none
def mre_6_2_3 (n : Nat) : Option FieldType := bif Nat.blt n 501 then none else (some .int)
def mre_6_2_4 (n : Nat) : Option FieldType := bif Nat.blt n 503 then (some .int) else (some .int)
def mre_6_2 (n : Nat) : Option FieldType := bif Nat.blt n 498 then bif Nat.blt n 496 then mre_6_2_0 n else mre_6_2_1 n else bif Nat.blt n 500 then mre_6_2_2 n else bif Nat.blt n 502 then mre_6_2_3 n else mre_6_2_4 n
def mre_6_3_0 (n : Nat) : Option FieldType := bif Nat.blt n 505 then (some .int) else (some .int)
def mre_6_3_1 (n : Nat) : Option FieldType := bif Nat.blt n 507 then (some .int) else (some .int)
def mre_6_3_2 (n : Nat) : Option FieldType := bif Nat.blt n 509 then (some .int) else (some .int)
def mre_6_3_3 (n : Nat) : Option FieldType := bif Nat.blt n 511 then (some .int) else (some .int)
def mre_6_3_4 (n : Nat) : Option FieldType := bif Nat.blt n 513 then (some .int) else (some .int)
def mre_6_3 (n : Nat) : Option FieldType := bif Nat.blt n 508 then bif Nat.blt n 506 then mre_6_3_0 n else mre_6_3_1 n else bif Nat.blt n 510 then mre_6_3_2 n else bif Nat.blt n 512 then mre_6_3_3 n else mre_6_3_4 n
def mre_6_4_0 (n : Nat) : Option FieldType := bif Nat.blt n 515 then (some .int) else (some .int)
def mre_6_4_1 (n : Nat) : Option FieldType := bif Nat.blt n 517 then (some .int) else (some .int)
def mre_6_4_2 (n : Nat) : Option FieldType := bif Nat.blt n 519 then (some .int) else (some .int)
def mre_6_4_3 (n : Nat) : Option FieldType := bif Nat.blt n 521 then (some .int) else (some .boolean)
def mre_6_4_4 (n : Nat) : Option FieldType := bif Nat.blt n 523 then (some .boolean) else (some .int)
def mre_6_4 (n : Nat) : Option FieldType := bif Nat.blt n 518 then bif Nat.blt n 516 then mre_6_4_0 n else mre_6_4_1 n else bif Nat.blt n 520 then mre_6_4_2 n else bif Nat.blt n 522 then mre_6_4_3 n else mre_6_4_4 n
def mre_6_5_0 (n : Nat) : Option FieldType := bif Nat.blt n 525 then (some .int) else (some .int)
def mre_6_5_1 (n : Nat) : Option FieldType := bif Nat.blt n 527 then (some .int) else (some .int)
def mre_6_5_2 (n : Nat) : Option FieldType := bif Nat.blt n 529 then (some .int) else (some .int)
def mre_6_5_3 (n : Nat) : Option FieldType := bif Nat.blt n 531 then (some .int) else (some .int)
def mre_6_5_4 (n : Nat) : Option FieldType := bif Nat.blt n 533 then (some .int) else (some .int)
def mre_6_5 (n : Nat) : Option FieldType := bif Nat.blt n 528 then bif Nat.blt n 526 then mre_6_5_0 n else mre_6_5_1 n else bif Nat.blt n 530 then mre_6_5_2 n else bif Nat.blt n 532 then mre_6_5_3 n else mre_6_5_4 n
def mre_6_6_0 (n : Nat) : Option FieldType := bif Nat.blt n 535 then (some .int) else (some .int)
def mre_6_6_1 (n : Nat) : Option FieldType := bif Nat.blt n 537 then (some .int) else (some .int)
def mre_6_6_2 (n : Nat) : Option FieldType := bif Nat.blt n 539 then (some .int) else (some .int)
def mre_6_6_3 (n : Nat) : Option FieldType := bif Nat.blt n 541 then (some .int) else (some .int)
def mre_6_6_4 (n : Nat) : Option FieldType := bif Nat.blt n 543 then (some .int) else (some .int)
def mre_6_6 (n : Nat) : Option FieldType := bif Nat.blt n 538 then bif Nat.blt n 536 then mre_6_6_0 n else mre_6_6_1 n else bif Nat.blt n 540 then mre_6_6_2 n else bif Nat.blt n 542 then mre_6_6_3 n else mre_6_6_4 n
def mre_6_7_0 (n : Nat) : Option FieldType := bif Nat.blt n 545 then (some .int) else (some .int)
def mre_6_7_1 (n : Nat) : Option FieldType := bif Nat.blt n 547 then (some .int) else (some .int)
def mre_6_7_2 (n : Nat) : Option FieldType := bif Nat.blt n 549 then (some .int) else (some .int)
def mre_6_7_3 (n : Nat) : Option FieldType := bif Nat.blt n 551 then (some .int) else (some .int)
def mre_6_7_4 (n : Nat) : Option FieldType := (some .int)
def mre_6_7 (n : Nat) : Option FieldType := bif Nat.blt n 548 then bif Nat.blt n 546 then mre_6_7_0 n else mre_6_7_1 n else bif Nat.blt n 550 then mre_6_7_2 n else bif Nat.blt n 552 then mre_6_7_3 n else mre_6_7_4 n
def mre_6 (n : Nat) : Option FieldType := bif Nat.blt n 514 then bif Nat.blt n 494 then bif Nat.blt n 484 then mre_6_0 n else mre_6_1 n else bif Nat.blt n 504 then mre_6_2 n else mre_6_3 n else bif Nat.blt n 534 then bif Nat.blt n 524 then mre_6_4 n else mre_6_5 n else bif Nat.blt n 544 then mre_6_6 n else mre_6_7 n
def mre_7_0_0 (n : Nat) : Option FieldType := bif Nat.blt n 554 then (some .int) else (some .int)
def mre_7_0_1 (n : Nat) : Option FieldType := bif Nat.blt n 556 then (some .int) else (some .int)
def mre_7_0_2 (n : Nat) : Option FieldType := bif Nat.blt n 558 then (some .int) else (some .int)
def mre_7_0_3 (n : Nat) : Option FieldType := bif Nat.blt n 560 then none else none
def mre_7_0_4 (n : Nat) : Option FieldType := bif Nat.blt n 562 then (some .int) else (some .int)
def mre_7_0 (n : Nat) : Option FieldType := bif Nat.blt n 557 then bif Nat.blt n 555 then mre_7_0_0 n else mre_7_0_1 n else bif Nat.blt n 559 then mre_7_0_2 n else bif Nat.blt n 561 then mre_7_0_3 n else mre_7_0_4 n
def mre_7_1_0 (n : Nat) : Option FieldType := bif Nat.blt n 564 then (some .int) else (some .int)
def mre_7_1_1 (n : Nat) : Option FieldType := bif Nat.blt n 566 then (some .int) else (some .int)
def mre_7_1_2 (n : Nat) : Option FieldType := bif Nat.blt n 568 then (some .int) else (some .int)
def mre_7_1_3 (n : Nat) : Option FieldType := bif Nat.blt n 570 then (some .int) else (some .int)
def mre_7_1_4 (n : Nat) : Option FieldType := bif Nat.blt n 572 then (some .int) else (some .int)
def mre_7_1 (n : Nat) : Option FieldType := bif Nat.blt n 567 then bif Nat.blt n 565 then mre_7_1_0 n else mre_7_1_1 n else bif Nat.blt n 569 then mre_7_1_2 n else bif Nat.blt n 571 then mre_7_1_3 n else mre_7_1_4 n
def mre_7_2_0 (n : Nat) : Option FieldType := bif Nat.blt n 574 then (some .int) else (some .int)
def mre_7_2_1 (n : Nat) : Option FieldType := bif Nat.blt n 576 then (some .int) else (some .int)
def mre_7_2_2 (n : Nat) : Option FieldType := bif Nat.blt n 578 then (some .int) else (some .int)
def mre_7_2_3 (n : Nat) : Option FieldType := bif Nat.blt n 580 then (some .int) else (some .int)
def mre_7_2_4 (n : Nat) : Option FieldType := bif Nat.blt n 582 then (some .int) else (some .int)
def mre_7_2 (n : Nat) : Option FieldType := bif Nat.blt n 577 then bif Nat.blt n 575 then mre_7_2_0 n else mre_7_2_1 n else bif Nat.blt n 579 then mre_7_2_2 n else bif Nat.blt n 581 then mre_7_2_3 n else mre_7_2_4 n
def mre_7_3_0 (n : Nat) : Option FieldType := bif Nat.blt n 584 then (some .int) else (some .int)
def mre_7_3_1 (n : Nat) : Option FieldType := bif Nat.blt n 586 then (some .int) else (some .int)
def mre_7_3_2 (n : Nat) : Option FieldType := bif Nat.blt n 588 then (some .int) else (some .int)
def mre_7_3_3 (n : Nat) : Option FieldType := bif Nat.blt n 590 then (some .int) else (some .int)
def mre_7_3_4 (n : Nat) : Option FieldType := bif Nat.blt n 592 then (some .int) else (some .int)
def mre_7_3 (n : Nat) : Option FieldType := bif Nat.blt n 587 then bif Nat.blt n 585 then mre_7_3_0 n else mre_7_3_1 n else bif Nat.blt n 589 then mre_7_3_2 n else bif Nat.blt n 591 then mre_7_3_3 n else mre_7_3_4 n
def mre_7_4_0 (n : Nat) : Option FieldType := bif Nat.blt n 594 then (some .int) else none
def mre_7_4_1 (n : Nat) : Option FieldType := bif Nat.blt n 596 then none else (some .int)
def mre_7_4_2 (n : Nat) : Option FieldType := bif Nat.blt n 598 then (some .int) else (some .int)
def mre_7_4_3 (n : Nat) : Option FieldType := bif Nat.blt n 600 then (some .int) else (some .int)
def mre_7_4_4 (n : Nat) : Option FieldType := bif Nat.blt n 602 then (some .int) else (some .int)
def mre_7_4 (n : Nat) : Option FieldType := bif Nat.blt n 597 then bif Nat.blt n 595 then mre_7_4_0 n else mre_7_4_1 n else bif Nat.blt n 599 then mre_7_4_2 n else bif Nat.blt n 601 then mre_7_4_3 n else mre_7_4_4 n
def mre_7_5_0 (n : Nat) : Option FieldType := bif Nat.blt n 604 then (some .int) else (some .int)
def mre_7_5_1 (n : Nat) : Option FieldType := bif Nat.blt n 606 then (some .int) else (some .int)
def mre_7_5_2 (n : Nat) : Option FieldType := bif Nat.blt n 608 then none else none
def mre_7_5_3 (n : Nat) : Option FieldType := bif Nat.blt n 610 then (some .int) else (some .int)
def mre_7_5_4 (n : Nat) : Option FieldType := bif Nat.blt n 612 then (some .int) else (some .int)
def mre_7_5 (n : Nat) : Option FieldType := bif Nat.blt n 607 then bif Nat.blt n 605 then mre_7_5_0 n else mre_7_5_1 n else bif Nat.blt n 609 then mre_7_5_2 n else bif Nat.blt n 611 then mre_7_5_3 n else mre_7_5_4 n
def mre_7_6_0 (n : Nat) : Option FieldType := bif Nat.blt n 614 then (some .int) else (some .int)
def mre_7_6_1 (n : Nat) : Option FieldType := bif Nat.blt n 616 then (some .int) else (some .int)
def mre_7_6_2 (n : Nat) : Option FieldType := bif Nat.blt n 618 then (some .int) else (some .int)
def mre_7_6_3 (n : Nat) : Option FieldType := bif Nat.blt n 620 then (some .int) else (some .int)
def mre_7_6_4 (n : Nat) : Option FieldType := bif Nat.blt n 622 then (some .int) else (some .int)
def mre_7_6 (n : Nat) : Option FieldType := bif Nat.blt n 617 then bif Nat.blt n 615 then mre_7_6_0 n else mre_7_6_1 n else bif Nat.blt n 619 then mre_7_6_2 n else bif Nat.blt n 621 then mre_7_6_3 n else mre_7_6_4 n
def mre_7_7 (n : Nat) : Option FieldType := bif Nat.blt n 626 then bif Nat.blt n 624 then (some .int) else bif Nat.blt n 625 then (some .int) else (some .int) else bif Nat.blt n 627 then (some .int) else bif Nat.blt n 628 then none else none
def mre_7 (n : Nat) : Option FieldType := bif Nat.blt n 593 then bif Nat.blt n 573 then bif Nat.blt n 563 then mre_7_0 n else mre_7_1 n else bif Nat.blt n 583 then mre_7_2 n else mre_7_3 n else bif Nat.blt n 613 then bif Nat.blt n 603 then mre_7_4 n else mre_7_5 n else bif Nat.blt n 623 then mre_7_6 n else mre_7_7 n
def mre (n : Nat) : Option FieldType := bif Nat.blt n 316 then bif Nat.blt n 158 then bif Nat.blt n 79 then mre_0 n else mre_1 n else bif Nat.blt n 237 then mre_2 n else mre_3 n else bif Nat.blt n 474 then bif Nat.blt n 395 then mre_4 n else mre_5 n else bif Nat.blt n 553 then mre_6 n else mre_7 n
def mha_0_0_0 (n : Nat) : List (Nat × Nat × Nat × Nat) := bif Nat.blt n 1 then [] else []
def mha_0_0_1 (n : Nat) : List (Nat × Nat × Nat × Nat) := bif Nat.blt n 3 then [] else []
def mha_0_0_2 (n : Nat) : List (Nat × Nat × Nat × Nat) := bif Nat.blt n 5 then [] else []
def mha_0_0_3 (n : Nat) : List (Nat × Nat × Nat × Nat) := bif Nat.blt n 7 then [] else []
def mha_0_0_4 (n : Nat) : List (Nat × Nat × Nat × Nat) := bif Nat.blt n 9 then [] else []
def mha_0_0 (n : Nat) : List (Nat × Nat × Nat × Nat) := bif Nat.blt n 4 then bif Nat.blt n 2 then mha_0_0_0 n else mha_0_0_1 n else bif Nat.blt n 6 then mha_0_0_2 n else bif Nat.blt n 8 then mha_0_0_3 n else mha_0_0_4 n
def mha_0_1_0 (n : Nat) : List (Nat × Nat × Nat × Nat) := bif Nat.blt n 11 then [] else []
def mha_0_1_1 (n : Nat) : List (Nat × Nat × Nat × Nat) := bif Nat.blt n 13 then [] else []
def mha_0_1_2 (n : Nat) : List (Nat × Nat × Nat × Nat) := bif Nat.blt n 15 then [] else []
def mha_0_1_3 (n : Nat) : List (Nat × Nat × Nat × Nat) := bif Nat.blt n 17 then [] else []
def mha_0_1_4 (n : Nat) : List (Nat × Nat × Nat × Nat) := bif Nat.blt n 19 then [] else []
def mha_0_1 (n : Nat) : List (Nat × Nat × Nat × Nat) := bif Nat.blt n 14 then bif Nat.blt n 12 then mha_0_1_0 n else mha_0_1_1 n else bif Nat.blt n 16 then mha_0_1_2 n else bif Nat.blt n 18 then mha_0_1_3 n else mha_0_1_4 n
def mha_0_2_0 (n : Nat) : List (Nat × Nat × Nat × Nat) := bif Nat.blt n 21 then [] else []
def mha_0_2_1 (n : Nat) : List (Nat × Nat × Nat × Nat) := bif Nat.blt n 23 then [] else []
def mha_0_2_2 (n : Nat) : List (Nat × Nat × Nat × Nat) := bif Nat.blt n 25 then [] else []
def mha_0_2_3 (n : Nat) : List (Nat × Nat × Nat × Nat) := bif Nat.blt n 27 then [(0, 9, 12, 19), (0, 9, 15, 13)] else []
def mha_0_2_4 (n : Nat) : List (Nat × Nat × Nat × Nat) := bif Nat.blt n 29 then [] else []
def mha_0_2 (n : Nat) : List (Nat × Nat × Nat × Nat) := bif Nat.blt n 24 then bif Nat.blt n 22 then mha_0_2_0 n else mha_0_2_1 n else bif Nat.blt n 26 then mha_0_2_2 n else bif Nat.blt n 28 then mha_0_2_3 n else mha_0_2_4 n
def mha_0_3_0 (n : Nat) : List (Nat × Nat × Nat × Nat) := bif Nat.blt n 31 then [] else []
def mha_0_3_1 (n : Nat) : List (Nat × Nat × Nat × Nat) := bif Nat.blt n 33 then [] else []
def mha_0_3_2 (n : Nat) : List (Nat × Nat × Nat × Nat) := bif Nat.blt n 35 then [] else []
def mha_0_3_3 (n : Nat) : List (Nat × Nat × Nat × Nat) := bif Nat.blt n 37 then [] else []
def mha_0_3_4 (n : Nat) : List (Nat × Nat × Nat × Nat) := bif Nat.blt n 39 then [] else []
def mha_0_3 (n : Nat) : List (Nat × Nat × Nat × Nat) := bif Nat.blt n 34 then bif Nat.blt n 32 then mha_0_3_0 n else mha_0_3_1 n else bif Nat.blt n 36 then mha_0_3_2 n else bif Nat.blt n 38 then mha_0_3_3 n else mha_0_3_4 n
def mha_0_4_0 (n : Nat) : List (Nat × Nat × Nat × Nat) := bif Nat.blt n 41 then [] else []
def mha_0_4_1 (n : Nat) : List (Nat × Nat × Nat × Nat) := bif Nat.blt n 43 then [] else []
def mha_0_4_2 (n : Nat) : List (Nat × Nat × Nat × Nat) := bif Nat.blt n 45 then [] else []
def mha_0_4_3 (n : Nat) : List (Nat × Nat × Nat × Nat) := bif Nat.blt n 47 then [] else []
def mha_0_4_4 (n : Nat) : List (Nat × Nat × Nat × Nat) := bif Nat.blt n 49 then [] else []
def mha_0_4 (n : Nat) : List (Nat × Nat × Nat × Nat) := bif Nat.blt n 44 then bif Nat.blt n 42 then mha_0_4_0 n else mha_0_4_1 n else bif Nat.blt n 46 then mha_0_4_2 n else bif Nat.blt n 48 then mha_0_4_3 n else mha_0_4_4 n
def mha_0_5_0 (n : Nat) : List (Nat × Nat × Nat × Nat) := bif Nat.blt n 51 then [] else []
def mha_0_5_1 (n : Nat) : List (Nat × Nat × Nat × Nat) := bif Nat.blt n 53 then [] else []
def mha_0_5_2 (n : Nat) : List (Nat × Nat × Nat × Nat) := bif Nat.blt n 55 then [] else []
def mha_0_5_3 (n : Nat) : List (Nat × Nat × Nat × Nat) := bif Nat.blt n 57 then [] else []
def mha_0_5_4 (n : Nat) : List (Nat × Nat × Nat × Nat) := bif Nat.blt n 59 then [] else []
def mha_0_5 (n : Nat) : List (Nat × Nat × Nat × Nat) := bif Nat.blt n 54 then bif Nat.blt n 52 then mha_0_5_0 n else mha_0_5_1 n else bif Nat.blt n 56 then mha_0_5_2 n else bif Nat.blt n 58 then mha_0_5_3 n else mha_0_5_4 n
def mha_0_6_0 (n : Nat) : List (Nat × Nat × Nat × Nat) := bif Nat.blt n 61 then [] else []
def mha_0_6_1 (n : Nat) : List (Nat × Nat × Nat × Nat) := bif Nat.blt n 63 then [] else []
def mha_0_6_2 (n : Nat) : List (Nat × Nat × Nat × Nat) := bif Nat.blt n 65 then [] else []
def mha_0_6_3 (n : Nat) : List (Nat × Nat × Nat × Nat) := bif Nat.blt n 67 then [] else []
def mha_0_6_4 (n : Nat) : List (Nat × Nat × Nat × Nat) := bif Nat.blt n 69 then [] else []
def mha_0_6 (n : Nat) : List (Nat × Nat × Nat × Nat) := bif Nat.blt n 64 then bif Nat.blt n 62 then mha_0_6_0 n else mha_0_6_1 n else bif Nat.blt n 66 then mha_0_6_2 n else bif Nat.blt n 68 then mha_0_6_3 n else mha_0_6_4 n
def mha_0_7_0 (n : Nat) : List (Nat × Nat × Nat × Nat) := bif Nat.blt n 71 then [] else []
def mha_0_7_1 (n : Nat) : List (Nat × Nat × Nat × Nat) := bif Nat.blt n 73 then [] else []
def mha_0_7_2 (n : Nat) : List (Nat × Nat × Nat × Nat) := bif Nat.blt n 75 then [] else []
def mha_0_7_3 (n : Nat) : List (Nat × Nat × Nat × Nat) := bif Nat.blt n 77 then [] else []
def mha_0_7_4 (n : Nat) : List (Nat × Nat × Nat × Nat) := []
def mha_0_7 (n : Nat) : List (Nat × Nat × Nat × Nat) := bif Nat.blt n 74 then bif Nat.blt n 72 then mha_0_7_0 n else mha_0_7_1 n else bif Nat.blt n 76 then mha_0_7_2 n else bif Nat.blt n 78 then mha_0_7_3 n else mha_0_7_4 n
def mha_0 (n : Nat) : List (Nat × Nat × Nat × Nat) := bif Nat.blt n 40 then bif Nat.blt n 20 then bif Nat.blt n 10 then mha_0_0 n else mha_0_1 n else bif Nat.blt n 30 then mha_0_2 n else mha_0_3 n else bif Nat.blt n 60 then bif Nat.blt n 50 then mha_0_4 n else mha_0_5 n else bif Nat.blt n 70 then mha_0_6 n else mha_0_7 n
def mha_1_0_0 (n : Nat) : List (Nat × Nat × Nat × Nat) := bif Nat.blt n 80 then [] else []
def mha_1_0_1 (n : Nat) : List (Nat × Nat × Nat × Nat) := bif Nat.blt n 82 then [] else []
def mha_1_0_2 (n : Nat) : List (Nat × Nat × Nat × Nat) := bif Nat.blt n 84 then [] else []
def mha_1_0_3 (n : Nat) : List (Nat × Nat × Nat × Nat) := bif Nat.blt n 86 then [] else []
def mha_1_0_4 (n : Nat) : List (Nat × Nat × Nat × Nat) := bif Nat.blt n 88 then [] else []
def mha_1_0 (n : Nat) : List (Nat × Nat × Nat × Nat) := bif Nat.blt n 83 then bif Nat.blt n 81 then mha_1_0_0 n else mha_1_0_1 n else bif Nat.blt n 85 then mha_1_0_2 n else bif Nat.blt n 87 then mha_1_0_3 n else mha_1_0_4 n
def mha_1_1_0 (n : Nat) : List (Nat × Nat × Nat × Nat) := bif Nat.blt n 90 then [] else []
def mha_1_1_1 (n : Nat) : List (Nat × Nat × Nat × Nat) := bif Nat.blt n 92 then [] else []
def mha_1_1_2 (n : Nat) : List (Nat × Nat × Nat × Nat) := bif Nat.blt n 94 then [] else []
def mha_1_1_3 (n : Nat) : List (Nat × Nat × Nat × Nat) := bif Nat.blt n 96 then [] else []
def mha_1_1_4 (n : Nat) : List (Nat × Nat × Nat × Nat) := bif Nat.blt n 98 then [] else []
def mha_1_1 (n : Nat) : List (Nat × Nat × Nat × Nat) := bif Nat.blt n 93 then bif Nat.blt n 91 then mha_1_1_0 n else mha_1_1_1 n else bif Nat.blt n 95 then mha_1_1_2 n else bif Nat.blt n 97 then mha_1_1_3 n else mha_1_1_4 n
def mha_1_2_0 (n : Nat) : List (Nat × Nat × Nat × Nat) := bif Nat.blt n 100 then [] else []
def mha_1_2_1 (n : Nat) : List (Nat × Nat × Nat × Nat) := bif Nat.blt n 102 then [] else []
def mha_1_2_2 (n : Nat) : List (Nat × Nat × Nat × Nat) := bif Nat.blt n 104 then [] else []
def mha_1_2_3 (n : Nat) : List (Nat × Nat × Nat × Nat) := bif Nat.blt n 106 then [] else []
def mha_1_2_4 (n : Nat) : List (Nat × Nat × Nat × Nat) := bif Nat.blt n 108 then [] else []
def mha_1_2 (n : Nat) : List (Nat × Nat × Nat × Nat) := bif Nat.blt n 103 then bif Nat.blt n 101 then mha_1_2_0 n else mha_1_2_1 n else bif Nat.blt n 105 then mha_1_2_2 n else bif Nat.blt n 107 then mha_1_2_3 n else mha_1_2_4 n
def mha_1_3_0 (n : Nat) : List (Nat × Nat × Nat × Nat) := bif Nat.blt n 110 then [] else []
def mha_1_3_1 (n : Nat) : List (Nat × Nat × Nat × Nat) := bif Nat.blt n 112 then [] else []
def mha_1_3_2 (n : Nat) : List (Nat × Nat × Nat × Nat) := bif Nat.blt n 114 then [] else []
def mha_1_3_3 (n : Nat) : List (Nat × Nat × Nat × Nat) := bif Nat.blt n 116 then [] else []
def mha_1_3_4 (n : Nat) : List (Nat × Nat × Nat × Nat) := bif Nat.blt n 118 then [] else []
def mha_1_3 (n : Nat) : List (Nat × Nat × Nat × Nat) := bif Nat.blt n 113 then bif Nat.blt n 111 then mha_1_3_0 n else mha_1_3_1 n else bif Nat.blt n 115 then mha_1_3_2 n else bif Nat.blt n 117 then mha_1_3_3 n else mha_1_3_4 n
def mha_1_4_0 (n : Nat) : List (Nat × Nat × Nat × Nat) := bif Nat.blt n 120 then [] else []
def mha_1_4_1 (n : Nat) : List (Nat × Nat × Nat × Nat) := bif Nat.blt n 122 then [] else []
def mha_1_4_2 (n : Nat) : List (Nat × Nat × Nat × Nat) := bif Nat.blt n 124 then [] else []
def mha_1_4_3 (n : Nat) : List (Nat × Nat × Nat × Nat) := bif Nat.blt n 126 then [] else []
def mha_1_4_4 (n : Nat) : List (Nat × Nat × Nat × Nat) := bif Nat.blt n 128 then [] else []
def mha_1_4 (n : Nat) : List (Nat × Nat × Nat × Nat) := bif Nat.blt n 123 then bif Nat.blt n 121 then mha_1_4_0 n else mha_1_4_1 n else bif Nat.blt n 125 then mha_1_4_2 n else bif Nat.blt n 127 then mha_1_4_3 n else mha_1_4_4 n
def mha_1_5_0 (n : Nat) : List (Nat × Nat × Nat × Nat) := bif Nat.blt n 130 then [] else []
def mha_1_5_1 (n : Nat) : List (Nat × Nat × Nat × Nat) := bif Nat.blt n 132 then [] else []
def mha_1_5_2 (n : Nat) : List (Nat × Nat × Nat × Nat) := bif Nat.blt n 134 then [(0, 6, 9, 81)] else []
def mha_1_5_3 (n : Nat) : List (Nat × Nat × Nat × Nat) := bif Nat.blt n 136 then [] else []
def mha_1_5_4 (n : Nat) : List (Nat × Nat × Nat × Nat) := bif Nat.blt n 138 then [] else []
def mha_1_5 (n : Nat) : List (Nat × Nat × Nat × Nat) := bif Nat.blt n 133 then bif Nat.blt n 131 then mha_1_5_0 n else mha_1_5_1 n else bif Nat.blt n 135 then mha_1_5_2 n else bif Nat.blt n 137 then mha_1_5_3 n else mha_1_5_4 n
def mha_1_6_0 (n : Nat) : List (Nat × Nat × Nat × Nat) := bif Nat.blt n 140 then [] else []
def mha_1_6_1 (n : Nat) : List (Nat × Nat × Nat × Nat) := bif Nat.blt n 142 then [] else []
def mha_1_6_2 (n : Nat) : List (Nat × Nat × Nat × Nat) := bif Nat.blt n 144 then [] else []
def mha_1_6_3 (n : Nat) : List (Nat × Nat × Nat × Nat) := bif Nat.blt n 146 then [] else []
def mha_1_6_4 (n : Nat) : List (Nat × Nat × Nat × Nat) := bif Nat.blt n 148 then [] else [(34, 39, 42, 123)]
def mha_1_6 (n : Nat) : List (Nat × Nat × Nat × Nat) := bif Nat.blt n 143 then bif Nat.blt n 141 then mha_1_6_0 n else mha_1_6_1 n else bif Nat.blt n 145 then mha_1_6_2 n else bif Nat.blt n 147 then mha_1_6_3 n else mha_1_6_4 n
def mha_1_7_0 (n : Nat) : List (Nat × Nat × Nat × Nat) := bif Nat.blt n 150 then [] else []
def mha_1_7_1 (n : Nat) : List (Nat × Nat × Nat × Nat) := bif Nat.blt n 152 then [] else []
def mha_1_7_2 (n : Nat) : List (Nat × Nat × Nat × Nat) := bif Nat.blt n 154 then [] else []
def mha_1_7_3 (n : Nat) : List (Nat × Nat × Nat × Nat) := bif Nat.blt n 156 then [] else []
def mha_1_7_4 (n : Nat) : List (Nat × Nat × Nat × Nat) := []
def mha_1_7 (n : Nat) : List (Nat × Nat × Nat × Nat) := bif Nat.blt n 153 then bif Nat.blt n 151 then mha_1_7_0 n else mha_1_7_1 n else bif Nat.blt n 155 then mha_1_7_2 n else bif Nat.blt n 157 then mha_1_7_3 n else mha_1_7_4 n
def mha_1 (n : Nat) : List (Nat × Nat × Nat × Nat) := bif Nat.blt n 119 then bif Nat.blt n 99 then bif Nat.blt n 89 then mha_1_0 n else mha_1_1 n else bif Nat.blt n 109 then mha_1_2 n else mha_1_3 n else bif Nat.blt n 139 then bif Nat.blt n 129 then mha_1_4 n else mha_1_5 n else bif Nat.blt n 149 then mha_1_6 n else mha_1_7 n
def mha_2_0_0 (n : Nat) : List (Nat × Nat × Nat × Nat) := bif Nat.blt n 159 then [] else []
def mha_2_0_1 (n : Nat) : List (Nat × Nat × Nat × Nat) := bif Nat.blt n 161 then [] else []
def mha_2_0_2 (n : Nat) : List (Nat × Nat × Nat × Nat) := bif Nat.blt n 163 then [] else []
def mha_2_0_3 (n : Nat) : List (Nat × Nat × Nat × Nat) := bif Nat.blt n 165 then [] else []
def mha_2_0_4 (n : Nat) : List (Nat × Nat × Nat × Nat) := bif Nat.blt n 167 then [(0, 6, 9, 84)] else []
def mha_2_0 (n : Nat) : List (Nat × Nat × Nat × Nat) := bif Nat.blt n 162 then bif Nat.blt n 160 then mha_2_0_0 n else mha_2_0_1 n else bif Nat.blt n 164 then mha_2_0_2 n else bif Nat.blt n 166 then mha_2_0_3 n else mha_2_0_4 n
def mha_2_1_0 (n : Nat) : List (Nat × Nat × Nat × Nat) := bif Nat.blt n 169 then [] else []
def mha_2_1_1 (n : Nat) : List (Nat × Nat × Nat × Nat) := bif Nat.blt n 171 then [] else []
def mha_2_1_2 (n : Nat) : List (Nat × Nat × Nat × Nat) := bif Nat.blt n 173 then [] else []
def mha_2_1_3 (n : Nat) : List (Nat × Nat × Nat × Nat) := bif Nat.blt n 175 then [] else []
def mha_2_1_4 (n : Nat) : List (Nat × Nat × Nat × Nat) := bif Nat.blt n 177 then [(0, 5, 8, 105)] else []
def mha_2_1 (n : Nat) : List (Nat × Nat × Nat × Nat) := bif Nat.blt n 172 then bif Nat.blt n 170 then mha_2_1_0 n else mha_2_1_1 n else bif Nat.blt n 174 then mha_2_1_2 n else bif Nat.blt n 176 then mha_2_1_3 n else mha_2_1_4 n
def mha_2_2_0 (n : Nat) : List (Nat × Nat × Nat × Nat) := bif Nat.blt n 179 then [] else []
def mha_2_2_1 (n : Nat) : List (Nat × Nat × Nat × Nat) := bif Nat.blt n 181 then [] else []
def mha_2_2_2 (n : Nat) : List (Nat × Nat × Nat × Nat) := bif Nat.blt n 183 then [] else []
def mha_2_2_3 (n : Nat) : List (Nat × Nat × Nat × Nat) := bif Nat.blt n 185 then [] else []
def mha_2_2_4 (n : Nat) : List (Nat × Nat × Nat × Nat) := bif Nat.blt n 187 then [] else []
def mha_2_2 (n : Nat) : List (Nat × Nat × Nat × Nat) := bif Nat.blt n 182 then bif Nat.blt n 180 then mha_2_2_0 n else mha_2_2_1 n else bif Nat.blt n 184 then mha_2_2_2 n else bif Nat.blt n 186 then mha_2_2_3 n else mha_2_2_4 n
def mha_2_3_0 (n : Nat) : List (Nat × Nat × Nat × Nat) := bif Nat.blt n 189 then [] else []
def mha_2_3_1 (n : Nat) : List (Nat × Nat × Nat × Nat) := bif Nat.blt n 191 then [] else []
def mha_2_3_2 (n : Nat) : List (Nat × Nat × Nat × Nat) := bif Nat.blt n 193 then [] else []
def mha_2_3_3 (n : Nat) : List (Nat × Nat × Nat × Nat) := bif Nat.blt n 195 then [] else []
def mha_2_3_4 (n : Nat) : List (Nat × Nat × Nat × Nat) := bif Nat.blt n 197 then [] else []
def mha_2_3 (n : Nat) : List (Nat × Nat × Nat × Nat) := bif Nat.blt n 192 then bif Nat.blt n 190 then mha_2_3_0 n else mha_2_3_1 n else bif Nat.blt n 194 then mha_2_3_2 n else bif Nat.blt n 196 then mha_2_3_3 n else mha_2_3_4 n
def mha_2_4_0 (n : Nat) : List (Nat × Nat × Nat × Nat) := bif Nat.blt n 199 then [] else []
def mha_2_4_1 (n : Nat) : List (Nat × Nat × Nat × Nat) := bif Nat.blt n 201 then [] else []
def mha_2_4_2 (n : Nat) : List (Nat × Nat × Nat × Nat) := bif Nat.blt n 203 then [] else []
def mha_2_4_3 (n : Nat) : List (Nat × Nat × Nat × Nat) := bif Nat.blt n 205 then [] else []
def mha_2_4_4 (n : Nat) : List (Nat × Nat × Nat × Nat) := bif Nat.blt n 207 then [] else []
def mha_2_4 (n : Nat) : List (Nat × Nat × Nat × Nat) := bif Nat.blt n 202 then bif Nat.blt n 200 then mha_2_4_0 n else mha_2_4_1 n else bif Nat.blt n 204 then mha_2_4_2 n else bif Nat.blt n 206 then mha_2_4_3 n else mha_2_4_4 n
def mha_2_5_0 (n : Nat) : List (Nat × Nat × Nat × Nat) := bif Nat.blt n 209 then [] else []
def mha_2_5_1 (n : Nat) : List (Nat × Nat × Nat × Nat) := bif Nat.blt n 211 then [] else []
def mha_2_5_2 (n : Nat) : List (Nat × Nat × Nat × Nat) := bif Nat.blt n 213 then [] else []
def mha_2_5_3 (n : Nat) : List (Nat × Nat × Nat × Nat) := bif Nat.blt n 215 then [] else []
def mha_2_5_4 (n : Nat) : List (Nat × Nat × Nat × Nat) := bif Nat.blt n 217 then [] else []
def mha_2_5 (n : Nat) : List (Nat × Nat × Nat × Nat) := bif Nat.blt n 212 then bif Nat.blt n 210 then mha_2_5_0 n else mha_2_5_1 n else bif Nat.blt n 214 then mha_2_5_2 n else bif Nat.blt n 216 then mha_2_5_3 n else mha_2_5_4 n
def mha_2_6_0 (n : Nat) : List (Nat × Nat × Nat × Nat) := bif Nat.blt n 219 then [] else []
def mha_2_6_1 (n : Nat) : List (Nat × Nat × Nat × Nat) := bif Nat.blt n 221 then [] else []
def mha_2_6_2 (n : Nat) : List (Nat × Nat × Nat × Nat) := bif Nat.blt n 223 then [] else []
def mha_2_6_3 (n : Nat) : List (Nat × Nat × Nat × Nat) := bif Nat.blt n 225 then [] else []
def mha_2_6_4 (n : Nat) : List (Nat × Nat × Nat × Nat) := bif Nat.blt n 227 then [] else []
def mha_2_6 (n : Nat) : List (Nat × Nat × Nat × Nat) := bif Nat.blt n 222 then bif Nat.blt n 220 then mha_2_6_0 n else mha_2_6_1 n else bif Nat.blt n 224 then mha_2_6_2 n else bif Nat.blt n 226 then mha_2_6_3 n else mha_2_6_4 n
def mha_2_7_0 (n : Nat) : List (Nat × Nat × Nat × Nat) := bif Nat.blt n 229 then [] else []
def mha_2_7_1 (n : Nat) : List (Nat × Nat × Nat × Nat) := bif Nat.blt n 231 then [] else []
def mha_2_7_2 (n : Nat) : List (Nat × Nat × Nat × Nat) := bif Nat.blt n 233 then [] else []
def mha_2_7_3 (n : Nat) : List (Nat × Nat × Nat × Nat) := bif Nat.blt n 235 then [] else []
def mha_2_7_4 (n : Nat) : List (Nat × Nat × Nat × Nat) := []
def mha_2_7 (n : Nat) : List (Nat × Nat × Nat × Nat) := bif Nat.blt n 232 then bif Nat.blt n 230 then mha_2_7_0 n else mha_2_7_1 n else bif Nat.blt n 234 then mha_2_7_2 n else bif Nat.blt n 236 then mha_2_7_3 n else mha_2_7_4 n
def mha_2 (n : Nat) : List (Nat × Nat × Nat × Nat) := bif Nat.blt n 198 then bif Nat.blt n 178 then bif Nat.blt n 168 then mha_2_0 n else mha_2_1 n else bif Nat.blt n 188 then mha_2_2 n else mha_2_3 n else bif Nat.blt n 218 then bif Nat.blt n 208 then mha_2_4 n else mha_2_5 n else bif Nat.blt n 228 then mha_2_6 n else mha_2_7 n
def mha_3_0_0 (n : Nat) : List (Nat × Nat × Nat × Nat) := bif Nat.blt n 238 then [] else []
def mha_3_0_1 (n : Nat) : List (Nat × Nat × Nat × Nat) := bif Nat.blt n 240 then [] else []
def mha_3_0_2 (n : Nat) : List (Nat × Nat × Nat × Nat) := bif Nat.blt n 242 then [] else []
def mha_3_0_3 (n : Nat) : List (Nat × Nat × Nat × Nat) := bif Nat.blt n 244 then [] else []
def mha_3_0_4 (n : Nat) : List (Nat × Nat × Nat × Nat) := bif Nat.blt n 246 then [] else []
def mha_3_0 (n : Nat) : List (Nat × Nat × Nat × Nat) := bif Nat.blt n 241 then bif Nat.blt n 239 then mha_3_0_0 n else mha_3_0_1 n else bif Nat.blt n 243 then mha_3_0_2 n else bif Nat.blt n 245 then mha_3_0_3 n else mha_3_0_4 n
def mha_3_1_0 (n : Nat) : List (Nat × Nat × Nat × Nat) := bif Nat.blt n 248 then [] else []
def mha_3_1_1 (n : Nat) : List (Nat × Nat × Nat × Nat) := bif Nat.blt n 250 then [] else []
def mha_3_1_2 (n : Nat) : List (Nat × Nat × Nat × Nat) := bif Nat.blt n 252 then [] else []
def mha_3_1_3 (n : Nat) : List (Nat × Nat × Nat × Nat) := bif Nat.blt n 254 then [] else []
def mha_3_1_4 (n : Nat) : List (Nat × Nat × Nat × Nat) := bif Nat.blt n 256 then [] else []
def mha_3_1 (n : Nat) : List (Nat × Nat × Nat × Nat) := bif Nat.blt n 251 then bif Nat.blt n 249 then mha_3_1_0 n else mha_3_1_1 n else bif Nat.blt n 253 then mha_3_1_2 n else bif Nat.blt n 255 then mha_3_1_3 n else mha_3_1_4 n
def mha_3_2_0 (n : Nat) : List (Nat × Nat × Nat × Nat) := bif Nat.blt n 258 then [] else []
def mha_3_2_1 (n : Nat) : List (Nat × Nat × Nat × Nat) := bif Nat.blt n 260 then [] else []
def mha_3_2_2 (n : Nat) : List (Nat × Nat × Nat × Nat) := bif Nat.blt n 262 then [] else []
def mha_3_2_3 (n : Nat) : List (Nat × Nat × Nat × Nat) := bif Nat.blt n 264 then [] else []
def mha_3_2_4 (n : Nat) : List (Nat × Nat × Nat × Nat) := bif Nat.blt n 266 then [] else []
def mha_3_2 (n : Nat) : List (Nat × Nat × Nat × Nat) := bif Nat.blt n 261 then bif Nat.blt n 259 then mha_3_2_0 n else mha_3_2_1 n else bif Nat.blt n 263 then mha_3_2_2 n else bif Nat.blt n 265 then mha_3_2_3 n else mha_3_2_4 n
def mha_3_3_0 (n : Nat) : List (Nat × Nat × Nat × Nat) := bif Nat.blt n 268 then [] else []
def mha_3_3_1 (n : Nat) : List (Nat × Nat × Nat × Nat) := bif Nat.blt n 270 then [] else []
def mha_3_3_2 (n : Nat) : List (Nat × Nat × Nat × Nat) := bif Nat.blt n 272 then [] else []
def mha_3_3_3 (n : Nat) : List (Nat × Nat × Nat × Nat) := bif Nat.blt n 274 then [] else []
def mha_3_3_4 (n : Nat) : List (Nat × Nat × Nat × Nat) := bif Nat.blt n 276 then [] else []
def mha_3_3 (n : Nat) : List (Nat × Nat × Nat × Nat) := bif Nat.blt n 271 then bif Nat.blt n 269 then mha_3_3_0 n else mha_3_3_1 n else bif Nat.blt n 273 then mha_3_3_2 n else bif Nat.blt n 275 then mha_3_3_3 n else mha_3_3_4 n
def mha_3_4_0 (n : Nat) : List (Nat × Nat × Nat × Nat) := bif Nat.blt n 278 then [] else []
def mha_3_4_1 (n : Nat) : List (Nat × Nat × Nat × Nat) := bif Nat.blt n 280 then [] else []
def mha_3_4_2 (n : Nat) : List (Nat × Nat × Nat × Nat) := bif Nat.blt n 282 then [] else []
def mha_3_4_3 (n : Nat) : List (Nat × Nat × Nat × Nat) := bif Nat.blt n 284 then [] else []
def mha_3_4_4 (n : Nat) : List (Nat × Nat × Nat × Nat) := bif Nat.blt n 286 then [] else []
def mha_3_4 (n : Nat) : List (Nat × Nat × Nat × Nat) := bif Nat.blt n 281 then bif Nat.blt n 279 then mha_3_4_0 n else mha_3_4_1 n else bif Nat.blt n 283 then mha_3_4_2 n else bif Nat.blt n 285 then mha_3_4_3 n else mha_3_4_4 n
def mha_3_5_0 (n : Nat) : List (Nat × Nat × Nat × Nat) := bif Nat.blt n 288 then [] else []
def mha_3_5_1 (n : Nat) : List (Nat × Nat × Nat × Nat) := bif Nat.blt n 290 then [] else []
def mha_3_5_2 (n : Nat) : List (Nat × Nat × Nat × Nat) := bif Nat.blt n 292 then [] else []
def mha_3_5_3 (n : Nat) : List (Nat × Nat × Nat × Nat) := bif Nat.blt n 294 then [] else []
def mha_3_5_4 (n : Nat) : List (Nat × Nat × Nat × Nat) := bif Nat.blt n 296 then [] else []
def mha_3_5 (n : Nat) : List (Nat × Nat × Nat × Nat) := bif Nat.blt n 291 then bif Nat.blt n 289 then mha_3_5_0 n else mha_3_5_1 n else bif Nat.blt n 293 then mha_3_5_2 n else bif Nat.blt n 295 then mha_3_5_3 n else mha_3_5_4 n
def mha_3_6_0 (n : Nat) : List (Nat × Nat × Nat × Nat) := bif Nat.blt n 298 then [] else []
def mha_3_6_1 (n : Nat) : List (Nat × Nat × Nat × Nat) := bif Nat.blt n 300 then [] else []
def mha_3_6_2 (n : Nat) : List (Nat × Nat × Nat × Nat) := bif Nat.blt n 302 then [] else []
def mha_3_6_3 (n : Nat) : List (Nat × Nat × Nat × Nat) := bif Nat.blt n 304 then [] else []
def mha_3_6_4 (n : Nat) : List (Nat × Nat × Nat × Nat) := bif Nat.blt n 306 then [] else []
def mha_3_6 (n : Nat) : List (Nat × Nat × Nat × Nat) := bif Nat.blt n 301 then bif Nat.blt n 299 then mha_3_6_0 n else mha_3_6_1 n else bif Nat.blt n 303 then mha_3_6_2 n else bif Nat.blt n 305 then mha_3_6_3 n else mha_3_6_4 n
def mha_3_7_0 (n : Nat) : List (Nat × Nat × Nat × Nat) := bif Nat.blt n 308 then [] else []
def mha_3_7_1 (n : Nat) : List (Nat × Nat × Nat × Nat) := bif Nat.blt n 310 then [] else []
def mha_3_7_2 (n : Nat) : List (Nat × Nat × Nat × Nat) := bif Nat.blt n 312 then [] else []
def mha_3_7_3 (n : Nat) : List (Nat × Nat × Nat × Nat) := bif Nat.blt n 314 then [] else []
def mha_3_7_4 (n : Nat) : List (Nat × Nat × Nat × Nat) := []
def mha_3_7 (n : Nat) : List (Nat × Nat × Nat × Nat) := bif Nat.blt n 311 then bif Nat.blt n 309 then mha_3_7_0 n else mha_3_7_1 n else bif Nat.blt n 313 then mha_3_7_2 n else bif Nat.blt n 315 then mha_3_7_3 n else mha_3_7_4 n
def mha_3 (n : Nat) : List (Nat × Nat × Nat × Nat) := bif Nat.blt n 277 then bif Nat.blt n 257 then bif Nat.blt n 247 then mha_3_0 n else mha_3_1 n else bif Nat.blt n 267 then mha_3_2 n else mha_3_3 n else bif Nat.blt n 297 then bif Nat.blt n 287 then mha_3_4 n else mha_3_5 n else bif Nat.blt n 307 then mha_3_6 n else mha_3_7 n
def mha_4_0_0 (n : Nat) : List (Nat × Nat × Nat × Nat) := bif Nat.blt n 317 then [] else []
def mha_4_0_1 (n : Nat) : List (Nat × Nat × Nat × Nat) := bif Nat.blt n 319 then [] else []
def mha_4_0_2 (n : Nat) : List (Nat × Nat × Nat × Nat) := bif Nat.blt n 321 then [] else []
def mha_4_0_3 (n : Nat) : List (Nat × Nat × Nat × Nat) := bif Nat.blt n 323 then [] else []
def mha_4_0_4 (n : Nat) : List (Nat × Nat × Nat × Nat) := bif Nat.blt n 325 then [] else []
def mha_4_0 (n : Nat) : List (Nat × Nat × Nat × Nat) := bif Nat.blt n 320 then bif Nat.blt n 318 then mha_4_0_0 n else mha_4_0_1 n else bif Nat.blt n 322 then mha_4_0_2 n else bif Nat.blt n 324 then mha_4_0_3 n else mha_4_0_4 n
def mha_4_1_0 (n : Nat) : List (Nat × Nat × Nat × Nat) := bif Nat.blt n 327 then [] else []
def mha_4_1_1 (n : Nat) : List (Nat × Nat × Nat × Nat) := bif Nat.blt n 329 then [] else []
def mha_4_1_2 (n : Nat) : List (Nat × Nat × Nat × Nat) := bif Nat.blt n 331 then [] else []
def mha_4_1_3 (n : Nat) : List (Nat × Nat × Nat × Nat) := bif Nat.blt n 333 then [] else []
def mha_4_1_4 (n : Nat) : List (Nat × Nat × Nat × Nat) := bif Nat.blt n 335 then [] else []
def mha_4_1 (n : Nat) : List (Nat × Nat × Nat × Nat) := bif Nat.blt n 330 then bif Nat.blt n 328 then mha_4_1_0 n else mha_4_1_1 n else bif Nat.blt n 332 then mha_4_1_2 n else bif Nat.blt n 334 then mha_4_1_3 n else mha_4_1_4 n
def mha_4_2_0 (n : Nat) : List (Nat × Nat × Nat × Nat) := bif Nat.blt n 337 then [] else []
def mha_4_2_1 (n : Nat) : List (Nat × Nat × Nat × Nat) := bif Nat.blt n 339 then [] else []
def mha_4_2_2 (n : Nat) : List (Nat × Nat × Nat × Nat) := bif Nat.blt n 341 then [] else []
def mha_4_2_3 (n : Nat) : List (Nat × Nat × Nat × Nat) := bif Nat.blt n 343 then [] else []
def mha_4_2_4 (n : Nat) : List (Nat × Nat × Nat × Nat) := bif Nat.blt n 345 then [] else []
def mha_4_2 (n : Nat) : List (Nat × Nat × Nat × Nat) := bif Nat.blt n 340 then bif Nat.blt n 338 then mha_4_2_0 n else mha_4_2_1 n else bif Nat.blt n 342 then mha_4_2_2 n else bif Nat.blt n 344 then mha_4_2_3 n else mha_4_2_4 n
def mha_4_3_0 (n : Nat) : List (Nat × Nat × Nat × Nat) := bif Nat.blt n 347 then [] else []
def mha_4_3_1 (n : Nat) : List (Nat × Nat × Nat × Nat) := bif Nat.blt n 349 then [] else []
def mha_4_3_2 (n : Nat) : List (Nat × Nat × Nat × Nat) := bif Nat.blt n 351 then [] else []
def mha_4_3_3 (n : Nat) : List (Nat × Nat × Nat × Nat) := bif Nat.blt n 353 then [] else []
def mha_4_3_4 (n : Nat) : List (Nat × Nat × Nat × Nat) := bif Nat.blt n 355 then [] else []
def mha_4_3 (n : Nat) : List (Nat × Nat × Nat × Nat) := bif Nat.blt n 350 then bif Nat.blt n 348 then mha_4_3_0 n else mha_4_3_1 n else bif Nat.blt n 352 then mha_4_3_2 n else bif Nat.blt n 354 then mha_4_3_3 n else mha_4_3_4 n
def mha_4_4_0 (n : Nat) : List (Nat × Nat × Nat × Nat) := bif Nat.blt n 357 then [] else []
def mha_4_4_1 (n : Nat) : List (Nat × Nat × Nat × Nat) := bif Nat.blt n 359 then [(0, 8, 11, 34)] else []
def mha_4_4_2 (n : Nat) : List (Nat × Nat × Nat × Nat) := bif Nat.blt n 361 then [] else []
def mha_4_4_3 (n : Nat) : List (Nat × Nat × Nat × Nat) := bif Nat.blt n 363 then [(0, 12, 15, 34), (0, 12, 19, 19)] else []
def mha_4_4_4 (n : Nat) : List (Nat × Nat × Nat × Nat) := bif Nat.blt n 365 then [] else []
def mha_4_4 (n : Nat) : List (Nat × Nat × Nat × Nat) := bif Nat.blt n 360 then bif Nat.blt n 358 then mha_4_4_0 n else mha_4_4_1 n else bif Nat.blt n 362 then mha_4_4_2 n else bif Nat.blt n 364 then mha_4_4_3 n else mha_4_4_4 n
def mha_4_5_0 (n : Nat) : List (Nat × Nat × Nat × Nat) := bif Nat.blt n 367 then [(0, 9, 12, 34), (0, 9, 15, 28)] else []
def mha_4_5_1 (n : Nat) : List (Nat × Nat × Nat × Nat) := bif Nat.blt n 369 then [] else []
def mha_4_5_2 (n : Nat) : List (Nat × Nat × Nat × Nat) := bif Nat.blt n 371 then [] else []
def mha_4_5_3 (n : Nat) : List (Nat × Nat × Nat × Nat) := bif Nat.blt n 373 then [] else [(0, 12, 15, 34), (0, 12, 19, 19), (0, 12, 23, 28), (0, 12, 27, 13)]
def mha_4_5_4 (n : Nat) : List (Nat × Nat × Nat × Nat) := bif Nat.blt n 375 then [] else []
def mha_4_5 (n : Nat) : List (Nat × Nat × Nat × Nat) := bif Nat.blt n 370 then bif Nat.blt n 368 then mha_4_5_0 n else mha_4_5_1 n else bif Nat.blt n 372 then mha_4_5_2 n else bif Nat.blt n 374 then mha_4_5_3 n else mha_4_5_4 n
def mha_4_6_0 (n : Nat) : List (Nat × Nat × Nat × Nat) := bif Nat.blt n 377 then [(0, 8, 11, 13)] else []
def mha_4_6_1 (n : Nat) : List (Nat × Nat × Nat × Nat) := bif Nat.blt n 379 then [] else [(0, 8, 11, 34), (0, 8, 14, 28)]
def mha_4_6_2 (n : Nat) : List (Nat × Nat × Nat × Nat) := bif Nat.blt n 381 then [] else []
def mha_4_6_3 (n : Nat) : List (Nat × Nat × Nat × Nat) := bif Nat.blt n 383 then [(0, 9, 12, 34), (0, 9, 16, 19)] else []
def mha_4_6_4 (n : Nat) : List (Nat × Nat × Nat × Nat) := bif Nat.blt n 385 then [] else []
def mha_4_6 (n : Nat) : List (Nat × Nat × Nat × Nat) := bif Nat.blt n 380 then bif Nat.blt n 378 then mha_4_6_0 n else mha_4_6_1 n else bif Nat.blt n 382 then mha_4_6_2 n else bif Nat.blt n 384 then mha_4_6_3 n else mha_4_6_4 n
def mha_4_7_0 (n : Nat) : List (Nat × Nat × Nat × Nat) := bif Nat.blt n 387 then [(0, 12, 15, 19)] else []
def mha_4_7_1 (n : Nat) : List (Nat × Nat × Nat × Nat) := bif Nat.blt n 389 then [] else []
def mha_4_7_2 (n : Nat) : List (Nat × Nat × Nat × Nat) := bif Nat.blt n 391 then [(0, 14, 17, 19), (0, 14, 21, 13)] else []
def mha_4_7_3 (n : Nat) : List (Nat × Nat × Nat × Nat) := bif Nat.blt n 393 then [] else [(0, 17, 20, 34), (0, 17, 24, 19), (0, 17, 28, 28)]
def mha_4_7_4 (n : Nat) : List (Nat × Nat × Nat × Nat) := []
def mha_4_7 (n : Nat) : List (Nat × Nat × Nat × Nat) := bif Nat.blt n 390 then bif Nat.blt n 388 then mha_4_7_0 n else mha_4_7_1 n else bif Nat.blt n 392 then mha_4_7_2 n else bif Nat.blt n 394 then mha_4_7_3 n else mha_4_7_4 n
def mha_4 (n : Nat) : List (Nat × Nat × Nat × Nat) := bif Nat.blt n 356 then bif Nat.blt n 336 then bif Nat.blt n 326 then mha_4_0 n else mha_4_1 n else bif Nat.blt n 346 then mha_4_2 n else mha_4_3 n else bif Nat.blt n 376 then bif Nat.blt n 366 then mha_4_4 n else mha_4_5 n else bif Nat.blt n 386 then mha_4_6 n else mha_4_7 n
def mha_5_0_0 (n : Nat) : List (Nat × Nat × Nat × Nat) := bif Nat.blt n 396 then [] else [(0, 10, 13, 34), (0, 10, 17, 19), (0, 10, 21, 28)]
def mha_5_0_1 (n : Nat) : List (Nat × Nat × Nat × Nat) := bif Nat.blt n 398 then [] else []
def mha_5_0_2 (n : Nat) : List (Nat × Nat × Nat × Nat) := bif Nat.blt n 400 then [] else [(0, 8, 11, 13)]
def mha_5_0_3 (n : Nat) : List (Nat × Nat × Nat × Nat) := bif Nat.blt n 402 then [] else []
def mha_5_0_4 (n : Nat) : List (Nat × Nat × Nat × Nat) := bif Nat.blt n 404 then [(0, 9, 12, 19), (0, 9, 15, 28)] else []
def mha_5_0 (n : Nat) : List (Nat × Nat × Nat × Nat) := bif Nat.blt n 399 then bif Nat.blt n 397 then mha_5_0_0 n else mha_5_0_1 n else bif Nat.blt n 401 then mha_5_0_2 n else bif Nat.blt n 403 then mha_5_0_3 n else mha_5_0_4 n
def mha_5_1_0 (n : Nat) : List (Nat × Nat × Nat × Nat) := bif Nat.blt n 406 then [] else []
def mha_5_1_1 (n : Nat) : List (Nat × Nat × Nat × Nat) := bif Nat.blt n 408 then [] else [(0, 10, 13, 34), (0, 10, 17, 19)]
def mha_5_1_2 (n : Nat) : List (Nat × Nat × Nat × Nat) := bif Nat.blt n 410 then [] else []
def mha_5_1_3 (n : Nat) : List (Nat × Nat × Nat × Nat) := bif Nat.blt n 412 then [] else [(0, 9, 12, 19), (0, 9, 15, 13)]
def mha_5_1_4 (n : Nat) : List (Nat × Nat × Nat × Nat) := bif Nat.blt n 414 then [] else []
def mha_5_1 (n : Nat) : List (Nat × Nat × Nat × Nat) := bif Nat.blt n 409 then bif Nat.blt n 407 then mha_5_1_0 n else mha_5_1_1 n else bif Nat.blt n 411 then mha_5_1_2 n else bif Nat.blt n 413 then mha_5_1_3 n else mha_5_1_4 n
def mha_5_2_0 (n : Nat) : List (Nat × Nat × Nat × Nat) := bif Nat.blt n 416 then [] else []
def mha_5_2_1 (n : Nat) : List (Nat × Nat × Nat × Nat) := bif Nat.blt n 418 then [] else []
def mha_5_2_2 (n : Nat) : List (Nat × Nat × Nat × Nat) := bif Nat.blt n 420 then [] else []
def mha_5_2_3 (n : Nat) : List (Nat × Nat × Nat × Nat) := bif Nat.blt n 422 then [] else []
def mha_5_2_4 (n : Nat) : List (Nat × Nat × Nat × Nat) := bif Nat.blt n 424 then [] else []
def mha_5_2 (n : Nat) : List (Nat × Nat × Nat × Nat) := bif Nat.blt n 419 then bif Nat.blt n 417 then mha_5_2_0 n else mha_5_2_1 n else bif Nat.blt n 421 then mha_5_2_2 n else bif Nat.blt n 423 then mha_5_2_3 n else mha_5_2_4 n
def mha_5_3_0 (n : Nat) : List (Nat × Nat × Nat × Nat) := bif Nat.blt n 426 then [] else []
def mha_5_3_1 (n : Nat) : List (Nat × Nat × Nat × Nat) := bif Nat.blt n 428 then [] else []
def mha_5_3_2 (n : Nat) : List (Nat × Nat × Nat × Nat) := bif Nat.blt n 430 then [] else []
def mha_5_3_3 (n : Nat) : List (Nat × Nat × Nat × Nat) := bif Nat.blt n 432 then [] else []
def mha_5_3_4 (n : Nat) : List (Nat × Nat × Nat × Nat) := bif Nat.blt n 434 then [] else []
def mha_5_3 (n : Nat) : List (Nat × Nat × Nat × Nat) := bif Nat.blt n 429 then bif Nat.blt n 427 then mha_5_3_0 n else mha_5_3_1 n else bif Nat.blt n 431 then mha_5_3_2 n else bif Nat.blt n 433 then mha_5_3_3 n else mha_5_3_4 n
def mha_5_4_0 (n : Nat) : List (Nat × Nat × Nat × Nat) := bif Nat.blt n 436 then [] else []
def mha_5_4_1 (n : Nat) : List (Nat × Nat × Nat × Nat) := bif Nat.blt n 438 then [] else []
def mha_5_4_2 (n : Nat) : List (Nat × Nat × Nat × Nat) := bif Nat.blt n 440 then [] else []
def mha_5_4_3 (n : Nat) : List (Nat × Nat × Nat × Nat) := bif Nat.blt n 442 then [] else []
def mha_5_4_4 (n : Nat) : List (Nat × Nat × Nat × Nat) := bif Nat.blt n 444 then [] else []
def mha_5_4 (n : Nat) : List (Nat × Nat × Nat × Nat) := bif Nat.blt n 439 then bif Nat.blt n 437 then mha_5_4_0 n else mha_5_4_1 n else bif Nat.blt n 441 then mha_5_4_2 n else bif Nat.blt n 443 then mha_5_4_3 n else mha_5_4_4 n
def mha_5_5_0 (n : Nat) : List (Nat × Nat × Nat × Nat) := bif Nat.blt n 446 then [] else []
def mha_5_5_1 (n : Nat) : List (Nat × Nat × Nat × Nat) := bif Nat.blt n 448 then [] else []
def mha_5_5_2 (n : Nat) : List (Nat × Nat × Nat × Nat) := bif Nat.blt n 450 then [] else []
def mha_5_5_3 (n : Nat) : List (Nat × Nat × Nat × Nat) := bif Nat.blt n 452 then [] else []
def mha_5_5_4 (n : Nat) : List (Nat × Nat × Nat × Nat) := bif Nat.blt n 454 then [] else [(0, 9, 12, 34), (0, 9, 15, 28), (0, 9, 18, 13)]
def mha_5_5 (n : Nat) : List (Nat × Nat × Nat × Nat) := bif Nat.blt n 449 then bif Nat.blt n 447 then mha_5_5_0 n else mha_5_5_1 n else bif Nat.blt n 451 then mha_5_5_2 n else bif Nat.blt n 453 then mha_5_5_3 n else mha_5_5_4 n
def mha_5_6_0 (n : Nat) : List (Nat × Nat × Nat × Nat) := bif Nat.blt n 456 then [] else []
def mha_5_6_1 (n : Nat) : List (Nat × Nat × Nat × Nat) := bif Nat.blt n 458 then [(0, 9, 12, 19), (0, 9, 15, 13)] else []
def mha_5_6_2 (n : Nat) : List (Nat × Nat × Nat × Nat) := bif Nat.blt n 460 then [] else [(0, 10, 13, 34), (0, 10, 17, 19)]
def mha_5_6_3 (n : Nat) : List (Nat × Nat × Nat × Nat) := bif Nat.blt n 462 then [] else []
def mha_5_6_4 (n : Nat) : List (Nat × Nat × Nat × Nat) := bif Nat.blt n 464 then [] else [(0, 9, 12, 34), (0, 9, 16, 19)]
def mha_5_6 (n : Nat) : List (Nat × Nat × Nat × Nat) := bif Nat.blt n 459 then bif Nat.blt n 457 then mha_5_6_0 n else mha_5_6_1 n else bif Nat.blt n 461 then mha_5_6_2 n else bif Nat.blt n 463 then mha_5_6_3 n else mha_5_6_4 n
def mha_5_7_0 (n : Nat) : List (Nat × Nat × Nat × Nat) := bif Nat.blt n 466 then [] else []
def mha_5_7_1 (n : Nat) : List (Nat × Nat × Nat × Nat) := bif Nat.blt n 468 then [(0, 10, 13, 34), (0, 10, 17, 19)] else []
def mha_5_7_2 (n : Nat) : List (Nat × Nat × Nat × Nat) := bif Nat.blt n 470 then [] else []
def mha_5_7_3 (n : Nat) : List (Nat × Nat × Nat × Nat) := bif Nat.blt n 472 then [(0, 9, 12, 19), (0, 9, 15, 13)] else []
def mha_5_7_4 (n : Nat) : List (Nat × Nat × Nat × Nat) := []
def mha_5_7 (n : Nat) : List (Nat × Nat × Nat × Nat) := bif Nat.blt n 469 then bif Nat.blt n 467 then mha_5_7_0 n else mha_5_7_1 n else bif Nat.blt n 471 then mha_5_7_2 n else bif Nat.blt n 473 then mha_5_7_3 n else mha_5_7_4 n
def mha_5 (n : Nat) : List (Nat × Nat × Nat × Nat) := bif Nat.blt n 435 then bif Nat.blt n 415 then bif Nat.blt n 405 then mha_5_0 n else mha_5_1 n else bif Nat.blt n 425 then mha_5_2 n else mha_5_3 n else bif Nat.blt n 455 then bif Nat.blt n 445 then mha_5_4 n else mha_5_5 n else bif Nat.blt n 465 then mha_5_6 n else mha_5_7 n
def mha_6_0_0 (n : Nat) : List (Nat × Nat × Nat × Nat) := bif Nat.blt n 475 then [(0, 10, 13, 34), (0, 10, 17, 19), (0, 10, 21, 28), (0, 10, 25, 13)] else []
def mha_6_0_1 (n : Nat) : List (Nat × Nat × Nat × Nat) := bif Nat.blt n 477 then [] else [(0, 12, 15, 34), (0, 12, 19, 19), (0, 12, 23, 28), (0, 12, 27, 13)]
def mha_6_0_2 (n : Nat) : List (Nat × Nat × Nat × Nat) := bif Nat.blt n 479 then [] else []
def mha_6_0_3 (n : Nat) : List (Nat × Nat × Nat × Nat) := bif Nat.blt n 481 then [(0, 12, 15, 34), (0, 12, 19, 19)] else []
def mha_6_0_4 (n : Nat) : List (Nat × Nat × Nat × Nat) := bif Nat.blt n 483 then [] else []
def mha_6_0 (n : Nat) : List (Nat × Nat × Nat × Nat) := bif Nat.blt n 478 then bif Nat.blt n 476 then mha_6_0_0 n else mha_6_0_1 n else bif Nat.blt n 480 then mha_6_0_2 n else bif Nat.blt n 482 then mha_6_0_3 n else mha_6_0_4 n
def mha_6_1_0 (n : Nat) : List (Nat × Nat × Nat × Nat) := bif Nat.blt n 485 then [(0, 12, 15, 34), (0, 12, 19, 19), (0, 12, 23, 28), (0, 12, 27, 13)] else []
def mha_6_1_1 (n : Nat) : List (Nat × Nat × Nat × Nat) := bif Nat.blt n 487 then [] else [(0, 10, 13, 34), (0, 10, 17, 19)]
def mha_6_1_2 (n : Nat) : List (Nat × Nat × Nat × Nat) := bif Nat.blt n 489 then [] else []
def mha_6_1_3 (n : Nat) : List (Nat × Nat × Nat × Nat) := bif Nat.blt n 491 then [] else [(0, 8, 11, 19)]
def mha_6_1_4 (n : Nat) : List (Nat × Nat × Nat × Nat) := bif Nat.blt n 493 then [] else []
def mha_6_1 (n : Nat) : List (Nat × Nat × Nat × Nat) := bif Nat.blt n 488 then bif Nat.blt n 486 then mha_6_1_0 n else mha_6_1_1 n else bif Nat.blt n 490 then mha_6_1_2 n else bif Nat.blt n 492 then mha_6_1_3 n else mha_6_1_4 n
def mha_6_2_0 (n : Nat) : List (Nat × Nat × Nat × Nat) := bif Nat.blt n 495 then [(0, 8, 11, 19)] else []
def mha_6_2_1 (n : Nat) : List (Nat × Nat × Nat × Nat) := bif Nat.blt n 497 then [] else []
def mha_6_2_2 (n : Nat) : List (Nat × Nat × Nat × Nat) := bif Nat.blt n 499 then [(0, 6, 9, 19)] else []
def mha_6_2_3 (n : Nat) : List (Nat × Nat × Nat × Nat) := bif Nat.blt n 501 then [] else [(0, 10, 13, 34), (0, 10, 17, 19)]
def mha_6_2_4 (n : Nat) : List (Nat × Nat × Nat × Nat) := bif Nat.blt n 503 then [] else []
def mha_6_2 (n : Nat) : List (Nat × Nat × Nat × Nat) := bif Nat.blt n 498 then bif Nat.blt n 496 then mha_6_2_0 n else mha_6_2_1 n else bif Nat.blt n 500 then mha_6_2_2 n else bif Nat.blt n 502 then mha_6_2_3 n else mha_6_2_4 n
def mha_6_3_0 (n : Nat) : List (Nat × Nat × Nat × Nat) := bif Nat.blt n 505 then [] else [(0, 9, 12, 19)]
def mha_6_3_1 (n : Nat) : List (Nat × Nat × Nat × Nat) := bif Nat.blt n 507 then [] else []
def mha_6_3_2 (n : Nat) : List (Nat × Nat × Nat × Nat) := bif Nat.blt n 509 then [(0, 10, 13, 34), (0, 10, 17, 19), (0, 10, 21, 28)] else []
def mha_6_3_3 (n : Nat) : List (Nat × Nat × Nat × Nat) := bif Nat.blt n 511 then [] else [(0, 9, 12, 19), (0, 9, 15, 28), (0, 9, 18, 13)]
def mha_6_3_4 (n : Nat) : List (Nat × Nat × Nat × Nat) := bif Nat.blt n 513 then [] else []
def mha_6_3 (n : Nat) : List (Nat × Nat × Nat × Nat) := bif Nat.blt n 508 then bif Nat.blt n 506 then mha_6_3_0 n else mha_6_3_1 n else bif Nat.blt n 510 then mha_6_3_2 n else bif Nat.blt n 512 then mha_6_3_3 n else mha_6_3_4 n
def mha_6_4_0 (n : Nat) : List (Nat × Nat × Nat × Nat) := bif Nat.blt n 515 then [(0, 12, 15, 34), (0, 12, 19, 19), (0, 12, 23, 28), (0, 12, 27, 13)] else []
def mha_6_4_1 (n : Nat) : List (Nat × Nat × Nat × Nat) := bif Nat.blt n 517 then [] else [(0, 9, 12, 34), (0, 9, 15, 28)]
def mha_6_4_2 (n : Nat) : List (Nat × Nat × Nat × Nat) := bif Nat.blt n 519 then [] else []
def mha_6_4_3 (n : Nat) : List (Nat × Nat × Nat × Nat) := bif Nat.blt n 521 then [(0, 17, 20, 34), (0, 17, 24, 28)] else []
def mha_6_4_4 (n : Nat) : List (Nat × Nat × Nat × Nat) := bif Nat.blt n 523 then [] else [(0, 9, 12, 19), (0, 9, 15, 13)]
def mha_6_4 (n : Nat) : List (Nat × Nat × Nat × Nat) := bif Nat.blt n 518 then bif Nat.blt n 516 then mha_6_4_0 n else mha_6_4_1 n else bif Nat.blt n 520 then mha_6_4_2 n else bif Nat.blt n 522 then mha_6_4_3 n else mha_6_4_4 n
def mha_6_5_0 (n : Nat) : List (Nat × Nat × Nat × Nat) := bif Nat.blt n 525 then [] else []
def mha_6_5_1 (n : Nat) : List (Nat × Nat × Nat × Nat) := bif Nat.blt n 527 then [(0, 10, 13, 34), (0, 10, 17, 19)] else []
def mha_6_5_2 (n : Nat) : List (Nat × Nat × Nat × Nat) := bif Nat.blt n 529 then [] else []
def mha_6_5_3 (n : Nat) : List (Nat × Nat × Nat × Nat) := bif Nat.blt n 531 then [(0, 9, 12, 34), (0, 9, 15, 28)] else []
def mha_6_5_4 (n : Nat) : List (Nat × Nat × Nat × Nat) := bif Nat.blt n 533 then [] else [(0, 12, 15, 19), (0, 12, 19, 13)]
def mha_6_5 (n : Nat) : List (Nat × Nat × Nat × Nat) := bif Nat.blt n 528 then bif Nat.blt n 526 then mha_6_5_0 n else mha_6_5_1 n else bif Nat.blt n 530 then mha_6_5_2 n else bif Nat.blt n 532 then mha_6_5_3 n else mha_6_5_4 n
def mha_6_6_0 (n : Nat) : List (Nat × Nat × Nat × Nat) := bif Nat.blt n 535 then [] else []
def mha_6_6_1 (n : Nat) : List (Nat × Nat × Nat × Nat) := bif Nat.blt n 537 then [(0, 9, 12, 34), (0, 9, 15, 28), (0, 9, 18, 13)] else []
def mha_6_6_2 (n : Nat) : List (Nat × Nat × Nat × Nat) := bif Nat.blt n 539 then [] else [(0, 10, 13, 34), (0, 10, 17, 19)]
def mha_6_6_3 (n : Nat) : List (Nat × Nat × Nat × Nat) := bif Nat.blt n 541 then [] else []
def mha_6_6_4 (n : Nat) : List (Nat × Nat × Nat × Nat) := bif Nat.blt n 543 then [] else [(0, 9, 12, 34), (0, 9, 15, 28)]
def mha_6_6 (n : Nat) : List (Nat × Nat × Nat × Nat) := bif Nat.blt n 538 then bif Nat.blt n 536 then mha_6_6_0 n else mha_6_6_1 n else bif Nat.blt n 540 then mha_6_6_2 n else bif Nat.blt n 542 then mha_6_6_3 n else mha_6_6_4 n
def mha_6_7_0 (n : Nat) : List (Nat × Nat × Nat × Nat) := bif Nat.blt n 545 then [] else []
def mha_6_7_1 (n : Nat) : List (Nat × Nat × Nat × Nat) := bif Nat.blt n 547 then [] else []
def mha_6_7_2 (n : Nat) : List (Nat × Nat × Nat × Nat) := bif Nat.blt n 549 then [] else [(0, 12, 15, 34), (0, 12, 19, 19)]
def mha_6_7_3 (n : Nat) : List (Nat × Nat × Nat × Nat) := bif Nat.blt n 551 then [] else []
def mha_6_7_4 (n : Nat) : List (Nat × Nat × Nat × Nat) := []
def mha_6_7 (n : Nat) : List (Nat × Nat × Nat × Nat) := bif Nat.blt n 548 then bif Nat.blt n 546 then mha_6_7_0 n else mha_6_7_1 n else bif Nat.blt n 550 then mha_6_7_2 n else bif Nat.blt n 552 then mha_6_7_3 n else mha_6_7_4 n
def mha_6 (n : Nat) : List (Nat × Nat × Nat × Nat) := bif Nat.blt n 514 then bif Nat.blt n 494 then bif Nat.blt n 484 then mha_6_0 n else mha_6_1 n else bif Nat.blt n 504 then mha_6_2 n else mha_6_3 n else bif Nat.blt n 534 then bif Nat.blt n 524 then mha_6_4 n else mha_6_5 n else bif Nat.blt n 544 then mha_6_6 n else mha_6_7 n
def mha_7_0_0 (n : Nat) : List (Nat × Nat × Nat × Nat) := bif Nat.blt n 554 then [] else [(0, 12, 15, 34), (0, 12, 19, 19)]
def mha_7_0_1 (n : Nat) : List (Nat × Nat × Nat × Nat) := bif Nat.blt n 556 then [] else []
def mha_7_0_2 (n : Nat) : List (Nat × Nat × Nat × Nat) := bif Nat.blt n 558 then [] else [(0, 5, 8, 34), (0, 5, 11, 28)]
def mha_7_0_3 (n : Nat) : List (Nat × Nat × Nat × Nat) := bif Nat.blt n 560 then [] else []
def mha_7_0_4 (n : Nat) : List (Nat × Nat × Nat × Nat) := bif Nat.blt n 562 then [(0, 9, 12, 34), (0, 9, 15, 28), (0, 9, 18, 13)] else []
def mha_7_0 (n : Nat) : List (Nat × Nat × Nat × Nat) := bif Nat.blt n 557 then bif Nat.blt n 555 then mha_7_0_0 n else mha_7_0_1 n else bif Nat.blt n 559 then mha_7_0_2 n else bif Nat.blt n 561 then mha_7_0_3 n else mha_7_0_4 n
def mha_7_1_0 (n : Nat) : List (Nat × Nat × Nat × Nat) := bif Nat.blt n 564 then [] else [(0, 14, 17, 34), (0, 14, 21, 19), (0, 14, 25, 28), (0, 14, 29, 13)]
def mha_7_1_1 (n : Nat) : List (Nat × Nat × Nat × Nat) := bif Nat.blt n 566 then [] else []
def mha_7_1_2 (n : Nat) : List (Nat × Nat × Nat × Nat) := bif Nat.blt n 568 then [(0, 10, 13, 19), (0, 10, 17, 13)] else []
def mha_7_1_3 (n : Nat) : List (Nat × Nat × Nat × Nat) := bif Nat.blt n 570 then [] else [(0, 12, 15, 34)]
def mha_7_1_4 (n : Nat) : List (Nat × Nat × Nat × Nat) := bif Nat.blt n 572 then [] else []
def mha_7_1 (n : Nat) : List (Nat × Nat × Nat × Nat) := bif Nat.blt n 567 then bif Nat.blt n 565 then mha_7_1_0 n else mha_7_1_1 n else bif Nat.blt n 569 then mha_7_1_2 n else bif Nat.blt n 571 then mha_7_1_3 n else mha_7_1_4 n
def mha_7_2_0 (n : Nat) : List (Nat × Nat × Nat × Nat) := bif Nat.blt n 574 then [] else []
def mha_7_2_1 (n : Nat) : List (Nat × Nat × Nat × Nat) := bif Nat.blt n 576 then [(0, 10, 13, 34), (0, 10, 17, 19)] else []
def mha_7_2_2 (n : Nat) : List (Nat × Nat × Nat × Nat) := bif Nat.blt n 578 then [] else []
def mha_7_2_3 (n : Nat) : List (Nat × Nat × Nat × Nat) := bif Nat.blt n 580 then [(0, 12, 15, 34), (0, 12, 19, 19), (0, 12, 23, 28), (0, 12, 27, 13)] else []
def mha_7_2_4 (n : Nat) : List (Nat × Nat × Nat × Nat) := bif Nat.blt n 582 then [] else [(0, 10, 13, 34), (0, 10, 17, 19)]
def mha_7_2 (n : Nat) : List (Nat × Nat × Nat × Nat) := bif Nat.blt n 577 then bif Nat.blt n 575 then mha_7_2_0 n else mha_7_2_1 n else bif Nat.blt n 579 then mha_7_2_2 n else bif Nat.blt n 581 then mha_7_2_3 n else mha_7_2_4 n
def mha_7_3_0 (n : Nat) : List (Nat × Nat × Nat × Nat) := bif Nat.blt n 584 then [] else []
def mha_7_3_1 (n : Nat) : List (Nat × Nat × Nat × Nat) := bif Nat.blt n 586 then [] else [(0, 12, 15, 34), (0, 12, 19, 19)]
def mha_7_3_2 (n : Nat) : List (Nat × Nat × Nat × Nat) := bif Nat.blt n 588 then [] else []
def mha_7_3_3 (n : Nat) : List (Nat × Nat × Nat × Nat) := bif Nat.blt n 590 then [] else [(0, 14, 17, 34), (0, 14, 21, 19), (0, 14, 25, 13)]
def mha_7_3_4 (n : Nat) : List (Nat × Nat × Nat × Nat) := bif Nat.blt n 592 then [] else []
def mha_7_3 (n : Nat) : List (Nat × Nat × Nat × Nat) := bif Nat.blt n 587 then bif Nat.blt n 585 then mha_7_3_0 n else mha_7_3_1 n else bif Nat.blt n 589 then mha_7_3_2 n else bif Nat.blt n 591 then mha_7_3_3 n else mha_7_3_4 n
def mha_7_4_0 (n : Nat) : List (Nat × Nat × Nat × Nat) := bif Nat.blt n 594 then [(0, 6, 9, 34), (0, 6, 12, 28)] else []
def mha_7_4_1 (n : Nat) : List (Nat × Nat × Nat × Nat) := bif Nat.blt n 596 then [] else [(0, 14, 17, 34), (0, 14, 21, 19), (0, 14, 25, 13)]
def mha_7_4_2 (n : Nat) : List (Nat × Nat × Nat × Nat) := bif Nat.blt n 598 then [] else []
def mha_7_4_3 (n : Nat) : List (Nat × Nat × Nat × Nat) := bif Nat.blt n 600 then [(0, 9, 12, 19)] else []
def mha_7_4_4 (n : Nat) : List (Nat × Nat × Nat × Nat) := bif Nat.blt n 602 then [] else [(0, 10, 13, 19), (0, 10, 17, 28)]
def mha_7_4 (n : Nat) : List (Nat × Nat × Nat × Nat) := bif Nat.blt n 597 then bif Nat.blt n 595 then mha_7_4_0 n else mha_7_4_1 n else bif Nat.blt n 599 then mha_7_4_2 n else bif Nat.blt n 601 then mha_7_4_3 n else mha_7_4_4 n
def mha_7_5_0 (n : Nat) : List (Nat × Nat × Nat × Nat) := bif Nat.blt n 604 then [] else []
def mha_7_5_1 (n : Nat) : List (Nat × Nat × Nat × Nat) := bif Nat.blt n 606 then [] else [(0, 9, 12, 34), (0, 9, 16, 19), (0, 9, 20, 28)]
def mha_7_5_2 (n : Nat) : List (Nat × Nat × Nat × Nat) := bif Nat.blt n 608 then [] else []
def mha_7_5_3 (n : Nat) : List (Nat × Nat × Nat × Nat) := bif Nat.blt n 610 then [(0, 10, 13, 34), (0, 10, 17, 19)] else []
def mha_7_5_4 (n : Nat) : List (Nat × Nat × Nat × Nat) := bif Nat.blt n 612 then [] else []
def mha_7_5 (n : Nat) : List (Nat × Nat × Nat × Nat) := bif Nat.blt n 607 then bif Nat.blt n 605 then mha_7_5_0 n else mha_7_5_1 n else bif Nat.blt n 609 then mha_7_5_2 n else bif Nat.blt n 611 then mha_7_5_3 n else mha_7_5_4 n
def mha_7_6_0 (n : Nat) : List (Nat × Nat × Nat × Nat) := bif Nat.blt n 614 then [(0, 10, 13, 34), (0, 10, 17, 19)] else []
def mha_7_6_1 (n : Nat) : List (Nat × Nat × Nat × Nat) := bif Nat.blt n 616 then [] else []
def mha_7_6_2 (n : Nat) : List (Nat × Nat × Nat × Nat) := bif Nat.blt n 618 then [(0, 8, 11, 28), (0, 8, 14, 13)] else []
def mha_7_6_3 (n : Nat) : List (Nat × Nat × Nat × Nat) := bif Nat.blt n 620 then [] else [(0, 8, 11, 13)]
def mha_7_6_4 (n : Nat) : List (Nat × Nat × Nat × Nat) := bif Nat.blt n 622 then [] else []
def mha_7_6 (n : Nat) : List (Nat × Nat × Nat × Nat) := bif Nat.blt n 617 then bif Nat.blt n 615 then mha_7_6_0 n else mha_7_6_1 n else bif Nat.blt n 619 then mha_7_6_2 n else bif Nat.blt n 621 then mha_7_6_3 n else mha_7_6_4 n
def mha_7_7 (n : Nat) : List (Nat × Nat × Nat × Nat) := bif Nat.blt n 626 then bif Nat.blt n 624 then [(0, 9, 12, 19)] else bif Nat.blt n 625 then [] else [] else bif Nat.blt n 627 then [(0, 11, 14, 13)] else bif Nat.blt n 628 then [] else []
def mha_7 (n : Nat) : List (Nat × Nat × Nat × Nat) := bif Nat.blt n 593 then bif Nat.blt n 573 then bif Nat.blt n 563 then mha_7_0 n else mha_7_1 n else bif Nat.blt n 583 then mha_7_2 n else mha_7_3 n else bif Nat.blt n 613 then bif Nat.blt n 603 then mha_7_4 n else mha_7_5 n else bif Nat.blt n 623 then mha_7_6 n else mha_7_7 n
def mha (n : Nat) : List (Nat × Nat × Nat × Nat) := bif Nat.blt n 316 then bif Nat.blt n 158 then bif Nat.blt n 79 then mha_0 n else mha_1 n else bif Nat.blt n 237 then mha_2 n else mha_3 n else bif Nat.blt n 474 then bif Nat.blt n 395 then mha_4 n else mha_5 n else bif Nat.blt n 553 then mha_6 n else mha_7 n
def mow_0_0_0 (n : Nat) : Nat := bif Nat.blt n 1 then 0 else 1
def mow_0_0_1 (n : Nat) : Nat := bif Nat.blt n 3 then 2 else 3
def mow_0_0_2 (n : Nat) : Nat := bif Nat.blt n 5 then 4 else 5
def mow_0_0_3 (n : Nat) : Nat := bif Nat.blt n 7 then 6 else 7
def mow_0_0_4 (n : Nat) : Nat := bif Nat.blt n 9 then 8 else 9
def mow_0_0 (n : Nat) : Nat := bif Nat.blt n 4 then bif Nat.blt n 2 then mow_0_0_0 n else mow_0_0_1 n else bif Nat.blt n 6 then mow_0_0_2 n else bif Nat.blt n 8 then mow_0_0_3 n else mow_0_0_4 n
def mow_0_1_0 (n : Nat) : Nat := bif Nat.blt n 11 then 10 else 11
def mow_0_1_1 (n : Nat) : Nat := bif Nat.blt n 13 then 12 else 13
def mow_0_1_2 (n : Nat) : Nat := bif Nat.blt n 15 then 14 else 15
def mow_0_1_3 (n : Nat) : Nat := bif Nat.blt n 17 then 16 else 17
def mow_0_1_4 (n : Nat) : Nat := bif Nat.blt n 19 then 1 else 3
def mow_0_1 (n : Nat) : Nat := bif Nat.blt n 14 then bif Nat.blt n 12 then mow_0_1_0 n else mow_0_1_1 n else bif Nat.blt n 16 then mow_0_1_2 n else bif Nat.blt n 18 then mow_0_1_3 n else mow_0_1_4 n
def mow_0_2_0 (n : Nat) : Nat := bif Nat.blt n 21 then 6 else 17
def mow_0_2_1 (n : Nat) : Nat := bif Nat.blt n 23 then 1 else 2
def mow_0_2_2 (n : Nat) : Nat := bif Nat.blt n 25 then 3 else 17
def mow_0_2_3 (n : Nat) : Nat := bif Nat.blt n 27 then 0 else 1
def mow_0_2_4 (n : Nat) : Nat := bif Nat.blt n 29 then 1 else 1
def mow_0_2 (n : Nat) : Nat := bif Nat.blt n 24 then bif Nat.blt n 22 then mow_0_2_0 n else mow_0_2_1 n else bif Nat.blt n 26 then mow_0_2_2 n else bif Nat.blt n 28 then mow_0_2_3 n else mow_0_2_4 n
def mow_0_3_0 (n : Nat) : Nat := bif Nat.blt n 31 then 1 else 2
def mow_0_3_1 (n : Nat) : Nat := bif Nat.blt n 33 then 1 else 1
def mow_0_3_2 (n : Nat) : Nat := bif Nat.blt n 35 then 2 else 2
def mow_0_3_3 (n : Nat) : Nat := bif Nat.blt n 37 then 3 else 15
def mow_0_3_4 (n : Nat) : Nat := bif Nat.blt n 39 then 15 else 3
def mow_0_3 (n : Nat) : Nat := bif Nat.blt n 34 then bif Nat.blt n 32 then mow_0_3_0 n else mow_0_3_1 n else bif Nat.blt n 36 then mow_0_3_2 n else bif Nat.blt n 38 then mow_0_3_3 n else mow_0_3_4 n
def mow_0_4_0 (n : Nat) : Nat := bif Nat.blt n 41 then 3 else 1
def mow_0_4_1 (n : Nat) : Nat := bif Nat.blt n 43 then 3 else 3
def mow_0_4_2 (n : Nat) : Nat := bif Nat.blt n 45 then 3 else 3
def mow_0_4_3 (n : Nat) : Nat := bif Nat.blt n 47 then 24 else 1
def mow_0_4_4 (n : Nat) : Nat := bif Nat.blt n 49 then 3 else 25
def mow_0_4 (n : Nat) : Nat := bif Nat.blt n 44 then bif Nat.blt n 42 then mow_0_4_0 n else mow_0_4_1 n else bif Nat.blt n 46 then mow_0_4_2 n else bif Nat.blt n 48 then mow_0_4_3 n else mow_0_4_4 n
def mow_0_5_0 (n : Nat) : Nat := bif Nat.blt n 51 then 3 else 3
def mow_0_5_1 (n : Nat) : Nat := bif Nat.blt n 53 then 3 else 3
def mow_0_5_2 (n : Nat) : Nat := bif Nat.blt n 55 then 21 else 22
def mow_0_5_3 (n : Nat) : Nat := bif Nat.blt n 57 then 3 else 20
def mow_0_5_4 (n : Nat) : Nat := bif Nat.blt n 59 then 23 else 21
def mow_0_5 (n : Nat) : Nat := bif Nat.blt n 54 then bif Nat.blt n 52 then mow_0_5_0 n else mow_0_5_1 n else bif Nat.blt n 56 then mow_0_5_2 n else bif Nat.blt n 58 then mow_0_5_3 n else mow_0_5_4 n
def mow_0_6_0 (n : Nat) : Nat := bif Nat.blt n 61 then 22 else 3
def mow_0_6_1 (n : Nat) : Nat := bif Nat.blt n 63 then 3 else 15
def mow_0_6_2 (n : Nat) : Nat := bif Nat.blt n 65 then 10 else 3
def mow_0_6_3 (n : Nat) : Nat := bif Nat.blt n 67 then 20 else 3
def mow_0_6_4 (n : Nat) : Nat := bif Nat.blt n 69 then 3 else 3
def mow_0_6 (n : Nat) : Nat := bif Nat.blt n 64 then bif Nat.blt n 62 then mow_0_6_0 n else mow_0_6_1 n else bif Nat.blt n 66 then mow_0_6_2 n else bif Nat.blt n 68 then mow_0_6_3 n else mow_0_6_4 n
def mow_0_7_0 (n : Nat) : Nat := bif Nat.blt n 71 then 21 else 3
def mow_0_7_1 (n : Nat) : Nat := bif Nat.blt n 73 then 3 else 4
def mow_0_7_2 (n : Nat) : Nat := bif Nat.blt n 75 then 1 else 3
def mow_0_7_3 (n : Nat) : Nat := bif Nat.blt n 77 then 10 else 10
def mow_0_7_4 (n : Nat) : Nat := 3
def mow_0_7 (n : Nat) : Nat := bif Nat.blt n 74 then bif Nat.blt n 72 then mow_0_7_0 n else mow_0_7_1 n else bif Nat.blt n 76 then mow_0_7_2 n else bif Nat.blt n 78 then mow_0_7_3 n else mow_0_7_4 n
def mow_0 (n : Nat) : Nat := bif Nat.blt n 40 then bif Nat.blt n 20 then bif Nat.blt n 10 then mow_0_0 n else mow_0_1 n else bif Nat.blt n 30 then mow_0_2 n else mow_0_3 n else bif Nat.blt n 60 then bif Nat.blt n 50 then mow_0_4 n else mow_0_5 n else bif Nat.blt n 70 then mow_0_6 n else mow_0_7 n
def mow_1_0_0 (n : Nat) : Nat := bif Nat.blt n 80 then 3 else 3
def mow_1_0_1 (n : Nat) : Nat := bif Nat.blt n 82 then 6 else 29
def mow_1_0_2 (n : Nat) : Nat := bif Nat.blt n 84 then 9 else 9
def mow_1_0_3 (n : Nat) : Nat := bif Nat.blt n 86 then 29 else 9
def mow_1_0_4 (n : Nat) : Nat := bif Nat.blt n 88 then 9 else 6
def mow_1_0 (n : Nat) : Nat := bif Nat.blt n 83 then bif Nat.blt n 81 then mow_1_0_0 n else mow_1_0_1 n else bif Nat.blt n 85 then mow_1_0_2 n else bif Nat.blt n 87 then mow_1_0_3 n else mow_1_0_4 n
def mow_1_1_0 (n : Nat) : Nat := bif Nat.blt n 90 then 6 else 6
def mow_1_1_1 (n : Nat) : Nat := bif Nat.blt n 92 then 9 else 9
def mow_1_1_2 (n : Nat) : Nat := bif Nat.blt n 94 then 9 else 3
def mow_1_1_3 (n : Nat) : Nat := bif Nat.blt n 96 then 29 else 3
def mow_1_1_4 (n : Nat) : Nat := bif Nat.blt n 98 then 3 else 3
def mow_1_1 (n : Nat) : Nat := bif Nat.blt n 93 then bif Nat.blt n 91 then mow_1_1_0 n else mow_1_1_1 n else bif Nat.blt n 95 then mow_1_1_2 n else bif Nat.blt n 97 then mow_1_1_3 n else mow_1_1_4 n
def mow_1_2_0 (n : Nat) : Nat := bif Nat.blt n 100 then 14 else 24
def mow_1_2_1 (n : Nat) : Nat := bif Nat.blt n 102 then 26 else 14
def mow_1_2_2 (n : Nat) : Nat := bif Nat.blt n 104 then 3 else 3
def mow_1_2_3 (n : Nat) : Nat := bif Nat.blt n 106 then 28 else 3
def mow_1_2_4 (n : Nat) : Nat := bif Nat.blt n 108 then 8 else 8
def mow_1_2 (n : Nat) : Nat := bif Nat.blt n 103 then bif Nat.blt n 101 then mow_1_2_0 n else mow_1_2_1 n else bif Nat.blt n 105 then mow_1_2_2 n else bif Nat.blt n 107 then mow_1_2_3 n else mow_1_2_4 n
def mow_1_3_0 (n : Nat) : Nat := bif Nat.blt n 110 then 27 else 8
def mow_1_3_1 (n : Nat) : Nat := bif Nat.blt n 112 then 8 else 36
def mow_1_3_2 (n : Nat) : Nat := bif Nat.blt n 114 then 8 else 8
def mow_1_3_3 (n : Nat) : Nat := bif Nat.blt n 116 then 8 else 8
def mow_1_3_4 (n : Nat) : Nat := bif Nat.blt n 118 then 3 else 27
def mow_1_3 (n : Nat) : Nat := bif Nat.blt n 113 then bif Nat.blt n 111 then mow_1_3_0 n else mow_1_3_1 n else bif Nat.blt n 115 then mow_1_3_2 n else bif Nat.blt n 117 then mow_1_3_3 n else mow_1_3_4 n
def mow_1_4_0 (n : Nat) : Nat := bif Nat.blt n 120 then 3 else 24
def mow_1_4_1 (n : Nat) : Nat := bif Nat.blt n 122 then 3 else 3
def mow_1_4_2 (n : Nat) : Nat := bif Nat.blt n 124 then 3 else 3
def mow_1_4_3 (n : Nat) : Nat := bif Nat.blt n 126 then 3 else 3
def mow_1_4_4 (n : Nat) : Nat := bif Nat.blt n 128 then 26 else 3
def mow_1_4 (n : Nat) : Nat := bif Nat.blt n 123 then bif Nat.blt n 121 then mow_1_4_0 n else mow_1_4_1 n else bif Nat.blt n 125 then mow_1_4_2 n else bif Nat.blt n 127 then mow_1_4_3 n else mow_1_4_4 n
def mow_1_5_0 (n : Nat) : Nat := bif Nat.blt n 130 then 24 else 3
def mow_1_5_1 (n : Nat) : Nat := bif Nat.blt n 132 then 3 else 3
def mow_1_5_2 (n : Nat) : Nat := bif Nat.blt n 134 then 6 else 6
def mow_1_5_3 (n : Nat) : Nat := bif Nat.blt n 136 then 6 else 6
def mow_1_5_4 (n : Nat) : Nat := bif Nat.blt n 138 then 4 else 6
def mow_1_5 (n : Nat) : Nat := bif Nat.blt n 133 then bif Nat.blt n 131 then mow_1_5_0 n else mow_1_5_1 n else bif Nat.blt n 135 then mow_1_5_2 n else bif Nat.blt n 137 then mow_1_5_3 n else mow_1_5_4 n
def mow_1_6_0 (n : Nat) : Nat := bif Nat.blt n 140 then 4 else 6
def mow_1_6_1 (n : Nat) : Nat := bif Nat.blt n 142 then 6 else 6
def mow_1_6_2 (n : Nat) : Nat := bif Nat.blt n 144 then 6 else 20
def mow_1_6_3 (n : Nat) : Nat := bif Nat.blt n 146 then 6 else 6
def mow_1_6_4 (n : Nat) : Nat := bif Nat.blt n 148 then 3 else 5
def mow_1_6 (n : Nat) : Nat := bif Nat.blt n 143 then bif Nat.blt n 141 then mow_1_6_0 n else mow_1_6_1 n else bif Nat.blt n 145 then mow_1_6_2 n else bif Nat.blt n 147 then mow_1_6_3 n else mow_1_6_4 n
def mow_1_7_0 (n : Nat) : Nat := bif Nat.blt n 150 then 5 else 5
def mow_1_7_1 (n : Nat) : Nat := bif Nat.blt n 152 then 5 else 4
def mow_1_7_2 (n : Nat) : Nat := bif Nat.blt n 154 then 4 else 5
def mow_1_7_3 (n : Nat) : Nat := bif Nat.blt n 156 then 5 else 5
def mow_1_7_4 (n : Nat) : Nat := 19
def mow_1_7 (n : Nat) : Nat := bif Nat.blt n 153 then bif Nat.blt n 151 then mow_1_7_0 n else mow_1_7_1 n else bif Nat.blt n 155 then mow_1_7_2 n else bif Nat.blt n 157 then mow_1_7_3 n else mow_1_7_4 n
def mow_1 (n : Nat) : Nat := bif Nat.blt n 119 then bif Nat.blt n 99 then bif Nat.blt n 89 then mow_1_0 n else mow_1_1 n else bif Nat.blt n 109 then mow_1_2 n else mow_1_3 n else bif Nat.blt n 139 then bif Nat.blt n 129 then mow_1_4 n else mow_1_5 n else bif Nat.blt n 149 then mow_1_6 n else mow_1_7 n
def mow_2_0_0 (n : Nat) : Nat := bif Nat.blt n 159 then 3 else 1
def mow_2_0_1 (n : Nat) : Nat := bif Nat.blt n 161 then 3 else 3
def mow_2_0_2 (n : Nat) : Nat := bif Nat.blt n 163 then 30 else 36
def mow_2_0_3 (n : Nat) : Nat := bif Nat.blt n 165 then 3 else 3
def mow_2_0_4 (n : Nat) : Nat := bif Nat.blt n 167 then 16 else 16
def mow_2_0 (n : Nat) : Nat := bif Nat.blt n 162 then bif Nat.blt n 160 then mow_2_0_0 n else mow_2_0_1 n else bif Nat.blt n 164 then mow_2_0_2 n else bif Nat.blt n 166 then mow_2_0_3 n else mow_2_0_4 n
def mow_2_1_0 (n : Nat) : Nat := bif Nat.blt n 169 then 16 else 16
def mow_2_1_1 (n : Nat) : Nat := bif Nat.blt n 171 then 5 else 30
def mow_2_1_2 (n : Nat) : Nat := bif Nat.blt n 173 then 3 else 10
def mow_2_1_3 (n : Nat) : Nat := bif Nat.blt n 175 then 10 else 3
def mow_2_1_4 (n : Nat) : Nat := bif Nat.blt n 177 then 14 else 14
def mow_2_1 (n : Nat) : Nat := bif Nat.blt n 172 then bif Nat.blt n 170 then mow_2_1_0 n else mow_2_1_1 n else bif Nat.blt n 174 then mow_2_1_2 n else bif Nat.blt n 176 then mow_2_1_3 n else mow_2_1_4 n
def mow_2_2_0 (n : Nat) : Nat := bif Nat.blt n 179 then 14 else 14
def mow_2_2_1 (n : Nat) : Nat := bif Nat.blt n 181 then 14 else 3
def mow_2_2_2 (n : Nat) : Nat := bif Nat.blt n 183 then 3 else 3
def mow_2_2_3 (n : Nat) : Nat := bif Nat.blt n 185 then 3 else 3
def mow_2_2_4 (n : Nat) : Nat := bif Nat.blt n 187 then 21 else 36
def mow_2_2 (n : Nat) : Nat := bif Nat.blt n 182 then bif Nat.blt n 180 then mow_2_2_0 n else mow_2_2_1 n else bif Nat.blt n 184 then mow_2_2_2 n else bif Nat.blt n 186 then mow_2_2_3 n else mow_2_2_4 n
def mow_2_3_0 (n : Nat) : Nat := bif Nat.blt n 189 then 20 else 3
def mow_2_3_1 (n : Nat) : Nat := bif Nat.blt n 191 then 3 else 11
def mow_2_3_2 (n : Nat) : Nat := bif Nat.blt n 193 then 11 else 11
def mow_2_3_3 (n : Nat) : Nat := bif Nat.blt n 195 then 11 else 11
def mow_2_3_4 (n : Nat) : Nat := bif Nat.blt n 197 then 11 else 11
def mow_2_3 (n : Nat) : Nat := bif Nat.blt n 192 then bif Nat.blt n 190 then mow_2_3_0 n else mow_2_3_1 n else bif Nat.blt n 194 then mow_2_3_2 n else bif Nat.blt n 196 then mow_2_3_3 n else mow_2_3_4 n
def mow_2_4_0 (n : Nat) : Nat := bif Nat.blt n 199 then 11 else 36
def mow_2_4_1 (n : Nat) : Nat := bif Nat.blt n 201 then 11 else 11
def mow_2_4_2 (n : Nat) : Nat := bif Nat.blt n 203 then 3 else 5
def mow_2_4_3 (n : Nat) : Nat := bif Nat.blt n 205 then 5 else 5
def mow_2_4_4 (n : Nat) : Nat := bif Nat.blt n 207 then 3 else 3
def mow_2_4 (n : Nat) : Nat := bif Nat.blt n 202 then bif Nat.blt n 200 then mow_2_4_0 n else mow_2_4_1 n else bif Nat.blt n 204 then mow_2_4_2 n else bif Nat.blt n 206 then mow_2_4_3 n else mow_2_4_4 n
def mow_2_5_0 (n : Nat) : Nat := bif Nat.blt n 209 then 5 else 5
def mow_2_5_1 (n : Nat) : Nat := bif Nat.blt n 211 then 5 else 5
def mow_2_5_2 (n : Nat) : Nat := bif Nat.blt n 213 then 3 else 36
def mow_2_5_3 (n : Nat) : Nat := bif Nat.blt n 215 then 17 else 17
def mow_2_5_4 (n : Nat) : Nat := bif Nat.blt n 217 then 17 else 17
def mow_2_5 (n : Nat) : Nat := bif Nat.blt n 212 then bif Nat.blt n 210 then mow_2_5_0 n else mow_2_5_1 n else bif Nat.blt n 214 then mow_2_5_2 n else bif Nat.blt n 216 then mow_2_5_3 n else mow_2_5_4 n
def mow_2_6_0 (n : Nat) : Nat := bif Nat.blt n 219 then 17 else 17
def mow_2_6_1 (n : Nat) : Nat := bif Nat.blt n 221 then 17 else 17
def mow_2_6_2 (n : Nat) : Nat := bif Nat.blt n 223 then 17 else 17
def mow_2_6_3 (n : Nat) : Nat := bif Nat.blt n 225 then 17 else 17
def mow_2_6_4 (n : Nat) : Nat := bif Nat.blt n 227 then 17 else 17
def mow_2_6 (n : Nat) : Nat := bif Nat.blt n 222 then bif Nat.blt n 220 then mow_2_6_0 n else mow_2_6_1 n else bif Nat.blt n 224 then mow_2_6_2 n else bif Nat.blt n 226 then mow_2_6_3 n else mow_2_6_4 n
def mow_2_7_0 (n : Nat) : Nat := bif Nat.blt n 229 then 17 else 17
def mow_2_7_1 (n : Nat) : Nat := bif Nat.blt n 231 then 17 else 17
def mow_2_7_2 (n : Nat) : Nat := bif Nat.blt n 233 then 17 else 17
def mow_2_7_3 (n : Nat) : Nat := bif Nat.blt n 235 then 17 else 17
def mow_2_7_4 (n : Nat) : Nat := 17
def mow_2_7 (n : Nat) : Nat := bif Nat.blt n 232 then bif Nat.blt n 230 then mow_2_7_0 n else mow_2_7_1 n else bif Nat.blt n 234 then mow_2_7_2 n else bif Nat.blt n 236 then mow_2_7_3 n else mow_2_7_4 n
def mow_2 (n : Nat) : Nat := bif Nat.blt n 198 then bif Nat.blt n 178 then bif Nat.blt n 168 then mow_2_0 n else mow_2_1 n else bif Nat.blt n 188 then mow_2_2 n else mow_2_3 n else bif Nat.blt n 218 then bif Nat.blt n 208 then mow_2_4 n else mow_2_5 n else bif Nat.blt n 228 then mow_2_6 n else mow_2_7 n
def mow_3_0_0 (n : Nat) : Nat := bif Nat.blt n 238 then 17 else 17
def mow_3_0_1 (n : Nat) : Nat := bif Nat.blt n 240 then 17 else 17
def mow_3_0_2 (n : Nat) : Nat := bif Nat.blt n 242 then 17 else 17
def mow_3_0_3 (n : Nat) : Nat := bif Nat.blt n 244 then 17 else 17
def mow_3_0_4 (n : Nat) : Nat := bif Nat.blt n 246 then 17 else 17
def mow_3_0 (n : Nat) : Nat := bif Nat.blt n 241 then bif Nat.blt n 239 then mow_3_0_0 n else mow_3_0_1 n else bif Nat.blt n 243 then mow_3_0_2 n else bif Nat.blt n 245 then mow_3_0_3 n else mow_3_0_4 n
def mow_3_1_0 (n : Nat) : Nat := bif Nat.blt n 248 then 17 else 17
def mow_3_1_1 (n : Nat) : Nat := bif Nat.blt n 250 then 17 else 17
def mow_3_1_2 (n : Nat) : Nat := bif Nat.blt n 252 then 17 else 17
def mow_3_1_3 (n : Nat) : Nat := bif Nat.blt n 254 then 17 else 17
def mow_3_1_4 (n : Nat) : Nat := bif Nat.blt n 256 then 17 else 17
def mow_3_1 (n : Nat) : Nat := bif Nat.blt n 251 then bif Nat.blt n 249 then mow_3_1_0 n else mow_3_1_1 n else bif Nat.blt n 253 then mow_3_1_2 n else bif Nat.blt n 255 then mow_3_1_3 n else mow_3_1_4 n
def mow_3_2_0 (n : Nat) : Nat := bif Nat.blt n 258 then 17 else 17
def mow_3_2_1 (n : Nat) : Nat := bif Nat.blt n 260 then 17 else 17
def mow_3_2_2 (n : Nat) : Nat := bif Nat.blt n 262 then 17 else 17
def mow_3_2_3 (n : Nat) : Nat := bif Nat.blt n 264 then 17 else 17
def mow_3_2_4 (n : Nat) : Nat := bif Nat.blt n 266 then 17 else 17
def mow_3_2 (n : Nat) : Nat := bif Nat.blt n 261 then bif Nat.blt n 259 then mow_3_2_0 n else mow_3_2_1 n else bif Nat.blt n 263 then mow_3_2_2 n else bif Nat.blt n 265 then mow_3_2_3 n else mow_3_2_4 n
def mow_3_3_0 (n : Nat) : Nat := bif Nat.blt n 268 then 17 else 17
def mow_3_3_1 (n : Nat) : Nat := bif Nat.blt n 270 then 17 else 17
def mow_3_3_2 (n : Nat) : Nat := bif Nat.blt n 272 then 17 else 17
def mow_3_3_3 (n : Nat) : Nat := bif Nat.blt n 274 then 17 else 17
def mow_3_3_4 (n : Nat) : Nat := bif Nat.blt n 276 then 17 else 17
def mow_3_3 (n : Nat) : Nat := bif Nat.blt n 271 then bif Nat.blt n 269 then mow_3_3_0 n else mow_3_3_1 n else bif Nat.blt n 273 then mow_3_3_2 n else bif Nat.blt n 275 then mow_3_3_3 n else mow_3_3_4 n
def mow_3_4_0 (n : Nat) : Nat := bif Nat.blt n 278 then 17 else 17
def mow_3_4_1 (n : Nat) : Nat := bif Nat.blt n 280 then 17 else 17
def mow_3_4_2 (n : Nat) : Nat := bif Nat.blt n 282 then 17 else 17
def mow_3_4_3 (n : Nat) : Nat := bif Nat.blt n 284 then 17 else 17
def mow_3_4_4 (n : Nat) : Nat := bif Nat.blt n 286 then 17 else 17
def mow_3_4 (n : Nat) : Nat := bif Nat.blt n 281 then bif Nat.blt n 279 then mow_3_4_0 n else mow_3_4_1 n else bif Nat.blt n 283 then mow_3_4_2 n else bif Nat.blt n 285 then mow_3_4_3 n else mow_3_4_4 n
def mow_3_5_0 (n : Nat) : Nat := bif Nat.blt n 288 then 17 else 17
def mow_3_5_1 (n : Nat) : Nat := bif Nat.blt n 290 then 17 else 17
def mow_3_5_2 (n : Nat) : Nat := bif Nat.blt n 292 then 17 else 17
def mow_3_5_3 (n : Nat) : Nat := bif Nat.blt n 294 then 17 else 17
def mow_3_5_4 (n : Nat) : Nat := bif Nat.blt n 296 then 17 else 17
def mow_3_5 (n : Nat) : Nat := bif Nat.blt n 291 then bif Nat.blt n 289 then mow_3_5_0 n else mow_3_5_1 n else bif Nat.blt n 293 then mow_3_5_2 n else bif Nat.blt n 295 then mow_3_5_3 n else mow_3_5_4 n
def mow_3_6_0 (n : Nat) : Nat := bif Nat.blt n 298 then 17 else 17
def mow_3_6_1 (n : Nat) : Nat := bif Nat.blt n 300 then 17 else 17
def mow_3_6_2 (n : Nat) : Nat := bif Nat.blt n 302 then 17 else 17
def mow_3_6_3 (n : Nat) : Nat := bif Nat.blt n 304 then 17 else 17
def mow_3_6_4 (n : Nat) : Nat := bif Nat.blt n 306 then 17 else 17
def mow_3_6 (n : Nat) : Nat := bif Nat.blt n 301 then bif Nat.blt n 299 then mow_3_6_0 n else mow_3_6_1 n else bif Nat.blt n 303 then mow_3_6_2 n else bif Nat.blt n 305 then mow_3_6_3 n else mow_3_6_4 n
def mow_3_7_0 (n : Nat) : Nat := bif Nat.blt n 308 then 17 else 17
def mow_3_7_1 (n : Nat) : Nat := bif Nat.blt n 310 then 17 else 17
def mow_3_7_2 (n : Nat) : Nat := bif Nat.blt n 312 then 17 else 17
def mow_3_7_3 (n : Nat) : Nat := bif Nat.blt n 314 then 17 else 17
def mow_3_7_4 (n : Nat) : Nat := 17
def mow_3_7 (n : Nat) : Nat := bif Nat.blt n 311 then bif Nat.blt n 309 then mow_3_7_0 n else mow_3_7_1 n else bif Nat.blt n 313 then mow_3_7_2 n else bif Nat.blt n 315 then mow_3_7_3 n else mow_3_7_4 n
def mow_3 (n : Nat) : Nat := bif Nat.blt n 277 then bif Nat.blt n 257 then bif Nat.blt n 247 then mow_3_0 n else mow_3_1 n else bif Nat.blt n 267 then mow_3_2 n else mow_3_3 n else bif Nat.blt n 297 then bif Nat.blt n 287 then mow_3_4 n else mow_3_5 n else bif Nat.blt n 307 then mow_3_6 n else mow_3_7 n
def mow_4_0_0 (n : Nat) : Nat := bif Nat.blt n 317 then 17 else 17
def mow_4_0_1 (n : Nat) : Nat := bif Nat.blt n 319 then 17 else 17
def mow_4_0_2 (n : Nat) : Nat := bif Nat.blt n 321 then 17 else 17
def mow_4_0_3 (n : Nat) : Nat := bif Nat.blt n 323 then 17 else 17
def mow_4_0_4 (n : Nat) : Nat := bif Nat.blt n 325 then 17 else 17
def mow_4_0 (n : Nat) : Nat := bif Nat.blt n 320 then bif Nat.blt n 318 then mow_4_0_0 n else mow_4_0_1 n else bif Nat.blt n 322 then mow_4_0_2 n else bif Nat.blt n 324 then mow_4_0_3 n else mow_4_0_4 n
def mow_4_1_0 (n : Nat) : Nat := bif Nat.blt n 327 then 17 else 17
def mow_4_1_1 (n : Nat) : Nat := bif Nat.blt n 329 then 17 else 17
def mow_4_1_2 (n : Nat) : Nat := bif Nat.blt n 331 then 17 else 17
def mow_4_1_3 (n : Nat) : Nat := bif Nat.blt n 333 then 17 else 17
def mow_4_1_4 (n : Nat) : Nat := bif Nat.blt n 335 then 17 else 17
def mow_4_1 (n : Nat) : Nat := bif Nat.blt n 330 then bif Nat.blt n 328 then mow_4_1_0 n else mow_4_1_1 n else bif Nat.blt n 332 then mow_4_1_2 n else bif Nat.blt n 334 then mow_4_1_3 n else mow_4_1_4 n
def mow_4_2_0 (n : Nat) : Nat := bif Nat.blt n 337 then 17 else 17
def mow_4_2_1 (n : Nat) : Nat := bif Nat.blt n 339 then 17 else 17
def mow_4_2_2 (n : Nat) : Nat := bif Nat.blt n 341 then 17 else 17
def mow_4_2_3 (n : Nat) : Nat := bif Nat.blt n 343 then 17 else 17
def mow_4_2_4 (n : Nat) : Nat := bif Nat.blt n 345 then 17 else 17
def mow_4_2 (n : Nat) : Nat := bif Nat.blt n 340 then bif Nat.blt n 338 then mow_4_2_0 n else mow_4_2_1 n else bif Nat.blt n 342 then mow_4_2_2 n else bif Nat.blt n 344 then mow_4_2_3 n else mow_4_2_4 n
def mow_4_3_0 (n : Nat) : Nat := bif Nat.blt n 347 then 17 else 17
def mow_4_3_1 (n : Nat) : Nat := bif Nat.blt n 349 then 17 else 17
def mow_4_3_2 (n : Nat) : Nat := bif Nat.blt n 351 then 1 else 17
def mow_4_3_3 (n : Nat) : Nat := bif Nat.blt n 353 then 1 else 3
def mow_4_3_4 (n : Nat) : Nat := bif Nat.blt n 355 then 1 else 1
def mow_4_3 (n : Nat) : Nat := bif Nat.blt n 350 then bif Nat.blt n 348 then mow_4_3_0 n else mow_4_3_1 n else bif Nat.blt n 352 then mow_4_3_2 n else bif Nat.blt n 354 then mow_4_3_3 n else mow_4_3_4 n
def mow_4_4_0 (n : Nat) : Nat := bif Nat.blt n 357 then 17 else 17
def mow_4_4_1 (n : Nat) : Nat := bif Nat.blt n 359 then 0 else 1
def mow_4_4_2 (n : Nat) : Nat := bif Nat.blt n 361 then 3 else 17
def mow_4_4_3 (n : Nat) : Nat := bif Nat.blt n 363 then 0 else 1
def mow_4_4_4 (n : Nat) : Nat := bif Nat.blt n 365 then 3 else 17
def mow_4_4 (n : Nat) : Nat := bif Nat.blt n 360 then bif Nat.blt n 358 then mow_4_4_0 n else mow_4_4_1 n else bif Nat.blt n 362 then mow_4_4_2 n else bif Nat.blt n 364 then mow_4_4_3 n else mow_4_4_4 n
def mow_4_5_0 (n : Nat) : Nat := bif Nat.blt n 367 then 0 else 1
def mow_4_5_1 (n : Nat) : Nat := bif Nat.blt n 369 then 1 else 2
def mow_4_5_2 (n : Nat) : Nat := bif Nat.blt n 371 then 17 else 17
def mow_4_5_3 (n : Nat) : Nat := bif Nat.blt n 373 then 17 else 0
def mow_4_5_4 (n : Nat) : Nat := bif Nat.blt n 375 then 1 else 17
def mow_4_5 (n : Nat) : Nat := bif Nat.blt n 370 then bif Nat.blt n 368 then mow_4_5_0 n else mow_4_5_1 n else bif Nat.blt n 372 then mow_4_5_2 n else bif Nat.blt n 374 then mow_4_5_3 n else mow_4_5_4 n
def mow_4_6_0 (n : Nat) : Nat := bif Nat.blt n 377 then 0 else 1
def mow_4_6_1 (n : Nat) : Nat := bif Nat.blt n 379 then 17 else 0
def mow_4_6_2 (n : Nat) : Nat := bif Nat.blt n 381 then 1 else 17
def mow_4_6_3 (n : Nat) : Nat := bif Nat.blt n 383 then 0 else 1
def mow_4_6_4 (n : Nat) : Nat := bif Nat.blt n 385 then 3 else 17
def mow_4_6 (n : Nat) : Nat := bif Nat.blt n 380 then bif Nat.blt n 378 then mow_4_6_0 n else mow_4_6_1 n else bif Nat.blt n 382 then mow_4_6_2 n else bif Nat.blt n 384 then mow_4_6_3 n else mow_4_6_4 n
def mow_4_7_0 (n : Nat) : Nat := bif Nat.blt n 387 then 0 else 1
def mow_4_7_1 (n : Nat) : Nat := bif Nat.blt n 389 then 3 else 17
def mow_4_7_2 (n : Nat) : Nat := bif Nat.blt n 391 then 0 else 1
def mow_4_7_3 (n : Nat) : Nat := bif Nat.blt n 393 then 17 else 0
def mow_4_7_4 (n : Nat) : Nat := 1
def mow_4_7 (n : Nat) : Nat := bif Nat.blt n 390 then bif Nat.blt n 388 then mow_4_7_0 n else mow_4_7_1 n else bif Nat.blt n 392 then mow_4_7_2 n else bif Nat.blt n 394 then mow_4_7_3 n else mow_4_7_4 n
def mow_4 (n : Nat) : Nat := bif Nat.blt n 356 then bif Nat.blt n 336 then bif Nat.blt n 326 then mow_4_0 n else mow_4_1 n else bif Nat.blt n 346 then mow_4_2 n else mow_4_3 n else bif Nat.blt n 376 then bif Nat.blt n 366 then mow_4_4 n else mow_4_5 n else bif Nat.blt n 386 then mow_4_6 n else mow_4_7 n
def mow_5_0_0 (n : Nat) : Nat := bif Nat.blt n 396 then 17 else 0
def mow_5_0_1 (n : Nat) : Nat := bif Nat.blt n 398 then 1 else 3
def mow_5_0_2 (n : Nat) : Nat := bif Nat.blt n 400 then 17 else 0
def mow_5_0_3 (n : Nat) : Nat := bif Nat.blt n 402 then 1 else 17
def mow_5_0_4 (n : Nat) : Nat := bif Nat.blt n 404 then 0 else 1
def mow_5_0 (n : Nat) : Nat := bif Nat.blt n 399 then bif Nat.blt n 397 then mow_5_0_0 n else mow_5_0_1 n else bif Nat.blt n 401 then mow_5_0_2 n else bif Nat.blt n 403 then mow_5_0_3 n else mow_5_0_4 n
def mow_5_1_0 (n : Nat) : Nat := bif Nat.blt n 406 then 3 else 12
def mow_5_1_1 (n : Nat) : Nat := bif Nat.blt n 408 then 17 else 0
def mow_5_1_2 (n : Nat) : Nat := bif Nat.blt n 410 then 1 else 3
def mow_5_1_3 (n : Nat) : Nat := bif Nat.blt n 412 then 17 else 0
def mow_5_1_4 (n : Nat) : Nat := bif Nat.blt n 414 then 1 else 3
def mow_5_1 (n : Nat) : Nat := bif Nat.blt n 409 then bif Nat.blt n 407 then mow_5_1_0 n else mow_5_1_1 n else bif Nat.blt n 411 then mow_5_1_2 n else bif Nat.blt n 413 then mow_5_1_3 n else mow_5_1_4 n
def mow_5_2_0 (n : Nat) : Nat := bif Nat.blt n 416 then 12 else 12
def mow_5_2_1 (n : Nat) : Nat := bif Nat.blt n 418 then 7 else 7
def mow_5_2_2 (n : Nat) : Nat := bif Nat.blt n 420 then 7 else 7
def mow_5_2_3 (n : Nat) : Nat := bif Nat.blt n 422 then 7 else 7
def mow_5_2_4 (n : Nat) : Nat := bif Nat.blt n 424 then 7 else 7
def mow_5_2 (n : Nat) : Nat := bif Nat.blt n 419 then bif Nat.blt n 417 then mow_5_2_0 n else mow_5_2_1 n else bif Nat.blt n 421 then mow_5_2_2 n else bif Nat.blt n 423 then mow_5_2_3 n else mow_5_2_4 n
def mow_5_3_0 (n : Nat) : Nat := bif Nat.blt n 426 then 7 else 7
def mow_5_3_1 (n : Nat) : Nat := bif Nat.blt n 428 then 7 else 7
def mow_5_3_2 (n : Nat) : Nat := bif Nat.blt n 430 then 7 else 7
def mow_5_3_3 (n : Nat) : Nat := bif Nat.blt n 432 then 7 else 13
def mow_5_3_4 (n : Nat) : Nat := bif Nat.blt n 434 then 12 else 12
def mow_5_3 (n : Nat) : Nat := bif Nat.blt n 429 then bif Nat.blt n 427 then mow_5_3_0 n else mow_5_3_1 n else bif Nat.blt n 431 then mow_5_3_2 n else bif Nat.blt n 433 then mow_5_3_3 n else mow_5_3_4 n
def mow_5_4_0 (n : Nat) : Nat := bif Nat.blt n 436 then 12 else 7
def mow_5_4_1 (n : Nat) : Nat := bif Nat.blt n 438 then 12 else 12
def mow_5_4_2 (n : Nat) : Nat := bif Nat.blt n 440 then 13 else 12
def mow_5_4_3 (n : Nat) : Nat := bif Nat.blt n 442 then 17 else 17
def mow_5_4_4 (n : Nat) : Nat := bif Nat.blt n 444 then 17 else 17
def mow_5_4 (n : Nat) : Nat := bif Nat.blt n 439 then bif Nat.blt n 437 then mow_5_4_0 n else mow_5_4_1 n else bif Nat.blt n 441 then mow_5_4_2 n else bif Nat.blt n 443 then mow_5_4_3 n else mow_5_4_4 n
def mow_5_5_0 (n : Nat) : Nat := bif Nat.blt n 446 then 17 else 17
def mow_5_5_1 (n : Nat) : Nat := bif Nat.blt n 448 then 17 else 17
def mow_5_5_2 (n : Nat) : Nat := bif Nat.blt n 450 then 17 else 17
def mow_5_5_3 (n : Nat) : Nat := bif Nat.blt n 452 then 17 else 17
def mow_5_5_4 (n : Nat) : Nat := bif Nat.blt n 454 then 17 else 0
def mow_5_5 (n : Nat) : Nat := bif Nat.blt n 449 then bif Nat.blt n 447 then mow_5_5_0 n else mow_5_5_1 n else bif Nat.blt n 451 then mow_5_5_2 n else bif Nat.blt n 453 then mow_5_5_3 n else mow_5_5_4 n
def mow_5_6_0 (n : Nat) : Nat := bif Nat.blt n 456 then 1 else 17
def mow_5_6_1 (n : Nat) : Nat := bif Nat.blt n 458 then 0 else 1
def mow_5_6_2 (n : Nat) : Nat := bif Nat.blt n 460 then 17 else 0
def mow_5_6_3 (n : Nat) : Nat := bif Nat.blt n 462 then 1 else 3
def mow_5_6_4 (n : Nat) : Nat := bif Nat.blt n 464 then 17 else 0
def mow_5_6 (n : Nat) : Nat := bif Nat.blt n 459 then bif Nat.blt n 457 then mow_5_6_0 n else mow_5_6_1 n else bif Nat.blt n 461 then mow_5_6_2 n else bif Nat.blt n 463 then mow_5_6_3 n else mow_5_6_4 n
def mow_5_7_0 (n : Nat) : Nat := bif Nat.blt n 466 then 1 else 17
def mow_5_7_1 (n : Nat) : Nat := bif Nat.blt n 468 then 0 else 1
def mow_5_7_2 (n : Nat) : Nat := bif Nat.blt n 470 then 3 else 17
def mow_5_7_3 (n : Nat) : Nat := bif Nat.blt n 472 then 0 else 1
def mow_5_7_4 (n : Nat) : Nat := 17
def mow_5_7 (n : Nat) : Nat := bif Nat.blt n 469 then bif Nat.blt n 467 then mow_5_7_0 n else mow_5_7_1 n else bif Nat.blt n 471 then mow_5_7_2 n else bif Nat.blt n 473 then mow_5_7_3 n else mow_5_7_4 n
def mow_5 (n : Nat) : Nat := bif Nat.blt n 435 then bif Nat.blt n 415 then bif Nat.blt n 405 then mow_5_0 n else mow_5_1 n else bif Nat.blt n 425 then mow_5_2 n else mow_5_3 n else bif Nat.blt n 455 then bif Nat.blt n 445 then mow_5_4 n else mow_5_5 n else bif Nat.blt n 465 then mow_5_6 n else mow_5_7 n
def mow_6_0_0 (n : Nat) : Nat := bif Nat.blt n 475 then 0 else 1
def mow_6_0_1 (n : Nat) : Nat := bif Nat.blt n 477 then 17 else 0
def mow_6_0_2 (n : Nat) : Nat := bif Nat.blt n 479 then 1 else 17
def mow_6_0_3 (n : Nat) : Nat := bif Nat.blt n 481 then 0 else 1
def mow_6_0_4 (n : Nat) : Nat := bif Nat.blt n 483 then 3 else 17
def mow_6_0 (n : Nat) : Nat := bif Nat.blt n 478 then bif Nat.blt n 476 then mow_6_0_0 n else mow_6_0_1 n else bif Nat.blt n 480 then mow_6_0_2 n else bif Nat.blt n 482 then mow_6_0_3 n else mow_6_0_4 n
def mow_6_1_0 (n : Nat) : Nat := bif Nat.blt n 485 then 0 else 1
def mow_6_1_1 (n : Nat) : Nat := bif Nat.blt n 487 then 17 else 0
def mow_6_1_2 (n : Nat) : Nat := bif Nat.blt n 489 then 1 else 3
def mow_6_1_3 (n : Nat) : Nat := bif Nat.blt n 491 then 17 else 0
def mow_6_1_4 (n : Nat) : Nat := bif Nat.blt n 493 then 1 else 17
def mow_6_1 (n : Nat) : Nat := bif Nat.blt n 488 then bif Nat.blt n 486 then mow_6_1_0 n else mow_6_1_1 n else bif Nat.blt n 490 then mow_6_1_2 n else bif Nat.blt n 492 then mow_6_1_3 n else mow_6_1_4 n
def mow_6_2_0 (n : Nat) : Nat := bif Nat.blt n 495 then 0 else 1
def mow_6_2_1 (n : Nat) : Nat := bif Nat.blt n 497 then 3 else 17
def mow_6_2_2 (n : Nat) : Nat := bif Nat.blt n 499 then 0 else 1
def mow_6_2_3 (n : Nat) : Nat := bif Nat.blt n 501 then 17 else 0
def mow_6_2_4 (n : Nat) : Nat := bif Nat.blt n 503 then 1 else 3
def mow_6_2 (n : Nat) : Nat := bif Nat.blt n 498 then bif Nat.blt n 496 then mow_6_2_0 n else mow_6_2_1 n else bif Nat.blt n 500 then mow_6_2_2 n else bif Nat.blt n 502 then mow_6_2_3 n else mow_6_2_4 n
def mow_6_3_0 (n : Nat) : Nat := bif Nat.blt n 505 then 17 else 0
def mow_6_3_1 (n : Nat) : Nat := bif Nat.blt n 507 then 1 else 17
def mow_6_3_2 (n : Nat) : Nat := bif Nat.blt n 509 then 0 else 1
def mow_6_3_3 (n : Nat) : Nat := bif Nat.blt n 511 then 17 else 0
def mow_6_3_4 (n : Nat) : Nat := bif Nat.blt n 513 then 1 else 17
def mow_6_3 (n : Nat) : Nat := bif Nat.blt n 508 then bif Nat.blt n 506 then mow_6_3_0 n else mow_6_3_1 n else bif Nat.blt n 510 then mow_6_3_2 n else bif Nat.blt n 512 then mow_6_3_3 n else mow_6_3_4 n
def mow_6_4_0 (n : Nat) : Nat := bif Nat.blt n 515 then 0 else 1
def mow_6_4_1 (n : Nat) : Nat := bif Nat.blt n 517 then 17 else 0
def mow_6_4_2 (n : Nat) : Nat := bif Nat.blt n 519 then 1 else 17
def mow_6_4_3 (n : Nat) : Nat := bif Nat.blt n 521 then 0 else 1
def mow_6_4_4 (n : Nat) : Nat := bif Nat.blt n 523 then 17 else 0
def mow_6_4 (n : Nat) : Nat := bif Nat.blt n 518 then bif Nat.blt n 516 then mow_6_4_0 n else mow_6_4_1 n else bif Nat.blt n 520 then mow_6_4_2 n else bif Nat.blt n 522 then mow_6_4_3 n else mow_6_4_4 n
def mow_6_5_0 (n : Nat) : Nat := bif Nat.blt n 525 then 1 else 17
def mow_6_5_1 (n : Nat) : Nat := bif Nat.blt n 527 then 0 else 1
def mow_6_5_2 (n : Nat) : Nat := bif Nat.blt n 529 then 3 else 17
def mow_6_5_3 (n : Nat) : Nat := bif Nat.blt n 531 then 0 else 1
def mow_6_5_4 (n : Nat) : Nat := bif Nat.blt n 533 then 17 else 0
def mow_6_5 (n : Nat) : Nat := bif Nat.blt n 528 then bif Nat.blt n 526 then mow_6_5_0 n else mow_6_5_1 n else bif Nat.blt n 530 then mow_6_5_2 n else bif Nat.blt n 532 then mow_6_5_3 n else mow_6_5_4 n
def mow_6_6_0 (n : Nat) : Nat := bif Nat.blt n 535 then 1 else 17
def mow_6_6_1 (n : Nat) : Nat := bif Nat.blt n 537 then 0 else 1
def mow_6_6_2 (n : Nat) : Nat := bif Nat.blt n 539 then 17 else 0
def mow_6_6_3 (n : Nat) : Nat := bif Nat.blt n 541 then 1 else 3
def mow_6_6_4 (n : Nat) : Nat := bif Nat.blt n 543 then 17 else 0
def mow_6_6 (n : Nat) : Nat := bif Nat.blt n 538 then bif Nat.blt n 536 then mow_6_6_0 n else mow_6_6_1 n else bif Nat.blt n 540 then mow_6_6_2 n else bif Nat.blt n 542 then mow_6_6_3 n else mow_6_6_4 n
def mow_6_7_0 (n : Nat) : Nat := bif Nat.blt n 545 then 1 else 3
def mow_6_7_1 (n : Nat) : Nat := bif Nat.blt n 547 then 17 else 17
def mow_6_7_2 (n : Nat) : Nat := bif Nat.blt n 549 then 17 else 0
def mow_6_7_3 (n : Nat) : Nat := bif Nat.blt n 551 then 1 else 3
def mow_6_7_4 (n : Nat) : Nat := 22
def mow_6_7 (n : Nat) : Nat := bif Nat.blt n 548 then bif Nat.blt n 546 then mow_6_7_0 n else mow_6_7_1 n else bif Nat.blt n 550 then mow_6_7_2 n else bif Nat.blt n 552 then mow_6_7_3 n else mow_6_7_4 n
def mow_6 (n : Nat) : Nat := bif Nat.blt n 514 then bif Nat.blt n 494 then bif Nat.blt n 484 then mow_6_0 n else mow_6_1 n else bif Nat.blt n 504 then mow_6_2 n else mow_6_3 n else bif Nat.blt n 534 then bif Nat.blt n 524 then mow_6_4 n else mow_6_5 n else bif Nat.blt n 544 then mow_6_6 n else mow_6_7 n
def mow_7_0_0 (n : Nat) : Nat := bif Nat.blt n 554 then 17 else 0
def mow_7_0_1 (n : Nat) : Nat := bif Nat.blt n 556 then 1 else 3
def mow_7_0_2 (n : Nat) : Nat := bif Nat.blt n 558 then 17 else 0
def mow_7_0_3 (n : Nat) : Nat := bif Nat.blt n 560 then 1 else 17
def mow_7_0_4 (n : Nat) : Nat := bif Nat.blt n 562 then 0 else 1
def mow_7_0 (n : Nat) : Nat := bif Nat.blt n 557 then bif Nat.blt n 555 then mow_7_0_0 n else mow_7_0_1 n else bif Nat.blt n 559 then mow_7_0_2 n else bif Nat.blt n 561 then mow_7_0_3 n else mow_7_0_4 n
def mow_7_1_0 (n : Nat) : Nat := bif Nat.blt n 564 then 17 else 0
def mow_7_1_1 (n : Nat) : Nat := bif Nat.blt n 566 then 1 else 17
def mow_7_1_2 (n : Nat) : Nat := bif Nat.blt n 568 then 0 else 1
def mow_7_1_3 (n : Nat) : Nat := bif Nat.blt n 570 then 17 else 0
def mow_7_1_4 (n : Nat) : Nat := bif Nat.blt n 572 then 1 else 3
def mow_7_1 (n : Nat) : Nat := bif Nat.blt n 567 then bif Nat.blt n 565 then mow_7_1_0 n else mow_7_1_1 n else bif Nat.blt n 569 then mow_7_1_2 n else bif Nat.blt n 571 then mow_7_1_3 n else mow_7_1_4 n
def mow_7_2_0 (n : Nat) : Nat := bif Nat.blt n 574 then 22 else 17
def mow_7_2_1 (n : Nat) : Nat := bif Nat.blt n 576 then 0 else 1
def mow_7_2_2 (n : Nat) : Nat := bif Nat.blt n 578 then 3 else 17
def mow_7_2_3 (n : Nat) : Nat := bif Nat.blt n 580 then 0 else 1
def mow_7_2_4 (n : Nat) : Nat := bif Nat.blt n 582 then 17 else 0
def mow_7_2 (n : Nat) : Nat := bif Nat.blt n 577 then bif Nat.blt n 575 then mow_7_2_0 n else mow_7_2_1 n else bif Nat.blt n 579 then mow_7_2_2 n else bif Nat.blt n 581 then mow_7_2_3 n else mow_7_2_4 n
def mow_7_3_0 (n : Nat) : Nat := bif Nat.blt n 584 then 1 else 3
def mow_7_3_1 (n : Nat) : Nat := bif Nat.blt n 586 then 17 else 0
def mow_7_3_2 (n : Nat) : Nat := bif Nat.blt n 588 then 1 else 3
def mow_7_3_3 (n : Nat) : Nat := bif Nat.blt n 590 then 17 else 0
def mow_7_3_4 (n : Nat) : Nat := bif Nat.blt n 592 then 1 else 17
def mow_7_3 (n : Nat) : Nat := bif Nat.blt n 587 then bif Nat.blt n 585 then mow_7_3_0 n else mow_7_3_1 n else bif Nat.blt n 589 then mow_7_3_2 n else bif Nat.blt n 591 then mow_7_3_3 n else mow_7_3_4 n
def mow_7_4_0 (n : Nat) : Nat := bif Nat.blt n 594 then 0 else 1
def mow_7_4_1 (n : Nat) : Nat := bif Nat.blt n 596 then 17 else 0
def mow_7_4_2 (n : Nat) : Nat := bif Nat.blt n 598 then 1 else 17
def mow_7_4_3 (n : Nat) : Nat := bif Nat.blt n 600 then 0 else 1
def mow_7_4_4 (n : Nat) : Nat := bif Nat.blt n 602 then 17 else 0
def mow_7_4 (n : Nat) : Nat := bif Nat.blt n 597 then bif Nat.blt n 595 then mow_7_4_0 n else mow_7_4_1 n else bif Nat.blt n 599 then mow_7_4_2 n else bif Nat.blt n 601 then mow_7_4_3 n else mow_7_4_4 n
def mow_7_5_0 (n : Nat) : Nat := bif Nat.blt n 604 then 1 else 3
def mow_7_5_1 (n : Nat) : Nat := bif Nat.blt n 606 then 17 else 0
def mow_7_5_2 (n : Nat) : Nat := bif Nat.blt n 608 then 1 else 17
def mow_7_5_3 (n : Nat) : Nat := bif Nat.blt n 610 then 0 else 1
def mow_7_5_4 (n : Nat) : Nat := bif Nat.blt n 612 then 3 else 17
def mow_7_5 (n : Nat) : Nat := bif Nat.blt n 607 then bif Nat.blt n 605 then mow_7_5_0 n else mow_7_5_1 n else bif Nat.blt n 609 then mow_7_5_2 n else bif Nat.blt n 611 then mow_7_5_3 n else mow_7_5_4 n
def mow_7_6_0 (n : Nat) : Nat := bif Nat.blt n 614 then 0 else 1
def mow_7_6_1 (n : Nat) : Nat := bif Nat.blt n 616 then 3 else 17
def mow_7_6_2 (n : Nat) : Nat := bif Nat.blt n 618 then 0 else 1
def mow_7_6_3 (n : Nat) : Nat := bif Nat.blt n 620 then 17 else 0
def mow_7_6_4 (n : Nat) : Nat := bif Nat.blt n 622 then 1 else 17
def mow_7_6 (n : Nat) : Nat := bif Nat.blt n 617 then bif Nat.blt n 615 then mow_7_6_0 n else mow_7_6_1 n else bif Nat.blt n 619 then mow_7_6_2 n else bif Nat.blt n 621 then mow_7_6_3 n else mow_7_6_4 n
def mow_7_7 (n : Nat) : Nat := bif Nat.blt n 626 then bif Nat.blt n 624 then 0 else bif Nat.blt n 625 then 1 else 17 else bif Nat.blt n 627 then 0 else bif Nat.blt n 628 then 1 else 17
def mow_7 (n : Nat) : Nat := bif Nat.blt n 593 then bif Nat.blt n 573 then bif Nat.blt n 563 then mow_7_0 n else mow_7_1 n else bif Nat.blt n 583 then mow_7_2 n else mow_7_3 n else bif Nat.blt n 613 then bif Nat.blt n 603 then mow_7_4 n else mow_7_5 n else bif Nat.blt n 623 then mow_7_6 n else mow_7_7 n
def mow (n : Nat) : Nat := bif Nat.blt n 316 then bif Nat.blt n 158 then bif Nat.blt n 79 then mow_0 n else mow_1 n else bif Nat.blt n 237 then mow_2 n else mow_3 n else bif Nat.blt n 474 then bif Nat.blt n 395 then mow_4 n else mow_5 n else bif Nat.blt n 553 then mow_6 n else mow_7 n
def mki_0_0_0 (n : Nat) : Nat := bif Nat.blt n 1 then 0 else 2
def mki_0_0_1 (n : Nat) : Nat := bif Nat.blt n 3 then 2 else 2
def mki_0_0_2 (n : Nat) : Nat := bif Nat.blt n 5 then 2 else 2
def mki_0_0_3 (n : Nat) : Nat := bif Nat.blt n 7 then 2 else 2
def mki_0_0_4 (n : Nat) : Nat := bif Nat.blt n 9 then 2 else 2
def mki_0_0 (n : Nat) : Nat := bif Nat.blt n 4 then bif Nat.blt n 2 then mki_0_0_0 n else mki_0_0_1 n else bif Nat.blt n 6 then mki_0_0_2 n else bif Nat.blt n 8 then mki_0_0_3 n else mki_0_0_4 n
def mki_0_1_0 (n : Nat) : Nat := bif Nat.blt n 11 then 2 else 2
def mki_0_1_1 (n : Nat) : Nat := bif Nat.blt n 13 then 2 else 2
def mki_0_1_2 (n : Nat) : Nat := bif Nat.blt n 15 then 2 else 2
def mki_0_1_3 (n : Nat) : Nat := bif Nat.blt n 17 then 2 else 2
def mki_0_1_4 (n : Nat) : Nat := bif Nat.blt n 19 then 1 else 1
def mki_0_1 (n : Nat) : Nat := bif Nat.blt n 14 then bif Nat.blt n 12 then mki_0_1_0 n else mki_0_1_1 n else bif Nat.blt n 16 then mki_0_1_2 n else bif Nat.blt n 18 then mki_0_1_3 n else mki_0_1_4 n
def mki_0_2_0 (n : Nat) : Nat := bif Nat.blt n 21 then 1 else 1
def mki_0_2_1 (n : Nat) : Nat := bif Nat.blt n 23 then 1 else 1
def mki_0_2_2 (n : Nat) : Nat := bif Nat.blt n 25 then 1 else 1
def mki_0_2_3 (n : Nat) : Nat := bif Nat.blt n 27 then 0 else 1
def mki_0_2_4 (n : Nat) : Nat := bif Nat.blt n 29 then 0 else 0
def mki_0_2 (n : Nat) : Nat := bif Nat.blt n 24 then bif Nat.blt n 22 then mki_0_2_0 n else mki_0_2_1 n else bif Nat.blt n 26 then mki_0_2_2 n else bif Nat.blt n 28 then mki_0_2_3 n else mki_0_2_4 n
def mki_0_3_0 (n : Nat) : Nat := bif Nat.blt n 31 then 0 else 1
def mki_0_3_1 (n : Nat) : Nat := bif Nat.blt n 33 then 1 else 1
def mki_0_3_2 (n : Nat) : Nat := bif Nat.blt n 35 then 1 else 1
def mki_0_3_3 (n : Nat) : Nat := bif Nat.blt n 37 then 1 else 1
def mki_0_3_4 (n : Nat) : Nat := bif Nat.blt n 39 then 1 else 1
def mki_0_3 (n : Nat) : Nat := bif Nat.blt n 34 then bif Nat.blt n 32 then mki_0_3_0 n else mki_0_3_1 n else bif Nat.blt n 36 then mki_0_3_2 n else bif Nat.blt n 38 then mki_0_3_3 n else mki_0_3_4 n
def mki_0_4_0 (n : Nat) : Nat := bif Nat.blt n 41 then 1 else 0
def mki_0_4_1 (n : Nat) : Nat := bif Nat.blt n 43 then 1 else 1
def mki_0_4_2 (n : Nat) : Nat := bif Nat.blt n 45 then 1 else 1
def mki_0_4_3 (n : Nat) : Nat := bif Nat.blt n 47 then 1 else 0
def mki_0_4_4 (n : Nat) : Nat := bif Nat.blt n 49 then 1 else 2
def mki_0_4 (n : Nat) : Nat := bif Nat.blt n 44 then bif Nat.blt n 42 then mki_0_4_0 n else mki_0_4_1 n else bif Nat.blt n 46 then mki_0_4_2 n else bif Nat.blt n 48 then mki_0_4_3 n else mki_0_4_4 n
def mki_0_5_0 (n : Nat) : Nat := bif Nat.blt n 51 then 1 else 1
def mki_0_5_1 (n : Nat) : Nat := bif Nat.blt n 53 then 1 else 1
def mki_0_5_2 (n : Nat) : Nat := bif Nat.blt n 55 then 1 else 1
def mki_0_5_3 (n : Nat) : Nat := bif Nat.blt n 57 then 1 else 1
def mki_0_5_4 (n : Nat) : Nat := bif Nat.blt n 59 then 2 else 1
def mki_0_5 (n : Nat) : Nat := bif Nat.blt n 54 then bif Nat.blt n 52 then mki_0_5_0 n else mki_0_5_1 n else bif Nat.blt n 56 then mki_0_5_2 n else bif Nat.blt n 58 then mki_0_5_3 n else mki_0_5_4 n
def mki_0_6_0 (n : Nat) : Nat := bif Nat.blt n 61 then 2 else 1
def mki_0_6_1 (n : Nat) : Nat := bif Nat.blt n 63 then 1 else 1
def mki_0_6_2 (n : Nat) : Nat := bif Nat.blt n 65 then 1 else 1
def mki_0_6_3 (n : Nat) : Nat := bif Nat.blt n 67 then 1 else 1
def mki_0_6_4 (n : Nat) : Nat := bif Nat.blt n 69 then 1 else 1
def mki_0_6 (n : Nat) : Nat := bif Nat.blt n 64 then bif Nat.blt n 62 then mki_0_6_0 n else mki_0_6_1 n else bif Nat.blt n 66 then mki_0_6_2 n else bif Nat.blt n 68 then mki_0_6_3 n else mki_0_6_4 n
def mki_0_7_0 (n : Nat) : Nat := bif Nat.blt n 71 then 2 else 1
def mki_0_7_1 (n : Nat) : Nat := bif Nat.blt n 73 then 1 else 1
def mki_0_7_2 (n : Nat) : Nat := bif Nat.blt n 75 then 1 else 1
def mki_0_7_3 (n : Nat) : Nat := bif Nat.blt n 77 then 1 else 1
def mki_0_7_4 (n : Nat) : Nat := 1
def mki_0_7 (n : Nat) : Nat := bif Nat.blt n 74 then bif Nat.blt n 72 then mki_0_7_0 n else mki_0_7_1 n else bif Nat.blt n 76 then mki_0_7_2 n else bif Nat.blt n 78 then mki_0_7_3 n else mki_0_7_4 n
def mki_0 (n : Nat) : Nat := bif Nat.blt n 40 then bif Nat.blt n 20 then bif Nat.blt n 10 then mki_0_0 n else mki_0_1 n else bif Nat.blt n 30 then mki_0_2 n else mki_0_3 n else bif Nat.blt n 60 then bif Nat.blt n 50 then mki_0_4 n else mki_0_5 n else bif Nat.blt n 70 then mki_0_6 n else mki_0_7 n
def mki_1_0_0 (n : Nat) : Nat := bif Nat.blt n 80 then 1 else 1
def mki_1_0_1 (n : Nat) : Nat := bif Nat.blt n 82 then 1 else 1
def mki_1_0_2 (n : Nat) : Nat := bif Nat.blt n 84 then 1 else 1
def mki_1_0_3 (n : Nat) : Nat := bif Nat.blt n 86 then 1 else 1
def mki_1_0_4 (n : Nat) : Nat := bif Nat.blt n 88 then 0 else 1
def mki_1_0 (n : Nat) : Nat := bif Nat.blt n 83 then bif Nat.blt n 81 then mki_1_0_0 n else mki_1_0_1 n else bif Nat.blt n 85 then mki_1_0_2 n else bif Nat.blt n 87 then mki_1_0_3 n else mki_1_0_4 n
def mki_1_1_0 (n : Nat) : Nat := bif Nat.blt n 90 then 0 else 1
def mki_1_1_1 (n : Nat) : Nat := bif Nat.blt n 92 then 1 else 1
def mki_1_1_2 (n : Nat) : Nat := bif Nat.blt n 94 then 1 else 1
def mki_1_1_3 (n : Nat) : Nat := bif Nat.blt n 96 then 2 else 1
def mki_1_1_4 (n : Nat) : Nat := bif Nat.blt n 98 then 1 else 1
def mki_1_1 (n : Nat) : Nat := bif Nat.blt n 93 then bif Nat.blt n 91 then mki_1_1_0 n else mki_1_1_1 n else bif Nat.blt n 95 then mki_1_1_2 n else bif Nat.blt n 97 then mki_1_1_3 n else mki_1_1_4 n
def mki_1_2_0 (n : Nat) : Nat := bif Nat.blt n 100 then 1 else 1
def mki_1_2_1 (n : Nat) : Nat := bif Nat.blt n 102 then 1 else 1
def mki_1_2_2 (n : Nat) : Nat := bif Nat.blt n 104 then 1 else 1
def mki_1_2_3 (n : Nat) : Nat := bif Nat.blt n 106 then 2 else 1
def mki_1_2_4 (n : Nat) : Nat := bif Nat.blt n 108 then 1 else 1
def mki_1_2 (n : Nat) : Nat := bif Nat.blt n 103 then bif Nat.blt n 101 then mki_1_2_0 n else mki_1_2_1 n else bif Nat.blt n 105 then mki_1_2_2 n else bif Nat.blt n 107 then mki_1_2_3 n else mki_1_2_4 n
def mki_1_3_0 (n : Nat) : Nat := bif Nat.blt n 110 then 1 else 1
def mki_1_3_1 (n : Nat) : Nat := bif Nat.blt n 112 then 0 else 0
def mki_1_3_2 (n : Nat) : Nat := bif Nat.blt n 114 then 1 else 1
def mki_1_3_3 (n : Nat) : Nat := bif Nat.blt n 116 then 1 else 1
def mki_1_3_4 (n : Nat) : Nat := bif Nat.blt n 118 then 1 else 2
def mki_1_3 (n : Nat) : Nat := bif Nat.blt n 113 then bif Nat.blt n 111 then mki_1_3_0 n else mki_1_3_1 n else bif Nat.blt n 115 then mki_1_3_2 n else bif Nat.blt n 117 then mki_1_3_3 n else mki_1_3_4 n
def mki_1_4_0 (n : Nat) : Nat := bif Nat.blt n 120 then 1 else 1
def mki_1_4_1 (n : Nat) : Nat := bif Nat.blt n 122 then 1 else 1
def mki_1_4_2 (n : Nat) : Nat := bif Nat.blt n 124 then 1 else 1
def mki_1_4_3 (n : Nat) : Nat := bif Nat.blt n 126 then 1 else 1
def mki_1_4_4 (n : Nat) : Nat := bif Nat.blt n 128 then 2 else 1
def mki_1_4 (n : Nat) : Nat := bif Nat.blt n 123 then bif Nat.blt n 121 then mki_1_4_0 n else mki_1_4_1 n else bif Nat.blt n 125 then mki_1_4_2 n else bif Nat.blt n 127 then mki_1_4_3 n else mki_1_4_4 n
def mki_1_5_0 (n : Nat) : Nat := bif Nat.blt n 130 then 2 else 1
def mki_1_5_1 (n : Nat) : Nat := bif Nat.blt n 132 then 1 else 1
def mki_1_5_2 (n : Nat) : Nat := bif Nat.blt n 134 then 1 else 1
def mki_1_5_3 (n : Nat) : Nat := bif Nat.blt n 136 then 1 else 1
def mki_1_5_4 (n : Nat) : Nat := bif Nat.blt n 138 then 1 else 0
def mki_1_5 (n : Nat) : Nat := bif Nat.blt n 133 then bif Nat.blt n 131 then mki_1_5_0 n else mki_1_5_1 n else bif Nat.blt n 135 then mki_1_5_2 n else bif Nat.blt n 137 then mki_1_5_3 n else mki_1_5_4 n
def mki_1_6_0 (n : Nat) : Nat := bif Nat.blt n 140 then 1 else 0
def mki_1_6_1 (n : Nat) : Nat := bif Nat.blt n 142 then 1 else 1
def mki_1_6_2 (n : Nat) : Nat := bif Nat.blt n 144 then 1 else 2
def mki_1_6_3 (n : Nat) : Nat := bif Nat.blt n 146 then 1 else 1
def mki_1_6_4 (n : Nat) : Nat := bif Nat.blt n 148 then 1 else 1
def mki_1_6 (n : Nat) : Nat := bif Nat.blt n 143 then bif Nat.blt n 141 then mki_1_6_0 n else mki_1_6_1 n else bif Nat.blt n 145 then mki_1_6_2 n else bif Nat.blt n 147 then mki_1_6_3 n else mki_1_6_4 n
def mki_1_7_0 (n : Nat) : Nat := bif Nat.blt n 150 then 1 else 1
def mki_1_7_1 (n : Nat) : Nat := bif Nat.blt n 152 then 1 else 1
def mki_1_7_2 (n : Nat) : Nat := bif Nat.blt n 154 then 1 else 1
def mki_1_7_3 (n : Nat) : Nat := bif Nat.blt n 156 then 1 else 1
def mki_1_7_4 (n : Nat) : Nat := 2
def mki_1_7 (n : Nat) : Nat := bif Nat.blt n 153 then bif Nat.blt n 151 then mki_1_7_0 n else mki_1_7_1 n else bif Nat.blt n 155 then mki_1_7_2 n else bif Nat.blt n 157 then mki_1_7_3 n else mki_1_7_4 n
def mki_1 (n : Nat) : Nat := bif Nat.blt n 119 then bif Nat.blt n 99 then bif Nat.blt n 89 then mki_1_0 n else mki_1_1 n else bif Nat.blt n 109 then mki_1_2 n else mki_1_3 n else bif Nat.blt n 139 then bif Nat.blt n 129 then mki_1_4 n else mki_1_5 n else bif Nat.blt n 149 then mki_1_6 n else mki_1_7 n
def mki_2_0_0 (n : Nat) : Nat := bif Nat.blt n 159 then 1 else 1
def mki_2_0_1 (n : Nat) : Nat := bif Nat.blt n 161 then 1 else 1
def mki_2_0_2 (n : Nat) : Nat := bif Nat.blt n 163 then 1 else 0
def mki_2_0_3 (n : Nat) : Nat := bif Nat.blt n 165 then 1 else 1
def mki_2_0_4 (n : Nat) : Nat := bif Nat.blt n 167 then 1 else 1
def mki_2_0 (n : Nat) : Nat := bif Nat.blt n 162 then bif Nat.blt n 160 then mki_2_0_0 n else mki_2_0_1 n else bif Nat.blt n 164 then mki_2_0_2 n else bif Nat.blt n 166 then mki_2_0_3 n else mki_2_0_4 n
def mki_2_1_0 (n : Nat) : Nat := bif Nat.blt n 169 then 1 else 0
def mki_2_1_1 (n : Nat) : Nat := bif Nat.blt n 171 then 1 else 2
def mki_2_1_2 (n : Nat) : Nat := bif Nat.blt n 173 then 1 else 1
def mki_2_1_3 (n : Nat) : Nat := bif Nat.blt n 175 then 1 else 1
def mki_2_1_4 (n : Nat) : Nat := bif Nat.blt n 177 then 1 else 1
def mki_2_1 (n : Nat) : Nat := bif Nat.blt n 172 then bif Nat.blt n 170 then mki_2_1_0 n else mki_2_1_1 n else bif Nat.blt n 174 then mki_2_1_2 n else bif Nat.blt n 176 then mki_2_1_3 n else mki_2_1_4 n
def mki_2_2_0 (n : Nat) : Nat := bif Nat.blt n 179 then 1 else 1
def mki_2_2_1 (n : Nat) : Nat := bif Nat.blt n 181 then 1 else 1
def mki_2_2_2 (n : Nat) : Nat := bif Nat.blt n 183 then 1 else 1
def mki_2_2_3 (n : Nat) : Nat := bif Nat.blt n 185 then 1 else 1
def mki_2_2_4 (n : Nat) : Nat := bif Nat.blt n 187 then 1 else 0
def mki_2_2 (n : Nat) : Nat := bif Nat.blt n 182 then bif Nat.blt n 180 then mki_2_2_0 n else mki_2_2_1 n else bif Nat.blt n 184 then mki_2_2_2 n else bif Nat.blt n 186 then mki_2_2_3 n else mki_2_2_4 n
def mki_2_3_0 (n : Nat) : Nat := bif Nat.blt n 189 then 1 else 1
def mki_2_3_1 (n : Nat) : Nat := bif Nat.blt n 191 then 1 else 1
def mki_2_3_2 (n : Nat) : Nat := bif Nat.blt n 193 then 1 else 1
def mki_2_3_3 (n : Nat) : Nat := bif Nat.blt n 195 then 1 else 1
def mki_2_3_4 (n : Nat) : Nat := bif Nat.blt n 197 then 1 else 1
def mki_2_3 (n : Nat) : Nat := bif Nat.blt n 192 then bif Nat.blt n 190 then mki_2_3_0 n else mki_2_3_1 n else bif Nat.blt n 194 then mki_2_3_2 n else bif Nat.blt n 196 then mki_2_3_3 n else mki_2_3_4 n
def mki_2_4_0 (n : Nat) : Nat := bif Nat.blt n 199 then 1 else 0
def mki_2_4_1 (n : Nat) : Nat := bif Nat.blt n 201 then 1 else 1
def mki_2_4_2 (n : Nat) : Nat := bif Nat.blt n 203 then 1 else 1
def mki_2_4_3 (n : Nat) : Nat := bif Nat.blt n 205 then 1 else 1
def mki_2_4_4 (n : Nat) : Nat := bif Nat.blt n 207 then 1 else 1
def mki_2_4 (n : Nat) : Nat := bif Nat.blt n 202 then bif Nat.blt n 200 then mki_2_4_0 n else mki_2_4_1 n else bif Nat.blt n 204 then mki_2_4_2 n else bif Nat.blt n 206 then mki_2_4_3 n else mki_2_4_4 n
def mki_2_5_0 (n : Nat) : Nat := bif Nat.blt n 209 then 1 else 1
def mki_2_5_1 (n : Nat) : Nat := bif Nat.blt n 211 then 1 else 1
def mki_2_5_2 (n : Nat) : Nat := bif Nat.blt n 213 then 1 else 0
def mki_2_5_3 (n : Nat) : Nat := bif Nat.blt n 215 then 1 else 0
def mki_2_5_4 (n : Nat) : Nat := bif Nat.blt n 217 then 1 else 0
def mki_2_5 (n : Nat) : Nat := bif Nat.blt n 212 then bif Nat.blt n 210 then mki_2_5_0 n else mki_2_5_1 n else bif Nat.blt n 214 then mki_2_5_2 n else bif Nat.blt n 216 then mki_2_5_3 n else mki_2_5_4 n
def mki_2_6_0 (n : Nat) : Nat := bif Nat.blt n 219 then 1 else 1
def mki_2_6_1 (n : Nat) : Nat := bif Nat.blt n 221 then 1 else 1
def mki_2_6_2 (n : Nat) : Nat := bif Nat.blt n 223 then 1 else 1
def mki_2_6_3 (n : Nat) : Nat := bif Nat.blt n 225 then 1 else 1
def mki_2_6_4 (n : Nat) : Nat := bif Nat.blt n 227 then 1 else 1
def mki_2_6 (n : Nat) : Nat := bif Nat.blt n 222 then bif Nat.blt n 220 then mki_2_6_0 n else mki_2_6_1 n else bif Nat.blt n 224 then mki_2_6_2 n else bif Nat.blt n 226 then mki_2_6_3 n else mki_2_6_4 n
def mki_2_7_0 (n : Nat) : Nat := bif Nat.blt n 229 then 1 else 1
def mki_2_7_1 (n : Nat) : Nat := bif Nat.blt n 231 then 1 else 1
def mki_2_7_2 (n : Nat) : Nat := bif Nat.blt n 233 then 1 else 1
def mki_2_7_3 (n : Nat) : Nat := bif Nat.blt n 235 then 1 else 0
def mki_2_7_4 (n : Nat) : Nat := 1
def mki_2_7 (n : Nat) : Nat := bif Nat.blt n 232 then bif Nat.blt n 230 then mki_2_7_0 n else mki_2_7_1 n else bif Nat.blt n 234 then mki_2_7_2 n else bif Nat.blt n 236 then mki_2_7_3 n else mki_2_7_4 n
def mki_2 (n : Nat) : Nat := bif Nat.blt n 198 then bif Nat.blt n 178 then bif Nat.blt n 168 then mki_2_0 n else mki_2_1 n else bif Nat.blt n 188 then mki_2_2 n else mki_2_3 n else bif Nat.blt n 218 then bif Nat.blt n 208 then mki_2_4 n else mki_2_5 n else bif Nat.blt n 228 then mki_2_6 n else mki_2_7 n
def mki_3_0_0 (n : Nat) : Nat := bif Nat.blt n 238 then 1 else 1
def mki_3_0_1 (n : Nat) : Nat := bif Nat.blt n 240 then 1 else 1
def mki_3_0_2 (n : Nat) : Nat := bif Nat.blt n 242 then 1 else 1
def mki_3_0_3 (n : Nat) : Nat := bif Nat.blt n 244 then 1 else 1
def mki_3_0_4 (n : Nat) : Nat := bif Nat.blt n 246 then 1 else 1
def mki_3_0 (n : Nat) : Nat := bif Nat.blt n 241 then bif Nat.blt n 239 then mki_3_0_0 n else mki_3_0_1 n else bif Nat.blt n 243 then mki_3_0_2 n else bif Nat.blt n 245 then mki_3_0_3 n else mki_3_0_4 n
def mki_3_1_0 (n : Nat) : Nat := bif Nat.blt n 248 then 1 else 1
def mki_3_1_1 (n : Nat) : Nat := bif Nat.blt n 250 then 1 else 1
def mki_3_1_2 (n : Nat) : Nat := bif Nat.blt n 252 then 1 else 1
def mki_3_1_3 (n : Nat) : Nat := bif Nat.blt n 254 then 1 else 1
def mki_3_1_4 (n : Nat) : Nat := bif Nat.blt n 256 then 1 else 1
def mki_3_1 (n : Nat) : Nat := bif Nat.blt n 251 then bif Nat.blt n 249 then mki_3_1_0 n else mki_3_1_1 n else bif Nat.blt n 253 then mki_3_1_2 n else bif Nat.blt n 255 then mki_3_1_3 n else mki_3_1_4 n
def mki_3_2_0 (n : Nat) : Nat := bif Nat.blt n 258 then 1 else 1
def mki_3_2_1 (n : Nat) : Nat := bif Nat.blt n 260 then 1 else 1
def mki_3_2_2 (n : Nat) : Nat := bif Nat.blt n 262 then 1 else 1
def mki_3_2_3 (n : Nat) : Nat := bif Nat.blt n 264 then 1 else 1
def mki_3_2_4 (n : Nat) : Nat := bif Nat.blt n 266 then 1 else 1
def mki_3_2 (n : Nat) : Nat := bif Nat.blt n 261 then bif Nat.blt n 259 then mki_3_2_0 n else mki_3_2_1 n else bif Nat.blt n 263 then mki_3_2_2 n else bif Nat.blt n 265 then mki_3_2_3 n else mki_3_2_4 n
def mki_3_3_0 (n : Nat) : Nat := bif Nat.blt n 268 then 1 else 1
def mki_3_3_1 (n : Nat) : Nat := bif Nat.blt n 270 then 1 else 1
def mki_3_3_2 (n : Nat) : Nat := bif Nat.blt n 272 then 1 else 1
def mki_3_3_3 (n : Nat) : Nat := bif Nat.blt n 274 then 1 else 1
def mki_3_3_4 (n : Nat) : Nat := bif Nat.blt n 276 then 0 else 1
def mki_3_3 (n : Nat) : Nat := bif Nat.blt n 271 then bif Nat.blt n 269 then mki_3_3_0 n else mki_3_3_1 n else bif Nat.blt n 273 then mki_3_3_2 n else bif Nat.blt n 275 then mki_3_3_3 n else mki_3_3_4 n
def mki_3_4_0 (n : Nat) : Nat := bif Nat.blt n 278 then 1 else 1
def mki_3_4_1 (n : Nat) : Nat := bif Nat.blt n 280 then 1 else 1
def mki_3_4_2 (n : Nat) : Nat := bif Nat.blt n 282 then 1 else 1
def mki_3_4_3 (n : Nat) : Nat := bif Nat.blt n 284 then 1 else 1
def mki_3_4_4 (n : Nat) : Nat := bif Nat.blt n 286 then 1 else 1
def mki_3_4 (n : Nat) : Nat := bif Nat.blt n 281 then bif Nat.blt n 279 then mki_3_4_0 n else mki_3_4_1 n else bif Nat.blt n 283 then mki_3_4_2 n else bif Nat.blt n 285 then mki_3_4_3 n else mki_3_4_4 n
def mki_3_5_0 (n : Nat) : Nat := bif Nat.blt n 288 then 1 else 1
def mki_3_5_1 (n : Nat) : Nat := bif Nat.blt n 290 then 0 else 1
def mki_3_5_2 (n : Nat) : Nat := bif Nat.blt n 292 then 1 else 1
def mki_3_5_3 (n : Nat) : Nat := bif Nat.blt n 294 then 1 else 1
def mki_3_5_4 (n : Nat) : Nat := bif Nat.blt n 296 then 1 else 1
def mki_3_5 (n : Nat) : Nat := bif Nat.blt n 291 then bif Nat.blt n 289 then mki_3_5_0 n else mki_3_5_1 n else bif Nat.blt n 293 then mki_3_5_2 n else bif Nat.blt n 295 then mki_3_5_3 n else mki_3_5_4 n
def mki_3_6_0 (n : Nat) : Nat := bif Nat.blt n 298 then 1 else 1
def mki_3_6_1 (n : Nat) : Nat := bif Nat.blt n 300 then 1 else 1
def mki_3_6_2 (n : Nat) : Nat := bif Nat.blt n 302 then 1 else 1
def mki_3_6_3 (n : Nat) : Nat := bif Nat.blt n 304 then 1 else 1
def mki_3_6_4 (n : Nat) : Nat := bif Nat.blt n 306 then 1 else 1
def mki_3_6 (n : Nat) : Nat := bif Nat.blt n 301 then bif Nat.blt n 299 then mki_3_6_0 n else mki_3_6_1 n else bif Nat.blt n 303 then mki_3_6_2 n else bif Nat.blt n 305 then mki_3_6_3 n else mki_3_6_4 n
def mki_3_7_0 (n : Nat) : Nat := bif Nat.blt n 308 then 1 else 1
def mki_3_7_1 (n : Nat) : Nat := bif Nat.blt n 310 then 1 else 0
def mki_3_7_2 (n : Nat) : Nat := bif Nat.blt n 312 then 1 else 1
def mki_3_7_3 (n : Nat) : Nat := bif Nat.blt n 314 then 1 else 1
def mki_3_7_4 (n : Nat) : Nat := 1
def mki_3_7 (n : Nat) : Nat := bif Nat.blt n 311 then bif Nat.blt n 309 then mki_3_7_0 n else mki_3_7_1 n else bif Nat.blt n 313 then mki_3_7_2 n else bif Nat.blt n 315 then mki_3_7_3 n else mki_3_7_4 n
def mki_3 (n : Nat) : Nat := bif Nat.blt n 277 then bif Nat.blt n 257 then bif Nat.blt n 247 then mki_3_0 n else mki_3_1 n else bif Nat.blt n 267 then mki_3_2 n else mki_3_3 n else bif Nat.blt n 297 then bif Nat.blt n 287 then mki_3_4 n else mki_3_5 n else bif Nat.blt n 307 then mki_3_6 n else mki_3_7 n
def mki_4_0_0 (n : Nat) : Nat := bif Nat.blt n 317 then 1 else 1
def mki_4_0_1 (n : Nat) : Nat := bif Nat.blt n 319 then 1 else 1
def mki_4_0_2 (n : Nat) : Nat := bif Nat.blt n 321 then 1 else 1
def mki_4_0_3 (n : Nat) : Nat := bif Nat.blt n 323 then 1 else 1
def mki_4_0_4 (n : Nat) : Nat := bif Nat.blt n 325 then 1 else 1
def mki_4_0 (n : Nat) : Nat := bif Nat.blt n 320 then bif Nat.blt n 318 then mki_4_0_0 n else mki_4_0_1 n else bif Nat.blt n 322 then mki_4_0_2 n else bif Nat.blt n 324 then mki_4_0_3 n else mki_4_0_4 n
def mki_4_1_0 (n : Nat) : Nat := bif Nat.blt n 327 then 1 else 1
def mki_4_1_1 (n : Nat) : Nat := bif Nat.blt n 329 then 1 else 1
def mki_4_1_2 (n : Nat) : Nat := bif Nat.blt n 331 then 1 else 1
def mki_4_1_3 (n : Nat) : Nat := bif Nat.blt n 333 then 1 else 1
def mki_4_1_4 (n : Nat) : Nat := bif Nat.blt n 335 then 1 else 1
def mki_4_1 (n : Nat) : Nat := bif Nat.blt n 330 then bif Nat.blt n 328 then mki_4_1_0 n else mki_4_1_1 n else bif Nat.blt n 332 then mki_4_1_2 n else bif Nat.blt n 334 then mki_4_1_3 n else mki_4_1_4 n
def mki_4_2_0 (n : Nat) : Nat := bif Nat.blt n 337 then 1 else 1
def mki_4_2_1 (n : Nat) : Nat := bif Nat.blt n 339 then 1 else 1
def mki_4_2_2 (n : Nat) : Nat := bif Nat.blt n 341 then 1 else 1
def mki_4_2_3 (n : Nat) : Nat := bif Nat.blt n 343 then 1 else 1
def mki_4_2_4 (n : Nat) : Nat := bif Nat.blt n 345 then 1 else 1
def mki_4_2 (n : Nat) : Nat := bif Nat.blt n 340 then bif Nat.blt n 338 then mki_4_2_0 n else mki_4_2_1 n else bif Nat.blt n 342 then mki_4_2_2 n else bif Nat.blt n 344 then mki_4_2_3 n else mki_4_2_4 n
def mki_4_3_0 (n : Nat) : Nat := bif Nat.blt n 347 then 1 else 1
def mki_4_3_1 (n : Nat) : Nat := bif Nat.blt n 349 then 1 else 1
def mki_4_3_2 (n : Nat) : Nat := bif Nat.blt n 351 then 1 else 1
def mki_4_3_3 (n : Nat) : Nat := bif Nat.blt n 353 then 1 else 1
def mki_4_3_4 (n : Nat) : Nat := bif Nat.blt n 355 then 0 else 0
def mki_4_3 (n : Nat) : Nat := bif Nat.blt n 350 then bif Nat.blt n 348 then mki_4_3_0 n else mki_4_3_1 n else bif Nat.blt n 352 then mki_4_3_2 n else bif Nat.blt n 354 then mki_4_3_3 n else mki_4_3_4 n
def mki_4_4_0 (n : Nat) : Nat := bif Nat.blt n 357 then 1 else 0
def mki_4_4_1 (n : Nat) : Nat := bif Nat.blt n 359 then 0 else 1
def mki_4_4_2 (n : Nat) : Nat := bif Nat.blt n 361 then 1 else 1
def mki_4_4_3 (n : Nat) : Nat := bif Nat.blt n 363 then 0 else 1
def mki_4_4_4 (n : Nat) : Nat := bif Nat.blt n 365 then 1 else 1
def mki_4_4 (n : Nat) : Nat := bif Nat.blt n 360 then bif Nat.blt n 358 then mki_4_4_0 n else mki_4_4_1 n else bif Nat.blt n 362 then mki_4_4_2 n else bif Nat.blt n 364 then mki_4_4_3 n else mki_4_4_4 n
def mki_4_5_0 (n : Nat) : Nat := bif Nat.blt n 367 then 0 else 1
def mki_4_5_1 (n : Nat) : Nat := bif Nat.blt n 369 then 1 else 1
def mki_4_5_2 (n : Nat) : Nat := bif Nat.blt n 371 then 1 else 1
def mki_4_5_3 (n : Nat) : Nat := bif Nat.blt n 373 then 1 else 0
def mki_4_5_4 (n : Nat) : Nat := bif Nat.blt n 375 then 1 else 1
def mki_4_5 (n : Nat) : Nat := bif Nat.blt n 370 then bif Nat.blt n 368 then mki_4_5_0 n else mki_4_5_1 n else bif Nat.blt n 372 then mki_4_5_2 n else bif Nat.blt n 374 then mki_4_5_3 n else mki_4_5_4 n
def mki_4_6_0 (n : Nat) : Nat := bif Nat.blt n 377 then 0 else 1
def mki_4_6_1 (n : Nat) : Nat := bif Nat.blt n 379 then 1 else 0
def mki_4_6_2 (n : Nat) : Nat := bif Nat.blt n 381 then 1 else 1
def mki_4_6_3 (n : Nat) : Nat := bif Nat.blt n 383 then 0 else 1
def mki_4_6_4 (n : Nat) : Nat := bif Nat.blt n 385 then 1 else 1
def mki_4_6 (n : Nat) : Nat := bif Nat.blt n 380 then bif Nat.blt n 378 then mki_4_6_0 n else mki_4_6_1 n else bif Nat.blt n 382 then mki_4_6_2 n else bif Nat.blt n 384 then mki_4_6_3 n else mki_4_6_4 n
def mki_4_7_0 (n : Nat) : Nat := bif Nat.blt n 387 then 0 else 1
def mki_4_7_1 (n : Nat) : Nat := bif Nat.blt n 389 then 1 else 1
def mki_4_7_2 (n : Nat) : Nat := bif Nat.blt n 391 then 0 else 1
def mki_4_7_3 (n : Nat) : Nat := bif Nat.blt n 393 then 1 else 0
def mki_4_7_4 (n : Nat) : Nat := 1
def mki_4_7 (n : Nat) : Nat := bif Nat.blt n 390 then bif Nat.blt n 388 then mki_4_7_0 n else mki_4_7_1 n else bif Nat.blt n 392 then mki_4_7_2 n else bif Nat.blt n 394 then mki_4_7_3 n else mki_4_7_4 n
def mki_4 (n : Nat) : Nat := bif Nat.blt n 356 then bif Nat.blt n 336 then bif Nat.blt n 326 then mki_4_0 n else mki_4_1 n else bif Nat.blt n 346 then mki_4_2 n else mki_4_3 n else bif Nat.blt n 376 then bif Nat.blt n 366 then mki_4_4 n else mki_4_5 n else bif Nat.blt n 386 then mki_4_6 n else mki_4_7 n
def mki_5_0_0 (n : Nat) : Nat := bif Nat.blt n 396 then 1 else 0
def mki_5_0_1 (n : Nat) : Nat := bif Nat.blt n 398 then 1 else 1
def mki_5_0_2 (n : Nat) : Nat := bif Nat.blt n 400 then 1 else 0
def mki_5_0_3 (n : Nat) : Nat := bif Nat.blt n 402 then 1 else 1
def mki_5_0_4 (n : Nat) : Nat := bif Nat.blt n 404 then 0 else 1
def mki_5_0 (n : Nat) : Nat := bif Nat.blt n 399 then bif Nat.blt n 397 then mki_5_0_0 n else mki_5_0_1 n else bif Nat.blt n 401 then mki_5_0_2 n else bif Nat.blt n 403 then mki_5_0_3 n else mki_5_0_4 n
def mki_5_1_0 (n : Nat) : Nat := bif Nat.blt n 406 then 1 else 1
def mki_5_1_1 (n : Nat) : Nat := bif Nat.blt n 408 then 1 else 0
def mki_5_1_2 (n : Nat) : Nat := bif Nat.blt n 410 then 1 else 1
def mki_5_1_3 (n : Nat) : Nat := bif Nat.blt n 412 then 1 else 0
def mki_5_1_4 (n : Nat) : Nat := bif Nat.blt n 414 then 1 else 1
def mki_5_1 (n : Nat) : Nat := bif Nat.blt n 409 then bif Nat.blt n 407 then mki_5_1_0 n else mki_5_1_1 n else bif Nat.blt n 411 then mki_5_1_2 n else bif Nat.blt n 413 then mki_5_1_3 n else mki_5_1_4 n
def mki_5_2_0 (n : Nat) : Nat := bif Nat.blt n 416 then 1 else 1
def mki_5_2_1 (n : Nat) : Nat := bif Nat.blt n 418 then 1 else 1
def mki_5_2_2 (n : Nat) : Nat := bif Nat.blt n 420 then 1 else 1
def mki_5_2_3 (n : Nat) : Nat := bif Nat.blt n 422 then 1 else 1
def mki_5_2_4 (n : Nat) : Nat := bif Nat.blt n 424 then 1 else 1
def mki_5_2 (n : Nat) : Nat := bif Nat.blt n 419 then bif Nat.blt n 417 then mki_5_2_0 n else mki_5_2_1 n else bif Nat.blt n 421 then mki_5_2_2 n else bif Nat.blt n 423 then mki_5_2_3 n else mki_5_2_4 n
def mki_5_3_0 (n : Nat) : Nat := bif Nat.blt n 426 then 1 else 1
def mki_5_3_1 (n : Nat) : Nat := bif Nat.blt n 428 then 1 else 1
def mki_5_3_2 (n : Nat) : Nat := bif Nat.blt n 430 then 1 else 1
def mki_5_3_3 (n : Nat) : Nat := bif Nat.blt n 432 then 1 else 1
def mki_5_3_4 (n : Nat) : Nat := bif Nat.blt n 434 then 1 else 1
def mki_5_3 (n : Nat) : Nat := bif Nat.blt n 429 then bif Nat.blt n 427 then mki_5_3_0 n else mki_5_3_1 n else bif Nat.blt n 431 then mki_5_3_2 n else bif Nat.blt n 433 then mki_5_3_3 n else mki_5_3_4 n
def mki_5_4_0 (n : Nat) : Nat := bif Nat.blt n 436 then 1 else 1
def mki_5_4_1 (n : Nat) : Nat := bif Nat.blt n 438 then 1 else 1
def mki_5_4_2 (n : Nat) : Nat := bif Nat.blt n 440 then 1 else 1
def mki_5_4_3 (n : Nat) : Nat := bif Nat.blt n 442 then 1 else 1
def mki_5_4_4 (n : Nat) : Nat := bif Nat.blt n 444 then 1 else 1
def mki_5_4 (n : Nat) : Nat := bif Nat.blt n 439 then bif Nat.blt n 437 then mki_5_4_0 n else mki_5_4_1 n else bif Nat.blt n 441 then mki_5_4_2 n else bif Nat.blt n 443 then mki_5_4_3 n else mki_5_4_4 n
def mki_5_5_0 (n : Nat) : Nat := bif Nat.blt n 446 then 1 else 1
def mki_5_5_1 (n : Nat) : Nat := bif Nat.blt n 448 then 1 else 1
def mki_5_5_2 (n : Nat) : Nat := bif Nat.blt n 450 then 1 else 1
def mki_5_5_3 (n : Nat) : Nat := bif Nat.blt n 452 then 1 else 1
def mki_5_5_4 (n : Nat) : Nat := bif Nat.blt n 454 then 1 else 0
def mki_5_5 (n : Nat) : Nat := bif Nat.blt n 449 then bif Nat.blt n 447 then mki_5_5_0 n else mki_5_5_1 n else bif Nat.blt n 451 then mki_5_5_2 n else bif Nat.blt n 453 then mki_5_5_3 n else mki_5_5_4 n
def mki_5_6_0 (n : Nat) : Nat := bif Nat.blt n 456 then 1 else 1
def mki_5_6_1 (n : Nat) : Nat := bif Nat.blt n 458 then 0 else 1
def mki_5_6_2 (n : Nat) : Nat := bif Nat.blt n 460 then 1 else 0
def mki_5_6_3 (n : Nat) : Nat := bif Nat.blt n 462 then 1 else 1
def mki_5_6_4 (n : Nat) : Nat := bif Nat.blt n 464 then 1 else 0
def mki_5_6 (n : Nat) : Nat := bif Nat.blt n 459 then bif Nat.blt n 457 then mki_5_6_0 n else mki_5_6_1 n else bif Nat.blt n 461 then mki_5_6_2 n else bif Nat.blt n 463 then mki_5_6_3 n else mki_5_6_4 n
def mki_5_7_0 (n : Nat) : Nat := bif Nat.blt n 466 then 1 else 1
def mki_5_7_1 (n : Nat) : Nat := bif Nat.blt n 468 then 0 else 1
def mki_5_7_2 (n : Nat) : Nat := bif Nat.blt n 470 then 1 else 1
def mki_5_7_3 (n : Nat) : Nat := bif Nat.blt n 472 then 0 else 1
def mki_5_7_4 (n : Nat) : Nat := 1
def mki_5_7 (n : Nat) : Nat := bif Nat.blt n 469 then bif Nat.blt n 467 then mki_5_7_0 n else mki_5_7_1 n else bif Nat.blt n 471 then mki_5_7_2 n else bif Nat.blt n 473 then mki_5_7_3 n else mki_5_7_4 n
def mki_5 (n : Nat) : Nat := bif Nat.blt n 435 then bif Nat.blt n 415 then bif Nat.blt n 405 then mki_5_0 n else mki_5_1 n else bif Nat.blt n 425 then mki_5_2 n else mki_5_3 n else bif Nat.blt n 455 then bif Nat.blt n 445 then mki_5_4 n else mki_5_5 n else bif Nat.blt n 465 then mki_5_6 n else mki_5_7 n
def mki_6_0_0 (n : Nat) : Nat := bif Nat.blt n 475 then 0 else 1
def mki_6_0_1 (n : Nat) : Nat := bif Nat.blt n 477 then 1 else 0
def mki_6_0_2 (n : Nat) : Nat := bif Nat.blt n 479 then 1 else 1
def mki_6_0_3 (n : Nat) : Nat := bif Nat.blt n 481 then 0 else 1
def mki_6_0_4 (n : Nat) : Nat := bif Nat.blt n 483 then 1 else 1
def mki_6_0 (n : Nat) : Nat := bif Nat.blt n 478 then bif Nat.blt n 476 then mki_6_0_0 n else mki_6_0_1 n else bif Nat.blt n 480 then mki_6_0_2 n else bif Nat.blt n 482 then mki_6_0_3 n else mki_6_0_4 n
def mki_6_1_0 (n : Nat) : Nat := bif Nat.blt n 485 then 0 else 1
def mki_6_1_1 (n : Nat) : Nat := bif Nat.blt n 487 then 1 else 0
def mki_6_1_2 (n : Nat) : Nat := bif Nat.blt n 489 then 1 else 1
def mki_6_1_3 (n : Nat) : Nat := bif Nat.blt n 491 then 1 else 0
def mki_6_1_4 (n : Nat) : Nat := bif Nat.blt n 493 then 1 else 1
def mki_6_1 (n : Nat) : Nat := bif Nat.blt n 488 then bif Nat.blt n 486 then mki_6_1_0 n else mki_6_1_1 n else bif Nat.blt n 490 then mki_6_1_2 n else bif Nat.blt n 492 then mki_6_1_3 n else mki_6_1_4 n
def mki_6_2_0 (n : Nat) : Nat := bif Nat.blt n 495 then 0 else 1
def mki_6_2_1 (n : Nat) : Nat := bif Nat.blt n 497 then 1 else 1
def mki_6_2_2 (n : Nat) : Nat := bif Nat.blt n 499 then 0 else 1
def mki_6_2_3 (n : Nat) : Nat := bif Nat.blt n 501 then 1 else 0
def mki_6_2_4 (n : Nat) : Nat := bif Nat.blt n 503 then 1 else 1
def mki_6_2 (n : Nat) : Nat := bif Nat.blt n 498 then bif Nat.blt n 496 then mki_6_2_0 n else mki_6_2_1 n else bif Nat.blt n 500 then mki_6_2_2 n else bif Nat.blt n 502 then mki_6_2_3 n else mki_6_2_4 n
def mki_6_3_0 (n : Nat) : Nat := bif Nat.blt n 505 then 1 else 0
def mki_6_3_1 (n : Nat) : Nat := bif Nat.blt n 507 then 1 else 1
def mki_6_3_2 (n : Nat) : Nat := bif Nat.blt n 509 then 0 else 1
def mki_6_3_3 (n : Nat) : Nat := bif Nat.blt n 511 then 1 else 0
def mki_6_3_4 (n : Nat) : Nat := bif Nat.blt n 513 then 1 else 1
def mki_6_3 (n : Nat) : Nat := bif Nat.blt n 508 then bif Nat.blt n 506 then mki_6_3_0 n else mki_6_3_1 n else bif Nat.blt n 510 then mki_6_3_2 n else bif Nat.blt n 512 then mki_6_3_3 n else mki_6_3_4 n
def mki_6_4_0 (n : Nat) : Nat := bif Nat.blt n 515 then 0 else 1
def mki_6_4_1 (n : Nat) : Nat := bif Nat.blt n 517 then 1 else 0
def mki_6_4_2 (n : Nat) : Nat := bif Nat.blt n 519 then 1 else 1
def mki_6_4_3 (n : Nat) : Nat := bif Nat.blt n 521 then 0 else 1
def mki_6_4_4 (n : Nat) : Nat := bif Nat.blt n 523 then 1 else 0
def mki_6_4 (n : Nat) : Nat := bif Nat.blt n 518 then bif Nat.blt n 516 then mki_6_4_0 n else mki_6_4_1 n else bif Nat.blt n 520 then mki_6_4_2 n else bif Nat.blt n 522 then mki_6_4_3 n else mki_6_4_4 n
def mki_6_5_0 (n : Nat) : Nat := bif Nat.blt n 525 then 1 else 1
def mki_6_5_1 (n : Nat) : Nat := bif Nat.blt n 527 then 0 else 1
def mki_6_5_2 (n : Nat) : Nat := bif Nat.blt n 529 then 1 else 1
def mki_6_5_3 (n : Nat) : Nat := bif Nat.blt n 531 then 0 else 1
def mki_6_5_4 (n : Nat) : Nat := bif Nat.blt n 533 then 1 else 0
def mki_6_5 (n : Nat) : Nat := bif Nat.blt n 528 then bif Nat.blt n 526 then mki_6_5_0 n else mki_6_5_1 n else bif Nat.blt n 530 then mki_6_5_2 n else bif Nat.blt n 532 then mki_6_5_3 n else mki_6_5_4 n
def mki_6_6_0 (n : Nat) : Nat := bif Nat.blt n 535 then 1 else 1
def mki_6_6_1 (n : Nat) : Nat := bif Nat.blt n 537 then 0 else 1
def mki_6_6_2 (n : Nat) : Nat := bif Nat.blt n 539 then 1 else 0
def mki_6_6_3 (n : Nat) : Nat := bif Nat.blt n 541 then 1 else 1
def mki_6_6_4 (n : Nat) : Nat := bif Nat.blt n 543 then 1 else 0
def mki_6_6 (n : Nat) : Nat := bif Nat.blt n 538 then bif Nat.blt n 536 then mki_6_6_0 n else mki_6_6_1 n else bif Nat.blt n 540 then mki_6_6_2 n else bif Nat.blt n 542 then mki_6_6_3 n else mki_6_6_4 n
def mki_6_7_0 (n : Nat) : Nat := bif Nat.blt n 545 then 1 else 1
def mki_6_7_1 (n : Nat) : Nat := bif Nat.blt n 547 then 1 else 1
def mki_6_7_2 (n : Nat) : Nat := bif Nat.blt n 549 then 1 else 0
def mki_6_7_3 (n : Nat) : Nat := bif Nat.blt n 551 then 1 else 1
def mki_6_7_4 (n : Nat) : Nat := 1
def mki_6_7 (n : Nat) : Nat := bif Nat.blt n 548 then bif Nat.blt n 546 then mki_6_7_0 n else mki_6_7_1 n else bif Nat.blt n 550 then mki_6_7_2 n else bif Nat.blt n 552 then mki_6_7_3 n else mki_6_7_4 n
def mki_6 (n : Nat) : Nat := bif Nat.blt n 514 then bif Nat.blt n 494 then bif Nat.blt n 484 then mki_6_0 n else mki_6_1 n else bif Nat.blt n 504 then mki_6_2 n else mki_6_3 n else bif Nat.blt n 534 then bif Nat.blt n 524 then mki_6_4 n else mki_6_5 n else bif Nat.blt n 544 then mki_6_6 n else mki_6_7 n
def mki_7_0_0 (n : Nat) : Nat := bif Nat.blt n 554 then 1 else 0
def mki_7_0_1 (n : Nat) : Nat := bif Nat.blt n 556 then 1 else 1
def mki_7_0_2 (n : Nat) : Nat := bif Nat.blt n 558 then 1 else 0
def mki_7_0_3 (n : Nat) : Nat := bif Nat.blt n 560 then 1 else 1
def mki_7_0_4 (n : Nat) : Nat := bif Nat.blt n 562 then 0 else 1
def mki_7_0 (n : Nat) : Nat := bif Nat.blt n 557 then bif Nat.blt n 555 then mki_7_0_0 n else mki_7_0_1 n else bif Nat.blt n 559 then mki_7_0_2 n else bif Nat.blt n 561 then mki_7_0_3 n else mki_7_0_4 n
def mki_7_1_0 (n : Nat) : Nat := bif Nat.blt n 564 then 1 else 0
def mki_7_1_1 (n : Nat) : Nat := bif Nat.blt n 566 then 1 else 1
def mki_7_1_2 (n : Nat) : Nat := bif Nat.blt n 568 then 0 else 1
def mki_7_1_3 (n : Nat) : Nat := bif Nat.blt n 570 then 1 else 0
def mki_7_1_4 (n : Nat) : Nat := bif Nat.blt n 572 then 1 else 1
def mki_7_1 (n : Nat) : Nat := bif Nat.blt n 567 then bif Nat.blt n 565 then mki_7_1_0 n else mki_7_1_1 n else bif Nat.blt n 569 then mki_7_1_2 n else bif Nat.blt n 571 then mki_7_1_3 n else mki_7_1_4 n
def mki_7_2_0 (n : Nat) : Nat := bif Nat.blt n 574 then 1 else 1
def mki_7_2_1 (n : Nat) : Nat := bif Nat.blt n 576 then 0 else 1
def mki_7_2_2 (n : Nat) : Nat := bif Nat.blt n 578 then 1 else 1
def mki_7_2_3 (n : Nat) : Nat := bif Nat.blt n 580 then 0 else 1
def mki_7_2_4 (n : Nat) : Nat := bif Nat.blt n 582 then 1 else 0
def mki_7_2 (n : Nat) : Nat := bif Nat.blt n 577 then bif Nat.blt n 575 then mki_7_2_0 n else mki_7_2_1 n else bif Nat.blt n 579 then mki_7_2_2 n else bif Nat.blt n 581 then mki_7_2_3 n else mki_7_2_4 n
def mki_7_3_0 (n : Nat) : Nat := bif Nat.blt n 584 then 1 else 1
def mki_7_3_1 (n : Nat) : Nat := bif Nat.blt n 586 then 1 else 0
def mki_7_3_2 (n : Nat) : Nat := bif Nat.blt n 588 then 1 else 1
def mki_7_3_3 (n : Nat) : Nat := bif Nat.blt n 590 then 1 else 0
def mki_7_3_4 (n : Nat) : Nat := bif Nat.blt n 592 then 1 else 1
def mki_7_3 (n : Nat) : Nat := bif Nat.blt n 587 then bif Nat.blt n 585 then mki_7_3_0 n else mki_7_3_1 n else bif Nat.blt n 589 then mki_7_3_2 n else bif Nat.blt n 591 then mki_7_3_3 n else mki_7_3_4 n
def mki_7_4_0 (n : Nat) : Nat := bif Nat.blt n 594 then 0 else 1
def mki_7_4_1 (n : Nat) : Nat := bif Nat.blt n 596 then 1 else 0
def mki_7_4_2 (n : Nat) : Nat := bif Nat.blt n 598 then 1 else 1
def mki_7_4_3 (n : Nat) : Nat := bif Nat.blt n 600 then 0 else 1
def mki_7_4_4 (n : Nat) : Nat := bif Nat.blt n 602 then 1 else 0
def mki_7_4 (n : Nat) : Nat := bif Nat.blt n 597 then bif Nat.blt n 595 then mki_7_4_0 n else mki_7_4_1 n else bif Nat.blt n 599 then mki_7_4_2 n else bif Nat.blt n 601 then mki_7_4_3 n else mki_7_4_4 n
def mki_7_5_0 (n : Nat) : Nat := bif Nat.blt n 604 then 1 else 1
def mki_7_5_1 (n : Nat) : Nat := bif Nat.blt n 606 then 1 else 0
def mki_7_5_2 (n : Nat) : Nat := bif Nat.blt n 608 then 1 else 1
def mki_7_5_3 (n : Nat) : Nat := bif Nat.blt n 610 then 0 else 1
def mki_7_5_4 (n : Nat) : Nat := bif Nat.blt n 612 then 1 else 1
def mki_7_5 (n : Nat) : Nat := bif Nat.blt n 607 then bif Nat.blt n 605 then mki_7_5_0 n else mki_7_5_1 n else bif Nat.blt n 609 then mki_7_5_2 n else bif Nat.blt n 611 then mki_7_5_3 n else mki_7_5_4 n
def mki_7_6_0 (n : Nat) : Nat := bif Nat.blt n 614 then 0 else 1
def mki_7_6_1 (n : Nat) : Nat := bif Nat.blt n 616 then 1 else 1
def mki_7_6_2 (n : Nat) : Nat := bif Nat.blt n 618 then 0 else 1
def mki_7_6_3 (n : Nat) : Nat := bif Nat.blt n 620 then 1 else 0
def mki_7_6_4 (n : Nat) : Nat := bif Nat.blt n 622 then 1 else 1
def mki_7_6 (n : Nat) : Nat := bif Nat.blt n 617 then bif Nat.blt n 615 then mki_7_6_0 n else mki_7_6_1 n else bif Nat.blt n 619 then mki_7_6_2 n else bif Nat.blt n 621 then mki_7_6_3 n else mki_7_6_4 n
def mki_7_7 (n : Nat) : Nat := bif Nat.blt n 626 then bif Nat.blt n 624 then 0 else bif Nat.blt n 625 then 1 else 1 else bif Nat.blt n 627 then 0 else bif Nat.blt n 628 then 1 else 1
def mki_7 (n : Nat) : Nat := bif Nat.blt n 593 then bif Nat.blt n 573 then bif Nat.blt n 563 then mki_7_0 n else mki_7_1 n else bif Nat.blt n 583 then mki_7_2 n else mki_7_3 n else bif Nat.blt n 613 then bif Nat.blt n 603 then mki_7_4 n else mki_7_5 n else bif Nat.blt n 623 then mki_7_6 n else mki_7_7 n
def mki (n : Nat) : Nat := bif Nat.blt n 316 then bif Nat.blt n 158 then bif Nat.blt n 79 then mki_0 n else mki_1 n else bif Nat.blt n 237 then mki_2 n else mki_3 n else bif Nat.blt n 474 then bif Nat.blt n 395 then mki_4 n else mki_5 n else bif Nat.blt n 553 then mki_6 n else mki_7 n
def cwd (n : Nat) : Cond := match mha n with
  | [] => Cond.code (mth n) (mby n) (mlo n) (mre n)
  | h :: hh => Cond.codeWith (mth n) (mby n) (mlo n) (mre n) (h :: hh)
def wokM (n : Nat) : Prop := cwd n ∈ lw_tbl ∧ (match mki n with
  | 0 => Cond.static (mth n) ∈ lw_tbl ∧ Cond.initialized (mth n).cls ∈ lw_tbl
  | 1 => Cond.instanceMethod (mth n) ∈ lw_tbl ∧ Cond.selects (mth n).cls (mth n) (mth n) ∈ lw_tbl
  | _ => Cond.instanceMethod (mth n) ∈ lw_tbl)
theorem wokM1 : wokM 1 := ⟨lw_at lw_m1 45 rfl, lw_at lw_m1 44 rfl⟩
theorem wokM2 : wokM 2 := ⟨lw_at lw_m1 53 rfl, lw_at lw_m1 52 rfl⟩
theorem wokM3 : wokM 3 := ⟨lw_at lw_m1 74 rfl, lw_at lw_m1 73 rfl⟩
theorem wokM4 : wokM 4 := ⟨lw_at lw_m1 80 rfl, lw_at lw_m1 79 rfl⟩
theorem wokM5 : wokM 5 := ⟨lw_at lw_m1 108 rfl, lw_at lw_m1 107 rfl⟩
theorem wokM6 : wokM 6 := ⟨lw_at lw_m1 166 rfl, lw_at lw_m1 165 rfl⟩
theorem wokM7 : wokM 7 := ⟨lw_at lw_m1 206 rfl, lw_at lw_m1 205 rfl⟩
theorem wokM8 : wokM 8 := ⟨lw_at lw_m2 7 rfl, lw_at lw_m2 6 rfl⟩
theorem wokM9 : wokM 9 := ⟨lw_at lw_m2 59 rfl, lw_at lw_m2 58 rfl⟩
theorem wokM10 : wokM 10 := ⟨lw_at lw_m2 98 rfl, lw_at lw_m2 97 rfl⟩
theorem wokM11 : wokM 11 := ⟨lw_at lw_m2 128 rfl, lw_at lw_m2 127 rfl⟩
theorem wokM12 : wokM 12 := ⟨lw_at lw_m2 186 rfl, lw_at lw_m2 185 rfl⟩
theorem wokM13 : wokM 13 := ⟨lw_at lw_m2 196 rfl, lw_at lw_m2 195 rfl⟩
theorem wokM14 : wokM 14 := ⟨lw_at lw_m3 20 rfl, lw_at lw_m3 19 rfl⟩
theorem wokM15 : wokM 15 := ⟨lw_at lw_m3 80 rfl, lw_at lw_m3 79 rfl⟩
theorem wokM16 : wokM 16 := ⟨lw_at lw_m3 103 rfl, lw_at lw_m3 102 rfl⟩
theorem wokM17 : wokM 17 := ⟨lw_at lw_m12 134 rfl, lw_at lw_m12 133 rfl⟩
theorem wokM18 : wokM 18 := ⟨lw_at lw_m4 43 rfl, lw_at lw_m4 41 rfl, lw_at lw_m4 42 rfl⟩
theorem wokM19 : wokM 19 := ⟨lw_at lw_m4 47 rfl, lw_at lw_m4 45 rfl, lw_at lw_m4 46 rfl⟩
theorem wokM20 : wokM 20 := ⟨lw_at lw_m4 51 rfl, lw_at lw_m4 49 rfl, lw_at lw_m4 50 rfl⟩
theorem wokM21 : wokM 21 := ⟨lw_at lw_m18 109 rfl, lw_at lw_m18 107 rfl, lw_at lw_m18 108 rfl⟩
theorem wokM22 : wokM 22 := ⟨lw_at lw_m4 11 rfl, lw_at lw_m4 9 rfl, lw_at lw_m4 10 rfl⟩
theorem wokM23 : wokM 23 := ⟨lw_at lw_m4 4 rfl, lw_at lw_m4 2 rfl, lw_at lw_m4 3 rfl⟩
theorem wokM24 : wokM 24 := ⟨lw_at lw_m4 15 rfl, lw_at lw_m4 13 rfl, lw_at lw_m4 14 rfl⟩
theorem wokM25 : wokM 25 := ⟨lw_at lw_m17 177 rfl, lw_at lw_m17 175 rfl, lw_at lw_m17 176 rfl⟩
theorem wokM26 : wokM 26 := ⟨lw_at lw_m12 94 rfl, lw_at lw_m12 93 rfl, lw_at lw_m1 0 rfl⟩
theorem wokM27 : wokM 27 := ⟨lw_at lw_m12 98 rfl, lw_at lw_m12 96 rfl, lw_at lw_m12 97 rfl⟩
theorem wokM28 : wokM 28 := ⟨lw_at lw_m4 7 rfl, lw_at lw_m4 6 rfl, lw_at lw_m1 1 rfl⟩
theorem wokM29 : wokM 29 := ⟨lw_at lw_m4 157 rfl, lw_at lw_m4 156 rfl, lw_at lw_m1 1 rfl⟩
theorem wokM30 : wokM 30 := ⟨lw_at lw_m4 66 rfl, lw_at lw_m4 65 rfl, lw_at lw_m1 1 rfl⟩
theorem wokM31 : wokM 31 := ⟨lw_at lw_m12 104 rfl, lw_at lw_m12 102 rfl, lw_at lw_m12 103 rfl⟩
theorem wokM32 : wokM 32 := ⟨lw_at lw_m12 108 rfl, lw_at lw_m12 107 rfl, lw_at lw_ms 79 rfl⟩
theorem wokM33 : wokM 33 := ⟨lw_at lw_m12 112 rfl, lw_at lw_m12 111 rfl, lw_at lw_ms 80 rfl⟩
theorem wokM34 : wokM 34 := ⟨lw_at lw_m12 117 rfl, lw_at lw_m12 115 rfl, lw_at lw_m12 116 rfl⟩
theorem wokM35 : wokM 35 := ⟨lw_at lw_m12 121 rfl, lw_at lw_m12 119 rfl, lw_at lw_m12 120 rfl⟩
theorem wokM36 : wokM 36 := ⟨lw_at lw_m11 143 rfl, lw_at lw_m11 141 rfl, lw_at lw_m11 142 rfl⟩
theorem wokM37 : wokM 37 := ⟨lw_at lw_m11 147 rfl, lw_at lw_m11 145 rfl, lw_at lw_m11 146 rfl⟩
theorem wokM38 : wokM 38 := ⟨lw_at lw_m11 151 rfl, lw_at lw_m11 150 rfl, lw_at lw_ms 75 rfl⟩
theorem wokM39 : wokM 39 := ⟨lw_at lw_m10 164 rfl, lw_at lw_m10 162 rfl, lw_at lw_m10 163 rfl⟩
theorem wokM40 : wokM 40 := ⟨lw_at lw_m6 17 rfl, lw_at lw_m6 16 rfl, lw_at lw_ms 17 rfl⟩
theorem wokM41 : wokM 41 := ⟨lw_at lw_m5 227 rfl, lw_at lw_m5 226 rfl, lw_at lw_m1 1 rfl⟩
theorem wokM42 : wokM 42 := ⟨lw_at lw_m5 224 rfl, lw_at lw_m5 223 rfl, lw_at lw_ms 16 rfl⟩
theorem wokM43 : wokM 43 := ⟨lw_at lw_m9 196 rfl, lw_at lw_m9 194 rfl, lw_at lw_m9 195 rfl⟩
theorem wokM44 : wokM 44 := ⟨lw_at lw_m8 7 rfl, lw_at lw_m8 5 rfl, lw_at lw_m8 6 rfl⟩
theorem wokM45 : wokM 45 := ⟨lw_at lw_m7 152 rfl, lw_at lw_m7 151 rfl, lw_at lw_ms 26 rfl⟩
theorem wokM46 : wokM 46 := ⟨lw_at lw_m7 157 rfl, lw_at lw_m7 155 rfl, lw_at lw_m7 156 rfl⟩
theorem wokM47 : wokM 47 := ⟨lw_at lw_m5 64 rfl, lw_at lw_m5 63 rfl, lw_at lw_m1 1 rfl⟩
theorem wokM48 : wokM 48 := ⟨lw_at lw_m7 148 rfl, lw_at lw_m7 146 rfl, lw_at lw_m7 147 rfl⟩
theorem wokM49 : wokM 49 := ⟨lw_at lw_m7 162 rfl, lw_at lw_m7 161 rfl⟩
theorem wokM50 : wokM 50 := ⟨lw_at lw_m6 234 rfl, lw_at lw_m6 232 rfl, lw_at lw_m6 233 rfl⟩
theorem wokM51 : wokM 51 := ⟨lw_at lw_m6 223 rfl, lw_at lw_m6 222 rfl, lw_at lw_ms 22 rfl⟩
theorem wokM52 : wokM 52 := ⟨lw_at lw_m6 238 rfl, lw_at lw_m6 237 rfl, lw_at lw_ms 23 rfl⟩
theorem wokM53 : wokM 53 := ⟨lw_at lw_m6 86 rfl, lw_at lw_m6 85 rfl, lw_at lw_ms 19 rfl⟩
theorem wokM54 : wokM 54 := ⟨lw_at lw_m6 138 rfl, lw_at lw_m6 136 rfl, lw_at lw_m6 137 rfl⟩
theorem wokM55 : wokM 55 := ⟨lw_at lw_m7 3 rfl, lw_at lw_m7 1 rfl, lw_at lw_m7 2 rfl⟩
theorem wokM56 : wokM 56 := ⟨lw_at lw_m6 178 rfl, lw_at lw_m6 177 rfl, lw_at lw_ms 21 rfl⟩
theorem wokM57 : wokM 57 := ⟨lw_at lw_m6 182 rfl, lw_at lw_m6 180 rfl, lw_at lw_m6 181 rfl⟩
theorem wokM58 : wokM 58 := ⟨lw_at lw_m6 186 rfl, lw_at lw_m6 185 rfl⟩
theorem wokM59 : wokM 59 := ⟨lw_at lw_m6 134 rfl, lw_at lw_m6 132 rfl, lw_at lw_m6 133 rfl⟩
theorem wokM60 : wokM 60 := ⟨lw_at lw_m6 143 rfl, lw_at lw_m6 142 rfl⟩
theorem wokM61 : wokM 61 := ⟨lw_at lw_m7 11 rfl, lw_at lw_m7 10 rfl, lw_at lw_ms 25 rfl⟩
theorem wokM62 : wokM 62 := ⟨lw_at lw_m6 63 rfl, lw_at lw_m6 62 rfl, lw_at lw_ms 18 rfl⟩
theorem wokM63 : wokM 63 := ⟨lw_at lw_m6 67 rfl, lw_at lw_m6 65 rfl, lw_at lw_m6 66 rfl⟩
theorem wokM64 : wokM 64 := ⟨lw_at lw_m6 71 rfl, lw_at lw_m6 69 rfl, lw_at lw_m6 70 rfl⟩
theorem wokM65 : wokM 65 := ⟨lw_at lw_m7 7 rfl, lw_at lw_m7 6 rfl, lw_at lw_ms 24 rfl⟩
theorem wokM66 : wokM 66 := ⟨lw_at lw_m6 35 rfl, lw_at lw_m6 33 rfl, lw_at lw_m6 34 rfl⟩
theorem wokM67 : wokM 67 := ⟨lw_at lw_m6 219 rfl, lw_at lw_m6 217 rfl, lw_at lw_m6 218 rfl⟩
theorem wokM68 : wokM 68 := ⟨lw_at lw_m6 82 rfl, lw_at lw_m6 80 rfl, lw_at lw_m6 81 rfl⟩
theorem wokM69 : wokM 69 := ⟨lw_at lw_m6 90 rfl, lw_at lw_m6 89 rfl, lw_at lw_ms 20 rfl⟩
theorem wokM70 : wokM 70 := ⟨lw_at lw_m6 94 rfl, lw_at lw_m6 93 rfl⟩
theorem wokM71 : wokM 71 := ⟨lw_at lw_m6 30 rfl, lw_at lw_m6 28 rfl, lw_at lw_m6 29 rfl⟩
theorem wokM72 : wokM 72 := ⟨lw_at lw_m4 63 rfl, lw_at lw_m4 61 rfl, lw_at lw_m4 62 rfl⟩
theorem wokM73 : wokM 73 := ⟨lw_at lw_m4 135 rfl, lw_at lw_m4 133 rfl, lw_at lw_m4 134 rfl⟩
theorem wokM74 : wokM 74 := ⟨lw_at lw_m12 125 rfl, lw_at lw_m12 124 rfl, lw_at lw_ms 81 rfl⟩
theorem wokM75 : wokM 75 := ⟨lw_at lw_m9 222 rfl, lw_at lw_m9 220 rfl, lw_at lw_m9 221 rfl⟩
theorem wokM76 : wokM 76 := ⟨lw_at lw_m9 226 rfl, lw_at lw_m9 224 rfl, lw_at lw_m9 225 rfl⟩
theorem wokM77 : wokM 77 := ⟨lw_at lw_m9 211 rfl, lw_at lw_m9 209 rfl, lw_at lw_m9 210 rfl⟩
theorem wokM78 : wokM 78 := ⟨lw_at lw_m9 173 rfl, lw_at lw_m9 171 rfl, lw_at lw_m9 172 rfl⟩
theorem wokM79 : wokM 79 := ⟨lw_at lw_m9 132 rfl, lw_at lw_m9 130 rfl, lw_at lw_m9 131 rfl⟩
theorem wokM80 : wokM 80 := ⟨lw_at lw_m9 136 rfl, lw_at lw_m9 135 rfl, lw_at lw_ms 53 rfl⟩
theorem wokM81 : wokM 81 := ⟨lw_at lw_m5 115 rfl, lw_at lw_m5 113 rfl, lw_at lw_m5 114 rfl⟩
theorem wokM82 : wokM 82 := ⟨lw_at lw_m9 96 rfl, lw_at lw_m9 94 rfl, lw_at lw_m9 95 rfl⟩
theorem wokM83 : wokM 83 := ⟨lw_at lw_m9 141 rfl, lw_at lw_m9 139 rfl, lw_at lw_m9 140 rfl⟩
theorem wokM84 : wokM 84 := ⟨lw_at lw_m9 145 rfl, lw_at lw_m9 144 rfl, lw_at lw_ms 54 rfl⟩
theorem wokM85 : wokM 85 := ⟨lw_at lw_m9 100 rfl, lw_at lw_m9 98 rfl, lw_at lw_m9 99 rfl⟩
theorem wokM86 : wokM 86 := ⟨lw_at lw_m9 92 rfl, lw_at lw_m9 90 rfl, lw_at lw_m9 91 rfl⟩
theorem wokM87 : wokM 87 := ⟨lw_at lw_m9 149 rfl, lw_at lw_m9 148 rfl, lw_at lw_m1 9 rfl⟩
theorem wokM88 : wokM 88 := ⟨lw_at lw_m5 204 rfl, lw_at lw_m5 202 rfl, lw_at lw_m5 203 rfl⟩
theorem wokM89 : wokM 89 := ⟨lw_at lw_m5 99 rfl, lw_at lw_m5 98 rfl, lw_at lw_m1 6 rfl⟩
theorem wokM90 : wokM 90 := ⟨lw_at lw_m5 111 rfl, lw_at lw_m5 110 rfl, lw_at lw_ms 11 rfl⟩
theorem wokM91 : wokM 91 := ⟨lw_at lw_m9 154 rfl, lw_at lw_m9 153 rfl, lw_at lw_ms 55 rfl⟩
theorem wokM92 : wokM 92 := ⟨lw_at lw_m9 158 rfl, lw_at lw_m9 157 rfl, lw_at lw_ms 56 rfl⟩
theorem wokM93 : wokM 93 := ⟨lw_at lw_m9 162 rfl, lw_at lw_m9 161 rfl, lw_at lw_ms 57 rfl⟩
theorem wokM94 : wokM 94 := ⟨lw_at lw_m9 88 rfl, lw_at lw_m9 86 rfl, lw_at lw_m9 87 rfl⟩
theorem wokM95 : wokM 95 := ⟨lw_at lw_m9 105 rfl, lw_at lw_m9 104 rfl⟩
theorem wokM96 : wokM 96 := ⟨lw_at lw_m9 77 rfl, lw_at lw_m9 75 rfl, lw_at lw_m9 76 rfl⟩
theorem wokM97 : wokM 97 := ⟨lw_at lw_m9 55 rfl, lw_at lw_m9 53 rfl, lw_at lw_m9 54 rfl⟩
theorem wokM98 : wokM 98 := ⟨lw_at lw_m9 37 rfl, lw_at lw_m9 36 rfl, lw_at lw_ms 51 rfl⟩
theorem wokM99 : wokM 99 := ⟨lw_at lw_m9 61 rfl, lw_at lw_m9 59 rfl, lw_at lw_m9 60 rfl⟩
theorem wokM100 : wokM 100 := ⟨lw_at lw_m9 41 rfl, lw_at lw_m9 39 rfl, lw_at lw_m9 40 rfl⟩
theorem wokM101 : wokM 101 := ⟨lw_at lw_m8 183 rfl, lw_at lw_m8 181 rfl, lw_at lw_m8 182 rfl⟩
theorem wokM102 : wokM 102 := ⟨lw_at lw_m9 66 rfl, lw_at lw_m9 65 rfl, lw_at lw_ms 52 rfl⟩
theorem wokM103 : wokM 103 := ⟨lw_at lw_m9 33 rfl, lw_at lw_m9 31 rfl, lw_at lw_m9 32 rfl⟩
theorem wokM104 : wokM 104 := ⟨lw_at lw_m9 1 rfl, lw_at lw_m8 239 rfl, lw_at lw_m9 0 rfl⟩
theorem wokM105 : wokM 105 := ⟨lw_at lw_m9 6 rfl, lw_at lw_m9 5 rfl⟩
theorem wokM106 : wokM 106 := ⟨lw_at lw_m8 171 rfl, lw_at lw_m8 169 rfl, lw_at lw_m8 170 rfl⟩
theorem wokM107 : wokM 107 := ⟨lw_at lw_m8 175 rfl, lw_at lw_m8 173 rfl, lw_at lw_m8 174 rfl⟩
theorem wokM108 : wokM 108 := ⟨lw_at lw_m8 179 rfl, lw_at lw_m8 178 rfl, lw_at lw_ms 45 rfl⟩
theorem wokM109 : wokM 109 := ⟨lw_at lw_m8 187 rfl, lw_at lw_m8 185 rfl, lw_at lw_m8 186 rfl⟩
theorem wokM110 : wokM 110 := ⟨lw_at lw_m8 191 rfl, lw_at lw_m8 190 rfl, lw_at lw_ms 46 rfl⟩
theorem wokM111 : wokM 111 := ⟨lw_at lw_m8 194 rfl, lw_at lw_m8 193 rfl, lw_at lw_m1 8 rfl⟩
theorem wokM112 : wokM 112 := ⟨lw_at lw_m8 199 rfl, lw_at lw_m8 198 rfl, lw_at lw_m1 37 rfl⟩
theorem wokM113 : wokM 113 := ⟨lw_at lw_m8 203 rfl, lw_at lw_m8 202 rfl, lw_at lw_ms 47 rfl⟩
theorem wokM114 : wokM 114 := ⟨lw_at lw_m8 207 rfl, lw_at lw_m8 206 rfl, lw_at lw_ms 48 rfl⟩
theorem wokM115 : wokM 115 := ⟨lw_at lw_m8 213 rfl, lw_at lw_m8 212 rfl, lw_at lw_ms 49 rfl⟩
theorem wokM116 : wokM 116 := ⟨lw_at lw_m8 217 rfl, lw_at lw_m8 216 rfl, lw_at lw_ms 50 rfl⟩
theorem wokM117 : wokM 117 := ⟨lw_at lw_m8 141 rfl, lw_at lw_m8 139 rfl, lw_at lw_m8 140 rfl⟩
theorem wokM118 : wokM 118 := ⟨lw_at lw_m8 148 rfl, lw_at lw_m8 147 rfl⟩
theorem wokM119 : wokM 119 := ⟨lw_at lw_m8 124 rfl, lw_at lw_m8 122 rfl, lw_at lw_m8 123 rfl⟩
theorem wokM120 : wokM 120 := ⟨lw_at lw_m8 130 rfl, lw_at lw_m8 128 rfl, lw_at lw_m8 129 rfl⟩
theorem wokM121 : wokM 121 := ⟨lw_at lw_m7 187 rfl, lw_at lw_m7 185 rfl, lw_at lw_m7 186 rfl⟩
theorem wokM122 : wokM 122 := ⟨lw_at lw_m7 191 rfl, lw_at lw_m7 190 rfl, lw_at lw_ms 27 rfl⟩
theorem wokM123 : wokM 123 := ⟨lw_at lw_m7 195 rfl, lw_at lw_m7 194 rfl, lw_at lw_ms 28 rfl⟩
theorem wokM124 : wokM 124 := ⟨lw_at lw_m7 199 rfl, lw_at lw_m7 198 rfl, lw_at lw_ms 29 rfl⟩
theorem wokM125 : wokM 125 := ⟨lw_at lw_m7 203 rfl, lw_at lw_m7 202 rfl, lw_at lw_ms 30 rfl⟩
theorem wokM126 : wokM 126 := ⟨lw_at lw_m7 207 rfl, lw_at lw_m7 206 rfl, lw_at lw_ms 31 rfl⟩
theorem wokM127 : wokM 127 := ⟨lw_at lw_m7 214 rfl, lw_at lw_m7 213 rfl⟩
theorem wokM128 : wokM 128 := ⟨lw_at lw_m7 85 rfl, lw_at lw_m7 83 rfl, lw_at lw_m7 84 rfl⟩
theorem wokM129 : wokM 129 := ⟨lw_at lw_m7 89 rfl, lw_at lw_m7 88 rfl⟩
theorem wokM130 : wokM 130 := ⟨lw_at lw_m7 44 rfl, lw_at lw_m7 42 rfl, lw_at lw_m7 43 rfl⟩
theorem wokM131 : wokM 131 := ⟨lw_at lw_m6 59 rfl, lw_at lw_m6 57 rfl, lw_at lw_m6 58 rfl⟩
theorem wokM132 : wokM 132 := ⟨lw_at lw_m5 61 rfl, lw_at lw_m5 59 rfl, lw_at lw_m5 60 rfl⟩
theorem wokM133 : wokM 133 := ⟨lw_at lw_m5 83 rfl, lw_at lw_m5 81 rfl, lw_at lw_m5 82 rfl⟩
theorem wokM134 : wokM 134 := ⟨lw_at lw_m5 88 rfl, lw_at lw_m5 87 rfl, lw_at lw_ms 8 rfl⟩
theorem wokM135 : wokM 135 := ⟨lw_at lw_m5 103 rfl, lw_at lw_m5 102 rfl, lw_at lw_ms 9 rfl⟩
theorem wokM136 : wokM 136 := ⟨lw_at lw_m5 107 rfl, lw_at lw_m5 106 rfl, lw_at lw_ms 10 rfl⟩
theorem wokM137 : wokM 137 := ⟨lw_at lw_m4 217 rfl, lw_at lw_m4 215 rfl, lw_at lw_m4 216 rfl⟩
theorem wokM138 : wokM 138 := ⟨lw_at lw_m5 92 rfl, lw_at lw_m5 91 rfl, lw_at lw_m1 6 rfl⟩
theorem wokM139 : wokM 139 := ⟨lw_at lw_m4 204 rfl, lw_at lw_m4 202 rfl, lw_at lw_m4 203 rfl⟩
theorem wokM140 : wokM 140 := ⟨lw_at lw_m5 96 rfl, lw_at lw_m5 95 rfl, lw_at lw_m1 6 rfl⟩
theorem wokM141 : wokM 141 := ⟨lw_at lw_m5 120 rfl, lw_at lw_m5 119 rfl, lw_at lw_ms 12 rfl⟩
theorem wokM142 : wokM 142 := ⟨lw_at lw_m5 126 rfl, lw_at lw_m5 125 rfl, lw_at lw_ms 13 rfl⟩
theorem wokM143 : wokM 143 := ⟨lw_at lw_m5 131 rfl, lw_at lw_m5 130 rfl, lw_at lw_ms 14 rfl⟩
theorem wokM144 : wokM 144 := ⟨lw_at lw_m5 134 rfl, lw_at lw_m5 133 rfl⟩
theorem wokM145 : wokM 145 := ⟨lw_at lw_m5 200 rfl, lw_at lw_m5 198 rfl, lw_at lw_m5 199 rfl⟩
theorem wokM146 : wokM 146 := ⟨lw_at lw_m5 208 rfl, lw_at lw_m5 207 rfl, lw_at lw_ms 15 rfl⟩
theorem wokM147 : wokM 147 := ⟨lw_at lw_m4 187 rfl, lw_at lw_m4 185 rfl, lw_at lw_m4 186 rfl⟩
theorem wokM148 : wokM 148 := ⟨lw_at lw_m4 191 rfl, lw_at lw_m4 189 rfl, lw_at lw_m4 190 rfl⟩
theorem wokM149 : wokM 149 := ⟨lw_at lw_m4 196 rfl, lw_at lw_m4 195 rfl, lw_at lw_ms 2 rfl⟩
theorem wokM150 : wokM 150 := ⟨lw_at lw_m4 200 rfl, lw_at lw_m4 199 rfl, lw_at lw_ms 3 rfl⟩
theorem wokM151 : wokM 151 := ⟨lw_at lw_m4 208 rfl, lw_at lw_m4 207 rfl, lw_at lw_ms 4 rfl⟩
theorem wokM152 : wokM 152 := ⟨lw_at lw_m4 212 rfl, lw_at lw_m4 210 rfl, lw_at lw_m4 211 rfl⟩
theorem wokM153 : wokM 153 := ⟨lw_at lw_m4 236 rfl, lw_at lw_m4 234 rfl, lw_at lw_m4 235 rfl⟩
theorem wokM154 : wokM 154 := ⟨lw_at lw_m5 2 rfl, lw_at lw_m5 1 rfl, lw_at lw_ms 5 rfl⟩
theorem wokM155 : wokM 155 := ⟨lw_at lw_m5 7 rfl, lw_at lw_m5 6 rfl, lw_at lw_ms 6 rfl⟩
theorem wokM156 : wokM 156 := ⟨lw_at lw_m5 15 rfl, lw_at lw_m5 14 rfl, lw_at lw_ms 7 rfl⟩
theorem wokM157 : wokM 157 := ⟨lw_at lw_m5 19 rfl, lw_at lw_m5 18 rfl⟩
theorem wokM158 : wokM 158 := ⟨lw_at lw_m4 154 rfl, lw_at lw_m4 152 rfl, lw_at lw_m4 153 rfl⟩
theorem wokM159 : wokM 159 := ⟨lw_at lw_m12 129 rfl, lw_at lw_m12 128 rfl, lw_at lw_ms 82 rfl⟩
theorem wokM160 : wokM 160 := ⟨lw_at lw_m12 64 rfl, lw_at lw_m12 62 rfl, lw_at lw_m12 63 rfl⟩
theorem wokM161 : wokM 161 := ⟨lw_at lw_m12 53 rfl, lw_at lw_m12 52 rfl, lw_at lw_ms 78 rfl⟩
theorem wokM162 : wokM 162 := ⟨lw_at lw_m12 68 rfl, lw_at lw_m12 66 rfl, lw_at lw_m12 67 rfl⟩
theorem wokM163 : wokM 163 := ⟨lw_at lw_m11 131 rfl, lw_at lw_m11 130 rfl, lw_at lw_m1 37 rfl⟩
theorem wokM164 : wokM 164 := ⟨lw_at lw_m12 49 rfl, lw_at lw_m12 47 rfl, lw_at lw_m12 48 rfl⟩
theorem wokM165 : wokM 165 := ⟨lw_at lw_m11 206 rfl, lw_at lw_m11 204 rfl, lw_at lw_m11 205 rfl⟩
theorem wokM166 : wokM 166 := ⟨lw_at lw_m11 210 rfl, lw_at lw_m11 208 rfl, lw_at lw_m11 209 rfl⟩
theorem wokM167 : wokM 167 := ⟨lw_at lw_m11 215 rfl, lw_at lw_m11 214 rfl, lw_at lw_ms 76 rfl⟩
theorem wokM168 : wokM 168 := ⟨lw_at lw_m11 222 rfl, lw_at lw_m11 221 rfl, lw_at lw_ms 77 rfl⟩
theorem wokM169 : wokM 169 := ⟨lw_at lw_m11 226 rfl, lw_at lw_m11 225 rfl, lw_at lw_m1 16 rfl⟩
theorem wokM170 : wokM 170 := ⟨lw_at lw_m11 231 rfl, lw_at lw_m11 229 rfl, lw_at lw_m11 230 rfl⟩
theorem wokM171 : wokM 171 := ⟨lw_at lw_m11 236 rfl, lw_at lw_m11 235 rfl⟩
theorem wokM172 : wokM 172 := ⟨lw_at lw_m11 189 rfl, lw_at lw_m11 187 rfl, lw_at lw_m11 188 rfl⟩
theorem wokM173 : wokM 173 := ⟨lw_at lw_m11 193 rfl, lw_at lw_m11 191 rfl, lw_at lw_m11 192 rfl⟩
theorem wokM174 : wokM 174 := ⟨lw_at lw_m11 178 rfl, lw_at lw_m11 176 rfl, lw_at lw_m11 177 rfl⟩
theorem wokM175 : wokM 175 := ⟨lw_at lw_m11 77 rfl, lw_at lw_m11 75 rfl, lw_at lw_m11 76 rfl⟩
theorem wokM176 : wokM 176 := ⟨lw_at lw_m11 81 rfl, lw_at lw_m11 79 rfl, lw_at lw_m11 80 rfl⟩
theorem wokM177 : wokM 177 := ⟨lw_at lw_m11 86 rfl, lw_at lw_m11 85 rfl, lw_at lw_ms 71 rfl⟩
theorem wokM178 : wokM 178 := ⟨lw_at lw_m11 92 rfl, lw_at lw_m11 91 rfl, lw_at lw_ms 72 rfl⟩
theorem wokM179 : wokM 179 := ⟨lw_at lw_m11 97 rfl, lw_at lw_m11 96 rfl, lw_at lw_ms 73 rfl⟩
theorem wokM180 : wokM 180 := ⟨lw_at lw_m11 103 rfl, lw_at lw_m11 102 rfl, lw_at lw_ms 74 rfl⟩
theorem wokM181 : wokM 181 := ⟨lw_at lw_m10 219 rfl, lw_at lw_m10 217 rfl, lw_at lw_m10 218 rfl⟩
theorem wokM182 : wokM 182 := ⟨lw_at lw_m10 186 rfl, lw_at lw_m10 184 rfl, lw_at lw_m10 185 rfl⟩
theorem wokM183 : wokM 183 := ⟨lw_at lw_m10 190 rfl, lw_at lw_m10 189 rfl, lw_at lw_ms 63 rfl⟩
theorem wokM184 : wokM 184 := ⟨lw_at lw_m10 194 rfl, lw_at lw_m10 193 rfl, lw_at lw_ms 64 rfl⟩
theorem wokM185 : wokM 185 := ⟨lw_at lw_m10 198 rfl, lw_at lw_m10 197 rfl, lw_at lw_ms 65 rfl⟩
theorem wokM186 : wokM 186 := ⟨lw_at lw_m10 202 rfl, lw_at lw_m10 200 rfl, lw_at lw_m10 201 rfl⟩
theorem wokM187 : wokM 187 := ⟨lw_at lw_m10 70 rfl, lw_at lw_m10 69 rfl, lw_at lw_m1 37 rfl⟩
theorem wokM188 : wokM 188 := ⟨lw_at lw_m10 207 rfl, lw_at lw_m10 205 rfl, lw_at lw_m10 206 rfl⟩
theorem wokM189 : wokM 189 := ⟨lw_at lw_m10 142 rfl, lw_at lw_m10 141 rfl, lw_at lw_ms 62 rfl⟩
theorem wokM190 : wokM 190 := ⟨lw_at lw_m10 92 rfl, lw_at lw_m10 90 rfl, lw_at lw_m10 91 rfl⟩
theorem wokM191 : wokM 191 := ⟨lw_at lw_m10 96 rfl, lw_at lw_m10 94 rfl, lw_at lw_m10 95 rfl⟩
theorem wokM192 : wokM 192 := ⟨lw_at lw_m10 100 rfl, lw_at lw_m10 98 rfl, lw_at lw_m10 99 rfl⟩
theorem wokM193 : wokM 193 := ⟨lw_at lw_m10 104 rfl, lw_at lw_m10 102 rfl, lw_at lw_m10 103 rfl⟩
theorem wokM194 : wokM 194 := ⟨lw_at lw_m10 108 rfl, lw_at lw_m10 106 rfl, lw_at lw_m10 107 rfl⟩
theorem wokM195 : wokM 195 := ⟨lw_at lw_m10 112 rfl, lw_at lw_m10 110 rfl, lw_at lw_m10 111 rfl⟩
theorem wokM196 : wokM 196 := ⟨lw_at lw_m10 116 rfl, lw_at lw_m10 115 rfl, lw_at lw_ms 58 rfl⟩
theorem wokM197 : wokM 197 := ⟨lw_at lw_m10 120 rfl, lw_at lw_m10 119 rfl, lw_at lw_ms 59 rfl⟩
theorem wokM198 : wokM 198 := ⟨lw_at lw_m10 124 rfl, lw_at lw_m10 123 rfl, lw_at lw_ms 60 rfl⟩
theorem wokM199 : wokM 199 := ⟨lw_at lw_m10 130 rfl, lw_at lw_m10 129 rfl, lw_at lw_m1 37 rfl⟩
theorem wokM200 : wokM 200 := ⟨lw_at lw_m10 134 rfl, lw_at lw_m10 133 rfl, lw_at lw_ms 61 rfl⟩
theorem wokM201 : wokM 201 := ⟨lw_at lw_m10 138 rfl, lw_at lw_m10 136 rfl, lw_at lw_m10 137 rfl⟩
theorem wokM202 : wokM 202 := ⟨lw_at lw_m10 81 rfl, lw_at lw_m10 79 rfl, lw_at lw_m10 80 rfl⟩
theorem wokM203 : wokM 203 := ⟨lw_at lw_m10 23 rfl, lw_at lw_m10 21 rfl, lw_at lw_m10 22 rfl⟩
theorem wokM204 : wokM 204 := ⟨lw_at lw_m10 27 rfl, lw_at lw_m10 25 rfl, lw_at lw_m10 26 rfl⟩
theorem wokM205 : wokM 205 := ⟨lw_at lw_m10 56 rfl, lw_at lw_m10 54 rfl, lw_at lw_m10 55 rfl⟩
theorem wokM206 : wokM 206 := ⟨lw_at lw_m10 67 rfl, lw_at lw_m10 65 rfl, lw_at lw_m10 66 rfl⟩
theorem wokM207 : wokM 207 := ⟨lw_at lw_m10 15 rfl, lw_at lw_m10 13 rfl, lw_at lw_m10 14 rfl⟩
theorem wokM208 : wokM 208 := ⟨lw_at lw_m10 19 rfl, lw_at lw_m10 17 rfl, lw_at lw_m10 18 rfl⟩
theorem wokM209 : wokM 209 := ⟨lw_at lw_m10 31 rfl, lw_at lw_m10 29 rfl, lw_at lw_m10 30 rfl⟩
theorem wokM210 : wokM 210 := ⟨lw_at lw_m10 35 rfl, lw_at lw_m10 33 rfl, lw_at lw_m10 34 rfl⟩
theorem wokM211 : wokM 211 := ⟨lw_at lw_m10 40 rfl, lw_at lw_m10 38 rfl, lw_at lw_m10 39 rfl⟩
theorem wokM212 : wokM 212 := ⟨lw_at lw_m11 128 rfl, lw_at lw_m11 126 rfl, lw_at lw_m11 127 rfl⟩
theorem wokM213 : wokM 213 := ⟨lw_at lw_m11 40 rfl, lw_at lw_m11 39 rfl, lw_at lw_m1 37 rfl⟩
theorem wokM214 : wokM 214 := ⟨lw_at lw_m15 225 rfl, lw_at lw_m15 223 rfl, lw_at lw_m15 224 rfl⟩
theorem wokM215 : wokM 215 := ⟨lw_at lw_m14 184 rfl, lw_at lw_m14 183 rfl, lw_at lw_m1 17 rfl⟩
theorem wokM216 : wokM 216 := ⟨lw_at lw_m15 229 rfl, lw_at lw_m15 228 rfl, lw_at lw_ms 123 rfl⟩
theorem wokM217 : wokM 217 := ⟨lw_at lw_m15 232 rfl, lw_at lw_m15 231 rfl, lw_at lw_m1 17 rfl⟩
theorem wokM218 : wokM 218 := ⟨lw_at lw_m15 236 rfl, lw_at lw_m15 235 rfl, lw_at lw_ms 124 rfl⟩
theorem wokM219 : wokM 219 := ⟨lw_at lw_m16 0 rfl, lw_at lw_m15 239 rfl, lw_at lw_ms 125 rfl⟩
theorem wokM220 : wokM 220 := ⟨lw_at lw_m16 226 rfl, lw_at lw_m16 225 rfl, lw_at lw_ms 178 rfl⟩
theorem wokM221 : wokM 221 := ⟨lw_at lw_m16 222 rfl, lw_at lw_m16 221 rfl, lw_at lw_ms 177 rfl⟩
theorem wokM222 : wokM 222 := ⟨lw_at lw_m15 189 rfl, lw_at lw_m15 188 rfl, lw_at lw_ms 121 rfl⟩
theorem wokM223 : wokM 223 := ⟨lw_at lw_m15 121 rfl, lw_at lw_m15 120 rfl, lw_at lw_ms 113 rfl⟩
theorem wokM224 : wokM 224 := ⟨lw_at lw_m16 94 rfl, lw_at lw_m16 93 rfl, lw_at lw_ms 146 rfl⟩
theorem wokM225 : wokM 225 := ⟨lw_at lw_m16 218 rfl, lw_at lw_m16 217 rfl, lw_at lw_ms 176 rfl⟩
theorem wokM226 : wokM 226 := ⟨lw_at lw_m15 40 rfl, lw_at lw_m15 39 rfl, lw_at lw_ms 99 rfl⟩
theorem wokM227 : wokM 227 := ⟨lw_at lw_m16 213 rfl, lw_at lw_m16 212 rfl, lw_at lw_ms 175 rfl⟩
theorem wokM228 : wokM 228 := ⟨lw_at lw_m16 178 rfl, lw_at lw_m16 177 rfl, lw_at lw_ms 167 rfl⟩
theorem wokM229 : wokM 229 := ⟨lw_at lw_m16 182 rfl, lw_at lw_m16 181 rfl, lw_at lw_ms 168 rfl⟩
theorem wokM230 : wokM 230 := ⟨lw_at lw_m16 186 rfl, lw_at lw_m16 185 rfl, lw_at lw_ms 169 rfl⟩
theorem wokM231 : wokM 231 := ⟨lw_at lw_m16 190 rfl, lw_at lw_m16 189 rfl, lw_at lw_ms 170 rfl⟩
theorem wokM232 : wokM 232 := ⟨lw_at lw_m16 194 rfl, lw_at lw_m16 193 rfl, lw_at lw_ms 171 rfl⟩
theorem wokM233 : wokM 233 := ⟨lw_at lw_m16 198 rfl, lw_at lw_m16 197 rfl, lw_at lw_ms 172 rfl⟩
theorem wokM234 : wokM 234 := ⟨lw_at lw_m16 202 rfl, lw_at lw_m16 201 rfl, lw_at lw_ms 173 rfl⟩
theorem wokM235 : wokM 235 := ⟨lw_at lw_m16 205 rfl, lw_at lw_m16 204 rfl, lw_at lw_m1 17 rfl⟩
theorem wokM236 : wokM 236 := ⟨lw_at lw_m16 209 rfl, lw_at lw_m16 208 rfl, lw_at lw_ms 174 rfl⟩
theorem wokM237 : wokM 237 := ⟨lw_at lw_m16 174 rfl, lw_at lw_m16 173 rfl, lw_at lw_ms 166 rfl⟩
theorem wokM238 : wokM 238 := ⟨lw_at lw_m16 170 rfl, lw_at lw_m16 169 rfl, lw_at lw_ms 165 rfl⟩
theorem wokM239 : wokM 239 := ⟨lw_at lw_m16 106 rfl, lw_at lw_m16 105 rfl, lw_at lw_ms 149 rfl⟩
theorem wokM240 : wokM 240 := ⟨lw_at lw_m15 4 rfl, lw_at lw_m15 3 rfl, lw_at lw_ms 95 rfl⟩
theorem wokM241 : wokM 241 := ⟨lw_at lw_m15 129 rfl, lw_at lw_m15 128 rfl, lw_at lw_ms 114 rfl⟩
theorem wokM242 : wokM 242 := ⟨lw_at lw_m16 166 rfl, lw_at lw_m16 165 rfl, lw_at lw_ms 164 rfl⟩
theorem wokM243 : wokM 243 := ⟨lw_at lw_m16 142 rfl, lw_at lw_m16 141 rfl, lw_at lw_ms 158 rfl⟩
theorem wokM244 : wokM 244 := ⟨lw_at lw_m16 146 rfl, lw_at lw_m16 145 rfl, lw_at lw_ms 159 rfl⟩
theorem wokM245 : wokM 245 := ⟨lw_at lw_m16 150 rfl, lw_at lw_m16 149 rfl, lw_at lw_ms 160 rfl⟩
theorem wokM246 : wokM 246 := ⟨lw_at lw_m15 28 rfl, lw_at lw_m15 27 rfl, lw_at lw_ms 97 rfl⟩
theorem wokM247 : wokM 247 := ⟨lw_at lw_m16 154 rfl, lw_at lw_m16 153 rfl, lw_at lw_ms 161 rfl⟩
theorem wokM248 : wokM 248 := ⟨lw_at lw_m16 158 rfl, lw_at lw_m16 157 rfl, lw_at lw_ms 162 rfl⟩
theorem wokM249 : wokM 249 := ⟨lw_at lw_m15 32 rfl, lw_at lw_m15 31 rfl, lw_at lw_ms 98 rfl⟩
theorem wokM250 : wokM 250 := ⟨lw_at lw_m16 162 rfl, lw_at lw_m16 161 rfl, lw_at lw_ms 163 rfl⟩
theorem wokM251 : wokM 251 := ⟨lw_at lw_m16 138 rfl, lw_at lw_m16 137 rfl, lw_at lw_ms 157 rfl⟩
theorem wokM252 : wokM 252 := ⟨lw_at lw_m14 181 rfl, lw_at lw_m14 180 rfl, lw_at lw_ms 83 rfl⟩
theorem wokM253 : wokM 253 := ⟨lw_at lw_m16 134 rfl, lw_at lw_m16 133 rfl, lw_at lw_ms 156 rfl⟩
theorem wokM254 : wokM 254 := ⟨lw_at lw_m16 126 rfl, lw_at lw_m16 125 rfl, lw_at lw_ms 154 rfl⟩
theorem wokM255 : wokM 255 := ⟨lw_at lw_m14 232 rfl, lw_at lw_m14 231 rfl, lw_at lw_ms 92 rfl⟩
theorem wokM256 : wokM 256 := ⟨lw_at lw_m14 236 rfl, lw_at lw_m14 235 rfl, lw_at lw_ms 93 rfl⟩
theorem wokM257 : wokM 257 := ⟨lw_at lw_m15 0 rfl, lw_at lw_m14 239 rfl, lw_at lw_ms 94 rfl⟩
theorem wokM258 : wokM 258 := ⟨lw_at lw_m15 8 rfl, lw_at lw_m15 7 rfl, lw_at lw_ms 96 rfl⟩
theorem wokM259 : wokM 259 := ⟨lw_at lw_m16 130 rfl, lw_at lw_m16 129 rfl, lw_at lw_ms 155 rfl⟩
theorem wokM260 : wokM 260 := ⟨lw_at lw_m14 224 rfl, lw_at lw_m14 223 rfl, lw_at lw_ms 91 rfl⟩
theorem wokM261 : wokM 261 := ⟨lw_at lw_m16 114 rfl, lw_at lw_m16 113 rfl, lw_at lw_ms 151 rfl⟩
theorem wokM262 : wokM 262 := ⟨lw_at lw_m16 118 rfl, lw_at lw_m16 117 rfl, lw_at lw_ms 152 rfl⟩
theorem wokM263 : wokM 263 := ⟨lw_at lw_m16 122 rfl, lw_at lw_m16 121 rfl, lw_at lw_ms 153 rfl⟩
theorem wokM264 : wokM 264 := ⟨lw_at lw_m16 110 rfl, lw_at lw_m16 109 rfl, lw_at lw_ms 150 rfl⟩
theorem wokM265 : wokM 265 := ⟨lw_at lw_m16 98 rfl, lw_at lw_m16 97 rfl, lw_at lw_ms 147 rfl⟩
theorem wokM266 : wokM 266 := ⟨lw_at lw_m16 102 rfl, lw_at lw_m16 101 rfl, lw_at lw_ms 148 rfl⟩
theorem wokM267 : wokM 267 := ⟨lw_at lw_m16 90 rfl, lw_at lw_m16 89 rfl, lw_at lw_ms 145 rfl⟩
theorem wokM268 : wokM 268 := ⟨lw_at lw_m16 85 rfl, lw_at lw_m16 84 rfl, lw_at lw_ms 144 rfl⟩
theorem wokM269 : wokM 269 := ⟨lw_at lw_m14 220 rfl, lw_at lw_m14 219 rfl, lw_at lw_ms 90 rfl⟩
theorem wokM270 : wokM 270 := ⟨lw_at lw_m16 61 rfl, lw_at lw_m16 60 rfl, lw_at lw_ms 139 rfl⟩
theorem wokM271 : wokM 271 := ⟨lw_at lw_m16 65 rfl, lw_at lw_m16 64 rfl, lw_at lw_ms 140 rfl⟩
theorem wokM272 : wokM 272 := ⟨lw_at lw_m16 69 rfl, lw_at lw_m16 68 rfl, lw_at lw_ms 141 rfl⟩
theorem wokM273 : wokM 273 := ⟨lw_at lw_m16 24 rfl, lw_at lw_m16 23 rfl, lw_at lw_ms 131 rfl⟩
theorem wokM274 : wokM 274 := ⟨lw_at lw_m16 36 rfl, lw_at lw_m16 35 rfl, lw_at lw_ms 134 rfl⟩
theorem wokM275 : wokM 275 := ⟨lw_at lw_m16 72 rfl, lw_at lw_m16 71 rfl, lw_at lw_m1 17 rfl⟩
theorem wokM276 : wokM 276 := ⟨lw_at lw_m14 208 rfl, lw_at lw_m14 207 rfl, lw_at lw_ms 88 rfl⟩
theorem wokM277 : wokM 277 := ⟨lw_at lw_m14 212 rfl, lw_at lw_m14 211 rfl, lw_at lw_ms 89 rfl⟩
theorem wokM278 : wokM 278 := ⟨lw_at lw_m14 196 rfl, lw_at lw_m14 195 rfl, lw_at lw_ms 85 rfl⟩
theorem wokM279 : wokM 279 := ⟨lw_at lw_m16 76 rfl, lw_at lw_m16 75 rfl, lw_at lw_ms 142 rfl⟩
theorem wokM280 : wokM 280 := ⟨lw_at lw_m14 200 rfl, lw_at lw_m14 199 rfl, lw_at lw_ms 86 rfl⟩
theorem wokM281 : wokM 281 := ⟨lw_at lw_m14 204 rfl, lw_at lw_m14 203 rfl, lw_at lw_ms 87 rfl⟩
theorem wokM282 : wokM 282 := ⟨lw_at lw_m16 80 rfl, lw_at lw_m16 79 rfl, lw_at lw_ms 143 rfl⟩
theorem wokM283 : wokM 283 := ⟨lw_at lw_m16 16 rfl, lw_at lw_m16 15 rfl, lw_at lw_ms 129 rfl⟩
theorem wokM284 : wokM 284 := ⟨lw_at lw_m16 20 rfl, lw_at lw_m16 19 rfl, lw_at lw_ms 130 rfl⟩
theorem wokM285 : wokM 285 := ⟨lw_at lw_m16 28 rfl, lw_at lw_m16 27 rfl, lw_at lw_ms 132 rfl⟩
theorem wokM286 : wokM 286 := ⟨lw_at lw_m16 32 rfl, lw_at lw_m16 31 rfl, lw_at lw_ms 133 rfl⟩
theorem wokM287 : wokM 287 := ⟨lw_at lw_m16 40 rfl, lw_at lw_m16 39 rfl, lw_at lw_ms 135 rfl⟩
theorem wokM288 : wokM 288 := ⟨lw_at lw_m16 44 rfl, lw_at lw_m16 43 rfl, lw_at lw_ms 136 rfl⟩
theorem wokM289 : wokM 289 := ⟨lw_at lw_m16 47 rfl, lw_at lw_m16 46 rfl, lw_at lw_m1 17 rfl⟩
theorem wokM290 : wokM 290 := ⟨lw_at lw_m16 51 rfl, lw_at lw_m16 50 rfl, lw_at lw_ms 137 rfl⟩
theorem wokM291 : wokM 291 := ⟨lw_at lw_m16 55 rfl, lw_at lw_m16 54 rfl, lw_at lw_ms 138 rfl⟩
theorem wokM292 : wokM 292 := ⟨lw_at lw_m16 12 rfl, lw_at lw_m16 11 rfl, lw_at lw_ms 128 rfl⟩
theorem wokM293 : wokM 293 := ⟨lw_at lw_m16 4 rfl, lw_at lw_m16 3 rfl, lw_at lw_ms 126 rfl⟩
theorem wokM294 : wokM 294 := ⟨lw_at lw_m16 8 rfl, lw_at lw_m16 7 rfl, lw_at lw_ms 127 rfl⟩
theorem wokM295 : wokM 295 := ⟨lw_at lw_m16 230 rfl, lw_at lw_m16 229 rfl, lw_at lw_ms 179 rfl⟩
theorem wokM296 : wokM 296 := ⟨lw_at lw_m17 169 rfl, lw_at lw_m17 168 rfl, lw_at lw_ms 223 rfl⟩
theorem wokM297 : wokM 297 := ⟨lw_at lw_m15 197 rfl, lw_at lw_m15 196 rfl, lw_at lw_ms 122 rfl⟩
theorem wokM298 : wokM 298 := ⟨lw_at lw_m17 165 rfl, lw_at lw_m17 164 rfl, lw_at lw_ms 222 rfl⟩
theorem wokM299 : wokM 299 := ⟨lw_at lw_m17 149 rfl, lw_at lw_m17 148 rfl, lw_at lw_ms 218 rfl⟩
theorem wokM300 : wokM 300 := ⟨lw_at lw_m17 153 rfl, lw_at lw_m17 152 rfl, lw_at lw_ms 219 rfl⟩
theorem wokM301 : wokM 301 := ⟨lw_at lw_m17 157 rfl, lw_at lw_m17 156 rfl, lw_at lw_ms 220 rfl⟩
theorem wokM302 : wokM 302 := ⟨lw_at lw_m17 161 rfl, lw_at lw_m17 160 rfl, lw_at lw_ms 221 rfl⟩
theorem wokM303 : wokM 303 := ⟨lw_at lw_m17 145 rfl, lw_at lw_m17 144 rfl, lw_at lw_ms 217 rfl⟩
theorem wokM304 : wokM 304 := ⟨lw_at lw_m15 137 rfl, lw_at lw_m15 136 rfl, lw_at lw_ms 115 rfl⟩
theorem wokM305 : wokM 305 := ⟨lw_at lw_m15 141 rfl, lw_at lw_m15 140 rfl, lw_at lw_ms 116 rfl⟩
theorem wokM306 : wokM 306 := ⟨lw_at lw_m15 113 rfl, lw_at lw_m15 112 rfl, lw_at lw_ms 112 rfl⟩
theorem wokM307 : wokM 307 := ⟨lw_at lw_m17 141 rfl, lw_at lw_m17 140 rfl, lw_at lw_ms 216 rfl⟩
theorem wokM308 : wokM 308 := ⟨lw_at lw_m17 118 rfl, lw_at lw_m17 117 rfl, lw_at lw_ms 211 rfl⟩
theorem wokM309 : wokM 309 := ⟨lw_at lw_m17 122 rfl, lw_at lw_m17 121 rfl, lw_at lw_ms 212 rfl⟩
theorem wokM310 : wokM 310 := ⟨lw_at lw_m17 125 rfl, lw_at lw_m17 124 rfl, lw_at lw_m1 17 rfl⟩
theorem wokM311 : wokM 311 := ⟨lw_at lw_m17 129 rfl, lw_at lw_m17 128 rfl, lw_at lw_ms 213 rfl⟩
theorem wokM312 : wokM 312 := ⟨lw_at lw_m17 133 rfl, lw_at lw_m17 132 rfl, lw_at lw_ms 214 rfl⟩
theorem wokM313 : wokM 313 := ⟨lw_at lw_m17 137 rfl, lw_at lw_m17 136 rfl, lw_at lw_ms 215 rfl⟩
theorem wokM314 : wokM 314 := ⟨lw_at lw_m17 114 rfl, lw_at lw_m17 113 rfl, lw_at lw_ms 210 rfl⟩
theorem wokM315 : wokM 315 := ⟨lw_at lw_m17 102 rfl, lw_at lw_m17 101 rfl, lw_at lw_ms 207 rfl⟩
theorem wokM316 : wokM 316 := ⟨lw_at lw_m17 106 rfl, lw_at lw_m17 105 rfl, lw_at lw_ms 208 rfl⟩
theorem wokM317 : wokM 317 := ⟨lw_at lw_m17 110 rfl, lw_at lw_m17 109 rfl, lw_at lw_ms 209 rfl⟩
theorem wokM318 : wokM 318 := ⟨lw_at lw_m17 98 rfl, lw_at lw_m17 97 rfl, lw_at lw_ms 206 rfl⟩
theorem wokM319 : wokM 319 := ⟨lw_at lw_m17 62 rfl, lw_at lw_m17 61 rfl, lw_at lw_ms 197 rfl⟩
theorem wokM320 : wokM 320 := ⟨lw_at lw_m17 66 rfl, lw_at lw_m17 65 rfl, lw_at lw_ms 198 rfl⟩
theorem wokM321 : wokM 321 := ⟨lw_at lw_m17 70 rfl, lw_at lw_m17 69 rfl, lw_at lw_ms 199 rfl⟩
theorem wokM322 : wokM 322 := ⟨lw_at lw_m17 74 rfl, lw_at lw_m17 73 rfl, lw_at lw_ms 200 rfl⟩
theorem wokM323 : wokM 323 := ⟨lw_at lw_m17 78 rfl, lw_at lw_m17 77 rfl, lw_at lw_ms 201 rfl⟩
theorem wokM324 : wokM 324 := ⟨lw_at lw_m17 82 rfl, lw_at lw_m17 81 rfl, lw_at lw_ms 202 rfl⟩
theorem wokM325 : wokM 325 := ⟨lw_at lw_m17 86 rfl, lw_at lw_m17 85 rfl, lw_at lw_ms 203 rfl⟩
theorem wokM326 : wokM 326 := ⟨lw_at lw_m17 90 rfl, lw_at lw_m17 89 rfl, lw_at lw_ms 204 rfl⟩
theorem wokM327 : wokM 327 := ⟨lw_at lw_m17 94 rfl, lw_at lw_m17 93 rfl, lw_at lw_ms 205 rfl⟩
theorem wokM328 : wokM 328 := ⟨lw_at lw_m17 54 rfl, lw_at lw_m17 53 rfl, lw_at lw_ms 195 rfl⟩
theorem wokM329 : wokM 329 := ⟨lw_at lw_m17 58 rfl, lw_at lw_m17 57 rfl, lw_at lw_ms 196 rfl⟩
theorem wokM330 : wokM 330 := ⟨lw_at lw_m17 50 rfl, lw_at lw_m17 49 rfl, lw_at lw_ms 194 rfl⟩
theorem wokM331 : wokM 331 := ⟨lw_at lw_m17 38 rfl, lw_at lw_m17 37 rfl, lw_at lw_ms 191 rfl⟩
theorem wokM332 : wokM 332 := ⟨lw_at lw_m17 42 rfl, lw_at lw_m17 41 rfl, lw_at lw_ms 192 rfl⟩
theorem wokM333 : wokM 333 := ⟨lw_at lw_m17 46 rfl, lw_at lw_m17 45 rfl, lw_at lw_ms 193 rfl⟩
theorem wokM334 : wokM 334 := ⟨lw_at lw_m17 34 rfl, lw_at lw_m17 33 rfl, lw_at lw_ms 190 rfl⟩
theorem wokM335 : wokM 335 := ⟨lw_at lw_m17 30 rfl, lw_at lw_m17 29 rfl, lw_at lw_ms 189 rfl⟩
theorem wokM336 : wokM 336 := ⟨lw_at lw_m17 26 rfl, lw_at lw_m17 25 rfl, lw_at lw_ms 188 rfl⟩
theorem wokM337 : wokM 337 := ⟨lw_at lw_m17 10 rfl, lw_at lw_m17 9 rfl, lw_at lw_ms 184 rfl⟩
theorem wokM338 : wokM 338 := ⟨lw_at lw_m15 105 rfl, lw_at lw_m15 104 rfl, lw_at lw_ms 111 rfl⟩
theorem wokM339 : wokM 339 := ⟨lw_at lw_m17 14 rfl, lw_at lw_m17 13 rfl, lw_at lw_ms 185 rfl⟩
theorem wokM340 : wokM 340 := ⟨lw_at lw_m17 2 rfl, lw_at lw_m17 1 rfl, lw_at lw_ms 182 rfl⟩
theorem wokM341 : wokM 341 := ⟨lw_at lw_m17 6 rfl, lw_at lw_m17 5 rfl, lw_at lw_ms 183 rfl⟩
theorem wokM342 : wokM 342 := ⟨lw_at lw_m17 18 rfl, lw_at lw_m17 17 rfl, lw_at lw_ms 186 rfl⟩
theorem wokM343 : wokM 343 := ⟨lw_at lw_m17 22 rfl, lw_at lw_m17 21 rfl, lw_at lw_ms 187 rfl⟩
theorem wokM344 : wokM 344 := ⟨lw_at lw_m14 192 rfl, lw_at lw_m14 191 rfl, lw_at lw_ms 84 rfl⟩
theorem wokM345 : wokM 345 := ⟨lw_at lw_m16 238 rfl, lw_at lw_m16 237 rfl, lw_at lw_ms 181 rfl⟩
theorem wokM346 : wokM 346 := ⟨lw_at lw_m16 234 rfl, lw_at lw_m16 233 rfl, lw_at lw_ms 180 rfl⟩
theorem wokM347 : wokM 347 := ⟨lw_at lw_m15 44 rfl, lw_at lw_m15 43 rfl, lw_at lw_ms 100 rfl⟩
theorem wokM348 : wokM 348 := ⟨lw_at lw_m17 173 rfl, lw_at lw_m17 172 rfl, lw_at lw_ms 224 rfl⟩
theorem wokM349 : wokM 349 := ⟨lw_at lw_m14 173 rfl, lw_at lw_m14 171 rfl, lw_at lw_m14 172 rfl⟩
theorem wokM350 : wokM 350 := ⟨lw_at lw_m4 0 rfl, lw_at lw_m3 238 rfl, lw_at lw_m3 239 rfl⟩
theorem wokM351 : wokM 351 := ⟨lw_at lw_m15 221 rfl, lw_at lw_m15 219 rfl, lw_at lw_m15 220 rfl⟩
theorem wokM352 : wokM 352 := ⟨lw_at lw_m4 19 rfl, lw_at lw_m4 17 rfl, lw_at lw_m4 18 rfl⟩
theorem wokM353 : wokM 353 := ⟨lw_at lw_m4 23 rfl, lw_at lw_m4 21 rfl, lw_at lw_m4 22 rfl⟩
theorem wokM354 : wokM 354 := ⟨lw_at lw_m4 29 rfl, lw_at lw_m4 28 rfl, lw_at lw_m1 1 rfl⟩
theorem wokM355 : wokM 355 := ⟨lw_at lw_m4 35 rfl, lw_at lw_m4 34 rfl, lw_at lw_m1 1 rfl⟩
theorem wokM356 : wokM 356 := ⟨lw_at lw_m15 212 rfl, lw_at lw_m15 210 rfl, lw_at lw_m15 211 rfl⟩
theorem wokM357 : wokM 357 := ⟨lw_at lw_m15 208 rfl, lw_at lw_m15 207 rfl, lw_at lw_m1 17 rfl⟩
theorem wokM358 : wokM 358 := ⟨lw_at lw_m12 83 rfl, lw_at lw_m12 82 rfl, lw_at lw_m1 0 rfl⟩
theorem wokM359 : wokM 359 := ⟨lw_at lw_m12 87 rfl, lw_at lw_m12 85 rfl, lw_at lw_m12 86 rfl⟩
theorem wokM360 : wokM 360 := ⟨lw_at lw_m12 91 rfl, lw_at lw_m12 89 rfl, lw_at lw_m12 90 rfl⟩
theorem wokM361 : wokM 361 := ⟨lw_at lw_m15 201 rfl, lw_at lw_m15 199 rfl, lw_at lw_m15 200 rfl⟩
theorem wokM362 : wokM 362 := ⟨lw_at lw_m12 72 rfl, lw_at lw_m12 71 rfl, lw_at lw_m1 0 rfl⟩
theorem wokM363 : wokM 363 := ⟨lw_at lw_m12 76 rfl, lw_at lw_m12 74 rfl, lw_at lw_m12 75 rfl⟩
theorem wokM364 : wokM 364 := ⟨lw_at lw_m12 80 rfl, lw_at lw_m12 78 rfl, lw_at lw_m12 79 rfl⟩
theorem wokM365 : wokM 365 := ⟨lw_at lw_m15 193 rfl, lw_at lw_m15 191 rfl, lw_at lw_m15 192 rfl⟩
theorem wokM366 : wokM 366 := ⟨lw_at lw_m12 56 rfl, lw_at lw_m12 55 rfl, lw_at lw_m1 0 rfl⟩
theorem wokM367 : wokM 367 := ⟨lw_at lw_m12 60 rfl, lw_at lw_m12 58 rfl, lw_at lw_m12 59 rfl⟩
theorem wokM368 : wokM 368 := ⟨lw_at lw_m4 176 rfl, lw_at lw_m4 175 rfl, lw_at lw_ms 1 rfl⟩
theorem wokM369 : wokM 369 := ⟨lw_at lw_m4 139 rfl, lw_at lw_m4 137 rfl, lw_at lw_m4 138 rfl⟩
theorem wokM370 : wokM 370 := ⟨lw_at lw_m18 101 rfl, lw_at lw_m18 99 rfl, lw_at lw_m18 100 rfl⟩
theorem wokM371 : wokM 371 := ⟨lw_at lw_m17 185 rfl, lw_at lw_m17 184 rfl, lw_at lw_ms 225 rfl⟩
theorem wokM372 : wokM 372 := ⟨lw_at lw_m17 189 rfl, lw_at lw_m17 188 rfl, lw_at lw_ms 226 rfl⟩
theorem wokM373 : wokM 373 := ⟨lw_at lw_m12 41 rfl, lw_at lw_m12 40 rfl, lw_at lw_m1 0 rfl⟩
theorem wokM374 : wokM 374 := ⟨lw_at lw_m12 45 rfl, lw_at lw_m12 43 rfl, lw_at lw_m12 44 rfl⟩
theorem wokM375 : wokM 375 := ⟨lw_at lw_m18 97 rfl, lw_at lw_m18 95 rfl, lw_at lw_m18 96 rfl⟩
theorem wokM376 : wokM 376 := ⟨lw_at lw_m11 198 rfl, lw_at lw_m11 197 rfl, lw_at lw_m1 0 rfl⟩
theorem wokM377 : wokM 377 := ⟨lw_at lw_m11 202 rfl, lw_at lw_m11 200 rfl, lw_at lw_m11 201 rfl⟩
theorem wokM378 : wokM 378 := ⟨lw_at lw_m18 93 rfl, lw_at lw_m18 91 rfl, lw_at lw_m18 92 rfl⟩
theorem wokM379 : wokM 379 := ⟨lw_at lw_m11 181 rfl, lw_at lw_m11 180 rfl, lw_at lw_m1 0 rfl⟩
theorem wokM380 : wokM 380 := ⟨lw_at lw_m11 185 rfl, lw_at lw_m11 183 rfl, lw_at lw_m11 184 rfl⟩
theorem wokM381 : wokM 381 := ⟨lw_at lw_m18 89 rfl, lw_at lw_m18 87 rfl, lw_at lw_m18 88 rfl⟩
theorem wokM382 : wokM 382 := ⟨lw_at lw_m11 166 rfl, lw_at lw_m11 165 rfl, lw_at lw_m1 0 rfl⟩
theorem wokM383 : wokM 383 := ⟨lw_at lw_m11 170 rfl, lw_at lw_m11 168 rfl, lw_at lw_m11 169 rfl⟩
theorem wokM384 : wokM 384 := ⟨lw_at lw_m11 174 rfl, lw_at lw_m11 172 rfl, lw_at lw_m11 173 rfl⟩
theorem wokM385 : wokM 385 := ⟨lw_at lw_m15 133 rfl, lw_at lw_m15 131 rfl, lw_at lw_m15 132 rfl⟩
theorem wokM386 : wokM 386 := ⟨lw_at lw_m11 155 rfl, lw_at lw_m11 154 rfl, lw_at lw_m1 0 rfl⟩
theorem wokM387 : wokM 387 := ⟨lw_at lw_m11 159 rfl, lw_at lw_m11 157 rfl, lw_at lw_m11 158 rfl⟩
theorem wokM388 : wokM 388 := ⟨lw_at lw_m11 163 rfl, lw_at lw_m11 161 rfl, lw_at lw_m11 162 rfl⟩
theorem wokM389 : wokM 389 := ⟨lw_at lw_m15 125 rfl, lw_at lw_m15 123 rfl, lw_at lw_m15 124 rfl⟩
theorem wokM390 : wokM 390 := ⟨lw_at lw_m11 135 rfl, lw_at lw_m11 134 rfl, lw_at lw_m1 0 rfl⟩
theorem wokM391 : wokM 391 := ⟨lw_at lw_m11 139 rfl, lw_at lw_m11 137 rfl, lw_at lw_m11 138 rfl⟩
theorem wokM392 : wokM 392 := ⟨lw_at lw_m18 85 rfl, lw_at lw_m18 83 rfl, lw_at lw_m18 84 rfl⟩
theorem wokM393 : wokM 393 := ⟨lw_at lw_m11 120 rfl, lw_at lw_m11 119 rfl, lw_at lw_m1 0 rfl⟩
theorem wokM394 : wokM 394 := ⟨lw_at lw_m11 124 rfl, lw_at lw_m11 122 rfl, lw_at lw_m11 123 rfl⟩
theorem wokM395 : wokM 395 := ⟨lw_at lw_m18 105 rfl, lw_at lw_m18 103 rfl, lw_at lw_m18 104 rfl⟩
theorem wokM396 : wokM 396 := ⟨lw_at lw_m11 109 rfl, lw_at lw_m11 108 rfl, lw_at lw_m1 0 rfl⟩
theorem wokM397 : wokM 397 := ⟨lw_at lw_m11 113 rfl, lw_at lw_m11 111 rfl, lw_at lw_m11 112 rfl⟩
theorem wokM398 : wokM 398 := ⟨lw_at lw_m11 117 rfl, lw_at lw_m11 115 rfl, lw_at lw_m11 116 rfl⟩
theorem wokM399 : wokM 399 := ⟨lw_at lw_m15 185 rfl, lw_at lw_m15 183 rfl, lw_at lw_m15 184 rfl⟩
theorem wokM400 : wokM 400 := ⟨lw_at lw_m11 69 rfl, lw_at lw_m11 68 rfl, lw_at lw_m1 0 rfl⟩
theorem wokM401 : wokM 401 := ⟨lw_at lw_m11 73 rfl, lw_at lw_m11 71 rfl, lw_at lw_m11 72 rfl⟩
theorem wokM402 : wokM 402 := ⟨lw_at lw_m18 81 rfl, lw_at lw_m18 79 rfl, lw_at lw_m18 80 rfl⟩
theorem wokM403 : wokM 403 := ⟨lw_at lw_m11 54 rfl, lw_at lw_m11 53 rfl, lw_at lw_m1 0 rfl⟩
theorem wokM404 : wokM 404 := ⟨lw_at lw_m11 58 rfl, lw_at lw_m11 56 rfl, lw_at lw_m11 57 rfl⟩
theorem wokM405 : wokM 405 := ⟨lw_at lw_m11 62 rfl, lw_at lw_m11 60 rfl, lw_at lw_m11 61 rfl⟩
theorem wokM406 : wokM 406 := ⟨lw_at lw_m11 66 rfl, lw_at lw_m11 64 rfl, lw_at lw_m11 65 rfl⟩
theorem wokM407 : wokM 407 := ⟨lw_at lw_m15 181 rfl, lw_at lw_m15 179 rfl, lw_at lw_m15 180 rfl⟩
theorem wokM408 : wokM 408 := ⟨lw_at lw_m11 43 rfl, lw_at lw_m11 42 rfl, lw_at lw_m1 0 rfl⟩
theorem wokM409 : wokM 409 := ⟨lw_at lw_m11 47 rfl, lw_at lw_m11 45 rfl, lw_at lw_m11 46 rfl⟩
theorem wokM410 : wokM 410 := ⟨lw_at lw_m11 51 rfl, lw_at lw_m11 49 rfl, lw_at lw_m11 50 rfl⟩
theorem wokM411 : wokM 411 := ⟨lw_at lw_m15 177 rfl, lw_at lw_m15 175 rfl, lw_at lw_m15 176 rfl⟩
theorem wokM412 : wokM 412 := ⟨lw_at lw_m10 222 rfl, lw_at lw_m10 221 rfl, lw_at lw_m1 0 rfl⟩
theorem wokM413 : wokM 413 := ⟨lw_at lw_m10 226 rfl, lw_at lw_m10 224 rfl, lw_at lw_m10 225 rfl⟩
theorem wokM414 : wokM 414 := ⟨lw_at lw_m10 230 rfl, lw_at lw_m10 228 rfl, lw_at lw_m10 229 rfl⟩
theorem wokM415 : wokM 415 := ⟨lw_at lw_m10 234 rfl, lw_at lw_m10 232 rfl, lw_at lw_m10 233 rfl⟩
theorem wokM416 : wokM 416 := ⟨lw_at lw_m10 238 rfl, lw_at lw_m10 236 rfl, lw_at lw_m10 237 rfl⟩
theorem wokM417 : wokM 417 := ⟨lw_at lw_m8 44 rfl, lw_at lw_m8 42 rfl, lw_at lw_m8 43 rfl⟩
theorem wokM418 : wokM 418 := ⟨lw_at lw_m8 48 rfl, lw_at lw_m8 46 rfl, lw_at lw_m8 47 rfl⟩
theorem wokM419 : wokM 419 := ⟨lw_at lw_m8 52 rfl, lw_at lw_m8 51 rfl, lw_at lw_ms 32 rfl⟩
theorem wokM420 : wokM 420 := ⟨lw_at lw_m8 56 rfl, lw_at lw_m8 55 rfl, lw_at lw_ms 33 rfl⟩
theorem wokM421 : wokM 421 := ⟨lw_at lw_m8 60 rfl, lw_at lw_m8 59 rfl, lw_at lw_ms 34 rfl⟩
theorem wokM422 : wokM 422 := ⟨lw_at lw_m8 64 rfl, lw_at lw_m8 63 rfl, lw_at lw_ms 35 rfl⟩
theorem wokM423 : wokM 423 := ⟨lw_at lw_m8 68 rfl, lw_at lw_m8 67 rfl, lw_at lw_ms 36 rfl⟩
theorem wokM424 : wokM 424 := ⟨lw_at lw_m8 74 rfl, lw_at lw_m8 73 rfl, lw_at lw_ms 37 rfl⟩
theorem wokM425 : wokM 425 := ⟨lw_at lw_m8 78 rfl, lw_at lw_m8 77 rfl, lw_at lw_ms 38 rfl⟩
theorem wokM426 : wokM 426 := ⟨lw_at lw_m8 82 rfl, lw_at lw_m8 81 rfl, lw_at lw_ms 39 rfl⟩
theorem wokM427 : wokM 427 := ⟨lw_at lw_m8 86 rfl, lw_at lw_m8 85 rfl, lw_at lw_ms 40 rfl⟩
theorem wokM428 : wokM 428 := ⟨lw_at lw_m8 90 rfl, lw_at lw_m8 89 rfl, lw_at lw_ms 41 rfl⟩
theorem wokM429 : wokM 429 := ⟨lw_at lw_m8 94 rfl, lw_at lw_m8 93 rfl, lw_at lw_ms 42 rfl⟩
theorem wokM430 : wokM 430 := ⟨lw_at lw_m8 98 rfl, lw_at lw_m8 97 rfl, lw_at lw_ms 43 rfl⟩
theorem wokM431 : wokM 431 := ⟨lw_at lw_m8 102 rfl, lw_at lw_m8 101 rfl, lw_at lw_ms 44 rfl⟩
theorem wokM432 : wokM 432 := ⟨lw_at lw_m11 4 rfl, lw_at lw_m11 2 rfl, lw_at lw_m11 3 rfl⟩
theorem wokM433 : wokM 433 := ⟨lw_at lw_m11 8 rfl, lw_at lw_m11 6 rfl, lw_at lw_m11 7 rfl⟩
theorem wokM434 : wokM 434 := ⟨lw_at lw_m11 12 rfl, lw_at lw_m11 11 rfl, lw_at lw_ms 66 rfl⟩
theorem wokM435 : wokM 435 := ⟨lw_at lw_m11 16 rfl, lw_at lw_m11 15 rfl, lw_at lw_ms 67 rfl⟩
theorem wokM436 : wokM 436 := ⟨lw_at lw_m11 20 rfl, lw_at lw_m11 18 rfl, lw_at lw_m11 19 rfl⟩
theorem wokM437 : wokM 437 := ⟨lw_at lw_m11 24 rfl, lw_at lw_m11 23 rfl, lw_at lw_ms 68 rfl⟩
theorem wokM438 : wokM 438 := ⟨lw_at lw_m11 28 rfl, lw_at lw_m11 27 rfl, lw_at lw_ms 69 rfl⟩
theorem wokM439 : wokM 439 := ⟨lw_at lw_m11 32 rfl, lw_at lw_m11 30 rfl, lw_at lw_m11 31 rfl⟩
theorem wokM440 : wokM 440 := ⟨lw_at lw_m11 36 rfl, lw_at lw_m11 35 rfl, lw_at lw_ms 70 rfl⟩
theorem wokM441 : wokM 441 := ⟨lw_at lw_m15 157 rfl, lw_at lw_m15 155 rfl, lw_at lw_m15 156 rfl⟩
theorem wokM442 : wokM 442 := ⟨lw_at lw_m15 161 rfl, lw_at lw_m15 160 rfl, lw_at lw_ms 117 rfl⟩
theorem wokM443 : wokM 443 := ⟨lw_at lw_m15 52 rfl, lw_at lw_m15 51 rfl, lw_at lw_ms 101 rfl⟩
theorem wokM444 : wokM 444 := ⟨lw_at lw_m15 68 rfl, lw_at lw_m15 67 rfl, lw_at lw_ms 105 rfl⟩
theorem wokM445 : wokM 445 := ⟨lw_at lw_m15 72 rfl, lw_at lw_m15 71 rfl, lw_at lw_ms 106 rfl⟩
theorem wokM446 : wokM 446 := ⟨lw_at lw_m15 60 rfl, lw_at lw_m15 59 rfl, lw_at lw_ms 103 rfl⟩
theorem wokM447 : wokM 447 := ⟨lw_at lw_m15 76 rfl, lw_at lw_m15 75 rfl, lw_at lw_ms 107 rfl⟩
theorem wokM448 : wokM 448 := ⟨lw_at lw_m15 81 rfl, lw_at lw_m15 80 rfl, lw_at lw_ms 108 rfl⟩
theorem wokM449 : wokM 449 := ⟨lw_at lw_m15 85 rfl, lw_at lw_m15 84 rfl, lw_at lw_ms 109 rfl⟩
theorem wokM450 : wokM 450 := ⟨lw_at lw_m15 89 rfl, lw_at lw_m15 88 rfl, lw_at lw_ms 110 rfl⟩
theorem wokM451 : wokM 451 := ⟨lw_at lw_m15 165 rfl, lw_at lw_m15 164 rfl, lw_at lw_ms 118 rfl⟩
theorem wokM452 : wokM 452 := ⟨lw_at lw_m15 169 rfl, lw_at lw_m15 168 rfl, lw_at lw_ms 119 rfl⟩
theorem wokM453 : wokM 453 := ⟨lw_at lw_m15 173 rfl, lw_at lw_m15 172 rfl, lw_at lw_ms 120 rfl⟩
theorem wokM454 : wokM 454 := ⟨lw_at lw_m10 211 rfl, lw_at lw_m10 210 rfl, lw_at lw_m1 0 rfl⟩
theorem wokM455 : wokM 455 := ⟨lw_at lw_m10 215 rfl, lw_at lw_m10 213 rfl, lw_at lw_m10 214 rfl⟩
theorem wokM456 : wokM 456 := ⟨lw_at lw_m18 77 rfl, lw_at lw_m18 75 rfl, lw_at lw_m18 76 rfl⟩
theorem wokM457 : wokM 457 := ⟨lw_at lw_m10 178 rfl, lw_at lw_m10 177 rfl, lw_at lw_m1 0 rfl⟩
theorem wokM458 : wokM 458 := ⟨lw_at lw_m10 182 rfl, lw_at lw_m10 180 rfl, lw_at lw_m10 181 rfl⟩
theorem wokM459 : wokM 459 := ⟨lw_at lw_m18 73 rfl, lw_at lw_m18 71 rfl, lw_at lw_m18 72 rfl⟩
theorem wokM460 : wokM 460 := ⟨lw_at lw_m10 167 rfl, lw_at lw_m10 166 rfl, lw_at lw_m1 0 rfl⟩
theorem wokM461 : wokM 461 := ⟨lw_at lw_m10 171 rfl, lw_at lw_m10 169 rfl, lw_at lw_m10 170 rfl⟩
theorem wokM462 : wokM 462 := ⟨lw_at lw_m10 175 rfl, lw_at lw_m10 173 rfl, lw_at lw_m10 174 rfl⟩
theorem wokM463 : wokM 463 := ⟨lw_at lw_m15 153 rfl, lw_at lw_m15 151 rfl, lw_at lw_m15 152 rfl⟩
theorem wokM464 : wokM 464 := ⟨lw_at lw_m10 156 rfl, lw_at lw_m10 155 rfl, lw_at lw_m1 0 rfl⟩
theorem wokM465 : wokM 465 := ⟨lw_at lw_m10 160 rfl, lw_at lw_m10 158 rfl, lw_at lw_m10 159 rfl⟩
theorem wokM466 : wokM 466 := ⟨lw_at lw_m18 69 rfl, lw_at lw_m18 67 rfl, lw_at lw_m18 68 rfl⟩
theorem wokM467 : wokM 467 := ⟨lw_at lw_m10 145 rfl, lw_at lw_m10 144 rfl, lw_at lw_m1 0 rfl⟩
theorem wokM468 : wokM 468 := ⟨lw_at lw_m10 149 rfl, lw_at lw_m10 147 rfl, lw_at lw_m10 148 rfl⟩
theorem wokM469 : wokM 469 := ⟨lw_at lw_m10 153 rfl, lw_at lw_m10 151 rfl, lw_at lw_m10 152 rfl⟩
theorem wokM470 : wokM 470 := ⟨lw_at lw_m15 149 rfl, lw_at lw_m15 147 rfl, lw_at lw_m15 148 rfl⟩
theorem wokM471 : wokM 471 := ⟨lw_at lw_m10 84 rfl, lw_at lw_m10 83 rfl, lw_at lw_m1 0 rfl⟩
theorem wokM472 : wokM 472 := ⟨lw_at lw_m10 88 rfl, lw_at lw_m10 86 rfl, lw_at lw_m10 87 rfl⟩
theorem wokM473 : wokM 473 := ⟨lw_at lw_m18 65 rfl, lw_at lw_m18 63 rfl, lw_at lw_m18 64 rfl⟩
theorem wokM474 : wokM 474 := ⟨lw_at lw_m10 73 rfl, lw_at lw_m10 72 rfl, lw_at lw_m1 0 rfl⟩
theorem wokM475 : wokM 475 := ⟨lw_at lw_m10 77 rfl, lw_at lw_m10 75 rfl, lw_at lw_m10 76 rfl⟩
theorem wokM476 : wokM 476 := ⟨lw_at lw_m18 61 rfl, lw_at lw_m18 59 rfl, lw_at lw_m18 60 rfl⟩
theorem wokM477 : wokM 477 := ⟨lw_at lw_m10 59 rfl, lw_at lw_m10 58 rfl, lw_at lw_m1 0 rfl⟩
theorem wokM478 : wokM 478 := ⟨lw_at lw_m10 63 rfl, lw_at lw_m10 61 rfl, lw_at lw_m10 62 rfl⟩
theorem wokM479 : wokM 479 := ⟨lw_at lw_m18 57 rfl, lw_at lw_m18 55 rfl, lw_at lw_m18 56 rfl⟩
theorem wokM480 : wokM 480 := ⟨lw_at lw_m10 43 rfl, lw_at lw_m10 42 rfl, lw_at lw_m1 0 rfl⟩
theorem wokM481 : wokM 481 := ⟨lw_at lw_m10 47 rfl, lw_at lw_m10 45 rfl, lw_at lw_m10 46 rfl⟩
theorem wokM482 : wokM 482 := ⟨lw_at lw_m10 51 rfl, lw_at lw_m10 49 rfl, lw_at lw_m10 50 rfl⟩
theorem wokM483 : wokM 483 := ⟨lw_at lw_m15 145 rfl, lw_at lw_m15 143 rfl, lw_at lw_m15 144 rfl⟩
theorem wokM484 : wokM 484 := ⟨lw_at lw_m10 7 rfl, lw_at lw_m10 6 rfl, lw_at lw_m1 0 rfl⟩
theorem wokM485 : wokM 485 := ⟨lw_at lw_m10 11 rfl, lw_at lw_m10 9 rfl, lw_at lw_m10 10 rfl⟩
theorem wokM486 : wokM 486 := ⟨lw_at lw_m18 53 rfl, lw_at lw_m18 51 rfl, lw_at lw_m18 52 rfl⟩
theorem wokM487 : wokM 487 := ⟨lw_at lw_m9 230 rfl, lw_at lw_m9 229 rfl, lw_at lw_m1 0 rfl⟩
theorem wokM488 : wokM 488 := ⟨lw_at lw_m9 234 rfl, lw_at lw_m9 232 rfl, lw_at lw_m9 233 rfl⟩
theorem wokM489 : wokM 489 := ⟨lw_at lw_m9 238 rfl, lw_at lw_m9 236 rfl, lw_at lw_m9 237 rfl⟩
theorem wokM490 : wokM 490 := ⟨lw_at lw_m15 117 rfl, lw_at lw_m15 115 rfl, lw_at lw_m15 116 rfl⟩
theorem wokM491 : wokM 491 := ⟨lw_at lw_m9 214 rfl, lw_at lw_m9 213 rfl, lw_at lw_m1 0 rfl⟩
theorem wokM492 : wokM 492 := ⟨lw_at lw_m9 218 rfl, lw_at lw_m9 216 rfl, lw_at lw_m9 217 rfl⟩
theorem wokM493 : wokM 493 := ⟨lw_at lw_m18 49 rfl, lw_at lw_m18 47 rfl, lw_at lw_m18 48 rfl⟩
theorem wokM494 : wokM 494 := ⟨lw_at lw_m9 199 rfl, lw_at lw_m9 198 rfl, lw_at lw_m1 0 rfl⟩
theorem wokM495 : wokM 495 := ⟨lw_at lw_m9 203 rfl, lw_at lw_m9 201 rfl, lw_at lw_m9 202 rfl⟩
theorem wokM496 : wokM 496 := ⟨lw_at lw_m9 207 rfl, lw_at lw_m9 205 rfl, lw_at lw_m9 206 rfl⟩
theorem wokM497 : wokM 497 := ⟨lw_at lw_m15 109 rfl, lw_at lw_m15 107 rfl, lw_at lw_m15 108 rfl⟩
theorem wokM498 : wokM 498 := ⟨lw_at lw_m9 188 rfl, lw_at lw_m9 187 rfl, lw_at lw_m1 0 rfl⟩
theorem wokM499 : wokM 499 := ⟨lw_at lw_m9 192 rfl, lw_at lw_m9 190 rfl, lw_at lw_m9 191 rfl⟩
theorem wokM500 : wokM 500 := ⟨lw_at lw_m18 45 rfl, lw_at lw_m18 43 rfl, lw_at lw_m18 44 rfl⟩
theorem wokM501 : wokM 501 := ⟨lw_at lw_m9 176 rfl, lw_at lw_m9 175 rfl, lw_at lw_m1 0 rfl⟩
theorem wokM502 : wokM 502 := ⟨lw_at lw_m9 180 rfl, lw_at lw_m9 178 rfl, lw_at lw_m9 179 rfl⟩
theorem wokM503 : wokM 503 := ⟨lw_at lw_m9 184 rfl, lw_at lw_m9 182 rfl, lw_at lw_m9 183 rfl⟩
theorem wokM504 : wokM 504 := ⟨lw_at lw_m15 101 rfl, lw_at lw_m15 99 rfl, lw_at lw_m15 100 rfl⟩
theorem wokM505 : wokM 505 := ⟨lw_at lw_m9 165 rfl, lw_at lw_m9 164 rfl, lw_at lw_m1 0 rfl⟩
theorem wokM506 : wokM 506 := ⟨lw_at lw_m9 169 rfl, lw_at lw_m9 167 rfl, lw_at lw_m9 168 rfl⟩
theorem wokM507 : wokM 507 := ⟨lw_at lw_m18 41 rfl, lw_at lw_m18 39 rfl, lw_at lw_m18 40 rfl⟩
theorem wokM508 : wokM 508 := ⟨lw_at lw_m9 124 rfl, lw_at lw_m9 123 rfl, lw_at lw_m1 0 rfl⟩
theorem wokM509 : wokM 509 := ⟨lw_at lw_m9 128 rfl, lw_at lw_m9 126 rfl, lw_at lw_m9 127 rfl⟩
theorem wokM510 : wokM 510 := ⟨lw_at lw_m18 37 rfl, lw_at lw_m18 35 rfl, lw_at lw_m18 36 rfl⟩
theorem wokM511 : wokM 511 := ⟨lw_at lw_m9 80 rfl, lw_at lw_m9 79 rfl, lw_at lw_m1 0 rfl⟩
theorem wokM512 : wokM 512 := ⟨lw_at lw_m9 84 rfl, lw_at lw_m9 82 rfl, lw_at lw_m9 83 rfl⟩
theorem wokM513 : wokM 513 := ⟨lw_at lw_m18 33 rfl, lw_at lw_m18 31 rfl, lw_at lw_m18 32 rfl⟩
theorem wokM514 : wokM 514 := ⟨lw_at lw_m9 69 rfl, lw_at lw_m9 68 rfl, lw_at lw_m1 0 rfl⟩
theorem wokM515 : wokM 515 := ⟨lw_at lw_m9 73 rfl, lw_at lw_m9 71 rfl, lw_at lw_m9 72 rfl⟩
theorem wokM516 : wokM 516 := ⟨lw_at lw_m18 29 rfl, lw_at lw_m18 27 rfl, lw_at lw_m18 28 rfl⟩
theorem wokM517 : wokM 517 := ⟨lw_at lw_m9 47 rfl, lw_at lw_m9 46 rfl, lw_at lw_m1 0 rfl⟩
theorem wokM518 : wokM 518 := ⟨lw_at lw_m9 51 rfl, lw_at lw_m9 49 rfl, lw_at lw_m9 50 rfl⟩
theorem wokM519 : wokM 519 := ⟨lw_at lw_m18 25 rfl, lw_at lw_m18 23 rfl, lw_at lw_m18 24 rfl⟩
theorem wokM520 : wokM 520 := ⟨lw_at lw_m9 25 rfl, lw_at lw_m9 24 rfl, lw_at lw_m1 0 rfl⟩
theorem wokM521 : wokM 521 := ⟨lw_at lw_m9 29 rfl, lw_at lw_m9 27 rfl, lw_at lw_m9 28 rfl⟩
theorem wokM522 : wokM 522 := ⟨lw_at lw_m18 21 rfl, lw_at lw_m18 19 rfl, lw_at lw_m18 20 rfl⟩
theorem wokM523 : wokM 523 := ⟨lw_at lw_m8 233 rfl, lw_at lw_m8 232 rfl, lw_at lw_m1 0 rfl⟩
theorem wokM524 : wokM 524 := ⟨lw_at lw_m8 237 rfl, lw_at lw_m8 235 rfl, lw_at lw_m8 236 rfl⟩
theorem wokM525 : wokM 525 := ⟨lw_at lw_m18 17 rfl, lw_at lw_m18 15 rfl, lw_at lw_m18 16 rfl⟩
theorem wokM526 : wokM 526 := ⟨lw_at lw_m8 222 rfl, lw_at lw_m8 221 rfl, lw_at lw_m1 0 rfl⟩
theorem wokM527 : wokM 527 := ⟨lw_at lw_m8 226 rfl, lw_at lw_m8 224 rfl, lw_at lw_m8 225 rfl⟩
theorem wokM528 : wokM 528 := ⟨lw_at lw_m8 230 rfl, lw_at lw_m8 228 rfl, lw_at lw_m8 229 rfl⟩
theorem wokM529 : wokM 529 := ⟨lw_at lw_m15 97 rfl, lw_at lw_m15 95 rfl, lw_at lw_m15 96 rfl⟩
theorem wokM530 : wokM 530 := ⟨lw_at lw_m8 163 rfl, lw_at lw_m8 162 rfl, lw_at lw_m1 0 rfl⟩
theorem wokM531 : wokM 531 := ⟨lw_at lw_m8 167 rfl, lw_at lw_m8 165 rfl, lw_at lw_m8 166 rfl⟩
theorem wokM532 : wokM 532 := ⟨lw_at lw_m18 13 rfl, lw_at lw_m18 11 rfl, lw_at lw_m18 12 rfl⟩
theorem wokM533 : wokM 533 := ⟨lw_at lw_m8 133 rfl, lw_at lw_m8 132 rfl, lw_at lw_m1 0 rfl⟩
theorem wokM534 : wokM 534 := ⟨lw_at lw_m8 137 rfl, lw_at lw_m8 135 rfl, lw_at lw_m8 136 rfl⟩
theorem wokM535 : wokM 535 := ⟨lw_at lw_m18 9 rfl, lw_at lw_m18 7 rfl, lw_at lw_m18 8 rfl⟩
theorem wokM536 : wokM 536 := ⟨lw_at lw_m8 116 rfl, lw_at lw_m8 115 rfl, lw_at lw_m1 0 rfl⟩
theorem wokM537 : wokM 537 := ⟨lw_at lw_m8 120 rfl, lw_at lw_m8 118 rfl, lw_at lw_m8 119 rfl⟩
theorem wokM538 : wokM 538 := ⟨lw_at lw_m18 5 rfl, lw_at lw_m18 3 rfl, lw_at lw_m18 4 rfl⟩
theorem wokM539 : wokM 539 := ⟨lw_at lw_m8 105 rfl, lw_at lw_m8 104 rfl, lw_at lw_m1 0 rfl⟩
theorem wokM540 : wokM 540 := ⟨lw_at lw_m8 109 rfl, lw_at lw_m8 107 rfl, lw_at lw_m8 108 rfl⟩
theorem wokM541 : wokM 541 := ⟨lw_at lw_m8 113 rfl, lw_at lw_m8 111 rfl, lw_at lw_m8 112 rfl⟩
theorem wokM542 : wokM 542 := ⟨lw_at lw_m15 93 rfl, lw_at lw_m15 91 rfl, lw_at lw_m15 92 rfl⟩
theorem wokM543 : wokM 543 := ⟨lw_at lw_m8 32 rfl, lw_at lw_m8 31 rfl, lw_at lw_m1 0 rfl⟩
theorem wokM544 : wokM 544 := ⟨lw_at lw_m8 36 rfl, lw_at lw_m8 34 rfl, lw_at lw_m8 35 rfl⟩
theorem wokM545 : wokM 545 := ⟨lw_at lw_m8 40 rfl, lw_at lw_m8 38 rfl, lw_at lw_m8 39 rfl⟩
theorem wokM546 : wokM 546 := ⟨lw_at lw_m15 48 rfl, lw_at lw_m15 46 rfl, lw_at lw_m15 47 rfl⟩
theorem wokM547 : wokM 547 := ⟨lw_at lw_m15 56 rfl, lw_at lw_m15 55 rfl, lw_at lw_ms 102 rfl⟩
theorem wokM548 : wokM 548 := ⟨lw_at lw_m15 64 rfl, lw_at lw_m15 63 rfl, lw_at lw_ms 104 rfl⟩
theorem wokM549 : wokM 549 := ⟨lw_at lw_m8 21 rfl, lw_at lw_m8 20 rfl, lw_at lw_m1 0 rfl⟩
theorem wokM550 : wokM 550 := ⟨lw_at lw_m8 25 rfl, lw_at lw_m8 23 rfl, lw_at lw_m8 24 rfl⟩
theorem wokM551 : wokM 551 := ⟨lw_at lw_m8 29 rfl, lw_at lw_m8 27 rfl, lw_at lw_m8 28 rfl⟩
theorem wokM552 : wokM 552 := ⟨lw_at lw_m7 59 rfl, lw_at lw_m7 57 rfl, lw_at lw_m7 58 rfl⟩
theorem wokM553 : wokM 553 := ⟨lw_at lw_m15 36 rfl, lw_at lw_m15 34 rfl, lw_at lw_m15 35 rfl⟩
theorem wokM554 : wokM 554 := ⟨lw_at lw_m8 10 rfl, lw_at lw_m8 9 rfl, lw_at lw_m1 0 rfl⟩
theorem wokM555 : wokM 555 := ⟨lw_at lw_m8 14 rfl, lw_at lw_m8 12 rfl, lw_at lw_m8 13 rfl⟩
theorem wokM556 : wokM 556 := ⟨lw_at lw_m8 18 rfl, lw_at lw_m8 16 rfl, lw_at lw_m8 17 rfl⟩
theorem wokM557 : wokM 557 := ⟨lw_at lw_m15 24 rfl, lw_at lw_m15 22 rfl, lw_at lw_m15 23 rfl⟩
theorem wokM558 : wokM 558 := ⟨lw_at lw_m7 239 rfl, lw_at lw_m7 238 rfl, lw_at lw_m1 0 rfl⟩
theorem wokM559 : wokM 559 := ⟨lw_at lw_m8 3 rfl, lw_at lw_m8 1 rfl, lw_at lw_m8 2 rfl⟩
theorem wokM560 : wokM 560 := ⟨lw_at lw_m18 1 rfl, lw_at lw_m17 239 rfl, lw_at lw_m18 0 rfl⟩
theorem wokM561 : wokM 561 := ⟨lw_at lw_m7 179 rfl, lw_at lw_m7 178 rfl, lw_at lw_m1 0 rfl⟩
theorem wokM562 : wokM 562 := ⟨lw_at lw_m7 183 rfl, lw_at lw_m7 181 rfl, lw_at lw_m7 182 rfl⟩
theorem wokM563 : wokM 563 := ⟨lw_at lw_m17 237 rfl, lw_at lw_m17 235 rfl, lw_at lw_m17 236 rfl⟩
theorem wokM564 : wokM 564 := ⟨lw_at lw_m7 140 rfl, lw_at lw_m7 139 rfl, lw_at lw_m1 0 rfl⟩
theorem wokM565 : wokM 565 := ⟨lw_at lw_m7 144 rfl, lw_at lw_m7 142 rfl, lw_at lw_m7 143 rfl⟩
theorem wokM566 : wokM 566 := ⟨lw_at lw_m17 233 rfl, lw_at lw_m17 231 rfl, lw_at lw_m17 232 rfl⟩
theorem wokM567 : wokM 567 := ⟨lw_at lw_m7 77 rfl, lw_at lw_m7 76 rfl, lw_at lw_m1 0 rfl⟩
theorem wokM568 : wokM 568 := ⟨lw_at lw_m7 81 rfl, lw_at lw_m7 79 rfl, lw_at lw_m7 80 rfl⟩
theorem wokM569 : wokM 569 := ⟨lw_at lw_m17 229 rfl, lw_at lw_m17 227 rfl, lw_at lw_m17 228 rfl⟩
theorem wokM570 : wokM 570 := ⟨lw_at lw_m7 62 rfl, lw_at lw_m7 61 rfl, lw_at lw_m1 0 rfl⟩
theorem wokM571 : wokM 571 := ⟨lw_at lw_m7 66 rfl, lw_at lw_m7 64 rfl, lw_at lw_m7 65 rfl⟩
theorem wokM572 : wokM 572 := ⟨lw_at lw_m7 70 rfl, lw_at lw_m7 68 rfl, lw_at lw_m7 69 rfl⟩
theorem wokM573 : wokM 573 := ⟨lw_at lw_m7 74 rfl, lw_at lw_m7 72 rfl, lw_at lw_m7 73 rfl⟩
theorem wokM574 : wokM 574 := ⟨lw_at lw_m15 20 rfl, lw_at lw_m15 18 rfl, lw_at lw_m15 19 rfl⟩
theorem wokM575 : wokM 575 := ⟨lw_at lw_m7 47 rfl, lw_at lw_m7 46 rfl, lw_at lw_m1 0 rfl⟩
theorem wokM576 : wokM 576 := ⟨lw_at lw_m7 51 rfl, lw_at lw_m7 49 rfl, lw_at lw_m7 50 rfl⟩
theorem wokM577 : wokM 577 := ⟨lw_at lw_m7 55 rfl, lw_at lw_m7 53 rfl, lw_at lw_m7 54 rfl⟩
theorem wokM578 : wokM 578 := ⟨lw_at lw_m15 16 rfl, lw_at lw_m15 14 rfl, lw_at lw_m15 15 rfl⟩
theorem wokM579 : wokM 579 := ⟨lw_at lw_m7 36 rfl, lw_at lw_m7 35 rfl, lw_at lw_m1 0 rfl⟩
theorem wokM580 : wokM 580 := ⟨lw_at lw_m7 40 rfl, lw_at lw_m7 38 rfl, lw_at lw_m7 39 rfl⟩
theorem wokM581 : wokM 581 := ⟨lw_at lw_m17 225 rfl, lw_at lw_m17 223 rfl, lw_at lw_m17 224 rfl⟩
theorem wokM582 : wokM 582 := ⟨lw_at lw_m7 25 rfl, lw_at lw_m7 24 rfl, lw_at lw_m1 0 rfl⟩
theorem wokM583 : wokM 583 := ⟨lw_at lw_m7 29 rfl, lw_at lw_m7 27 rfl, lw_at lw_m7 28 rfl⟩
theorem wokM584 : wokM 584 := ⟨lw_at lw_m7 33 rfl, lw_at lw_m7 31 rfl, lw_at lw_m7 32 rfl⟩
theorem wokM585 : wokM 585 := ⟨lw_at lw_m15 12 rfl, lw_at lw_m15 10 rfl, lw_at lw_m15 11 rfl⟩
theorem wokM586 : wokM 586 := ⟨lw_at lw_m7 14 rfl, lw_at lw_m7 13 rfl, lw_at lw_m1 0 rfl⟩
theorem wokM587 : wokM 587 := ⟨lw_at lw_m7 18 rfl, lw_at lw_m7 16 rfl, lw_at lw_m7 17 rfl⟩
theorem wokM588 : wokM 588 := ⟨lw_at lw_m7 22 rfl, lw_at lw_m7 20 rfl, lw_at lw_m7 21 rfl⟩
theorem wokM589 : wokM 589 := ⟨lw_at lw_m14 228 rfl, lw_at lw_m14 226 rfl, lw_at lw_m14 227 rfl⟩
theorem wokM590 : wokM 590 := ⟨lw_at lw_m6 226 rfl, lw_at lw_m6 225 rfl, lw_at lw_m1 0 rfl⟩
theorem wokM591 : wokM 591 := ⟨lw_at lw_m6 230 rfl, lw_at lw_m6 228 rfl, lw_at lw_m6 229 rfl⟩
theorem wokM592 : wokM 592 := ⟨lw_at lw_m17 221 rfl, lw_at lw_m17 219 rfl, lw_at lw_m17 220 rfl⟩
theorem wokM593 : wokM 593 := ⟨lw_at lw_m6 211 rfl, lw_at lw_m6 210 rfl, lw_at lw_m1 0 rfl⟩
theorem wokM594 : wokM 594 := ⟨lw_at lw_m6 215 rfl, lw_at lw_m6 213 rfl, lw_at lw_m6 214 rfl⟩
theorem wokM595 : wokM 595 := ⟨lw_at lw_m17 217 rfl, lw_at lw_m17 215 rfl, lw_at lw_m17 216 rfl⟩
theorem wokM596 : wokM 596 := ⟨lw_at lw_m6 74 rfl, lw_at lw_m6 73 rfl, lw_at lw_m1 0 rfl⟩
theorem wokM597 : wokM 597 := ⟨lw_at lw_m6 78 rfl, lw_at lw_m6 76 rfl, lw_at lw_m6 77 rfl⟩
theorem wokM598 : wokM 598 := ⟨lw_at lw_m17 213 rfl, lw_at lw_m17 211 rfl, lw_at lw_m17 212 rfl⟩
theorem wokM599 : wokM 599 := ⟨lw_at lw_m6 51 rfl, lw_at lw_m6 50 rfl, lw_at lw_m1 0 rfl⟩
theorem wokM600 : wokM 600 := ⟨lw_at lw_m6 55 rfl, lw_at lw_m6 53 rfl, lw_at lw_m6 54 rfl⟩
theorem wokM601 : wokM 601 := ⟨lw_at lw_m17 209 rfl, lw_at lw_m17 207 rfl, lw_at lw_m17 208 rfl⟩
theorem wokM602 : wokM 602 := ⟨lw_at lw_m6 38 rfl, lw_at lw_m6 37 rfl, lw_at lw_m1 0 rfl⟩
theorem wokM603 : wokM 603 := ⟨lw_at lw_m6 42 rfl, lw_at lw_m6 40 rfl, lw_at lw_m6 41 rfl⟩
theorem wokM604 : wokM 604 := ⟨lw_at lw_m6 46 rfl, lw_at lw_m6 44 rfl, lw_at lw_m6 45 rfl⟩
theorem wokM605 : wokM 605 := ⟨lw_at lw_m14 188 rfl, lw_at lw_m14 186 rfl, lw_at lw_m14 187 rfl⟩
theorem wokM606 : wokM 606 := ⟨lw_at lw_m6 22 rfl, lw_at lw_m6 21 rfl, lw_at lw_m1 0 rfl⟩
theorem wokM607 : wokM 607 := ⟨lw_at lw_m6 26 rfl, lw_at lw_m6 24 rfl, lw_at lw_m6 25 rfl⟩
theorem wokM608 : wokM 608 := ⟨lw_at lw_m17 205 rfl, lw_at lw_m17 203 rfl, lw_at lw_m17 204 rfl⟩
theorem wokM609 : wokM 609 := ⟨lw_at lw_m6 5 rfl, lw_at lw_m6 4 rfl, lw_at lw_m1 0 rfl⟩
theorem wokM610 : wokM 610 := ⟨lw_at lw_m6 9 rfl, lw_at lw_m6 7 rfl, lw_at lw_m6 8 rfl⟩
theorem wokM611 : wokM 611 := ⟨lw_at lw_m6 13 rfl, lw_at lw_m6 11 rfl, lw_at lw_m6 12 rfl⟩
theorem wokM612 : wokM 612 := ⟨lw_at lw_m14 216 rfl, lw_at lw_m14 214 rfl, lw_at lw_m14 215 rfl⟩
theorem wokM613 : wokM 613 := ⟨lw_at lw_m5 211 rfl, lw_at lw_m5 210 rfl, lw_at lw_m1 0 rfl⟩
theorem wokM614 : wokM 614 := ⟨lw_at lw_m5 216 rfl, lw_at lw_m5 214 rfl, lw_at lw_m5 215 rfl⟩
theorem wokM615 : wokM 615 := ⟨lw_at lw_m5 220 rfl, lw_at lw_m5 218 rfl, lw_at lw_m5 219 rfl⟩
theorem wokM616 : wokM 616 := ⟨lw_at lw_m14 177 rfl, lw_at lw_m14 175 rfl, lw_at lw_m14 176 rfl⟩
theorem wokM617 : wokM 617 := ⟨lw_at lw_m5 52 rfl, lw_at lw_m5 51 rfl, lw_at lw_m1 0 rfl⟩
theorem wokM618 : wokM 618 := ⟨lw_at lw_m5 57 rfl, lw_at lw_m5 55 rfl, lw_at lw_m5 56 rfl⟩
theorem wokM619 : wokM 619 := ⟨lw_at lw_m17 201 rfl, lw_at lw_m17 199 rfl, lw_at lw_m17 200 rfl⟩
theorem wokM620 : wokM 620 := ⟨lw_at lw_m4 179 rfl, lw_at lw_m4 178 rfl, lw_at lw_m1 0 rfl⟩
theorem wokM621 : wokM 621 := ⟨lw_at lw_m4 183 rfl, lw_at lw_m4 181 rfl, lw_at lw_m4 182 rfl⟩
theorem wokM622 : wokM 622 := ⟨lw_at lw_m17 197 rfl, lw_at lw_m17 195 rfl, lw_at lw_m17 196 rfl⟩
theorem wokM623 : wokM 623 := ⟨lw_at lw_m4 145 rfl, lw_at lw_m4 144 rfl, lw_at lw_m1 0 rfl⟩
theorem wokM624 : wokM 624 := ⟨lw_at lw_m4 150 rfl, lw_at lw_m4 148 rfl, lw_at lw_m4 149 rfl⟩
theorem wokM625 : wokM 625 := ⟨lw_at lw_m17 193 rfl, lw_at lw_m17 191 rfl, lw_at lw_m17 192 rfl⟩
theorem wokM626 : wokM 626 := ⟨lw_at lw_m4 54 rfl, lw_at lw_m4 53 rfl, lw_at lw_m1 0 rfl⟩
theorem wokM627 : wokM 627 := ⟨lw_at lw_m4 59 rfl, lw_at lw_m4 57 rfl, lw_at lw_m4 58 rfl⟩
theorem wokM628 : wokM 628 := ⟨lw_at lw_m17 181 rfl, lw_at lw_m17 179 rfl, lw_at lw_m17 180 rfl⟩
theorem wokM_ok : ∀ n, 1 ≤ n → n < 629 → wokM n := ivj (m := 315) (ivj (m := 158) (ivj (m := 79) (ivj (m := 40) (ivj (m := 20) (ivj (m := 10) (ivj (m := 5) (ivj (m := 3) (ivj (m := 2) (iv1 rfl wokM1) (iv1 rfl wokM2)) (ivj (m := 4) (iv1 rfl wokM3) (iv1 rfl wokM4))) (ivj (m := 7) (ivj (m := 6) (iv1 rfl wokM5) (iv1 rfl wokM6)) (ivj (m := 8) (iv1 rfl wokM7) (ivj (m := 9) (iv1 rfl wokM8) (iv1 rfl wokM9))))) (ivj (m := 15) (ivj (m := 12) (ivj (m := 11) (iv1 rfl wokM10) (iv1 rfl wokM11)) (ivj (m := 13) (iv1 rfl wokM12) (ivj (m := 14) (iv1 rfl wokM13) (iv1 rfl wokM14)))) (ivj (m := 17) (ivj (m := 16) (iv1 rfl wokM15) (iv1 rfl wokM16)) (ivj (m := 18) (iv1 rfl wokM17) (ivj (m := 19) (iv1 rfl wokM18) (iv1 rfl wokM19)))))) (ivj (m := 30) (ivj (m := 25) (ivj (m := 22) (ivj (m := 21) (iv1 rfl wokM20) (iv1 rfl wokM21)) (ivj (m := 23) (iv1 rfl wokM22) (ivj (m := 24) (iv1 rfl wokM23) (iv1 rfl wokM24)))) (ivj (m := 27) (ivj (m := 26) (iv1 rfl wokM25) (iv1 rfl wokM26)) (ivj (m := 28) (iv1 rfl wokM27) (ivj (m := 29) (iv1 rfl wokM28) (iv1 rfl wokM29))))) (ivj (m := 35) (ivj (m := 32) (ivj (m := 31) (iv1 rfl wokM30) (iv1 rfl wokM31)) (ivj (m := 33) (iv1 rfl wokM32) (ivj (m := 34) (iv1 rfl wokM33) (iv1 rfl wokM34)))) (ivj (m := 37) (ivj (m := 36) (iv1 rfl wokM35) (iv1 rfl wokM36)) (ivj (m := 38) (iv1 rfl wokM37) (ivj (m := 39) (iv1 rfl wokM38) (iv1 rfl wokM39))))))) (ivj (m := 59) (ivj (m := 49) (ivj (m := 44) (ivj (m := 42) (ivj (m := 41) (iv1 rfl wokM40) (iv1 rfl wokM41)) (ivj (m := 43) (iv1 rfl wokM42) (iv1 rfl wokM43))) (ivj (m := 46) (ivj (m := 45) (iv1 rfl wokM44) (iv1 rfl wokM45)) (ivj (m := 47) (iv1 rfl wokM46) (ivj (m := 48) (iv1 rfl wokM47) (iv1 rfl wokM48))))) (ivj (m := 54) (ivj (m := 51) (ivj (m := 50) (iv1 rfl wokM49) (iv1 rfl wokM50)) (ivj (m := 52) (iv1 rfl wokM51) (ivj (m := 53) (iv1 rfl wokM52) (iv1 rfl wokM53)))) (ivj (m := 56) (ivj (m := 55) (iv1 rfl wokM54) (iv1 rfl wokM55)) (ivj (m := 57) (iv1 rfl wokM56) (ivj (m := 58) (iv1 rfl wokM57) (iv1 rfl wokM58)))))) (ivj (m := 69) (ivj (m := 64) (ivj (m := 61) (ivj (m := 60) (iv1 rfl wokM59) (iv1 rfl wokM60)) (ivj (m := 62) (iv1 rfl wokM61) (ivj (m := 63) (iv1 rfl wokM62) (iv1 rfl wokM63)))) (ivj (m := 66) (ivj (m := 65) (iv1 rfl wokM64) (iv1 rfl wokM65)) (ivj (m := 67) (iv1 rfl wokM66) (ivj (m := 68) (iv1 rfl wokM67) (iv1 rfl wokM68))))) (ivj (m := 74) (ivj (m := 71) (ivj (m := 70) (iv1 rfl wokM69) (iv1 rfl wokM70)) (ivj (m := 72) (iv1 rfl wokM71) (ivj (m := 73) (iv1 rfl wokM72) (iv1 rfl wokM73)))) (ivj (m := 76) (ivj (m := 75) (iv1 rfl wokM74) (iv1 rfl wokM75)) (ivj (m := 77) (iv1 rfl wokM76) (ivj (m := 78) (iv1 rfl wokM77) (iv1 rfl wokM78)))))))) (ivj (m := 118) (ivj (m := 98) (ivj (m := 88) (ivj (m := 83) (ivj (m := 81) (ivj (m := 80) (iv1 rfl wokM79) (iv1 rfl wokM80)) (ivj (m := 82) (iv1 rfl wokM81) (iv1 rfl wokM82))) (ivj (m := 85) (ivj (m := 84) (iv1 rfl wokM83) (iv1 rfl wokM84)) (ivj (m := 86) (iv1 rfl wokM85) (ivj (m := 87) (iv1 rfl wokM86) (iv1 rfl wokM87))))) (ivj (m := 93) (ivj (m := 90) (ivj (m := 89) (iv1 rfl wokM88) (iv1 rfl wokM89)) (ivj (m := 91) (iv1 rfl wokM90) (ivj (m := 92) (iv1 rfl wokM91) (iv1 rfl wokM92)))) (ivj (m := 95) (ivj (m := 94) (iv1 rfl wokM93) (iv1 rfl wokM94)) (ivj (m := 96) (iv1 rfl wokM95) (ivj (m := 97) (iv1 rfl wokM96) (iv1 rfl wokM97)))))) (ivj (m := 108) (ivj (m := 103) (ivj (m := 100) (ivj (m := 99) (iv1 rfl wokM98) (iv1 rfl wokM99)) (ivj (m := 101) (iv1 rfl wokM100) (ivj (m := 102) (iv1 rfl wokM101) (iv1 rfl wokM102)))) (ivj (m := 105) (ivj (m := 104) (iv1 rfl wokM103) (iv1 rfl wokM104)) (ivj (m := 106) (iv1 rfl wokM105) (ivj (m := 107) (iv1 rfl wokM106) (iv1 rfl wokM107))))) (ivj (m := 113) (ivj (m := 110) (ivj (m := 109) (iv1 rfl wokM108) (iv1 rfl wokM109)) (ivj (m := 111) (iv1 rfl wokM110) (ivj (m := 112) (iv1 rfl wokM111) (iv1 rfl wokM112)))) (ivj (m := 115) (ivj (m := 114) (iv1 rfl wokM113) (iv1 rfl wokM114)) (ivj (m := 116) (iv1 rfl wokM115) (ivj (m := 117) (iv1 rfl wokM116) (iv1 rfl wokM117))))))) (ivj (m := 138) (ivj (m := 128) (ivj (m := 123) (ivj (m := 120) (ivj (m := 119) (iv1 rfl wokM118) (iv1 rfl wokM119)) (ivj (m := 121) (iv1 rfl wokM120) (ivj (m := 122) (iv1 rfl wokM121) (iv1 rfl wokM122)))) (ivj (m := 125) (ivj (m := 124) (iv1 rfl wokM123) (iv1 rfl wokM124)) (ivj (m := 126) (iv1 rfl wokM125) (ivj (m := 127) (iv1 rfl wokM126) (iv1 rfl wokM127))))) (ivj (m := 133) (ivj (m := 130) (ivj (m := 129) (iv1 rfl wokM128) (iv1 rfl wokM129)) (ivj (m := 131) (iv1 rfl wokM130) (ivj (m := 132) (iv1 rfl wokM131) (iv1 rfl wokM132)))) (ivj (m := 135) (ivj (m := 134) (iv1 rfl wokM133) (iv1 rfl wokM134)) (ivj (m := 136) (iv1 rfl wokM135) (ivj (m := 137) (iv1 rfl wokM136) (iv1 rfl wokM137)))))) (ivj (m := 148) (ivj (m := 143) (ivj (m := 140) (ivj (m := 139) (iv1 rfl wokM138) (iv1 rfl wokM139)) (ivj (m := 141) (iv1 rfl wokM140) (ivj (m := 142) (iv1 rfl wokM141) (iv1 rfl wokM142)))) (ivj (m := 145) (ivj (m := 144) (iv1 rfl wokM143) (iv1 rfl wokM144)) (ivj (m := 146) (iv1 rfl wokM145) (ivj (m := 147) (iv1 rfl wokM146) (iv1 rfl wokM147))))) (ivj (m := 153) (ivj (m := 150) (ivj (m := 149) (iv1 rfl wokM148) (iv1 rfl wokM149)) (ivj (m := 151) (iv1 rfl wokM150) (ivj (m := 152) (iv1 rfl wokM151) (iv1 rfl wokM152)))) (ivj (m := 155) (ivj (m := 154) (iv1 rfl wokM153) (iv1 rfl wokM154)) (ivj (m := 156) (iv1 rfl wokM155) (ivj (m := 157) (iv1 rfl wokM156) (iv1 rfl wokM157))))))))) (ivj (m := 236) (ivj (m := 197) (ivj (m := 177) (ivj (m := 167) (ivj (m := 162) (ivj (m := 160) (ivj (m := 159) (iv1 rfl wokM158) (iv1 rfl wokM159)) (ivj (m := 161) (iv1 rfl wokM160) (iv1 rfl wokM161))) (ivj (m := 164) (ivj (m := 163) (iv1 rfl wokM162) (iv1 rfl wokM163)) (ivj (m := 165) (iv1 rfl wokM164) (ivj (m := 166) (iv1 rfl wokM165) (iv1 rfl wokM166))))) (ivj (m := 172) (ivj (m := 169) (ivj (m := 168) (iv1 rfl wokM167) (iv1 rfl wokM168)) (ivj (m := 170) (iv1 rfl wokM169) (ivj (m := 171) (iv1 rfl wokM170) (iv1 rfl wokM171)))) (ivj (m := 174) (ivj (m := 173) (iv1 rfl wokM172) (iv1 rfl wokM173)) (ivj (m := 175) (iv1 rfl wokM174) (ivj (m := 176) (iv1 rfl wokM175) (iv1 rfl wokM176)))))) (ivj (m := 187) (ivj (m := 182) (ivj (m := 179) (ivj (m := 178) (iv1 rfl wokM177) (iv1 rfl wokM178)) (ivj (m := 180) (iv1 rfl wokM179) (ivj (m := 181) (iv1 rfl wokM180) (iv1 rfl wokM181)))) (ivj (m := 184) (ivj (m := 183) (iv1 rfl wokM182) (iv1 rfl wokM183)) (ivj (m := 185) (iv1 rfl wokM184) (ivj (m := 186) (iv1 rfl wokM185) (iv1 rfl wokM186))))) (ivj (m := 192) (ivj (m := 189) (ivj (m := 188) (iv1 rfl wokM187) (iv1 rfl wokM188)) (ivj (m := 190) (iv1 rfl wokM189) (ivj (m := 191) (iv1 rfl wokM190) (iv1 rfl wokM191)))) (ivj (m := 194) (ivj (m := 193) (iv1 rfl wokM192) (iv1 rfl wokM193)) (ivj (m := 195) (iv1 rfl wokM194) (ivj (m := 196) (iv1 rfl wokM195) (iv1 rfl wokM196))))))) (ivj (m := 216) (ivj (m := 206) (ivj (m := 201) (ivj (m := 199) (ivj (m := 198) (iv1 rfl wokM197) (iv1 rfl wokM198)) (ivj (m := 200) (iv1 rfl wokM199) (iv1 rfl wokM200))) (ivj (m := 203) (ivj (m := 202) (iv1 rfl wokM201) (iv1 rfl wokM202)) (ivj (m := 204) (iv1 rfl wokM203) (ivj (m := 205) (iv1 rfl wokM204) (iv1 rfl wokM205))))) (ivj (m := 211) (ivj (m := 208) (ivj (m := 207) (iv1 rfl wokM206) (iv1 rfl wokM207)) (ivj (m := 209) (iv1 rfl wokM208) (ivj (m := 210) (iv1 rfl wokM209) (iv1 rfl wokM210)))) (ivj (m := 213) (ivj (m := 212) (iv1 rfl wokM211) (iv1 rfl wokM212)) (ivj (m := 214) (iv1 rfl wokM213) (ivj (m := 215) (iv1 rfl wokM214) (iv1 rfl wokM215)))))) (ivj (m := 226) (ivj (m := 221) (ivj (m := 218) (ivj (m := 217) (iv1 rfl wokM216) (iv1 rfl wokM217)) (ivj (m := 219) (iv1 rfl wokM218) (ivj (m := 220) (iv1 rfl wokM219) (iv1 rfl wokM220)))) (ivj (m := 223) (ivj (m := 222) (iv1 rfl wokM221) (iv1 rfl wokM222)) (ivj (m := 224) (iv1 rfl wokM223) (ivj (m := 225) (iv1 rfl wokM224) (iv1 rfl wokM225))))) (ivj (m := 231) (ivj (m := 228) (ivj (m := 227) (iv1 rfl wokM226) (iv1 rfl wokM227)) (ivj (m := 229) (iv1 rfl wokM228) (ivj (m := 230) (iv1 rfl wokM229) (iv1 rfl wokM230)))) (ivj (m := 233) (ivj (m := 232) (iv1 rfl wokM231) (iv1 rfl wokM232)) (ivj (m := 234) (iv1 rfl wokM233) (ivj (m := 235) (iv1 rfl wokM234) (iv1 rfl wokM235)))))))) (ivj (m := 275) (ivj (m := 255) (ivj (m := 245) (ivj (m := 240) (ivj (m := 238) (ivj (m := 237) (iv1 rfl wokM236) (iv1 rfl wokM237)) (ivj (m := 239) (iv1 rfl wokM238) (iv1 rfl wokM239))) (ivj (m := 242) (ivj (m := 241) (iv1 rfl wokM240) (iv1 rfl wokM241)) (ivj (m := 243) (iv1 rfl wokM242) (ivj (m := 244) (iv1 rfl wokM243) (iv1 rfl wokM244))))) (ivj (m := 250) (ivj (m := 247) (ivj (m := 246) (iv1 rfl wokM245) (iv1 rfl wokM246)) (ivj (m := 248) (iv1 rfl wokM247) (ivj (m := 249) (iv1 rfl wokM248) (iv1 rfl wokM249)))) (ivj (m := 252) (ivj (m := 251) (iv1 rfl wokM250) (iv1 rfl wokM251)) (ivj (m := 253) (iv1 rfl wokM252) (ivj (m := 254) (iv1 rfl wokM253) (iv1 rfl wokM254)))))) (ivj (m := 265) (ivj (m := 260) (ivj (m := 257) (ivj (m := 256) (iv1 rfl wokM255) (iv1 rfl wokM256)) (ivj (m := 258) (iv1 rfl wokM257) (ivj (m := 259) (iv1 rfl wokM258) (iv1 rfl wokM259)))) (ivj (m := 262) (ivj (m := 261) (iv1 rfl wokM260) (iv1 rfl wokM261)) (ivj (m := 263) (iv1 rfl wokM262) (ivj (m := 264) (iv1 rfl wokM263) (iv1 rfl wokM264))))) (ivj (m := 270) (ivj (m := 267) (ivj (m := 266) (iv1 rfl wokM265) (iv1 rfl wokM266)) (ivj (m := 268) (iv1 rfl wokM267) (ivj (m := 269) (iv1 rfl wokM268) (iv1 rfl wokM269)))) (ivj (m := 272) (ivj (m := 271) (iv1 rfl wokM270) (iv1 rfl wokM271)) (ivj (m := 273) (iv1 rfl wokM272) (ivj (m := 274) (iv1 rfl wokM273) (iv1 rfl wokM274))))))) (ivj (m := 295) (ivj (m := 285) (ivj (m := 280) (ivj (m := 277) (ivj (m := 276) (iv1 rfl wokM275) (iv1 rfl wokM276)) (ivj (m := 278) (iv1 rfl wokM277) (ivj (m := 279) (iv1 rfl wokM278) (iv1 rfl wokM279)))) (ivj (m := 282) (ivj (m := 281) (iv1 rfl wokM280) (iv1 rfl wokM281)) (ivj (m := 283) (iv1 rfl wokM282) (ivj (m := 284) (iv1 rfl wokM283) (iv1 rfl wokM284))))) (ivj (m := 290) (ivj (m := 287) (ivj (m := 286) (iv1 rfl wokM285) (iv1 rfl wokM286)) (ivj (m := 288) (iv1 rfl wokM287) (ivj (m := 289) (iv1 rfl wokM288) (iv1 rfl wokM289)))) (ivj (m := 292) (ivj (m := 291) (iv1 rfl wokM290) (iv1 rfl wokM291)) (ivj (m := 293) (iv1 rfl wokM292) (ivj (m := 294) (iv1 rfl wokM293) (iv1 rfl wokM294)))))) (ivj (m := 305) (ivj (m := 300) (ivj (m := 297) (ivj (m := 296) (iv1 rfl wokM295) (iv1 rfl wokM296)) (ivj (m := 298) (iv1 rfl wokM297) (ivj (m := 299) (iv1 rfl wokM298) (iv1 rfl wokM299)))) (ivj (m := 302) (ivj (m := 301) (iv1 rfl wokM300) (iv1 rfl wokM301)) (ivj (m := 303) (iv1 rfl wokM302) (ivj (m := 304) (iv1 rfl wokM303) (iv1 rfl wokM304))))) (ivj (m := 310) (ivj (m := 307) (ivj (m := 306) (iv1 rfl wokM305) (iv1 rfl wokM306)) (ivj (m := 308) (iv1 rfl wokM307) (ivj (m := 309) (iv1 rfl wokM308) (iv1 rfl wokM309)))) (ivj (m := 312) (ivj (m := 311) (iv1 rfl wokM310) (iv1 rfl wokM311)) (ivj (m := 313) (iv1 rfl wokM312) (ivj (m := 314) (iv1 rfl wokM313) (iv1 rfl wokM314)))))))))) (ivj (m := 472) (ivj (m := 393) (ivj (m := 354) (ivj (m := 334) (ivj (m := 324) (ivj (m := 319) (ivj (m := 317) (ivj (m := 316) (iv1 rfl wokM315) (iv1 rfl wokM316)) (ivj (m := 318) (iv1 rfl wokM317) (iv1 rfl wokM318))) (ivj (m := 321) (ivj (m := 320) (iv1 rfl wokM319) (iv1 rfl wokM320)) (ivj (m := 322) (iv1 rfl wokM321) (ivj (m := 323) (iv1 rfl wokM322) (iv1 rfl wokM323))))) (ivj (m := 329) (ivj (m := 326) (ivj (m := 325) (iv1 rfl wokM324) (iv1 rfl wokM325)) (ivj (m := 327) (iv1 rfl wokM326) (ivj (m := 328) (iv1 rfl wokM327) (iv1 rfl wokM328)))) (ivj (m := 331) (ivj (m := 330) (iv1 rfl wokM329) (iv1 rfl wokM330)) (ivj (m := 332) (iv1 rfl wokM331) (ivj (m := 333) (iv1 rfl wokM332) (iv1 rfl wokM333)))))) (ivj (m := 344) (ivj (m := 339) (ivj (m := 336) (ivj (m := 335) (iv1 rfl wokM334) (iv1 rfl wokM335)) (ivj (m := 337) (iv1 rfl wokM336) (ivj (m := 338) (iv1 rfl wokM337) (iv1 rfl wokM338)))) (ivj (m := 341) (ivj (m := 340) (iv1 rfl wokM339) (iv1 rfl wokM340)) (ivj (m := 342) (iv1 rfl wokM341) (ivj (m := 343) (iv1 rfl wokM342) (iv1 rfl wokM343))))) (ivj (m := 349) (ivj (m := 346) (ivj (m := 345) (iv1 rfl wokM344) (iv1 rfl wokM345)) (ivj (m := 347) (iv1 rfl wokM346) (ivj (m := 348) (iv1 rfl wokM347) (iv1 rfl wokM348)))) (ivj (m := 351) (ivj (m := 350) (iv1 rfl wokM349) (iv1 rfl wokM350)) (ivj (m := 352) (iv1 rfl wokM351) (ivj (m := 353) (iv1 rfl wokM352) (iv1 rfl wokM353))))))) (ivj (m := 373) (ivj (m := 363) (ivj (m := 358) (ivj (m := 356) (ivj (m := 355) (iv1 rfl wokM354) (iv1 rfl wokM355)) (ivj (m := 357) (iv1 rfl wokM356) (iv1 rfl wokM357))) (ivj (m := 360) (ivj (m := 359) (iv1 rfl wokM358) (iv1 rfl wokM359)) (ivj (m := 361) (iv1 rfl wokM360) (ivj (m := 362) (iv1 rfl wokM361) (iv1 rfl wokM362))))) (ivj (m := 368) (ivj (m := 365) (ivj (m := 364) (iv1 rfl wokM363) (iv1 rfl wokM364)) (ivj (m := 366) (iv1 rfl wokM365) (ivj (m := 367) (iv1 rfl wokM366) (iv1 rfl wokM367)))) (ivj (m := 370) (ivj (m := 369) (iv1 rfl wokM368) (iv1 rfl wokM369)) (ivj (m := 371) (iv1 rfl wokM370) (ivj (m := 372) (iv1 rfl wokM371) (iv1 rfl wokM372)))))) (ivj (m := 383) (ivj (m := 378) (ivj (m := 375) (ivj (m := 374) (iv1 rfl wokM373) (iv1 rfl wokM374)) (ivj (m := 376) (iv1 rfl wokM375) (ivj (m := 377) (iv1 rfl wokM376) (iv1 rfl wokM377)))) (ivj (m := 380) (ivj (m := 379) (iv1 rfl wokM378) (iv1 rfl wokM379)) (ivj (m := 381) (iv1 rfl wokM380) (ivj (m := 382) (iv1 rfl wokM381) (iv1 rfl wokM382))))) (ivj (m := 388) (ivj (m := 385) (ivj (m := 384) (iv1 rfl wokM383) (iv1 rfl wokM384)) (ivj (m := 386) (iv1 rfl wokM385) (ivj (m := 387) (iv1 rfl wokM386) (iv1 rfl wokM387)))) (ivj (m := 390) (ivj (m := 389) (iv1 rfl wokM388) (iv1 rfl wokM389)) (ivj (m := 391) (iv1 rfl wokM390) (ivj (m := 392) (iv1 rfl wokM391) (iv1 rfl wokM392)))))))) (ivj (m := 432) (ivj (m := 412) (ivj (m := 402) (ivj (m := 397) (ivj (m := 395) (ivj (m := 394) (iv1 rfl wokM393) (iv1 rfl wokM394)) (ivj (m := 396) (iv1 rfl wokM395) (iv1 rfl wokM396))) (ivj (m := 399) (ivj (m := 398) (iv1 rfl wokM397) (iv1 rfl wokM398)) (ivj (m := 400) (iv1 rfl wokM399) (ivj (m := 401) (iv1 rfl wokM400) (iv1 rfl wokM401))))) (ivj (m := 407) (ivj (m := 404) (ivj (m := 403) (iv1 rfl wokM402) (iv1 rfl wokM403)) (ivj (m := 405) (iv1 rfl wokM404) (ivj (m := 406) (iv1 rfl wokM405) (iv1 rfl wokM406)))) (ivj (m := 409) (ivj (m := 408) (iv1 rfl wokM407) (iv1 rfl wokM408)) (ivj (m := 410) (iv1 rfl wokM409) (ivj (m := 411) (iv1 rfl wokM410) (iv1 rfl wokM411)))))) (ivj (m := 422) (ivj (m := 417) (ivj (m := 414) (ivj (m := 413) (iv1 rfl wokM412) (iv1 rfl wokM413)) (ivj (m := 415) (iv1 rfl wokM414) (ivj (m := 416) (iv1 rfl wokM415) (iv1 rfl wokM416)))) (ivj (m := 419) (ivj (m := 418) (iv1 rfl wokM417) (iv1 rfl wokM418)) (ivj (m := 420) (iv1 rfl wokM419) (ivj (m := 421) (iv1 rfl wokM420) (iv1 rfl wokM421))))) (ivj (m := 427) (ivj (m := 424) (ivj (m := 423) (iv1 rfl wokM422) (iv1 rfl wokM423)) (ivj (m := 425) (iv1 rfl wokM424) (ivj (m := 426) (iv1 rfl wokM425) (iv1 rfl wokM426)))) (ivj (m := 429) (ivj (m := 428) (iv1 rfl wokM427) (iv1 rfl wokM428)) (ivj (m := 430) (iv1 rfl wokM429) (ivj (m := 431) (iv1 rfl wokM430) (iv1 rfl wokM431))))))) (ivj (m := 452) (ivj (m := 442) (ivj (m := 437) (ivj (m := 434) (ivj (m := 433) (iv1 rfl wokM432) (iv1 rfl wokM433)) (ivj (m := 435) (iv1 rfl wokM434) (ivj (m := 436) (iv1 rfl wokM435) (iv1 rfl wokM436)))) (ivj (m := 439) (ivj (m := 438) (iv1 rfl wokM437) (iv1 rfl wokM438)) (ivj (m := 440) (iv1 rfl wokM439) (ivj (m := 441) (iv1 rfl wokM440) (iv1 rfl wokM441))))) (ivj (m := 447) (ivj (m := 444) (ivj (m := 443) (iv1 rfl wokM442) (iv1 rfl wokM443)) (ivj (m := 445) (iv1 rfl wokM444) (ivj (m := 446) (iv1 rfl wokM445) (iv1 rfl wokM446)))) (ivj (m := 449) (ivj (m := 448) (iv1 rfl wokM447) (iv1 rfl wokM448)) (ivj (m := 450) (iv1 rfl wokM449) (ivj (m := 451) (iv1 rfl wokM450) (iv1 rfl wokM451)))))) (ivj (m := 462) (ivj (m := 457) (ivj (m := 454) (ivj (m := 453) (iv1 rfl wokM452) (iv1 rfl wokM453)) (ivj (m := 455) (iv1 rfl wokM454) (ivj (m := 456) (iv1 rfl wokM455) (iv1 rfl wokM456)))) (ivj (m := 459) (ivj (m := 458) (iv1 rfl wokM457) (iv1 rfl wokM458)) (ivj (m := 460) (iv1 rfl wokM459) (ivj (m := 461) (iv1 rfl wokM460) (iv1 rfl wokM461))))) (ivj (m := 467) (ivj (m := 464) (ivj (m := 463) (iv1 rfl wokM462) (iv1 rfl wokM463)) (ivj (m := 465) (iv1 rfl wokM464) (ivj (m := 466) (iv1 rfl wokM465) (iv1 rfl wokM466)))) (ivj (m := 469) (ivj (m := 468) (iv1 rfl wokM467) (iv1 rfl wokM468)) (ivj (m := 470) (iv1 rfl wokM469) (ivj (m := 471) (iv1 rfl wokM470) (iv1 rfl wokM471))))))))) (ivj (m := 550) (ivj (m := 511) (ivj (m := 491) (ivj (m := 481) (ivj (m := 476) (ivj (m := 474) (ivj (m := 473) (iv1 rfl wokM472) (iv1 rfl wokM473)) (ivj (m := 475) (iv1 rfl wokM474) (iv1 rfl wokM475))) (ivj (m := 478) (ivj (m := 477) (iv1 rfl wokM476) (iv1 rfl wokM477)) (ivj (m := 479) (iv1 rfl wokM478) (ivj (m := 480) (iv1 rfl wokM479) (iv1 rfl wokM480))))) (ivj (m := 486) (ivj (m := 483) (ivj (m := 482) (iv1 rfl wokM481) (iv1 rfl wokM482)) (ivj (m := 484) (iv1 rfl wokM483) (ivj (m := 485) (iv1 rfl wokM484) (iv1 rfl wokM485)))) (ivj (m := 488) (ivj (m := 487) (iv1 rfl wokM486) (iv1 rfl wokM487)) (ivj (m := 489) (iv1 rfl wokM488) (ivj (m := 490) (iv1 rfl wokM489) (iv1 rfl wokM490)))))) (ivj (m := 501) (ivj (m := 496) (ivj (m := 493) (ivj (m := 492) (iv1 rfl wokM491) (iv1 rfl wokM492)) (ivj (m := 494) (iv1 rfl wokM493) (ivj (m := 495) (iv1 rfl wokM494) (iv1 rfl wokM495)))) (ivj (m := 498) (ivj (m := 497) (iv1 rfl wokM496) (iv1 rfl wokM497)) (ivj (m := 499) (iv1 rfl wokM498) (ivj (m := 500) (iv1 rfl wokM499) (iv1 rfl wokM500))))) (ivj (m := 506) (ivj (m := 503) (ivj (m := 502) (iv1 rfl wokM501) (iv1 rfl wokM502)) (ivj (m := 504) (iv1 rfl wokM503) (ivj (m := 505) (iv1 rfl wokM504) (iv1 rfl wokM505)))) (ivj (m := 508) (ivj (m := 507) (iv1 rfl wokM506) (iv1 rfl wokM507)) (ivj (m := 509) (iv1 rfl wokM508) (ivj (m := 510) (iv1 rfl wokM509) (iv1 rfl wokM510))))))) (ivj (m := 530) (ivj (m := 520) (ivj (m := 515) (ivj (m := 513) (ivj (m := 512) (iv1 rfl wokM511) (iv1 rfl wokM512)) (ivj (m := 514) (iv1 rfl wokM513) (iv1 rfl wokM514))) (ivj (m := 517) (ivj (m := 516) (iv1 rfl wokM515) (iv1 rfl wokM516)) (ivj (m := 518) (iv1 rfl wokM517) (ivj (m := 519) (iv1 rfl wokM518) (iv1 rfl wokM519))))) (ivj (m := 525) (ivj (m := 522) (ivj (m := 521) (iv1 rfl wokM520) (iv1 rfl wokM521)) (ivj (m := 523) (iv1 rfl wokM522) (ivj (m := 524) (iv1 rfl wokM523) (iv1 rfl wokM524)))) (ivj (m := 527) (ivj (m := 526) (iv1 rfl wokM525) (iv1 rfl wokM526)) (ivj (m := 528) (iv1 rfl wokM527) (ivj (m := 529) (iv1 rfl wokM528) (iv1 rfl wokM529)))))) (ivj (m := 540) (ivj (m := 535) (ivj (m := 532) (ivj (m := 531) (iv1 rfl wokM530) (iv1 rfl wokM531)) (ivj (m := 533) (iv1 rfl wokM532) (ivj (m := 534) (iv1 rfl wokM533) (iv1 rfl wokM534)))) (ivj (m := 537) (ivj (m := 536) (iv1 rfl wokM535) (iv1 rfl wokM536)) (ivj (m := 538) (iv1 rfl wokM537) (ivj (m := 539) (iv1 rfl wokM538) (iv1 rfl wokM539))))) (ivj (m := 545) (ivj (m := 542) (ivj (m := 541) (iv1 rfl wokM540) (iv1 rfl wokM541)) (ivj (m := 543) (iv1 rfl wokM542) (ivj (m := 544) (iv1 rfl wokM543) (iv1 rfl wokM544)))) (ivj (m := 547) (ivj (m := 546) (iv1 rfl wokM545) (iv1 rfl wokM546)) (ivj (m := 548) (iv1 rfl wokM547) (ivj (m := 549) (iv1 rfl wokM548) (iv1 rfl wokM549)))))))) (ivj (m := 589) (ivj (m := 569) (ivj (m := 559) (ivj (m := 554) (ivj (m := 552) (ivj (m := 551) (iv1 rfl wokM550) (iv1 rfl wokM551)) (ivj (m := 553) (iv1 rfl wokM552) (iv1 rfl wokM553))) (ivj (m := 556) (ivj (m := 555) (iv1 rfl wokM554) (iv1 rfl wokM555)) (ivj (m := 557) (iv1 rfl wokM556) (ivj (m := 558) (iv1 rfl wokM557) (iv1 rfl wokM558))))) (ivj (m := 564) (ivj (m := 561) (ivj (m := 560) (iv1 rfl wokM559) (iv1 rfl wokM560)) (ivj (m := 562) (iv1 rfl wokM561) (ivj (m := 563) (iv1 rfl wokM562) (iv1 rfl wokM563)))) (ivj (m := 566) (ivj (m := 565) (iv1 rfl wokM564) (iv1 rfl wokM565)) (ivj (m := 567) (iv1 rfl wokM566) (ivj (m := 568) (iv1 rfl wokM567) (iv1 rfl wokM568)))))) (ivj (m := 579) (ivj (m := 574) (ivj (m := 571) (ivj (m := 570) (iv1 rfl wokM569) (iv1 rfl wokM570)) (ivj (m := 572) (iv1 rfl wokM571) (ivj (m := 573) (iv1 rfl wokM572) (iv1 rfl wokM573)))) (ivj (m := 576) (ivj (m := 575) (iv1 rfl wokM574) (iv1 rfl wokM575)) (ivj (m := 577) (iv1 rfl wokM576) (ivj (m := 578) (iv1 rfl wokM577) (iv1 rfl wokM578))))) (ivj (m := 584) (ivj (m := 581) (ivj (m := 580) (iv1 rfl wokM579) (iv1 rfl wokM580)) (ivj (m := 582) (iv1 rfl wokM581) (ivj (m := 583) (iv1 rfl wokM582) (iv1 rfl wokM583)))) (ivj (m := 586) (ivj (m := 585) (iv1 rfl wokM584) (iv1 rfl wokM585)) (ivj (m := 587) (iv1 rfl wokM586) (ivj (m := 588) (iv1 rfl wokM587) (iv1 rfl wokM588))))))) (ivj (m := 609) (ivj (m := 599) (ivj (m := 594) (ivj (m := 591) (ivj (m := 590) (iv1 rfl wokM589) (iv1 rfl wokM590)) (ivj (m := 592) (iv1 rfl wokM591) (ivj (m := 593) (iv1 rfl wokM592) (iv1 rfl wokM593)))) (ivj (m := 596) (ivj (m := 595) (iv1 rfl wokM594) (iv1 rfl wokM595)) (ivj (m := 597) (iv1 rfl wokM596) (ivj (m := 598) (iv1 rfl wokM597) (iv1 rfl wokM598))))) (ivj (m := 604) (ivj (m := 601) (ivj (m := 600) (iv1 rfl wokM599) (iv1 rfl wokM600)) (ivj (m := 602) (iv1 rfl wokM601) (ivj (m := 603) (iv1 rfl wokM602) (iv1 rfl wokM603)))) (ivj (m := 606) (ivj (m := 605) (iv1 rfl wokM604) (iv1 rfl wokM605)) (ivj (m := 607) (iv1 rfl wokM606) (ivj (m := 608) (iv1 rfl wokM607) (iv1 rfl wokM608)))))) (ivj (m := 619) (ivj (m := 614) (ivj (m := 611) (ivj (m := 610) (iv1 rfl wokM609) (iv1 rfl wokM610)) (ivj (m := 612) (iv1 rfl wokM611) (ivj (m := 613) (iv1 rfl wokM612) (iv1 rfl wokM613)))) (ivj (m := 616) (ivj (m := 615) (iv1 rfl wokM614) (iv1 rfl wokM615)) (ivj (m := 617) (iv1 rfl wokM616) (ivj (m := 618) (iv1 rfl wokM617) (iv1 rfl wokM618))))) (ivj (m := 624) (ivj (m := 621) (ivj (m := 620) (iv1 rfl wokM619) (iv1 rfl wokM620)) (ivj (m := 622) (iv1 rfl wokM621) (ivj (m := 623) (iv1 rfl wokM622) (iv1 rfl wokM623)))) (ivj (m := 626) (ivj (m := 625) (iv1 rfl wokM624) (iv1 rfl wokM625)) (ivj (m := 627) (iv1 rfl wokM626) (ivj (m := 628) (iv1 rfl wokM627) (iv1 rfl wokM628))))))))))
def wokL (c : Nat) (e : Nat × Nat × Nat) : Prop := match e.2.1 with
  | 1 => Cond.methodLink (cx_nm c) e.1 (mth e.2.2) ∈ lw_tbl
  | 2 => Cond.methodLinkNest (cx_nm c) e.1 (mth e.2.2) "WholeWarehouse" ∈ lw_tbl
  | _ => False
def mlkL0 : List (Nat × Nat × Nat) := [(7, 1, 627), (15, 1, 624), (21, 1, 621), (25, 1, 618), (30, 1, 614), (36, 1, 610), (39, 1, 607), (43, 1, 603), (46, 1, 600), (49, 1, 597), (53, 1, 594), (57, 1, 591), (60, 1, 587), (64, 1, 583), (67, 1, 580), (70, 1, 576), (73, 1, 571), (76, 1, 568), (79, 1, 565), (82, 1, 562), (85, 1, 559), (89, 1, 555), (92, 1, 550), (95, 1, 544), (98, 1, 540), (101, 1, 537), (104, 1, 534), (107, 1, 531), (110, 1, 527), (113, 1, 524), (116, 1, 521), (120, 1, 518), (123, 1, 515), (126, 1, 512), (129, 1, 509), (132, 1, 506), (135, 1, 502), (138, 1, 499), (142, 1, 495), (146, 1, 492), (149, 1, 488), (152, 1, 485), (155, 1, 481), (158, 1, 478), (161, 1, 475), (164, 1, 472), (167, 1, 468), (170, 1, 465), (173, 1, 461), (176, 1, 458), (179, 1, 455), (182, 1, 413), (185, 1, 409), (188, 1, 404), (191, 1, 401), (194, 1, 397), (197, 1, 394), (200, 1, 391), (203, 1, 387), (206, 1, 383), (210, 1, 380), (213, 1, 377), (216, 1, 374), (219, 1, 367), (222, 1, 363), (225, 1, 359), (228, 1, 27), (231, 1, 1), (234, 1, 17), (235, 1, 626), (240, 1, 628), (241, 1, 349), (244, 1, 623), (247, 1, 625), (248, 1, 620), (251, 1, 622), (252, 1, 617), (254, 1, 619), (255, 1, 613), (258, 1, 616), (259, 1, 609), (261, 1, 612), (262, 1, 606), (265, 1, 608), (266, 1, 602), (268, 1, 605), (269, 1, 599), (271, 1, 601), (272, 1, 596), (275, 1, 598), (276, 1, 593), (279, 1, 595), (280, 1, 590), (282, 1, 592), (283, 1, 586), (286, 1, 589), (287, 1, 582), (289, 1, 585), (290, 1, 579), (292, 1, 581), (293, 1, 575), (295, 1, 578), (296, 1, 570), (298, 1, 574), (299, 1, 567), (301, 1, 569), (302, 1, 564), (304, 1, 566), (305, 1, 561), (307, 1, 563), (308, 1, 558), (311, 1, 560), (312, 1, 554), (314, 1, 557), (315, 1, 549), (317, 1, 553), (318, 1, 543), (320, 1, 546), (321, 1, 539), (323, 1, 542), (324, 1, 536), (326, 1, 538), (327, 1, 533), (329, 1, 535), (330, 1, 530), (332, 1, 532), (333, 1, 526), (335, 1, 529), (336, 1, 523), (338, 1, 525), (339, 1, 520), (341, 1, 522), (342, 1, 517), (344, 1, 519), (345, 1, 514), (347, 1, 516), (348, 1, 511), (350, 1, 513), (351, 1, 508), (353, 1, 510), (354, 1, 505), (356, 1, 507), (357, 1, 501), (359, 1, 504), (360, 1, 498), (363, 1, 500), (364, 1, 494), (366, 1, 497), (367, 1, 491), (369, 1, 493), (370, 1, 487), (372, 1, 490), (373, 1, 484), (375, 1, 486), (376, 1, 480), (378, 1, 483), (379, 1, 477), (381, 1, 479), (382, 1, 474), (384, 1, 476), (385, 1, 471), (387, 1, 473), (388, 1, 467), (390, 1, 470), (391, 1, 464), (393, 1, 466), (394, 1, 460), (396, 1, 463), (397, 1, 457), (399, 1, 459), (400, 1, 454), (402, 1, 456), (403, 1, 412), (405, 1, 441), (406, 1, 408), (408, 1, 411), (409, 1, 403), (411, 1, 407), (412, 1, 400), (414, 1, 402), (415, 1, 396), (417, 1, 399), (418, 1, 393), (420, 1, 395), (421, 1, 390), (423, 1, 392), (424, 1, 386), (426, 1, 389), (427, 1, 382), (429, 1, 385), (430, 1, 379), (432, 1, 381), (433, 1, 376), (435, 1, 378), (436, 1, 373), (438, 1, 375), (439, 1, 366), (441, 1, 370), (442, 1, 362), (444, 1, 365), (445, 1, 358), (447, 1, 361), (450, 1, 352), (454, 1, 356), (455, 1, 350), (458, 1, 351), (459, 1, 26), (461, 1, 214), (462, 1, 22), (465, 1, 25), (466, 1, 18), (469, 1, 21)]
theorem mlkL0_ok : ∀ e ∈ mlkL0, wokL 0 e := List.forall_mem_cons.mpr ⟨lw_at lw_m4 56 rfl, List.forall_mem_cons.mpr ⟨lw_at lw_m4 147 rfl, List.forall_mem_cons.mpr ⟨lw_at lw_m4 180 rfl, List.forall_mem_cons.mpr ⟨lw_at lw_m5 54 rfl, List.forall_mem_cons.mpr ⟨lw_at lw_m5 213 rfl, List.forall_mem_cons.mpr ⟨lw_at lw_m6 6 rfl, List.forall_mem_cons.mpr ⟨lw_at lw_m6 23 rfl, List.forall_mem_cons.mpr ⟨lw_at lw_m6 39 rfl, List.forall_mem_cons.mpr ⟨lw_at lw_m6 52 rfl, List.forall_mem_cons.mpr ⟨lw_at lw_m6 75 rfl, List.forall_mem_cons.mpr ⟨lw_at lw_m6 212 rfl, List.forall_mem_cons.mpr ⟨lw_at lw_m6 227 rfl, List.forall_mem_cons.mpr ⟨lw_at lw_m7 15 rfl, List.forall_mem_cons.mpr ⟨lw_at lw_m7 26 rfl, List.forall_mem_cons.mpr ⟨lw_at lw_m7 37 rfl, List.forall_mem_cons.mpr ⟨lw_at lw_m7 48 rfl, List.forall_mem_cons.mpr ⟨lw_at lw_m7 63 rfl, List.forall_mem_cons.mpr ⟨lw_at lw_m7 78 rfl, List.forall_mem_cons.mpr ⟨lw_at lw_m7 141 rfl, List.forall_mem_cons.mpr ⟨lw_at lw_m7 180 rfl, List.forall_mem_cons.mpr ⟨lw_at lw_m8 0 rfl, List.forall_mem_cons.mpr ⟨lw_at lw_m8 11 rfl, List.forall_mem_cons.mpr ⟨lw_at lw_m8 22 rfl, List.forall_mem_cons.mpr ⟨lw_at lw_m8 33 rfl, List.forall_mem_cons.mpr ⟨lw_at lw_m8 106 rfl, List.forall_mem_cons.mpr ⟨lw_at lw_m8 117 rfl, List.forall_mem_cons.mpr ⟨lw_at lw_m8 134 rfl, List.forall_mem_cons.mpr ⟨lw_at lw_m8 164 rfl, List.forall_mem_cons.mpr ⟨lw_at lw_m8 223 rfl, List.forall_mem_cons.mpr ⟨lw_at lw_m8 234 rfl, List.forall_mem_cons.mpr ⟨lw_at lw_m9 26 rfl, List.forall_mem_cons.mpr ⟨lw_at lw_m9 48 rfl, List.forall_mem_cons.mpr ⟨lw_at lw_m9 70 rfl, List.forall_mem_cons.mpr ⟨lw_at lw_m9 81 rfl, List.forall_mem_cons.mpr ⟨lw_at lw_m9 125 rfl, List.forall_mem_cons.mpr ⟨lw_at lw_m9 166 rfl, List.forall_mem_cons.mpr ⟨lw_at lw_m9 177 rfl, List.forall_mem_cons.mpr ⟨lw_at lw_m9 189 rfl, List.forall_mem_cons.mpr ⟨lw_at lw_m9 200 rfl, List.forall_mem_cons.mpr ⟨lw_at lw_m9 215 rfl, List.forall_mem_cons.mpr ⟨lw_at lw_m9 231 rfl, List.forall_mem_cons.mpr ⟨lw_at lw_m10 8 rfl, List.forall_mem_cons.mpr ⟨lw_at lw_m10 44 rfl, List.forall_mem_cons.mpr ⟨lw_at lw_m10 60 rfl, List.forall_mem_cons.mpr ⟨lw_at lw_m10 74 rfl, List.forall_mem_cons.mpr ⟨lw_at lw_m10 85 rfl, List.forall_mem_cons.mpr ⟨lw_at lw_m10 146 rfl, List.forall_mem_cons.mpr ⟨lw_at lw_m10 157 rfl, List.forall_mem_cons.mpr ⟨lw_at lw_m10 168 rfl, List.forall_mem_cons.mpr ⟨lw_at lw_m10 179 rfl, List.forall_mem_cons.mpr ⟨lw_at lw_m10 212 rfl, List.forall_mem_cons.mpr ⟨lw_at lw_m10 223 rfl, List.forall_mem_cons.mpr ⟨lw_at lw_m11 44 rfl, List.forall_mem_cons.mpr ⟨lw_at lw_m11 55 rfl, List.forall_mem_cons.mpr ⟨lw_at lw_m11 70 rfl, List.forall_mem_cons.mpr ⟨lw_at lw_m11 110 rfl, List.forall_mem_cons.mpr ⟨lw_at lw_m11 121 rfl, List.forall_mem_cons.mpr ⟨lw_at lw_m11 136 rfl, List.forall_mem_cons.mpr ⟨lw_at lw_m11 156 rfl, List.forall_mem_cons.mpr ⟨lw_at lw_m11 167 rfl, List.forall_mem_cons.mpr ⟨lw_at lw_m11 182 rfl, List.forall_mem_cons.mpr ⟨lw_at lw_m11 199 rfl, List.forall_mem_cons.mpr ⟨lw_at lw_m12 42 rfl, List.forall_mem_cons.mpr ⟨lw_at lw_m12 57 rfl, List.forall_mem_cons.mpr ⟨lw_at lw_m12 73 rfl, List.forall_mem_cons.mpr ⟨lw_at lw_m12 84 rfl, List.forall_mem_cons.mpr ⟨lw_at lw_m12 95 rfl, List.forall_mem_cons.mpr ⟨lw_at lw_m1 43 rfl, List.forall_mem_cons.mpr ⟨lw_at lw_m12 132 rfl, List.forall_mem_cons.mpr ⟨lw_at lw_m4 52 rfl, List.forall_mem_cons.mpr ⟨lw_at lw_m17 178 rfl, List.forall_mem_cons.mpr ⟨lw_at lw_m14 170 rfl, List.forall_mem_cons.mpr ⟨lw_at lw_m4 143 rfl, List.forall_mem_cons.mpr ⟨lw_at lw_m17 190 rfl, List.forall_mem_cons.mpr ⟨lw_at lw_m4 177 rfl, List.forall_mem_cons.mpr ⟨lw_at lw_m17 194 rfl, List.forall_mem_cons.mpr ⟨lw_at lw_m5 50 rfl, List.forall_mem_cons.mpr ⟨lw_at lw_m17 198 rfl, List.forall_mem_cons.mpr ⟨lw_at lw_m5 209 rfl, List.forall_mem_cons.mpr ⟨lw_at lw_m14 174 rfl, List.forall_mem_cons.mpr ⟨lw_at lw_m6 3 rfl, List.forall_mem_cons.mpr ⟨lw_at lw_m14 213 rfl, List.forall_mem_cons.mpr ⟨lw_at lw_m6 20 rfl, List.forall_mem_cons.mpr ⟨lw_at lw_m17 202 rfl, List.forall_mem_cons.mpr ⟨lw_at lw_m6 36 rfl, List.forall_mem_cons.mpr ⟨lw_at lw_m14 185 rfl, List.forall_mem_cons.mpr ⟨lw_at lw_m6 49 rfl, List.forall_mem_cons.mpr ⟨lw_at lw_m17 206 rfl, List.forall_mem_cons.mpr ⟨lw_at lw_m6 72 rfl, List.forall_mem_cons.mpr ⟨lw_at lw_m17 210 rfl, List.forall_mem_cons.mpr ⟨lw_at lw_m6 209 rfl, List.forall_mem_cons.mpr ⟨lw_at lw_m17 214 rfl, List.forall_mem_cons.mpr ⟨lw_at lw_m6 224 rfl, List.forall_mem_cons.mpr ⟨lw_at lw_m17 218 rfl, List.forall_mem_cons.mpr ⟨lw_at lw_m7 12 rfl, List.forall_mem_cons.mpr ⟨lw_at lw_m14 225 rfl, List.forall_mem_cons.mpr ⟨lw_at lw_m7 23 rfl, List.forall_mem_cons.mpr ⟨lw_at lw_m15 9 rfl, List.forall_mem_cons.mpr ⟨lw_at lw_m7 34 rfl, List.forall_mem_cons.mpr ⟨lw_at lw_m17 222 rfl, List.forall_mem_cons.mpr ⟨lw_at lw_m7 45 rfl, List.forall_mem_cons.mpr ⟨lw_at lw_m15 13 rfl, List.forall_mem_cons.mpr ⟨lw_at lw_m7 60 rfl, List.forall_mem_cons.mpr ⟨lw_at lw_m15 17 rfl, List.forall_mem_cons.mpr ⟨lw_at lw_m7 75 rfl, List.forall_mem_cons.mpr ⟨lw_at lw_m17 226 rfl, List.forall_mem_cons.mpr ⟨lw_at lw_m7 138 rfl, List.forall_mem_cons.mpr ⟨lw_at lw_m17 230 rfl, List.forall_mem_cons.mpr ⟨lw_at lw_m7 177 rfl, List.forall_mem_cons.mpr ⟨lw_at lw_m17 234 rfl, List.forall_mem_cons.mpr ⟨lw_at lw_m7 237 rfl, List.forall_mem_cons.mpr ⟨lw_at lw_m17 238 rfl, List.forall_mem_cons.mpr ⟨lw_at lw_m8 8 rfl, List.forall_mem_cons.mpr ⟨lw_at lw_m15 21 rfl, List.forall_mem_cons.mpr ⟨lw_at lw_m8 19 rfl, List.forall_mem_cons.mpr ⟨lw_at lw_m15 33 rfl, List.forall_mem_cons.mpr ⟨lw_at lw_m8 30 rfl, List.forall_mem_cons.mpr ⟨lw_at lw_m15 45 rfl, List.forall_mem_cons.mpr ⟨lw_at lw_m8 103 rfl, List.forall_mem_cons.mpr ⟨lw_at lw_m15 90 rfl, List.forall_mem_cons.mpr ⟨lw_at lw_m8 114 rfl, List.forall_mem_cons.mpr ⟨lw_at lw_m18 2 rfl, List.forall_mem_cons.mpr ⟨lw_at lw_m8 131 rfl, List.forall_mem_cons.mpr ⟨lw_at lw_m18 6 rfl, List.forall_mem_cons.mpr ⟨lw_at lw_m8 161 rfl, List.forall_mem_cons.mpr ⟨lw_at lw_m18 10 rfl, List.forall_mem_cons.mpr ⟨lw_at lw_m8 220 rfl, List.forall_mem_cons.mpr ⟨lw_at lw_m15 94 rfl, List.forall_mem_cons.mpr ⟨lw_at lw_m8 231 rfl, List.forall_mem_cons.mpr ⟨lw_at lw_m18 14 rfl, List.forall_mem_cons.mpr ⟨lw_at lw_m9 23 rfl, List.forall_mem_cons.mpr ⟨lw_at lw_m18 18 rfl, List.forall_mem_cons.mpr ⟨lw_at lw_m9 45 rfl, List.forall_mem_cons.mpr ⟨lw_at lw_m18 22 rfl, List.forall_mem_cons.mpr ⟨lw_at lw_m9 67 rfl, List.forall_mem_cons.mpr ⟨lw_at lw_m18 26 rfl, List.forall_mem_cons.mpr ⟨lw_at lw_m9 78 rfl, List.forall_mem_cons.mpr ⟨lw_at lw_m18 30 rfl, List.forall_mem_cons.mpr ⟨lw_at lw_m9 122 rfl, List.forall_mem_cons.mpr ⟨lw_at lw_m18 34 rfl, List.forall_mem_cons.mpr ⟨lw_at lw_m9 163 rfl, List.forall_mem_cons.mpr ⟨lw_at lw_m18 38 rfl, List.forall_mem_cons.mpr ⟨lw_at lw_m9 174 rfl, List.forall_mem_cons.mpr ⟨lw_at lw_m15 98 rfl, List.forall_mem_cons.mpr ⟨lw_at lw_m9 186 rfl, List.forall_mem_cons.mpr ⟨lw_at lw_m18 42 rfl, List.forall_mem_cons.mpr ⟨lw_at lw_m9 197 rfl, List.forall_mem_cons.mpr ⟨lw_at lw_m15 106 rfl, List.forall_mem_cons.mpr ⟨lw_at lw_m9 212 rfl, List.forall_mem_cons.mpr ⟨lw_at lw_m18 46 rfl, List.forall_mem_cons.mpr ⟨lw_at lw_m9 228 rfl, List.forall_mem_cons.mpr ⟨lw_at lw_m15 114 rfl, List.forall_mem_cons.mpr ⟨lw_at lw_m10 5 rfl, List.forall_mem_cons.mpr ⟨lw_at lw_m18 50 rfl, List.forall_mem_cons.mpr ⟨lw_at lw_m10 41 rfl, List.forall_mem_cons.mpr ⟨lw_at lw_m15 142 rfl, List.forall_mem_cons.mpr ⟨lw_at lw_m10 57 rfl, List.forall_mem_cons.mpr ⟨lw_at lw_m18 54 rfl, List.forall_mem_cons.mpr ⟨lw_at lw_m10 71 rfl, List.forall_mem_cons.mpr ⟨lw_at lw_m18 58 rfl, List.forall_mem_cons.mpr ⟨lw_at lw_m10 82 rfl, List.forall_mem_cons.mpr ⟨lw_at lw_m18 62 rfl, List.forall_mem_cons.mpr ⟨lw_at lw_m10 143 rfl, List.forall_mem_cons.mpr ⟨lw_at lw_m15 146 rfl, List.forall_mem_cons.mpr ⟨lw_at lw_m10 154 rfl, List.forall_mem_cons.mpr ⟨lw_at lw_m18 66 rfl, List.forall_mem_cons.mpr ⟨lw_at lw_m10 165 rfl, List.forall_mem_cons.mpr ⟨lw_at lw_m15 150 rfl, List.forall_mem_cons.mpr ⟨lw_at lw_m10 176 rfl, List.forall_mem_cons.mpr ⟨lw_at lw_m18 70 rfl, List.forall_mem_cons.mpr ⟨lw_at lw_m10 209 rfl, List.forall_mem_cons.mpr ⟨lw_at lw_m18 74 rfl, List.forall_mem_cons.mpr ⟨lw_at lw_m10 220 rfl, List.forall_mem_cons.mpr ⟨lw_at lw_m15 154 rfl, List.forall_mem_cons.mpr ⟨lw_at lw_m11 41 rfl, List.forall_mem_cons.mpr ⟨lw_at lw_m15 174 rfl, List.forall_mem_cons.mpr ⟨lw_at lw_m11 52 rfl, List.forall_mem_cons.mpr ⟨lw_at lw_m15 178 rfl, List.forall_mem_cons.mpr ⟨lw_at lw_m11 67 rfl, List.forall_mem_cons.mpr ⟨lw_at lw_m18 78 rfl, List.forall_mem_cons.mpr ⟨lw_at lw_m11 107 rfl, List.forall_mem_cons.mpr ⟨lw_at lw_m15 182 rfl, List.forall_mem_cons.mpr ⟨lw_at lw_m11 118 rfl, List.forall_mem_cons.mpr ⟨lw_at lw_m18 102 rfl, List.forall_mem_cons.mpr ⟨lw_at lw_m11 133 rfl, List.forall_mem_cons.mpr ⟨lw_at lw_m18 82 rfl, List.forall_mem_cons.mpr ⟨lw_at lw_m11 153 rfl, List.forall_mem_cons.mpr ⟨lw_at lw_m15 122 rfl, List.forall_mem_cons.mpr ⟨lw_at lw_m11 164 rfl, List.forall_mem_cons.mpr ⟨lw_at lw_m15 130 rfl, List.forall_mem_cons.mpr ⟨lw_at lw_m11 179 rfl, List.forall_mem_cons.mpr ⟨lw_at lw_m18 86 rfl, List.forall_mem_cons.mpr ⟨lw_at lw_m11 196 rfl, List.forall_mem_cons.mpr ⟨lw_at lw_m18 90 rfl, List.forall_mem_cons.mpr ⟨lw_at lw_m12 39 rfl, List.forall_mem_cons.mpr ⟨lw_at lw_m18 94 rfl, List.forall_mem_cons.mpr ⟨lw_at lw_m12 54 rfl, List.forall_mem_cons.mpr ⟨lw_at lw_m18 98 rfl, List.forall_mem_cons.mpr ⟨lw_at lw_m12 70 rfl, List.forall_mem_cons.mpr ⟨lw_at lw_m15 190 rfl, List.forall_mem_cons.mpr ⟨lw_at lw_m12 81 rfl, List.forall_mem_cons.mpr ⟨lw_at lw_m15 198 rfl, List.forall_mem_cons.mpr ⟨lw_at lw_m4 16 rfl, List.forall_mem_cons.mpr ⟨lw_at lw_m15 209 rfl, List.forall_mem_cons.mpr ⟨lw_at lw_m3 237 rfl, List.forall_mem_cons.mpr ⟨lw_at lw_m15 218 rfl, List.forall_mem_cons.mpr ⟨lw_at lw_m12 92 rfl, List.forall_mem_cons.mpr ⟨lw_at lw_m15 222 rfl, List.forall_mem_cons.mpr ⟨lw_at lw_m4 8 rfl, List.forall_mem_cons.mpr ⟨lw_at lw_m17 174 rfl, List.forall_mem_cons.mpr ⟨lw_at lw_m4 40 rfl, List.forall_mem_cons.mpr ⟨lw_at lw_m18 106 rfl, fun e h => by cases h⟩⟩⟩⟩⟩⟩⟩⟩⟩⟩⟩⟩⟩⟩⟩⟩⟩⟩⟩⟩⟩⟩⟩⟩⟩⟩⟩⟩⟩⟩⟩⟩⟩⟩⟩⟩⟩⟩⟩⟩⟩⟩⟩⟩⟩⟩⟩⟩⟩⟩⟩⟩⟩⟩⟩⟩⟩⟩⟩⟩⟩⟩⟩⟩⟩⟩⟩⟩⟩⟩⟩⟩⟩⟩⟩⟩⟩⟩⟩⟩⟩⟩⟩⟩⟩⟩⟩⟩⟩⟩⟩⟩⟩⟩⟩⟩⟩⟩⟩⟩⟩⟩⟩⟩⟩⟩⟩⟩⟩⟩⟩⟩⟩⟩⟩⟩⟩⟩⟩⟩⟩⟩⟩⟩⟩⟩⟩⟩⟩⟩⟩⟩⟩⟩⟩⟩⟩⟩⟩⟩⟩⟩⟩⟩⟩⟩⟩⟩⟩⟩⟩⟩⟩⟩⟩⟩⟩⟩⟩⟩⟩⟩⟩⟩⟩⟩⟩⟩⟩⟩⟩⟩⟩⟩⟩⟩⟩⟩⟩⟩⟩⟩⟩⟩⟩⟩⟩⟩⟩⟩⟩⟩⟩⟩⟩⟩⟩⟩⟩⟩⟩⟩⟩⟩⟩⟩⟩⟩⟩⟩⟩⟩
def mlkL1 : List (Nat × Nat × Nat) := [(40, 1, 354), (51, 2, 2), (58, 2, 3), (63, 1, 33), (67, 1, 34), (71, 1, 72), (75, 1, 71), (79, 1, 67), (83, 1, 44), (87, 1, 43), (91, 1, 39), (94, 1, 68), (98, 1, 50), (101, 1, 48), (104, 1, 36), (107, 1, 74), (110, 1, 158), (113, 1, 147), (117, 1, 132), (120, 1, 131), (123, 1, 130), (127, 1, 128), (130, 1, 121), (133, 1, 119), (136, 1, 117), (139, 1, 106), (142, 1, 104), (145, 1, 103), (149, 1, 97), (152, 1, 96), (155, 1, 94), (158, 1, 79), (161, 1, 78), (164, 1, 75), (168, 1, 159), (171, 1, 207), (174, 1, 206), (177, 1, 202), (180, 1, 190), (183, 1, 182), (186, 1, 181), (189, 1, 175), (192, 1, 172), (195, 1, 165), (198, 1, 164), (201, 1, 160), (204, 1, 212), (211, 1, 35), (212, 1, 23), (215, 1, 28), (223, 1, 29), (230, 1, 30), (233, 1, 31), (234, 1, 32), (240, 1, 24), (243, 1, 369), (247, 1, 368), (251, 1, 615), (253, 1, 611), (256, 1, 604), (259, 1, 588), (262, 1, 584), (265, 1, 577), (268, 1, 572), (271, 1, 556), (274, 1, 551), (277, 1, 545), (280, 1, 541), (283, 1, 528), (286, 1, 503), (289, 1, 496), (292, 1, 489), (295, 1, 482), (298, 1, 469), (301, 1, 462), (304, 1, 414), (307, 1, 410), (310, 1, 405), (313, 1, 398), (316, 1, 388), (319, 1, 384), (323, 1, 364), (326, 1, 360), (329, 1, 353), (332, 1, 19)]
theorem mlkL1_ok : ∀ e ∈ mlkL1, wokL 1 e := List.forall_mem_cons.mpr ⟨lw_at lw_m4 39 rfl, List.forall_mem_cons.mpr ⟨lw_at lw_m1 51 rfl, List.forall_mem_cons.mpr ⟨lw_at lw_m1 72 rfl, List.forall_mem_cons.mpr ⟨lw_at lw_m12 109 rfl, List.forall_mem_cons.mpr ⟨lw_at lw_m12 114 rfl, List.forall_mem_cons.mpr ⟨lw_at lw_m4 60 rfl, List.forall_mem_cons.mpr ⟨lw_at lw_m6 27 rfl, List.forall_mem_cons.mpr ⟨lw_at lw_m6 216 rfl, List.forall_mem_cons.mpr ⟨lw_at lw_m8 4 rfl, List.forall_mem_cons.mpr ⟨lw_at lw_m9 193 rfl, List.forall_mem_cons.mpr ⟨lw_at lw_m10 161 rfl, List.forall_mem_cons.mpr ⟨lw_at lw_m6 79 rfl, List.forall_mem_cons.mpr ⟨lw_at lw_m6 231 rfl, List.forall_mem_cons.mpr ⟨lw_at lw_m7 145 rfl, List.forall_mem_cons.mpr ⟨lw_at lw_m11 140 rfl, List.forall_mem_cons.mpr ⟨lw_at lw_m12 122 rfl, List.forall_mem_cons.mpr ⟨lw_at lw_m4 151 rfl, List.forall_mem_cons.mpr ⟨lw_at lw_m4 184 rfl, List.forall_mem_cons.mpr ⟨lw_at lw_m5 58 rfl, List.forall_mem_cons.mpr ⟨lw_at lw_m6 56 rfl, List.forall_mem_cons.mpr ⟨lw_at lw_m7 41 rfl, List.forall_mem_cons.mpr ⟨lw_at lw_m7 82 rfl, List.forall_mem_cons.mpr ⟨lw_at lw_m7 184 rfl, List.forall_mem_cons.mpr ⟨lw_at lw_m8 121 rfl, List.forall_mem_cons.mpr ⟨lw_at lw_m8 138 rfl, List.forall_mem_cons.mpr ⟨lw_at lw_m8 168 rfl, List.forall_mem_cons.mpr ⟨lw_at lw_m8 238 rfl, List.forall_mem_cons.mpr ⟨lw_at lw_m9 30 rfl, List.forall_mem_cons.mpr ⟨lw_at lw_m9 52 rfl, List.forall_mem_cons.mpr ⟨lw_at lw_m9 74 rfl, List.forall_mem_cons.mpr ⟨lw_at lw_m9 85 rfl, List.forall_mem_cons.mpr ⟨lw_at lw_m9 129 rfl, List.forall_mem_cons.mpr ⟨lw_at lw_m9 170 rfl, List.forall_mem_cons.mpr ⟨lw_at lw_m9 219 rfl, List.forall_mem_cons.mpr ⟨lw_at lw_m12 126 rfl, List.forall_mem_cons.mpr ⟨lw_at lw_m10 12 rfl, List.forall_mem_cons.mpr ⟨lw_at lw_m10 64 rfl, List.forall_mem_cons.mpr ⟨lw_at lw_m10 78 rfl, List.forall_mem_cons.mpr ⟨lw_at lw_m10 89 rfl, List.forall_mem_cons.mpr ⟨lw_at lw_m10 183 rfl, List.forall_mem_cons.mpr ⟨lw_at lw_m10 216 rfl, List.forall_mem_cons.mpr ⟨lw_at lw_m11 74 rfl, List.forall_mem_cons.mpr ⟨lw_at lw_m11 186 rfl, List.forall_mem_cons.mpr ⟨lw_at lw_m11 203 rfl, List.forall_mem_cons.mpr ⟨lw_at lw_m12 46 rfl, List.forall_mem_cons.mpr ⟨lw_at lw_m12 61 rfl, List.forall_mem_cons.mpr ⟨lw_at lw_m11 125 rfl, List.forall_mem_cons.mpr ⟨lw_at lw_m12 118 rfl, List.forall_mem_cons.mpr ⟨lw_at lw_m4 1 rfl, List.forall_mem_cons.mpr ⟨lw_at lw_m4 5 rfl, List.forall_mem_cons.mpr ⟨lw_at lw_m12 99 rfl, List.forall_mem_cons.mpr ⟨lw_at lw_m12 100 rfl, List.forall_mem_cons.mpr ⟨lw_at lw_m12 101 rfl, List.forall_mem_cons.mpr ⟨lw_at lw_m12 105 rfl, List.forall_mem_cons.mpr ⟨lw_at lw_m4 12 rfl, List.forall_mem_cons.mpr ⟨lw_at lw_m4 136 rfl, List.forall_mem_cons.mpr ⟨lw_at lw_m4 173 rfl, List.forall_mem_cons.mpr ⟨lw_at lw_m5 217 rfl, List.forall_mem_cons.mpr ⟨lw_at lw_m6 10 rfl, List.forall_mem_cons.mpr ⟨lw_at lw_m6 43 rfl, List.forall_mem_cons.mpr ⟨lw_at lw_m7 19 rfl, List.forall_mem_cons.mpr ⟨lw_at lw_m7 30 rfl, List.forall_mem_cons.mpr ⟨lw_at lw_m7 52 rfl, List.forall_mem_cons.mpr ⟨lw_at lw_m7 67 rfl, List.forall_mem_cons.mpr ⟨lw_at lw_m8 15 rfl, List.forall_mem_cons.mpr ⟨lw_at lw_m8 26 rfl, List.forall_mem_cons.mpr ⟨lw_at lw_m8 37 rfl, List.forall_mem_cons.mpr ⟨lw_at lw_m8 110 rfl, List.forall_mem_cons.mpr ⟨lw_at lw_m8 227 rfl, List.forall_mem_cons.mpr ⟨lw_at lw_m9 181 rfl, List.forall_mem_cons.mpr ⟨lw_at lw_m9 204 rfl, List.forall_mem_cons.mpr ⟨lw_at lw_m9 235 rfl, List.forall_mem_cons.mpr ⟨lw_at lw_m10 48 rfl, List.forall_mem_cons.mpr ⟨lw_at lw_m10 150 rfl, List.forall_mem_cons.mpr ⟨lw_at lw_m10 172 rfl, List.forall_mem_cons.mpr ⟨lw_at lw_m10 227 rfl, List.forall_mem_cons.mpr ⟨lw_at lw_m11 48 rfl, List.forall_mem_cons.mpr ⟨lw_at lw_m11 59 rfl, List.forall_mem_cons.mpr ⟨lw_at lw_m11 114 rfl, List.forall_mem_cons.mpr ⟨lw_at lw_m11 160 rfl, List.forall_mem_cons.mpr ⟨lw_at lw_m11 171 rfl, List.forall_mem_cons.mpr ⟨lw_at lw_m12 77 rfl, List.forall_mem_cons.mpr ⟨lw_at lw_m12 88 rfl, List.forall_mem_cons.mpr ⟨lw_at lw_m4 20 rfl, List.forall_mem_cons.mpr ⟨lw_at lw_m4 44 rfl, fun e h => by cases h⟩⟩⟩⟩⟩⟩⟩⟩⟩⟩⟩⟩⟩⟩⟩⟩⟩⟩⟩⟩⟩⟩⟩⟩⟩⟩⟩⟩⟩⟩⟩⟩⟩⟩⟩⟩⟩⟩⟩⟩⟩⟩⟩⟩⟩⟩⟩⟩⟩⟩⟩⟩⟩⟩⟩⟩⟩⟩⟩⟩⟩⟩⟩⟩⟩⟩⟩⟩⟩⟩⟩⟩⟩⟩⟩⟩⟩⟩⟩⟩⟩⟩⟩⟩⟩
def mlkL2 : List (Nat × Nat × Nat) := [(22, 1, 23)]
theorem mlkL2_ok : ∀ e ∈ mlkL2, wokL 2 e := List.forall_mem_cons.mpr ⟨lw_at lw_m4 140 rfl, fun e h => by cases h⟩
def mlkL3 : List (Nat × Nat × Nat) := [(11, 2, 4), (20, 2, 5), (27, 2, 6), (34, 2, 7), (41, 2, 8), (48, 2, 9), (79, 2, 10), (86, 2, 11), (93, 1, 12), (100, 2, 14), (107, 2, 15), (114, 2, 16), (146, 2, 30), (150, 1, 73), (154, 2, 28), (158, 2, 29), (161, 1, 148), (165, 1, 20), (169, 2, 47), (172, 1, 133), (174, 2, 41), (185, 1, 40), (203, 1, 42), (248, 1, 66), (252, 1, 81), (256, 1, 145), (263, 1, 62), (271, 1, 64), (275, 1, 63), (295, 1, 57), (303, 1, 58), (306, 1, 53), (309, 1, 69), (316, 1, 70), (319, 1, 59), (323, 1, 56), (327, 1, 51), (338, 1, 52), (341, 1, 54), (344, 1, 55), (347, 1, 65), (351, 1, 61), (368, 1, 552), (374, 1, 573), (378, 1, 129), (381, 1, 45), (391, 1, 46), (404, 1, 49), (410, 1, 124), (414, 1, 125), (421, 1, 122), (431, 1, 123), (435, 1, 126), (450, 1, 127), (473, 1, 417), (477, 1, 418), (493, 1, 120), (506, 1, 118), (507, 1, 107), (529, 1, 105), (532, 1, 98), (540, 1, 100), (555, 1, 99), (562, 1, 86), (568, 1, 95), (569, 1, 80), (573, 1, 82), (576, 1, 83), (580, 1, 85), (583, 1, 77), (587, 1, 76), (602, 1, 208), (606, 1, 209), (609, 1, 210), (613, 1, 203), (617, 1, 211), (621, 1, 204), (625, 1, 205), (629, 1, 187), (635, 1, 191), (639, 1, 192), (643, 1, 193), (650, 1, 194), (654, 1, 195), (656, 1, 201), (664, 1, 189), (692, 1, 183), (695, 1, 184), (699, 1, 185), (702, 1, 186), (706, 1, 188), (712, 1, 415), (715, 1, 416), (718, 1, 433), (740, 1, 406), (743, 1, 176), (744, 1, 163), (747, 1, 213), (750, 1, 37), (758, 1, 174), (768, 1, 173), (771, 1, 166), (779, 1, 161), (799, 1, 162), (804, 2, 355), (814, 2, 354)]
theorem mlkL3_ok : ∀ e ∈ mlkL3, wokL 3 e := List.forall_mem_cons.mpr ⟨lw_at lw_m1 78 rfl, List.forall_mem_cons.mpr ⟨lw_at lw_m1 106 rfl, List.forall_mem_cons.mpr ⟨lw_at lw_m1 164 rfl, List.forall_mem_cons.mpr ⟨lw_at lw_m1 204 rfl, List.forall_mem_cons.mpr ⟨lw_at lw_m2 5 rfl, List.forall_mem_cons.mpr ⟨lw_at lw_m2 57 rfl, List.forall_mem_cons.mpr ⟨lw_at lw_m2 96 rfl, List.forall_mem_cons.mpr ⟨lw_at lw_m2 126 rfl, List.forall_mem_cons.mpr ⟨lw_at lw_m2 184 rfl, List.forall_mem_cons.mpr ⟨lw_at lw_m3 18 rfl, List.forall_mem_cons.mpr ⟨lw_at lw_m3 78 rfl, List.forall_mem_cons.mpr ⟨lw_at lw_m3 101 rfl, List.forall_mem_cons.mpr ⟨lw_at lw_m4 64 rfl, List.forall_mem_cons.mpr ⟨lw_at lw_m4 132 rfl, List.forall_mem_cons.mpr ⟨lw_at lw_m4 32 rfl, List.forall_mem_cons.mpr ⟨lw_at lw_m4 155 rfl, List.forall_mem_cons.mpr ⟨lw_at lw_m4 188 rfl, List.forall_mem_cons.mpr ⟨lw_at lw_m4 48 rfl, List.forall_mem_cons.mpr ⟨lw_at lw_m5 62 rfl, List.forall_mem_cons.mpr ⟨lw_at lw_m5 80 rfl, List.forall_mem_cons.mpr ⟨lw_at lw_m5 225 rfl, List.forall_mem_cons.mpr ⟨lw_at lw_m6 14 rfl, List.forall_mem_cons.mpr ⟨lw_at lw_m5 221 rfl, List.forall_mem_cons.mpr ⟨lw_at lw_m6 32 rfl, List.forall_mem_cons.mpr ⟨lw_at lw_m6 47 rfl, List.forall_mem_cons.mpr ⟨lw_at lw_m6 48 rfl, List.forall_mem_cons.mpr ⟨lw_at lw_m6 60 rfl, List.forall_mem_cons.mpr ⟨lw_at lw_m6 68 rfl, List.forall_mem_cons.mpr ⟨lw_at lw_m6 64 rfl, List.forall_mem_cons.mpr ⟨lw_at lw_m6 179 rfl, List.forall_mem_cons.mpr ⟨lw_at lw_m6 184 rfl, List.forall_mem_cons.mpr ⟨lw_at lw_m6 83 rfl, List.forall_mem_cons.mpr ⟨lw_at lw_m6 87 rfl, List.forall_mem_cons.mpr ⟨lw_at lw_m6 92 rfl, List.forall_mem_cons.mpr ⟨lw_at lw_m6 131 rfl, List.forall_mem_cons.mpr ⟨lw_at lw_m6 175 rfl, List.forall_mem_cons.mpr ⟨lw_at lw_m6 220 rfl, List.forall_mem_cons.mpr ⟨lw_at lw_m6 235 rfl, List.forall_mem_cons.mpr ⟨lw_at lw_m6 239 rfl, List.forall_mem_cons.mpr ⟨lw_at lw_m7 0 rfl, List.forall_mem_cons.mpr ⟨lw_at lw_m7 4 rfl, List.forall_mem_cons.mpr ⟨lw_at lw_m7 8 rfl, List.forall_mem_cons.mpr ⟨lw_at lw_m7 56 rfl, List.forall_mem_cons.mpr ⟨lw_at lw_m7 71 rfl, List.forall_mem_cons.mpr ⟨lw_at lw_m7 87 rfl, List.forall_mem_cons.mpr ⟨lw_at lw_m7 149 rfl, List.forall_mem_cons.mpr ⟨lw_at lw_m7 154 rfl, List.forall_mem_cons.mpr ⟨lw_at lw_m7 160 rfl, List.forall_mem_cons.mpr ⟨lw_at lw_m7 196 rfl, List.forall_mem_cons.mpr ⟨lw_at lw_m7 200 rfl, List.forall_mem_cons.mpr ⟨lw_at lw_m7 188 rfl, List.forall_mem_cons.mpr ⟨lw_at lw_m7 192 rfl, List.forall_mem_cons.mpr ⟨lw_at lw_m7 204 rfl, List.forall_mem_cons.mpr ⟨lw_at lw_m7 212 rfl, List.forall_mem_cons.mpr ⟨lw_at lw_m8 41 rfl, List.forall_mem_cons.mpr ⟨lw_at lw_m8 45 rfl, List.forall_mem_cons.mpr ⟨lw_at lw_m8 127 rfl, List.forall_mem_cons.mpr ⟨lw_at lw_m8 146 rfl, List.forall_mem_cons.mpr ⟨lw_at lw_m8 172 rfl, List.forall_mem_cons.mpr ⟨lw_at lw_m9 4 rfl, List.forall_mem_cons.mpr ⟨lw_at lw_m9 34 rfl, List.forall_mem_cons.mpr ⟨lw_at lw_m9 38 rfl, List.forall_mem_cons.mpr ⟨lw_at lw_m9 58 rfl, List.forall_mem_cons.mpr ⟨lw_at lw_m9 89 rfl, List.forall_mem_cons.mpr ⟨lw_at lw_m9 103 rfl, List.forall_mem_cons.mpr ⟨lw_at lw_m9 133 rfl, List.forall_mem_cons.mpr ⟨lw_at lw_m9 137 rfl, List.forall_mem_cons.mpr ⟨lw_at lw_m9 138 rfl, List.forall_mem_cons.mpr ⟨lw_at lw_m9 185 rfl, List.forall_mem_cons.mpr ⟨lw_at lw_m9 208 rfl, List.forall_mem_cons.mpr ⟨lw_at lw_m9 223 rfl, List.forall_mem_cons.mpr ⟨lw_at lw_m10 16 rfl, List.forall_mem_cons.mpr ⟨lw_at lw_m10 28 rfl, List.forall_mem_cons.mpr ⟨lw_at lw_m10 32 rfl, List.forall_mem_cons.mpr ⟨lw_at lw_m10 36 rfl, List.forall_mem_cons.mpr ⟨lw_at lw_m10 37 rfl, List.forall_mem_cons.mpr ⟨lw_at lw_m10 52 rfl, List.forall_mem_cons.mpr ⟨lw_at lw_m10 53 rfl, List.forall_mem_cons.mpr ⟨lw_at lw_m10 68 rfl, List.forall_mem_cons.mpr ⟨lw_at lw_m10 93 rfl, List.forall_mem_cons.mpr ⟨lw_at lw_m10 97 rfl, List.forall_mem_cons.mpr ⟨lw_at lw_m10 101 rfl, List.forall_mem_cons.mpr ⟨lw_at lw_m10 105 rfl, List.forall_mem_cons.mpr ⟨lw_at lw_m10 109 rfl, List.forall_mem_cons.mpr ⟨lw_at lw_m10 135 rfl, List.forall_mem_cons.mpr ⟨lw_at lw_m10 139 rfl, List.forall_mem_cons.mpr ⟨lw_at lw_m10 187 rfl, List.forall_mem_cons.mpr ⟨lw_at lw_m10 191 rfl, List.forall_mem_cons.mpr ⟨lw_at lw_m10 195 rfl, List.forall_mem_cons.mpr ⟨lw_at lw_m10 199 rfl, List.forall_mem_cons.mpr ⟨lw_at lw_m10 204 rfl, List.forall_mem_cons.mpr ⟨lw_at lw_m10 231 rfl, List.forall_mem_cons.mpr ⟨lw_at lw_m10 235 rfl, List.forall_mem_cons.mpr ⟨lw_at lw_m11 5 rfl, List.forall_mem_cons.mpr ⟨lw_at lw_m11 63 rfl, List.forall_mem_cons.mpr ⟨lw_at lw_m11 78 rfl, List.forall_mem_cons.mpr ⟨lw_at lw_m11 129 rfl, List.forall_mem_cons.mpr ⟨lw_at lw_m11 132 rfl, List.forall_mem_cons.mpr ⟨lw_at lw_m11 144 rfl, List.forall_mem_cons.mpr ⟨lw_at lw_m11 175 rfl, List.forall_mem_cons.mpr ⟨lw_at lw_m11 190 rfl, List.forall_mem_cons.mpr ⟨lw_at lw_m11 207 rfl, List.forall_mem_cons.mpr ⟨lw_at lw_m12 50 rfl, List.forall_mem_cons.mpr ⟨lw_at lw_m12 65 rfl, List.forall_mem_cons.mpr ⟨lw_at lw_m4 33 rfl, List.forall_mem_cons.mpr ⟨lw_at lw_m4 27 rfl, fun e h => by cases h⟩⟩⟩⟩⟩⟩⟩⟩⟩⟩⟩⟩⟩⟩⟩⟩⟩⟩⟩⟩⟩⟩⟩⟩⟩⟩⟩⟩⟩⟩⟩⟩⟩⟩⟩⟩⟩⟩⟩⟩⟩⟩⟩⟩⟩⟩⟩⟩⟩⟩⟩⟩⟩⟩⟩⟩⟩⟩⟩⟩⟩⟩⟩⟩⟩⟩⟩⟩⟩⟩⟩⟩⟩⟩⟩⟩⟩⟩⟩⟩⟩⟩⟩⟩⟩⟩⟩⟩⟩⟩⟩⟩⟩⟩⟩⟩⟩⟩⟩⟩⟩⟩⟩⟩⟩⟩
def mlkL4 : List (Nat × Nat × Nat) := [(25, 1, 139), (29, 1, 137), (33, 2, 28)]
theorem mlkL4_ok : ∀ e ∈ mlkL4, wokL 4 e := List.forall_mem_cons.mpr ⟨lw_at lw_m4 213 rfl, List.forall_mem_cons.mpr ⟨lw_at lw_m4 214 rfl, List.forall_mem_cons.mpr ⟨lw_at lw_m4 237 rfl, fun e h => by cases h⟩⟩⟩
def mlkL5 : List (Nat × Nat × Nat) := [(65, 1, 139), (69, 2, 28), (73, 1, 137), (80, 1, 155), (84, 1, 152), (87, 1, 153), (91, 1, 151), (95, 1, 154), (102, 1, 203), (106, 1, 204), (114, 1, 150), (117, 1, 157), (120, 1, 149), (128, 1, 156)]
theorem mlkL5_ok : ∀ e ∈ mlkL5, wokL 5 e := List.forall_mem_cons.mpr ⟨lw_at lw_m4 201 rfl, List.forall_mem_cons.mpr ⟨lw_at lw_m5 3 rfl, List.forall_mem_cons.mpr ⟨lw_at lw_m4 238 rfl, List.forall_mem_cons.mpr ⟨lw_at lw_m5 4 rfl, List.forall_mem_cons.mpr ⟨lw_at lw_m4 209 rfl, List.forall_mem_cons.mpr ⟨lw_at lw_m4 233 rfl, List.forall_mem_cons.mpr ⟨lw_at lw_m4 205 rfl, List.forall_mem_cons.mpr ⟨lw_at lw_m4 239 rfl, List.forall_mem_cons.mpr ⟨lw_at lw_m10 20 rfl, List.forall_mem_cons.mpr ⟨lw_at lw_m10 24 rfl, List.forall_mem_cons.mpr ⟨lw_at lw_m4 197 rfl, List.forall_mem_cons.mpr ⟨lw_at lw_m5 17 rfl, List.forall_mem_cons.mpr ⟨lw_at lw_m4 193 rfl, List.forall_mem_cons.mpr ⟨lw_at lw_m5 12 rfl, fun e h => by cases h⟩⟩⟩⟩⟩⟩⟩⟩⟩⟩⟩⟩⟩⟩
def mlkL6 : List (Nat × Nat × Nat) := [(38, 1, 89), (47, 1, 139), (51, 1, 140), (55, 1, 137), (62, 1, 138), (70, 1, 135), (74, 1, 136), (77, 1, 134), (83, 1, 141), (88, 1, 142), (91, 1, 143), (95, 1, 144), (98, 1, 145), (101, 1, 146), (110, 2, 28), (114, 1, 90), (118, 1, 81), (121, 1, 88)]
theorem mlkL6_ok : ∀ e ∈ mlkL6, wokL 6 e := List.forall_mem_cons.mpr ⟨lw_at lw_m5 97 rfl, List.forall_mem_cons.mpr ⟨lw_at lw_m5 93 rfl, List.forall_mem_cons.mpr ⟨lw_at lw_m5 94 rfl, List.forall_mem_cons.mpr ⟨lw_at lw_m5 89 rfl, List.forall_mem_cons.mpr ⟨lw_at lw_m5 90 rfl, List.forall_mem_cons.mpr ⟨lw_at lw_m5 100 rfl, List.forall_mem_cons.mpr ⟨lw_at lw_m5 104 rfl, List.forall_mem_cons.mpr ⟨lw_at lw_m5 85 rfl, List.forall_mem_cons.mpr ⟨lw_at lw_m5 117 rfl, List.forall_mem_cons.mpr ⟨lw_at lw_m5 123 rfl, List.forall_mem_cons.mpr ⟨lw_at lw_m5 128 rfl, List.forall_mem_cons.mpr ⟨lw_at lw_m5 132 rfl, List.forall_mem_cons.mpr ⟨lw_at lw_m5 197 rfl, List.forall_mem_cons.mpr ⟨lw_at lw_m5 205 rfl, List.forall_mem_cons.mpr ⟨lw_at lw_m5 116 rfl, List.forall_mem_cons.mpr ⟨lw_at lw_m5 108 rfl, List.forall_mem_cons.mpr ⟨lw_at lw_m5 112 rfl, List.forall_mem_cons.mpr ⟨lw_at lw_m5 201 rfl, fun e h => by cases h⟩⟩⟩⟩⟩⟩⟩⟩⟩⟩⟩⟩⟩⟩⟩⟩⟩⟩
def mlkL7 : List (Nat × Nat × Nat) := [(64, 1, 419), (68, 1, 430), (74, 1, 421), (78, 1, 422), (87, 1, 423), (91, 1, 145), (96, 1, 424), (100, 1, 420), (104, 1, 425), (108, 1, 426), (112, 1, 427), (116, 1, 428), (120, 1, 429), (123, 1, 431)]
theorem mlkL7_ok : ∀ e ∈ mlkL7, wokL 7 e := List.forall_mem_cons.mpr ⟨lw_at lw_m8 49 rfl, List.forall_mem_cons.mpr ⟨lw_at lw_m8 95 rfl, List.forall_mem_cons.mpr ⟨lw_at lw_m8 57 rfl, List.forall_mem_cons.mpr ⟨lw_at lw_m8 61 rfl, List.forall_mem_cons.mpr ⟨lw_at lw_m8 65 rfl, List.forall_mem_cons.mpr ⟨lw_at lw_m8 69 rfl, List.forall_mem_cons.mpr ⟨lw_at lw_m8 71 rfl, List.forall_mem_cons.mpr ⟨lw_at lw_m8 53 rfl, List.forall_mem_cons.mpr ⟨lw_at lw_m8 75 rfl, List.forall_mem_cons.mpr ⟨lw_at lw_m8 79 rfl, List.forall_mem_cons.mpr ⟨lw_at lw_m8 83 rfl, List.forall_mem_cons.mpr ⟨lw_at lw_m8 87 rfl, List.forall_mem_cons.mpr ⟨lw_at lw_m8 91 rfl, List.forall_mem_cons.mpr ⟨lw_at lw_m8 99 rfl, fun e h => by cases h⟩⟩⟩⟩⟩⟩⟩⟩⟩⟩⟩⟩⟩⟩
def mlkL8 : List (Nat × Nat × Nat) := [(47, 1, 109), (54, 1, 108), (62, 1, 110), (65, 1, 115), (74, 1, 101), (89, 1, 116), (93, 1, 114), (97, 1, 111), (106, 1, 112), (112, 1, 113)]
theorem mlkL8_ok : ∀ e ∈ mlkL8, wokL 8 e := List.forall_mem_cons.mpr ⟨lw_at lw_m8 184 rfl, List.forall_mem_cons.mpr ⟨lw_at lw_m8 176 rfl, List.forall_mem_cons.mpr ⟨lw_at lw_m8 188 rfl, List.forall_mem_cons.mpr ⟨lw_at lw_m8 210 rfl, List.forall_mem_cons.mpr ⟨lw_at lw_m8 180 rfl, List.forall_mem_cons.mpr ⟨lw_at lw_m8 214 rfl, List.forall_mem_cons.mpr ⟨lw_at lw_m8 204 rfl, List.forall_mem_cons.mpr ⟨lw_at lw_m8 192 rfl, List.forall_mem_cons.mpr ⟨lw_at lw_m8 197 rfl, List.forall_mem_cons.mpr ⟨lw_at lw_m8 200 rfl, fun e h => by cases h⟩⟩⟩⟩⟩⟩⟩⟩⟩⟩
def mlkL9 : List (Nat × Nat × Nat) := [(31, 1, 82), (35, 1, 85), (39, 1, 88), (47, 1, 84), (51, 1, 92), (63, 1, 93), (67, 1, 87), (71, 1, 91), (75, 1, 86)]
theorem mlkL9_ok : ∀ e ∈ mlkL9, wokL 9 e := List.forall_mem_cons.mpr ⟨lw_at lw_m9 93 rfl, List.forall_mem_cons.mpr ⟨lw_at lw_m9 97 rfl, List.forall_mem_cons.mpr ⟨lw_at lw_m9 150 rfl, List.forall_mem_cons.mpr ⟨lw_at lw_m9 142 rfl, List.forall_mem_cons.mpr ⟨lw_at lw_m9 155 rfl, List.forall_mem_cons.mpr ⟨lw_at lw_m9 159 rfl, List.forall_mem_cons.mpr ⟨lw_at lw_m9 147 rfl, List.forall_mem_cons.mpr ⟨lw_at lw_m9 151 rfl, List.forall_mem_cons.mpr ⟨lw_at lw_m9 146 rfl, fun e h => by cases h⟩⟩⟩⟩⟩⟩⟩⟩⟩
def mlkL10 : List (Nat × Nat × Nat) := [(29, 1, 77), (37, 1, 174), (40, 1, 64)]
theorem mlkL10_ok : ∀ e ∈ mlkL10, wokL 10 e := List.forall_mem_cons.mpr ⟨lw_at lw_m9 227 rfl, List.forall_mem_cons.mpr ⟨lw_at lw_m11 194 rfl, List.forall_mem_cons.mpr ⟨lw_at lw_m11 195 rfl, fun e h => by cases h⟩⟩⟩
def mlkL11 : List (Nat × Nat × Nat) := [(68, 1, 55), (74, 1, 198), (78, 1, 199), (84, 1, 197), (88, 1, 196), (92, 1, 200)]
theorem mlkL11_ok : ∀ e ∈ mlkL11, wokL 11 e := List.forall_mem_cons.mpr ⟨lw_at lw_m10 126 rfl, List.forall_mem_cons.mpr ⟨lw_at lw_m10 121 rfl, List.forall_mem_cons.mpr ⟨lw_at lw_m10 128 rfl, List.forall_mem_cons.mpr ⟨lw_at lw_m10 117 rfl, List.forall_mem_cons.mpr ⟨lw_at lw_m10 113 rfl, List.forall_mem_cons.mpr ⟨lw_at lw_m10 131 rfl, fun e h => by cases h⟩⟩⟩⟩⟩⟩
def mlkL12 : List (Nat × Nat × Nat) := [(11, 2, 7), (41, 2, 13), (45, 1, 417), (50, 1, 418), (59, 1, 432), (73, 1, 435), (77, 1, 436), (85, 1, 434), (89, 1, 437), (93, 1, 438), (97, 1, 439), (101, 1, 440), (105, 1, 187), (111, 1, 213)]
theorem mlkL12_ok : ∀ e ∈ mlkL12, wokL 12 e := List.forall_mem_cons.mpr ⟨lw_at lw_m2 189 rfl, List.forall_mem_cons.mpr ⟨lw_at lw_m2 194 rfl, List.forall_mem_cons.mpr ⟨lw_at lw_m10 239 rfl, List.forall_mem_cons.mpr ⟨lw_at lw_m11 0 rfl, List.forall_mem_cons.mpr ⟨lw_at lw_m11 1 rfl, List.forall_mem_cons.mpr ⟨lw_at lw_m11 13 rfl, List.forall_mem_cons.mpr ⟨lw_at lw_m11 17 rfl, List.forall_mem_cons.mpr ⟨lw_at lw_m11 9 rfl, List.forall_mem_cons.mpr ⟨lw_at lw_m11 21 rfl, List.forall_mem_cons.mpr ⟨lw_at lw_m11 25 rfl, List.forall_mem_cons.mpr ⟨lw_at lw_m11 29 rfl, List.forall_mem_cons.mpr ⟨lw_at lw_m11 33 rfl, List.forall_mem_cons.mpr ⟨lw_at lw_m11 37 rfl, List.forall_mem_cons.mpr ⟨lw_at lw_m11 38 rfl, fun e h => by cases h⟩⟩⟩⟩⟩⟩⟩⟩⟩⟩⟩⟩⟩⟩
def mlkL13 : List (Nat × Nat × Nat) := []
theorem mlkL13_ok : ∀ e ∈ mlkL13, wokL 13 e := fun e h => by cases h
def mlkL14 : List (Nat × Nat × Nat) := [(61, 1, 139), (65, 2, 28), (69, 1, 137), (76, 1, 179), (80, 1, 153), (84, 1, 152), (95, 1, 178), (99, 1, 180), (102, 1, 177), (107, 2, 30), (120, 1, 100), (125, 1, 102)]
theorem mlkL14_ok : ∀ e ∈ mlkL14, wokL 14 e := List.forall_mem_cons.mpr ⟨lw_at lw_m11 87 rfl, List.forall_mem_cons.mpr ⟨lw_at lw_m11 88 rfl, List.forall_mem_cons.mpr ⟨lw_at lw_m11 93 rfl, List.forall_mem_cons.mpr ⟨lw_at lw_m11 94 rfl, List.forall_mem_cons.mpr ⟨lw_at lw_m11 98 rfl, List.forall_mem_cons.mpr ⟨lw_at lw_m11 99 rfl, List.forall_mem_cons.mpr ⟨lw_at lw_m11 89 rfl, List.forall_mem_cons.mpr ⟨lw_at lw_m11 100 rfl, List.forall_mem_cons.mpr ⟨lw_at lw_m11 83 rfl, List.forall_mem_cons.mpr ⟨lw_at lw_m11 106 rfl, List.forall_mem_cons.mpr ⟨lw_at lw_m9 62 rfl, List.forall_mem_cons.mpr ⟨lw_at lw_m9 63 rfl, fun e h => by cases h⟩⟩⟩⟩⟩⟩⟩⟩⟩⟩⟩⟩
def mlkL15 : List (Nat × Nat × Nat) := [(28, 1, 38), (32, 2, 30)]
theorem mlkL15_ok : ∀ e ∈ mlkL15, wokL 15 e := List.forall_mem_cons.mpr ⟨lw_at lw_m11 148 rfl, List.forall_mem_cons.mpr ⟨lw_at lw_m11 152 rfl, fun e h => by cases h⟩⟩
def mlkL16 : List (Nat × Nat × Nat) := [(36, 1, 139), (40, 2, 28), (46, 1, 137), (50, 1, 170), (57, 1, 169), (61, 1, 153), (65, 1, 152), (74, 1, 168), (81, 1, 167), (87, 2, 30), (91, 1, 171)]
theorem mlkL16_ok : ∀ e ∈ mlkL16, wokL 16 e := List.forall_mem_cons.mpr ⟨lw_at lw_m11 218 rfl, List.forall_mem_cons.mpr ⟨lw_at lw_m11 227 rfl, List.forall_mem_cons.mpr ⟨lw_at lw_m11 223 rfl, List.forall_mem_cons.mpr ⟨lw_at lw_m11 228 rfl, List.forall_mem_cons.mpr ⟨lw_at lw_m11 224 rfl, List.forall_mem_cons.mpr ⟨lw_at lw_m11 216 rfl, List.forall_mem_cons.mpr ⟨lw_at lw_m11 217 rfl, List.forall_mem_cons.mpr ⟨lw_at lw_m11 219 rfl, List.forall_mem_cons.mpr ⟨lw_at lw_m11 212 rfl, List.forall_mem_cons.mpr ⟨lw_at lw_m11 232 rfl, List.forall_mem_cons.mpr ⟨lw_at lw_m11 234 rfl, fun e h => by cases h⟩⟩⟩⟩⟩⟩⟩⟩⟩⟩⟩
def mlkL17 : List (Nat × Nat × Nat) := [(404, 1, 294), (408, 1, 215), (418, 1, 273), (422, 1, 274), (426, 1, 288), (435, 1, 289), (438, 1, 291), (442, 1, 286), (446, 1, 287), (453, 1, 285), (457, 1, 290), (460, 1, 284), (463, 1, 252), (472, 1, 275), (475, 1, 277), (479, 1, 278), (482, 1, 272), (485, 1, 276), (488, 1, 279), (495, 1, 271), (501, 1, 280), (504, 1, 282), (511, 1, 281), (514, 1, 344), (520, 1, 269), (523, 1, 260), (531, 1, 241), (535, 1, 224), (545, 1, 240), (548, 1, 266), (552, 1, 239), (556, 1, 255), (562, 1, 263), (565, 1, 256), (568, 1, 257), (571, 1, 258), (574, 1, 262), (577, 1, 259), (583, 1, 226), (589, 1, 249), (593, 1, 250), (596, 1, 248), (602, 1, 246), (605, 1, 247), (609, 1, 244), (613, 1, 245), (616, 1, 347), (619, 1, 446), (622, 1, 447), (626, 1, 450), (630, 1, 445), (633, 1, 448), (636, 1, 449), (639, 1, 444), (645, 1, 443), (648, 1, 547), (651, 1, 548), (654, 1, 223), (663, 1, 230), (667, 1, 235), (671, 1, 233), (674, 1, 234), (677, 1, 236), (683, 1, 229), (686, 1, 231), (690, 1, 232), (700, 1, 221), (703, 1, 222), (709, 1, 341), (715, 1, 340), (718, 1, 342), (721, 1, 338), (724, 1, 339), (727, 1, 343), (730, 1, 306), (740, 1, 304), (743, 1, 305), (746, 1, 332), (749, 1, 333), (752, 1, 329), (755, 1, 321), (761, 1, 322), (764, 1, 323), (767, 1, 325), (770, 1, 326), (773, 1, 327), (776, 1, 320), (779, 1, 324), (785, 1, 316), (788, 1, 317), (791, 1, 452), (797, 1, 442), (800, 1, 451), (803, 1, 453), (809, 1, 310), (812, 1, 312), (818, 1, 311), (821, 1, 313), (824, 1, 309), (836, 1, 302), (839, 1, 301), (842, 1, 300), (848, 1, 297), (859, 1, 357), (882, 1, 217), (885, 1, 372), (891, 1, 216), (894, 1, 218), (897, 1, 219), (901, 1, 293), (905, 1, 292), (908, 1, 283), (911, 1, 270), (914, 1, 268), (918, 1, 267), (921, 1, 265), (924, 1, 264), (928, 1, 261), (931, 1, 254), (934, 1, 253), (937, 1, 251), (940, 1, 243), (943, 1, 242), (946, 1, 238), (949, 1, 237), (952, 1, 228), (955, 1, 227), (958, 1, 225), (961, 1, 220), (964, 1, 295), (967, 1, 346), (970, 1, 345), (973, 1, 337), (976, 1, 336), (979, 1, 335), (982, 1, 334), (985, 1, 331), (988, 1, 330), (991, 1, 328), (994, 1, 319), (997, 1, 318), (1000, 1, 315), (1003, 1, 314), (1006, 1, 308), (1009, 1, 307), (1012, 1, 303), (1015, 1, 299), (1018, 1, 298), (1021, 1, 296), (1024, 1, 348), (1027, 1, 371)]
theorem mlkL17_ok : ∀ e ∈ mlkL17, wokL 17 e := List.forall_mem_cons.mpr ⟨lw_at lw_m16 5 rfl, List.forall_mem_cons.mpr ⟨lw_at lw_m14 182 rfl, List.forall_mem_cons.mpr ⟨lw_at lw_m16 21 rfl, List.forall_mem_cons.mpr ⟨lw_at lw_m16 33 rfl, List.forall_mem_cons.mpr ⟨lw_at lw_m16 41 rfl, List.forall_mem_cons.mpr ⟨lw_at lw_m16 45 rfl, List.forall_mem_cons.mpr ⟨lw_at lw_m16 52 rfl, List.forall_mem_cons.mpr ⟨lw_at lw_m16 29 rfl, List.forall_mem_cons.mpr ⟨lw_at lw_m16 37 rfl, List.forall_mem_cons.mpr ⟨lw_at lw_m16 25 rfl, List.forall_mem_cons.mpr ⟨lw_at lw_m16 48 rfl, List.forall_mem_cons.mpr ⟨lw_at lw_m16 17 rfl, List.forall_mem_cons.mpr ⟨lw_at lw_m14 178 rfl, List.forall_mem_cons.mpr ⟨lw_at lw_m16 70 rfl, List.forall_mem_cons.mpr ⟨lw_at lw_m14 209 rfl, List.forall_mem_cons.mpr ⟨lw_at lw_m14 193 rfl, List.forall_mem_cons.mpr ⟨lw_at lw_m16 66 rfl, List.forall_mem_cons.mpr ⟨lw_at lw_m14 205 rfl, List.forall_mem_cons.mpr ⟨lw_at lw_m16 73 rfl, List.forall_mem_cons.mpr ⟨lw_at lw_m16 62 rfl, List.forall_mem_cons.mpr ⟨lw_at lw_m14 197 rfl, List.forall_mem_cons.mpr ⟨lw_at lw_m16 77 rfl, List.forall_mem_cons.mpr ⟨lw_at lw_m14 201 rfl, List.forall_mem_cons.mpr ⟨lw_at lw_m14 189 rfl, List.forall_mem_cons.mpr ⟨lw_at lw_m14 217 rfl, List.forall_mem_cons.mpr ⟨lw_at lw_m14 221 rfl, List.forall_mem_cons.mpr ⟨lw_at lw_m15 126 rfl, List.forall_mem_cons.mpr ⟨lw_at lw_m16 91 rfl, List.forall_mem_cons.mpr ⟨lw_at lw_m15 1 rfl, List.forall_mem_cons.mpr ⟨lw_at lw_m16 99 rfl, List.forall_mem_cons.mpr ⟨lw_at lw_m16 103 rfl, List.forall_mem_cons.mpr ⟨lw_at lw_m14 229 rfl, List.forall_mem_cons.mpr ⟨lw_at lw_m16 119 rfl, List.forall_mem_cons.mpr ⟨lw_at lw_m14 233 rfl, List.forall_mem_cons.mpr ⟨lw_at lw_m14 237 rfl, List.forall_mem_cons.mpr ⟨lw_at lw_m15 5 rfl, List.forall_mem_cons.mpr ⟨lw_at lw_m16 115 rfl, List.forall_mem_cons.mpr ⟨lw_at lw_m16 127 rfl, List.forall_mem_cons.mpr ⟨lw_at lw_m15 37 rfl, List.forall_mem_cons.mpr ⟨lw_at lw_m15 29 rfl, List.forall_mem_cons.mpr ⟨lw_at lw_m16 159 rfl, List.forall_mem_cons.mpr ⟨lw_at lw_m16 155 rfl, List.forall_mem_cons.mpr ⟨lw_at lw_m15 25 rfl, List.forall_mem_cons.mpr ⟨lw_at lw_m16 151 rfl, List.forall_mem_cons.mpr ⟨lw_at lw_m16 143 rfl, List.forall_mem_cons.mpr ⟨lw_at lw_m16 147 rfl, List.forall_mem_cons.mpr ⟨lw_at lw_m15 41 rfl, List.forall_mem_cons.mpr ⟨lw_at lw_m15 57 rfl, List.forall_mem_cons.mpr ⟨lw_at lw_m15 73 rfl, List.forall_mem_cons.mpr ⟨lw_at lw_m15 86 rfl, List.forall_mem_cons.mpr ⟨lw_at lw_m15 69 rfl, List.forall_mem_cons.mpr ⟨lw_at lw_m15 78 rfl, List.forall_mem_cons.mpr ⟨lw_at lw_m15 82 rfl, List.forall_mem_cons.mpr ⟨lw_at lw_m15 65 rfl, List.forall_mem_cons.mpr ⟨lw_at lw_m15 49 rfl, List.forall_mem_cons.mpr ⟨lw_at lw_m15 53 rfl, List.forall_mem_cons.mpr ⟨lw_at lw_m15 61 rfl, List.forall_mem_cons.mpr ⟨lw_at lw_m15 118 rfl, List.forall_mem_cons.mpr ⟨lw_at lw_m16 183 rfl, List.forall_mem_cons.mpr ⟨lw_at lw_m16 203 rfl, List.forall_mem_cons.mpr ⟨lw_at lw_m16 195 rfl, List.forall_mem_cons.mpr ⟨lw_at lw_m16 199 rfl, List.forall_mem_cons.mpr ⟨lw_at lw_m16 206 rfl, List.forall_mem_cons.mpr ⟨lw_at lw_m16 179 rfl, List.forall_mem_cons.mpr ⟨lw_at lw_m16 187 rfl, List.forall_mem_cons.mpr ⟨lw_at lw_m16 191 rfl, List.forall_mem_cons.mpr ⟨lw_at lw_m16 219 rfl, List.forall_mem_cons.mpr ⟨lw_at lw_m15 186 rfl, List.forall_mem_cons.mpr ⟨lw_at lw_m17 3 rfl, List.forall_mem_cons.mpr ⟨lw_at lw_m16 239 rfl, List.forall_mem_cons.mpr ⟨lw_at lw_m17 15 rfl, List.forall_mem_cons.mpr ⟨lw_at lw_m15 102 rfl, List.forall_mem_cons.mpr ⟨lw_at lw_m17 11 rfl, List.forall_mem_cons.mpr ⟨lw_at lw_m17 19 rfl, List.forall_mem_cons.mpr ⟨lw_at lw_m15 110 rfl, List.forall_mem_cons.mpr ⟨lw_at lw_m15 134 rfl, List.forall_mem_cons.mpr ⟨lw_at lw_m15 138 rfl, List.forall_mem_cons.mpr ⟨lw_at lw_m17 39 rfl, List.forall_mem_cons.mpr ⟨lw_at lw_m17 43 rfl, List.forall_mem_cons.mpr ⟨lw_at lw_m17 55 rfl, List.forall_mem_cons.mpr ⟨lw_at lw_m17 67 rfl, List.forall_mem_cons.mpr ⟨lw_at lw_m17 71 rfl, List.forall_mem_cons.mpr ⟨lw_at lw_m17 75 rfl, List.forall_mem_cons.mpr ⟨lw_at lw_m17 83 rfl, List.forall_mem_cons.mpr ⟨lw_at lw_m17 87 rfl, List.forall_mem_cons.mpr ⟨lw_at lw_m17 91 rfl, List.forall_mem_cons.mpr ⟨lw_at lw_m17 63 rfl, List.forall_mem_cons.mpr ⟨lw_at lw_m17 79 rfl, List.forall_mem_cons.mpr ⟨lw_at lw_m17 103 rfl, List.forall_mem_cons.mpr ⟨lw_at lw_m17 107 rfl, List.forall_mem_cons.mpr ⟨lw_at lw_m15 166 rfl, List.forall_mem_cons.mpr ⟨lw_at lw_m15 158 rfl, List.forall_mem_cons.mpr ⟨lw_at lw_m15 162 rfl, List.forall_mem_cons.mpr ⟨lw_at lw_m15 170 rfl, List.forall_mem_cons.mpr ⟨lw_at lw_m17 123 rfl, List.forall_mem_cons.mpr ⟨lw_at lw_m17 130 rfl, List.forall_mem_cons.mpr ⟨lw_at lw_m17 126 rfl, List.forall_mem_cons.mpr ⟨lw_at lw_m17 134 rfl, List.forall_mem_cons.mpr ⟨lw_at lw_m17 119 rfl, List.forall_mem_cons.mpr ⟨lw_at lw_m17 158 rfl, List.forall_mem_cons.mpr ⟨lw_at lw_m17 154 rfl, List.forall_mem_cons.mpr ⟨lw_at lw_m17 150 rfl, List.forall_mem_cons.mpr ⟨lw_at lw_m15 194 rfl, List.forall_mem_cons.mpr ⟨lw_at lw_m15 206 rfl, List.forall_mem_cons.mpr ⟨lw_at lw_m15 230 rfl, List.forall_mem_cons.mpr ⟨lw_at lw_m17 186 rfl, List.forall_mem_cons.mpr ⟨lw_at lw_m15 226 rfl, List.forall_mem_cons.mpr ⟨lw_at lw_m15 233 rfl, List.forall_mem_cons.mpr ⟨lw_at lw_m15 237 rfl, List.forall_mem_cons.mpr ⟨lw_at lw_m16 1 rfl, List.forall_mem_cons.mpr ⟨lw_at lw_m16 9 rfl, List.forall_mem_cons.mpr ⟨lw_at lw_m16 13 rfl, List.forall_mem_cons.mpr ⟨lw_at lw_m16 58 rfl, List.forall_mem_cons.mpr ⟨lw_at lw_m16 82 rfl, List.forall_mem_cons.mpr ⟨lw_at lw_m16 87 rfl, List.forall_mem_cons.mpr ⟨lw_at lw_m16 95 rfl, List.forall_mem_cons.mpr ⟨lw_at lw_m16 107 rfl, List.forall_mem_cons.mpr ⟨lw_at lw_m16 111 rfl, List.forall_mem_cons.mpr ⟨lw_at lw_m16 123 rfl, List.forall_mem_cons.mpr ⟨lw_at lw_m16 131 rfl, List.forall_mem_cons.mpr ⟨lw_at lw_m16 135 rfl, List.forall_mem_cons.mpr ⟨lw_at lw_m16 139 rfl, List.forall_mem_cons.mpr ⟨lw_at lw_m16 163 rfl, List.forall_mem_cons.mpr ⟨lw_at lw_m16 167 rfl, List.forall_mem_cons.mpr ⟨lw_at lw_m16 171 rfl, List.forall_mem_cons.mpr ⟨lw_at lw_m16 175 rfl, List.forall_mem_cons.mpr ⟨lw_at lw_m16 210 rfl, List.forall_mem_cons.mpr ⟨lw_at lw_m16 215 rfl, List.forall_mem_cons.mpr ⟨lw_at lw_m16 223 rfl, List.forall_mem_cons.mpr ⟨lw_at lw_m16 227 rfl, List.forall_mem_cons.mpr ⟨lw_at lw_m16 231 rfl, List.forall_mem_cons.mpr ⟨lw_at lw_m16 235 rfl, List.forall_mem_cons.mpr ⟨lw_at lw_m17 7 rfl, List.forall_mem_cons.mpr ⟨lw_at lw_m17 23 rfl, List.forall_mem_cons.mpr ⟨lw_at lw_m17 27 rfl, List.forall_mem_cons.mpr ⟨lw_at lw_m17 31 rfl, List.forall_mem_cons.mpr ⟨lw_at lw_m17 35 rfl, List.forall_mem_cons.mpr ⟨lw_at lw_m17 47 rfl, List.forall_mem_cons.mpr ⟨lw_at lw_m17 51 rfl, List.forall_mem_cons.mpr ⟨lw_at lw_m17 59 rfl, List.forall_mem_cons.mpr ⟨lw_at lw_m17 95 rfl, List.forall_mem_cons.mpr ⟨lw_at lw_m17 99 rfl, List.forall_mem_cons.mpr ⟨lw_at lw_m17 111 rfl, List.forall_mem_cons.mpr ⟨lw_at lw_m17 115 rfl, List.forall_mem_cons.mpr ⟨lw_at lw_m17 138 rfl, List.forall_mem_cons.mpr ⟨lw_at lw_m17 142 rfl, List.forall_mem_cons.mpr ⟨lw_at lw_m17 146 rfl, List.forall_mem_cons.mpr ⟨lw_at lw_m17 162 rfl, List.forall_mem_cons.mpr ⟨lw_at lw_m17 166 rfl, List.forall_mem_cons.mpr ⟨lw_at lw_m17 170 rfl, List.forall_mem_cons.mpr ⟨lw_at lw_m17 182 rfl, fun e h => by cases h⟩⟩⟩⟩⟩⟩⟩⟩⟩⟩⟩⟩⟩⟩⟩⟩⟩⟩⟩⟩⟩⟩⟩⟩⟩⟩⟩⟩⟩⟩⟩⟩⟩⟩⟩⟩⟩⟩⟩⟩⟩⟩⟩⟩⟩⟩⟩⟩⟩⟩⟩⟩⟩⟩⟩⟩⟩⟩⟩⟩⟩⟩⟩⟩⟩⟩⟩⟩⟩⟩⟩⟩⟩⟩⟩⟩⟩⟩⟩⟩⟩⟩⟩⟩⟩⟩⟩⟩⟩⟩⟩⟩⟩⟩⟩⟩⟩⟩⟩⟩⟩⟩⟩⟩⟩⟩⟩⟩⟩⟩⟩⟩⟩⟩⟩⟩⟩⟩⟩⟩⟩⟩⟩⟩⟩⟩⟩⟩⟩⟩⟩⟩⟩⟩⟩⟩⟩⟩⟩⟩⟩⟩⟩⟩⟩⟩⟩⟩⟩⟩⟩
def mlkL19 : List (Nat × Nat × Nat) := []
theorem mlkL19_ok : ∀ e ∈ mlkL19, wokL 19 e := fun e h => by cases h
def mlkL20 : List (Nat × Nat × Nat) := [(56, 1, 187)]
theorem mlkL20_ok : ∀ e ∈ mlkL20, wokL 20 e := List.forall_mem_cons.mpr ⟨lw_at lw_m10 208 rfl, fun e h => by cases h⟩
def mlkL21 : List (Nat × Nat × Nat) := [(41, 1, 55), (45, 1, 54), (49, 1, 60)]
theorem mlkL21_ok : ∀ e ∈ mlkL21, wokL 21 e := List.forall_mem_cons.mpr ⟨lw_at lw_m10 203 rfl, List.forall_mem_cons.mpr ⟨lw_at lw_m6 135 rfl, List.forall_mem_cons.mpr ⟨lw_at lw_m6 141 rfl, fun e h => by cases h⟩⟩⟩
def mlkL22 : List (Nat × Nat × Nat) := []
theorem mlkL22_ok : ∀ e ∈ mlkL22, wokL 22 e := fun e h => by cases h
def mlkL23 : List (Nat × Nat × Nat) := []
theorem mlkL23_ok : ∀ e ∈ mlkL23, wokL 23 e := fun e h => by cases h
def mlkL24 : List (Nat × Nat × Nat) := [(43, 1, 101)]
theorem mlkL24_ok : ∀ e ∈ mlkL24, wokL 24 e := List.forall_mem_cons.mpr ⟨lw_at lw_m9 42 rfl, fun e h => by cases h⟩
def mlkL25 : List (Nat × Nat × Nat) := []
theorem mlkL25_ok : ∀ e ∈ mlkL25, wokL 25 e := fun e h => by cases h
def mlkL26 : List (Nat × Nat × Nat) := []
theorem mlkL26_ok : ∀ e ∈ mlkL26, wokL 26 e := fun e h => by cases h
def mlkL27 : List (Nat × Nat × Nat) := []
theorem mlkL27_ok : ∀ e ∈ mlkL27, wokL 27 e := fun e h => by cases h
def mlkL28 : List (Nat × Nat × Nat) := []
theorem mlkL28_ok : ∀ e ∈ mlkL28, wokL 28 e := fun e h => by cases h
def mlkL29 : List (Nat × Nat × Nat) := []
theorem mlkL29_ok : ∀ e ∈ mlkL29, wokL 29 e := fun e h => by cases h
def mlkL30 : List (Nat × Nat × Nat) := [(41, 1, 163)]
theorem mlkL30_ok : ∀ e ∈ mlkL30, wokL 30 e := List.forall_mem_cons.mpr ⟨lw_at lw_m12 69 rfl, fun e h => by cases h⟩
def mlkL36 : List (Nat × Nat × Nat) := []
theorem mlkL36_ok : ∀ e ∈ mlkL36, wokL 36 e := fun e h => by cases h
def mlkL (c : Nat) : List (Nat × Nat × Nat) := bif Nat.blt c 18 then bif Nat.blt c 9 then bif Nat.blt c 4 then bif Nat.blt c 2 then bif Nat.blt c 1 then mlkL0 else mlkL1 else bif Nat.blt c 3 then mlkL2 else mlkL3 else bif Nat.blt c 6 then bif Nat.blt c 5 then mlkL4 else mlkL5 else bif Nat.blt c 7 then mlkL6 else bif Nat.blt c 8 then mlkL7 else mlkL8 else bif Nat.blt c 13 then bif Nat.blt c 11 then bif Nat.blt c 10 then mlkL9 else mlkL10 else bif Nat.blt c 12 then mlkL11 else mlkL12 else bif Nat.blt c 15 then bif Nat.blt c 14 then mlkL13 else mlkL14 else bif Nat.blt c 16 then mlkL15 else bif Nat.blt c 17 then mlkL16 else mlkL17 else bif Nat.blt c 27 then bif Nat.blt c 22 then bif Nat.blt c 20 then bif Nat.blt c 19 then [] else mlkL19 else bif Nat.blt c 21 then mlkL20 else mlkL21 else bif Nat.blt c 24 then bif Nat.blt c 23 then mlkL22 else mlkL23 else bif Nat.blt c 25 then mlkL24 else bif Nat.blt c 26 then mlkL25 else mlkL26 else bif Nat.blt c 32 then bif Nat.blt c 29 then bif Nat.blt c 28 then mlkL27 else mlkL28 else bif Nat.blt c 30 then mlkL29 else bif Nat.blt c 31 then mlkL30 else [] else bif Nat.blt c 34 then bif Nat.blt c 33 then [] else [] else bif Nat.blt c 35 then [] else bif Nat.blt c 36 then [] else mlkL36
theorem mlkL_ok : ∀ c, ∀ e ∈ mlkL c, wokL c e := by
  intro c
  by_cases hc : c < 37
  · unfold mlkL
    rcases c with _ | _ | _ | _ | _ | _ | _ | _ | _ | _ | _ | _ | _ | _ | _ | _ | _ | _ | _ | _ | _ | _ | _ | _ | _ | _ | _ | _ | _ | _ | _ | _ | _ | _ | _ | _ | _ | c
    · exact mlkL0_ok
    · exact mlkL1_ok
    · exact mlkL2_ok
    · exact mlkL3_ok
    · exact mlkL4_ok
    · exact mlkL5_ok
    · exact mlkL6_ok
    · exact mlkL7_ok
    · exact mlkL8_ok
    · exact mlkL9_ok
    · exact mlkL10_ok
    · exact mlkL11_ok
    · exact mlkL12_ok
    · exact mlkL13_ok
    · exact mlkL14_ok
    · exact mlkL15_ok
    · exact mlkL16_ok
    · exact mlkL17_ok
    · exact fun e h => by cases h
    · exact mlkL19_ok
    · exact mlkL20_ok
    · exact mlkL21_ok
    · exact mlkL22_ok
    · exact mlkL23_ok
    · exact mlkL24_ok
    · exact mlkL25_ok
    · exact mlkL26_ok
    · exact mlkL27_ok
    · exact mlkL28_ok
    · exact mlkL29_ok
    · exact mlkL30_ok
    · exact fun e h => by cases h
    · exact fun e h => by cases h
    · exact fun e h => by cases h
    · exact fun e h => by cases h
    · exact fun e h => by cases h
    · exact mlkL36_ok
    · omega
  · have : mlkL c = [] := by
      unfold mlkL
      simp only [blt_f (a := c) (b := 18) (by omega), blt_f (a := c) (b := 27) (by omega), blt_f (a := c) (b := 32) (by omega), blt_f (a := c) (b := 34) (by omega), blt_f (a := c) (b := 35) (by omega), blt_f (a := c) (b := 36) (by omega), cond_false]
      rfl
    rw [this]; intro e h; cases h
def imt_0_0_0 (n : Nat) : Nat := bif Nat.blt n 1 then 0 else 1
def imt_0_0_1 (n : Nat) : Nat := bif Nat.blt n 3 then 2 else 3
def imt_0_0_2 (n : Nat) : Nat := bif Nat.blt n 5 then 4 else 5
def imt_0_0_3 (n : Nat) : Nat := bif Nat.blt n 7 then 6 else 7
def imt_0_0_4 (n : Nat) : Nat := bif Nat.blt n 9 then 8 else 9
def imt_0_0 (n : Nat) : Nat := bif Nat.blt n 4 then bif Nat.blt n 2 then imt_0_0_0 n else imt_0_0_1 n else bif Nat.blt n 6 then imt_0_0_2 n else bif Nat.blt n 8 then imt_0_0_3 n else imt_0_0_4 n
def imt_0_1_0 (n : Nat) : Nat := bif Nat.blt n 11 then 10 else 11
def imt_0_1_1 (n : Nat) : Nat := bif Nat.blt n 13 then 12 else 13
def imt_0_1_2 (n : Nat) : Nat := bif Nat.blt n 15 then 14 else 15
def imt_0_1_3 (n : Nat) : Nat := bif Nat.blt n 17 then 16 else 17
def imt_0_1_4 (n : Nat) : Nat := bif Nat.blt n 19 then 18 else 19
def imt_0_1 (n : Nat) : Nat := bif Nat.blt n 14 then bif Nat.blt n 12 then imt_0_1_0 n else imt_0_1_1 n else bif Nat.blt n 16 then imt_0_1_2 n else bif Nat.blt n 18 then imt_0_1_3 n else imt_0_1_4 n
def imt_0_2_0 (n : Nat) : Nat := bif Nat.blt n 21 then 20 else 21
def imt_0_2_1 (n : Nat) : Nat := bif Nat.blt n 23 then 22 else 23
def imt_0_2_2 (n : Nat) : Nat := bif Nat.blt n 25 then 24 else 25
def imt_0_2_3 (n : Nat) : Nat := bif Nat.blt n 27 then 26 else 27
def imt_0_2_4 (n : Nat) : Nat := bif Nat.blt n 29 then 28 else 29
def imt_0_2 (n : Nat) : Nat := bif Nat.blt n 24 then bif Nat.blt n 22 then imt_0_2_0 n else imt_0_2_1 n else bif Nat.blt n 26 then imt_0_2_2 n else bif Nat.blt n 28 then imt_0_2_3 n else imt_0_2_4 n
def imt_0_3_0 (n : Nat) : Nat := bif Nat.blt n 31 then 30 else 31
def imt_0_3_1 (n : Nat) : Nat := bif Nat.blt n 33 then 32 else 33
def imt_0_3_2 (n : Nat) : Nat := bif Nat.blt n 35 then 34 else 35
def imt_0_3_3 (n : Nat) : Nat := bif Nat.blt n 37 then 36 else 37
def imt_0_3_4 (n : Nat) : Nat := bif Nat.blt n 39 then 38 else 39
def imt_0_3 (n : Nat) : Nat := bif Nat.blt n 34 then bif Nat.blt n 32 then imt_0_3_0 n else imt_0_3_1 n else bif Nat.blt n 36 then imt_0_3_2 n else bif Nat.blt n 38 then imt_0_3_3 n else imt_0_3_4 n
def imt_0_4_0 (n : Nat) : Nat := bif Nat.blt n 41 then 40 else 41
def imt_0_4_1 (n : Nat) : Nat := bif Nat.blt n 43 then 42 else 43
def imt_0_4_2 (n : Nat) : Nat := bif Nat.blt n 45 then 44 else 45
def imt_0_4_3 (n : Nat) : Nat := bif Nat.blt n 47 then 46 else 47
def imt_0_4_4 (n : Nat) : Nat := bif Nat.blt n 49 then 48 else 49
def imt_0_4 (n : Nat) : Nat := bif Nat.blt n 44 then bif Nat.blt n 42 then imt_0_4_0 n else imt_0_4_1 n else bif Nat.blt n 46 then imt_0_4_2 n else bif Nat.blt n 48 then imt_0_4_3 n else imt_0_4_4 n
def imt_0_5_0 (n : Nat) : Nat := bif Nat.blt n 51 then 50 else 51
def imt_0_5_1 (n : Nat) : Nat := bif Nat.blt n 53 then 52 else 53
def imt_0_5_2 (n : Nat) : Nat := bif Nat.blt n 55 then 54 else 55
def imt_0_5_3 (n : Nat) : Nat := bif Nat.blt n 57 then 56 else 57
def imt_0_5_4 (n : Nat) : Nat := bif Nat.blt n 59 then 58 else 59
def imt_0_5 (n : Nat) : Nat := bif Nat.blt n 54 then bif Nat.blt n 52 then imt_0_5_0 n else imt_0_5_1 n else bif Nat.blt n 56 then imt_0_5_2 n else bif Nat.blt n 58 then imt_0_5_3 n else imt_0_5_4 n
def imt_0_6_0 (n : Nat) : Nat := bif Nat.blt n 61 then 60 else 61
def imt_0_6_1 (n : Nat) : Nat := bif Nat.blt n 63 then 62 else 63
def imt_0_6_2 (n : Nat) : Nat := bif Nat.blt n 65 then 64 else 65
def imt_0_6_3 (n : Nat) : Nat := bif Nat.blt n 67 then 66 else 67
def imt_0_6_4 (n : Nat) : Nat := bif Nat.blt n 69 then 68 else 69
def imt_0_6 (n : Nat) : Nat := bif Nat.blt n 64 then bif Nat.blt n 62 then imt_0_6_0 n else imt_0_6_1 n else bif Nat.blt n 66 then imt_0_6_2 n else bif Nat.blt n 68 then imt_0_6_3 n else imt_0_6_4 n
def imt_0_7_0 (n : Nat) : Nat := bif Nat.blt n 71 then 70 else 71
def imt_0_7_1 (n : Nat) : Nat := bif Nat.blt n 73 then 72 else 73
def imt_0_7_2 (n : Nat) : Nat := bif Nat.blt n 75 then 74 else 75
def imt_0_7_3 (n : Nat) : Nat := bif Nat.blt n 77 then 76 else 77
def imt_0_7_4 (n : Nat) : Nat := bif Nat.blt n 79 then 78 else 79
def imt_0_7 (n : Nat) : Nat := bif Nat.blt n 74 then bif Nat.blt n 72 then imt_0_7_0 n else imt_0_7_1 n else bif Nat.blt n 76 then imt_0_7_2 n else bif Nat.blt n 78 then imt_0_7_3 n else imt_0_7_4 n
def imt_0 (n : Nat) : Nat := bif Nat.blt n 40 then bif Nat.blt n 20 then bif Nat.blt n 10 then imt_0_0 n else imt_0_1 n else bif Nat.blt n 30 then imt_0_2 n else imt_0_3 n else bif Nat.blt n 60 then bif Nat.blt n 50 then imt_0_4 n else imt_0_5 n else bif Nat.blt n 70 then imt_0_6 n else imt_0_7 n
def imt_1_0_0 (n : Nat) : Nat := bif Nat.blt n 81 then 80 else 81
def imt_1_0_1 (n : Nat) : Nat := bif Nat.blt n 83 then 82 else 83
def imt_1_0_2 (n : Nat) : Nat := bif Nat.blt n 85 then 84 else 85
def imt_1_0_3 (n : Nat) : Nat := bif Nat.blt n 87 then 86 else 87
def imt_1_0_4 (n : Nat) : Nat := bif Nat.blt n 89 then 88 else 89
def imt_1_0 (n : Nat) : Nat := bif Nat.blt n 84 then bif Nat.blt n 82 then imt_1_0_0 n else imt_1_0_1 n else bif Nat.blt n 86 then imt_1_0_2 n else bif Nat.blt n 88 then imt_1_0_3 n else imt_1_0_4 n
def imt_1_1_0 (n : Nat) : Nat := bif Nat.blt n 91 then 90 else 91
def imt_1_1_1 (n : Nat) : Nat := bif Nat.blt n 93 then 92 else 93
def imt_1_1_2 (n : Nat) : Nat := bif Nat.blt n 95 then 94 else 95
def imt_1_1_3 (n : Nat) : Nat := bif Nat.blt n 97 then 96 else 97
def imt_1_1_4 (n : Nat) : Nat := bif Nat.blt n 99 then 98 else 99
def imt_1_1 (n : Nat) : Nat := bif Nat.blt n 94 then bif Nat.blt n 92 then imt_1_1_0 n else imt_1_1_1 n else bif Nat.blt n 96 then imt_1_1_2 n else bif Nat.blt n 98 then imt_1_1_3 n else imt_1_1_4 n
def imt_1_2_0 (n : Nat) : Nat := bif Nat.blt n 101 then 100 else 101
def imt_1_2_1 (n : Nat) : Nat := bif Nat.blt n 103 then 102 else 103
def imt_1_2_2 (n : Nat) : Nat := bif Nat.blt n 105 then 104 else 105
def imt_1_2_3 (n : Nat) : Nat := bif Nat.blt n 107 then 106 else 107
def imt_1_2_4 (n : Nat) : Nat := bif Nat.blt n 109 then 108 else 109
def imt_1_2 (n : Nat) : Nat := bif Nat.blt n 104 then bif Nat.blt n 102 then imt_1_2_0 n else imt_1_2_1 n else bif Nat.blt n 106 then imt_1_2_2 n else bif Nat.blt n 108 then imt_1_2_3 n else imt_1_2_4 n
def imt_1_3_0 (n : Nat) : Nat := bif Nat.blt n 111 then 110 else 111
def imt_1_3_1 (n : Nat) : Nat := bif Nat.blt n 113 then 112 else 113
def imt_1_3_2 (n : Nat) : Nat := bif Nat.blt n 115 then 114 else 115
def imt_1_3_3 (n : Nat) : Nat := bif Nat.blt n 117 then 116 else 117
def imt_1_3_4 (n : Nat) : Nat := bif Nat.blt n 119 then 118 else 119
def imt_1_3 (n : Nat) : Nat := bif Nat.blt n 114 then bif Nat.blt n 112 then imt_1_3_0 n else imt_1_3_1 n else bif Nat.blt n 116 then imt_1_3_2 n else bif Nat.blt n 118 then imt_1_3_3 n else imt_1_3_4 n
def imt_1_4_0 (n : Nat) : Nat := bif Nat.blt n 121 then 120 else 121
def imt_1_4_1 (n : Nat) : Nat := bif Nat.blt n 123 then 122 else 123
def imt_1_4_2 (n : Nat) : Nat := bif Nat.blt n 125 then 124 else 125
def imt_1_4_3 (n : Nat) : Nat := bif Nat.blt n 127 then 126 else 127
def imt_1_4_4 (n : Nat) : Nat := bif Nat.blt n 129 then 128 else 129
def imt_1_4 (n : Nat) : Nat := bif Nat.blt n 124 then bif Nat.blt n 122 then imt_1_4_0 n else imt_1_4_1 n else bif Nat.blt n 126 then imt_1_4_2 n else bif Nat.blt n 128 then imt_1_4_3 n else imt_1_4_4 n
def imt_1_5_0 (n : Nat) : Nat := bif Nat.blt n 131 then 130 else 131
def imt_1_5_1 (n : Nat) : Nat := bif Nat.blt n 133 then 132 else 133
def imt_1_5_2 (n : Nat) : Nat := bif Nat.blt n 135 then 134 else 135
def imt_1_5_3 (n : Nat) : Nat := bif Nat.blt n 137 then 136 else 137
def imt_1_5_4 (n : Nat) : Nat := bif Nat.blt n 139 then 138 else 139
def imt_1_5 (n : Nat) : Nat := bif Nat.blt n 134 then bif Nat.blt n 132 then imt_1_5_0 n else imt_1_5_1 n else bif Nat.blt n 136 then imt_1_5_2 n else bif Nat.blt n 138 then imt_1_5_3 n else imt_1_5_4 n
def imt_1_6_0 (n : Nat) : Nat := bif Nat.blt n 141 then 140 else 141
def imt_1_6_1 (n : Nat) : Nat := bif Nat.blt n 143 then 142 else 143
def imt_1_6_2 (n : Nat) : Nat := bif Nat.blt n 145 then 144 else 145
def imt_1_6_3 (n : Nat) : Nat := bif Nat.blt n 147 then 146 else 147
def imt_1_6_4 (n : Nat) : Nat := bif Nat.blt n 149 then 148 else 149
def imt_1_6 (n : Nat) : Nat := bif Nat.blt n 144 then bif Nat.blt n 142 then imt_1_6_0 n else imt_1_6_1 n else bif Nat.blt n 146 then imt_1_6_2 n else bif Nat.blt n 148 then imt_1_6_3 n else imt_1_6_4 n
def imt_1_7_0 (n : Nat) : Nat := bif Nat.blt n 151 then 150 else 151
def imt_1_7_1 (n : Nat) : Nat := bif Nat.blt n 153 then 152 else 153
def imt_1_7_2 (n : Nat) : Nat := bif Nat.blt n 155 then 154 else 155
def imt_1_7_3 (n : Nat) : Nat := bif Nat.blt n 157 then 156 else 157
def imt_1_7_4 (n : Nat) : Nat := bif Nat.blt n 159 then 158 else 159
def imt_1_7 (n : Nat) : Nat := bif Nat.blt n 154 then bif Nat.blt n 152 then imt_1_7_0 n else imt_1_7_1 n else bif Nat.blt n 156 then imt_1_7_2 n else bif Nat.blt n 158 then imt_1_7_3 n else imt_1_7_4 n
def imt_1 (n : Nat) : Nat := bif Nat.blt n 120 then bif Nat.blt n 100 then bif Nat.blt n 90 then imt_1_0 n else imt_1_1 n else bif Nat.blt n 110 then imt_1_2 n else imt_1_3 n else bif Nat.blt n 140 then bif Nat.blt n 130 then imt_1_4 n else imt_1_5 n else bif Nat.blt n 150 then imt_1_6 n else imt_1_7 n
def imt_2_0_0 (n : Nat) : Nat := bif Nat.blt n 161 then 160 else 161
def imt_2_0_1 (n : Nat) : Nat := bif Nat.blt n 163 then 162 else 163
def imt_2_0_2 (n : Nat) : Nat := bif Nat.blt n 165 then 164 else 165
def imt_2_0_3 (n : Nat) : Nat := bif Nat.blt n 167 then 166 else 167
def imt_2_0_4 (n : Nat) : Nat := bif Nat.blt n 169 then 168 else 169
def imt_2_0 (n : Nat) : Nat := bif Nat.blt n 164 then bif Nat.blt n 162 then imt_2_0_0 n else imt_2_0_1 n else bif Nat.blt n 166 then imt_2_0_2 n else bif Nat.blt n 168 then imt_2_0_3 n else imt_2_0_4 n
def imt_2_1_0 (n : Nat) : Nat := bif Nat.blt n 171 then 170 else 171
def imt_2_1_1 (n : Nat) : Nat := bif Nat.blt n 173 then 172 else 173
def imt_2_1_2 (n : Nat) : Nat := bif Nat.blt n 175 then 174 else 175
def imt_2_1_3 (n : Nat) : Nat := bif Nat.blt n 177 then 176 else 177
def imt_2_1_4 (n : Nat) : Nat := bif Nat.blt n 179 then 178 else 179
def imt_2_1 (n : Nat) : Nat := bif Nat.blt n 174 then bif Nat.blt n 172 then imt_2_1_0 n else imt_2_1_1 n else bif Nat.blt n 176 then imt_2_1_2 n else bif Nat.blt n 178 then imt_2_1_3 n else imt_2_1_4 n
def imt_2_2_0 (n : Nat) : Nat := bif Nat.blt n 181 then 180 else 181
def imt_2_2_1 (n : Nat) : Nat := bif Nat.blt n 183 then 182 else 183
def imt_2_2_2 (n : Nat) : Nat := bif Nat.blt n 185 then 184 else 185
def imt_2_2_3 (n : Nat) : Nat := bif Nat.blt n 187 then 186 else 187
def imt_2_2_4 (n : Nat) : Nat := bif Nat.blt n 189 then 188 else 189
def imt_2_2 (n : Nat) : Nat := bif Nat.blt n 184 then bif Nat.blt n 182 then imt_2_2_0 n else imt_2_2_1 n else bif Nat.blt n 186 then imt_2_2_2 n else bif Nat.blt n 188 then imt_2_2_3 n else imt_2_2_4 n
def imt_2_3_0 (n : Nat) : Nat := bif Nat.blt n 191 then 190 else 191
def imt_2_3_1 (n : Nat) : Nat := bif Nat.blt n 193 then 192 else 193
def imt_2_3_2 (n : Nat) : Nat := bif Nat.blt n 195 then 194 else 195
def imt_2_3_3 (n : Nat) : Nat := bif Nat.blt n 197 then 196 else 197
def imt_2_3_4 (n : Nat) : Nat := bif Nat.blt n 199 then 198 else 199
def imt_2_3 (n : Nat) : Nat := bif Nat.blt n 194 then bif Nat.blt n 192 then imt_2_3_0 n else imt_2_3_1 n else bif Nat.blt n 196 then imt_2_3_2 n else bif Nat.blt n 198 then imt_2_3_3 n else imt_2_3_4 n
def imt_2_4_0 (n : Nat) : Nat := bif Nat.blt n 201 then 197 else 200
def imt_2_4_1 (n : Nat) : Nat := bif Nat.blt n 203 then 201 else 202
def imt_2_4_2 (n : Nat) : Nat := bif Nat.blt n 205 then 203 else 204
def imt_2_4_3 (n : Nat) : Nat := bif Nat.blt n 207 then 205 else 206
def imt_2_4_4 (n : Nat) : Nat := bif Nat.blt n 209 then 207 else 208
def imt_2_4 (n : Nat) : Nat := bif Nat.blt n 204 then bif Nat.blt n 202 then imt_2_4_0 n else imt_2_4_1 n else bif Nat.blt n 206 then imt_2_4_2 n else bif Nat.blt n 208 then imt_2_4_3 n else imt_2_4_4 n
def imt_2_5_0 (n : Nat) : Nat := bif Nat.blt n 211 then 209 else 210
def imt_2_5_1 (n : Nat) : Nat := bif Nat.blt n 213 then 211 else 212
def imt_2_5_2 (n : Nat) : Nat := bif Nat.blt n 215 then 213 else 214
def imt_2_5_3 (n : Nat) : Nat := bif Nat.blt n 217 then 215 else 216
def imt_2_5_4 (n : Nat) : Nat := bif Nat.blt n 219 then 217 else 218
def imt_2_5 (n : Nat) : Nat := bif Nat.blt n 214 then bif Nat.blt n 212 then imt_2_5_0 n else imt_2_5_1 n else bif Nat.blt n 216 then imt_2_5_2 n else bif Nat.blt n 218 then imt_2_5_3 n else imt_2_5_4 n
def imt_2_6_0 (n : Nat) : Nat := bif Nat.blt n 221 then 219 else 220
def imt_2_6_1 (n : Nat) : Nat := bif Nat.blt n 223 then 221 else 222
def imt_2_6_2 (n : Nat) : Nat := bif Nat.blt n 225 then 223 else 224
def imt_2_6_3 (n : Nat) : Nat := bif Nat.blt n 227 then 225 else 226
def imt_2_6_4 (n : Nat) : Nat := bif Nat.blt n 229 then 227 else 228
def imt_2_6 (n : Nat) : Nat := bif Nat.blt n 224 then bif Nat.blt n 222 then imt_2_6_0 n else imt_2_6_1 n else bif Nat.blt n 226 then imt_2_6_2 n else bif Nat.blt n 228 then imt_2_6_3 n else imt_2_6_4 n
def imt_2_7_0 (n : Nat) : Nat := bif Nat.blt n 231 then 229 else 230
def imt_2_7_1 (n : Nat) : Nat := bif Nat.blt n 233 then 231 else 232
def imt_2_7_2 (n : Nat) : Nat := bif Nat.blt n 235 then 233 else 234
def imt_2_7_3 (n : Nat) : Nat := bif Nat.blt n 237 then 235 else 235
def imt_2_7_4 (n : Nat) : Nat := bif Nat.blt n 239 then 236 else 237
def imt_2_7 (n : Nat) : Nat := bif Nat.blt n 234 then bif Nat.blt n 232 then imt_2_7_0 n else imt_2_7_1 n else bif Nat.blt n 236 then imt_2_7_2 n else bif Nat.blt n 238 then imt_2_7_3 n else imt_2_7_4 n
def imt_2 (n : Nat) : Nat := bif Nat.blt n 200 then bif Nat.blt n 180 then bif Nat.blt n 170 then imt_2_0 n else imt_2_1 n else bif Nat.blt n 190 then imt_2_2 n else imt_2_3 n else bif Nat.blt n 220 then bif Nat.blt n 210 then imt_2_4 n else imt_2_5 n else bif Nat.blt n 230 then imt_2_6 n else imt_2_7 n
def imt_3_0_0 (n : Nat) : Nat := bif Nat.blt n 241 then 238 else 239
def imt_3_0_1 (n : Nat) : Nat := bif Nat.blt n 243 then 240 else 241
def imt_3_0_2 (n : Nat) : Nat := bif Nat.blt n 245 then 242 else 243
def imt_3_0_3 (n : Nat) : Nat := bif Nat.blt n 247 then 244 else 245
def imt_3_0_4 (n : Nat) : Nat := bif Nat.blt n 249 then 246 else 247
def imt_3_0 (n : Nat) : Nat := bif Nat.blt n 244 then bif Nat.blt n 242 then imt_3_0_0 n else imt_3_0_1 n else bif Nat.blt n 246 then imt_3_0_2 n else bif Nat.blt n 248 then imt_3_0_3 n else imt_3_0_4 n
def imt_3_1_0 (n : Nat) : Nat := bif Nat.blt n 251 then 248 else 249
def imt_3_1_1 (n : Nat) : Nat := bif Nat.blt n 253 then 250 else 251
def imt_3_1_2 (n : Nat) : Nat := bif Nat.blt n 255 then 252 else 253
def imt_3_1_3 (n : Nat) : Nat := bif Nat.blt n 257 then 254 else 255
def imt_3_1_4 (n : Nat) : Nat := bif Nat.blt n 259 then 256 else 257
def imt_3_1 (n : Nat) : Nat := bif Nat.blt n 254 then bif Nat.blt n 252 then imt_3_1_0 n else imt_3_1_1 n else bif Nat.blt n 256 then imt_3_1_2 n else bif Nat.blt n 258 then imt_3_1_3 n else imt_3_1_4 n
def imt_3_2_0 (n : Nat) : Nat := bif Nat.blt n 261 then 258 else 259
def imt_3_2_1 (n : Nat) : Nat := bif Nat.blt n 263 then 260 else 261
def imt_3_2_2 (n : Nat) : Nat := bif Nat.blt n 265 then 262 else 263
def imt_3_2_3 (n : Nat) : Nat := bif Nat.blt n 267 then 264 else 265
def imt_3_2_4 (n : Nat) : Nat := bif Nat.blt n 269 then 266 else 267
def imt_3_2 (n : Nat) : Nat := bif Nat.blt n 264 then bif Nat.blt n 262 then imt_3_2_0 n else imt_3_2_1 n else bif Nat.blt n 266 then imt_3_2_2 n else bif Nat.blt n 268 then imt_3_2_3 n else imt_3_2_4 n
def imt_3_3_0 (n : Nat) : Nat := bif Nat.blt n 271 then 268 else 269
def imt_3_3_1 (n : Nat) : Nat := bif Nat.blt n 273 then 270 else 271
def imt_3_3_2 (n : Nat) : Nat := bif Nat.blt n 275 then 272 else 273
def imt_3_3_3 (n : Nat) : Nat := bif Nat.blt n 277 then 274 else 275
def imt_3_3_4 (n : Nat) : Nat := bif Nat.blt n 279 then 276 else 277
def imt_3_3 (n : Nat) : Nat := bif Nat.blt n 274 then bif Nat.blt n 272 then imt_3_3_0 n else imt_3_3_1 n else bif Nat.blt n 276 then imt_3_3_2 n else bif Nat.blt n 278 then imt_3_3_3 n else imt_3_3_4 n
def imt_3_4_0 (n : Nat) : Nat := bif Nat.blt n 281 then 278 else 279
def imt_3_4_1 (n : Nat) : Nat := bif Nat.blt n 283 then 280 else 281
def imt_3_4_2 (n : Nat) : Nat := bif Nat.blt n 285 then 282 else 283
def imt_3_4_3 (n : Nat) : Nat := bif Nat.blt n 287 then 284 else 285
def imt_3_4_4 (n : Nat) : Nat := bif Nat.blt n 289 then 286 else 287
def imt_3_4 (n : Nat) : Nat := bif Nat.blt n 284 then bif Nat.blt n 282 then imt_3_4_0 n else imt_3_4_1 n else bif Nat.blt n 286 then imt_3_4_2 n else bif Nat.blt n 288 then imt_3_4_3 n else imt_3_4_4 n
def imt_3_5_0 (n : Nat) : Nat := bif Nat.blt n 291 then 288 else 289
def imt_3_5_1 (n : Nat) : Nat := bif Nat.blt n 293 then 290 else 291
def imt_3_5_2 (n : Nat) : Nat := bif Nat.blt n 295 then 292 else 293
def imt_3_5_3 (n : Nat) : Nat := bif Nat.blt n 297 then 294 else 295
def imt_3_5_4 (n : Nat) : Nat := bif Nat.blt n 299 then 296 else 297
def imt_3_5 (n : Nat) : Nat := bif Nat.blt n 294 then bif Nat.blt n 292 then imt_3_5_0 n else imt_3_5_1 n else bif Nat.blt n 296 then imt_3_5_2 n else bif Nat.blt n 298 then imt_3_5_3 n else imt_3_5_4 n
def imt_3_6_0 (n : Nat) : Nat := bif Nat.blt n 301 then 298 else 299
def imt_3_6_1 (n : Nat) : Nat := bif Nat.blt n 303 then 300 else 301
def imt_3_6_2 (n : Nat) : Nat := bif Nat.blt n 305 then 302 else 303
def imt_3_6_3 (n : Nat) : Nat := bif Nat.blt n 307 then 304 else 305
def imt_3_6_4 (n : Nat) : Nat := bif Nat.blt n 309 then 306 else 307
def imt_3_6 (n : Nat) : Nat := bif Nat.blt n 304 then bif Nat.blt n 302 then imt_3_6_0 n else imt_3_6_1 n else bif Nat.blt n 306 then imt_3_6_2 n else bif Nat.blt n 308 then imt_3_6_3 n else imt_3_6_4 n
def imt_3_7_0 (n : Nat) : Nat := bif Nat.blt n 311 then 308 else 309
def imt_3_7_1 (n : Nat) : Nat := bif Nat.blt n 313 then 310 else 311
def imt_3_7_2 (n : Nat) : Nat := bif Nat.blt n 315 then 312 else 313
def imt_3_7_3 (n : Nat) : Nat := bif Nat.blt n 317 then 314 else 315
def imt_3_7_4 (n : Nat) : Nat := bif Nat.blt n 319 then 316 else 317
def imt_3_7 (n : Nat) : Nat := bif Nat.blt n 314 then bif Nat.blt n 312 then imt_3_7_0 n else imt_3_7_1 n else bif Nat.blt n 316 then imt_3_7_2 n else bif Nat.blt n 318 then imt_3_7_3 n else imt_3_7_4 n
def imt_3 (n : Nat) : Nat := bif Nat.blt n 280 then bif Nat.blt n 260 then bif Nat.blt n 250 then imt_3_0 n else imt_3_1 n else bif Nat.blt n 270 then imt_3_2 n else imt_3_3 n else bif Nat.blt n 300 then bif Nat.blt n 290 then imt_3_4 n else imt_3_5 n else bif Nat.blt n 310 then imt_3_6 n else imt_3_7 n
def imt_4_0_0 (n : Nat) : Nat := bif Nat.blt n 321 then 318 else 319
def imt_4_0_1 (n : Nat) : Nat := bif Nat.blt n 323 then 320 else 321
def imt_4_0_2 (n : Nat) : Nat := bif Nat.blt n 325 then 322 else 323
def imt_4_0_3 (n : Nat) : Nat := bif Nat.blt n 327 then 324 else 325
def imt_4_0_4 (n : Nat) : Nat := bif Nat.blt n 329 then 326 else 327
def imt_4_0 (n : Nat) : Nat := bif Nat.blt n 324 then bif Nat.blt n 322 then imt_4_0_0 n else imt_4_0_1 n else bif Nat.blt n 326 then imt_4_0_2 n else bif Nat.blt n 328 then imt_4_0_3 n else imt_4_0_4 n
def imt_4_1_0 (n : Nat) : Nat := bif Nat.blt n 331 then 328 else 329
def imt_4_1_1 (n : Nat) : Nat := bif Nat.blt n 333 then 330 else 331
def imt_4_1_2 (n : Nat) : Nat := bif Nat.blt n 335 then 332 else 333
def imt_4_1_3 (n : Nat) : Nat := bif Nat.blt n 337 then 334 else 335
def imt_4_1_4 (n : Nat) : Nat := bif Nat.blt n 339 then 336 else 337
def imt_4_1 (n : Nat) : Nat := bif Nat.blt n 334 then bif Nat.blt n 332 then imt_4_1_0 n else imt_4_1_1 n else bif Nat.blt n 336 then imt_4_1_2 n else bif Nat.blt n 338 then imt_4_1_3 n else imt_4_1_4 n
def imt_4_2_0 (n : Nat) : Nat := bif Nat.blt n 341 then 338 else 339
def imt_4_2_1 (n : Nat) : Nat := bif Nat.blt n 343 then 340 else 341
def imt_4_2_2 (n : Nat) : Nat := bif Nat.blt n 345 then 342 else 343
def imt_4_2_3 (n : Nat) : Nat := bif Nat.blt n 347 then 344 else 345
def imt_4_2_4 (n : Nat) : Nat := bif Nat.blt n 349 then 346 else 347
def imt_4_2 (n : Nat) : Nat := bif Nat.blt n 344 then bif Nat.blt n 342 then imt_4_2_0 n else imt_4_2_1 n else bif Nat.blt n 346 then imt_4_2_2 n else bif Nat.blt n 348 then imt_4_2_3 n else imt_4_2_4 n
def imt_4_3_0 (n : Nat) : Nat := bif Nat.blt n 351 then 348 else 349
def imt_4_3_1 (n : Nat) : Nat := bif Nat.blt n 353 then 350 else 351
def imt_4_3_2 (n : Nat) : Nat := bif Nat.blt n 355 then 352 else 353
def imt_4_3_3 (n : Nat) : Nat := bif Nat.blt n 357 then 354 else 355
def imt_4_3_4 (n : Nat) : Nat := bif Nat.blt n 359 then 356 else 357
def imt_4_3 (n : Nat) : Nat := bif Nat.blt n 354 then bif Nat.blt n 352 then imt_4_3_0 n else imt_4_3_1 n else bif Nat.blt n 356 then imt_4_3_2 n else bif Nat.blt n 358 then imt_4_3_3 n else imt_4_3_4 n
def imt_4_4_0 (n : Nat) : Nat := bif Nat.blt n 361 then 358 else 359
def imt_4_4_1 (n : Nat) : Nat := bif Nat.blt n 363 then 360 else 361
def imt_4_4_2 (n : Nat) : Nat := bif Nat.blt n 365 then 362 else 363
def imt_4_4_3 (n : Nat) : Nat := bif Nat.blt n 367 then 364 else 365
def imt_4_4_4 (n : Nat) : Nat := bif Nat.blt n 369 then 366 else 367
def imt_4_4 (n : Nat) : Nat := bif Nat.blt n 364 then bif Nat.blt n 362 then imt_4_4_0 n else imt_4_4_1 n else bif Nat.blt n 366 then imt_4_4_2 n else bif Nat.blt n 368 then imt_4_4_3 n else imt_4_4_4 n
def imt_4_5_0 (n : Nat) : Nat := bif Nat.blt n 371 then 368 else 369
def imt_4_5_1 (n : Nat) : Nat := bif Nat.blt n 373 then 370 else 371
def imt_4_5_2 (n : Nat) : Nat := bif Nat.blt n 375 then 372 else 373
def imt_4_5_3 (n : Nat) : Nat := bif Nat.blt n 377 then 374 else 375
def imt_4_5_4 (n : Nat) : Nat := bif Nat.blt n 379 then 376 else 377
def imt_4_5 (n : Nat) : Nat := bif Nat.blt n 374 then bif Nat.blt n 372 then imt_4_5_0 n else imt_4_5_1 n else bif Nat.blt n 376 then imt_4_5_2 n else bif Nat.blt n 378 then imt_4_5_3 n else imt_4_5_4 n
def imt_4_6_0 (n : Nat) : Nat := bif Nat.blt n 381 then 378 else 379
def imt_4_6_1 (n : Nat) : Nat := bif Nat.blt n 383 then 380 else 381
def imt_4_6_2 (n : Nat) : Nat := bif Nat.blt n 385 then 382 else 383
def imt_4_6_3 (n : Nat) : Nat := bif Nat.blt n 387 then 384 else 385
def imt_4_6_4 (n : Nat) : Nat := bif Nat.blt n 389 then 386 else 387
def imt_4_6 (n : Nat) : Nat := bif Nat.blt n 384 then bif Nat.blt n 382 then imt_4_6_0 n else imt_4_6_1 n else bif Nat.blt n 386 then imt_4_6_2 n else bif Nat.blt n 388 then imt_4_6_3 n else imt_4_6_4 n
def imt_4_7_0 (n : Nat) : Nat := bif Nat.blt n 391 then 388 else 389
def imt_4_7_1 (n : Nat) : Nat := bif Nat.blt n 393 then 390 else 391
def imt_4_7_2 (n : Nat) : Nat := bif Nat.blt n 395 then 392 else 393
def imt_4_7_3 (n : Nat) : Nat := bif Nat.blt n 397 then 394 else 395
def imt_4_7_4 (n : Nat) : Nat := bif Nat.blt n 399 then 396 else 397
def imt_4_7 (n : Nat) : Nat := bif Nat.blt n 394 then bif Nat.blt n 392 then imt_4_7_0 n else imt_4_7_1 n else bif Nat.blt n 396 then imt_4_7_2 n else bif Nat.blt n 398 then imt_4_7_3 n else imt_4_7_4 n
def imt_4 (n : Nat) : Nat := bif Nat.blt n 360 then bif Nat.blt n 340 then bif Nat.blt n 330 then imt_4_0 n else imt_4_1 n else bif Nat.blt n 350 then imt_4_2 n else imt_4_3 n else bif Nat.blt n 380 then bif Nat.blt n 370 then imt_4_4 n else imt_4_5 n else bif Nat.blt n 390 then imt_4_6 n else imt_4_7 n
def imt_5_0_0 (n : Nat) : Nat := bif Nat.blt n 401 then 398 else 399
def imt_5_0_1 (n : Nat) : Nat := bif Nat.blt n 403 then 400 else 401
def imt_5_0_2 (n : Nat) : Nat := bif Nat.blt n 405 then 402 else 403
def imt_5_0_3 (n : Nat) : Nat := bif Nat.blt n 407 then 404 else 405
def imt_5_0_4 (n : Nat) : Nat := bif Nat.blt n 409 then 406 else 407
def imt_5_0 (n : Nat) : Nat := bif Nat.blt n 404 then bif Nat.blt n 402 then imt_5_0_0 n else imt_5_0_1 n else bif Nat.blt n 406 then imt_5_0_2 n else bif Nat.blt n 408 then imt_5_0_3 n else imt_5_0_4 n
def imt_5_1_0 (n : Nat) : Nat := bif Nat.blt n 411 then 408 else 409
def imt_5_1_1 (n : Nat) : Nat := bif Nat.blt n 413 then 410 else 411
def imt_5_1_2 (n : Nat) : Nat := bif Nat.blt n 415 then 412 else 413
def imt_5_1_3 (n : Nat) : Nat := bif Nat.blt n 417 then 414 else 415
def imt_5_1_4 (n : Nat) : Nat := bif Nat.blt n 419 then 416 else 417
def imt_5_1 (n : Nat) : Nat := bif Nat.blt n 414 then bif Nat.blt n 412 then imt_5_1_0 n else imt_5_1_1 n else bif Nat.blt n 416 then imt_5_1_2 n else bif Nat.blt n 418 then imt_5_1_3 n else imt_5_1_4 n
def imt_5_2_0 (n : Nat) : Nat := bif Nat.blt n 421 then 418 else 419
def imt_5_2_1 (n : Nat) : Nat := bif Nat.blt n 423 then 420 else 421
def imt_5_2_2 (n : Nat) : Nat := bif Nat.blt n 425 then 422 else 423
def imt_5_2_3 (n : Nat) : Nat := bif Nat.blt n 427 then 424 else 425
def imt_5_2_4 (n : Nat) : Nat := bif Nat.blt n 429 then 426 else 427
def imt_5_2 (n : Nat) : Nat := bif Nat.blt n 424 then bif Nat.blt n 422 then imt_5_2_0 n else imt_5_2_1 n else bif Nat.blt n 426 then imt_5_2_2 n else bif Nat.blt n 428 then imt_5_2_3 n else imt_5_2_4 n
def imt_5_3_0 (n : Nat) : Nat := bif Nat.blt n 431 then 428 else 429
def imt_5_3_1 (n : Nat) : Nat := bif Nat.blt n 433 then 429 else 429
def imt_5_3_2 (n : Nat) : Nat := bif Nat.blt n 435 then 429 else 429
def imt_5_3_3 (n : Nat) : Nat := bif Nat.blt n 437 then 429 else 429
def imt_5_3_4 (n : Nat) : Nat := bif Nat.blt n 439 then 429 else 430
def imt_5_3 (n : Nat) : Nat := bif Nat.blt n 434 then bif Nat.blt n 432 then imt_5_3_0 n else imt_5_3_1 n else bif Nat.blt n 436 then imt_5_3_2 n else bif Nat.blt n 438 then imt_5_3_3 n else imt_5_3_4 n
def imt_5_4_0 (n : Nat) : Nat := bif Nat.blt n 441 then 431 else 432
def imt_5_4_1 (n : Nat) : Nat := bif Nat.blt n 443 then 433 else 434
def imt_5_4_2 (n : Nat) : Nat := bif Nat.blt n 445 then 435 else 436
def imt_5_4_3 (n : Nat) : Nat := bif Nat.blt n 447 then 437 else 438
def imt_5_4_4 (n : Nat) : Nat := bif Nat.blt n 449 then 439 else 440
def imt_5_4 (n : Nat) : Nat := bif Nat.blt n 444 then bif Nat.blt n 442 then imt_5_4_0 n else imt_5_4_1 n else bif Nat.blt n 446 then imt_5_4_2 n else bif Nat.blt n 448 then imt_5_4_3 n else imt_5_4_4 n
def imt_5_5_0 (n : Nat) : Nat := bif Nat.blt n 451 then 441 else 442
def imt_5_5_1 (n : Nat) : Nat := bif Nat.blt n 453 then 443 else 444
def imt_5_5_2 (n : Nat) : Nat := bif Nat.blt n 455 then 445 else 446
def imt_5_5_3 (n : Nat) : Nat := bif Nat.blt n 457 then 447 else 448
def imt_5_5_4 (n : Nat) : Nat := bif Nat.blt n 459 then 449 else 450
def imt_5_5 (n : Nat) : Nat := bif Nat.blt n 454 then bif Nat.blt n 452 then imt_5_5_0 n else imt_5_5_1 n else bif Nat.blt n 456 then imt_5_5_2 n else bif Nat.blt n 458 then imt_5_5_3 n else imt_5_5_4 n
def imt_5_6_0 (n : Nat) : Nat := bif Nat.blt n 461 then 451 else 452
def imt_5_6_1 (n : Nat) : Nat := bif Nat.blt n 463 then 453 else 454
def imt_5_6_2 (n : Nat) : Nat := bif Nat.blt n 465 then 455 else 456
def imt_5_6_3 (n : Nat) : Nat := bif Nat.blt n 467 then 457 else 458
def imt_5_6_4 (n : Nat) : Nat := bif Nat.blt n 469 then 459 else 460
def imt_5_6 (n : Nat) : Nat := bif Nat.blt n 464 then bif Nat.blt n 462 then imt_5_6_0 n else imt_5_6_1 n else bif Nat.blt n 466 then imt_5_6_2 n else bif Nat.blt n 468 then imt_5_6_3 n else imt_5_6_4 n
def imt_5_7_0 (n : Nat) : Nat := bif Nat.blt n 471 then 461 else 462
def imt_5_7_1 (n : Nat) : Nat := bif Nat.blt n 473 then 463 else 464
def imt_5_7_2 (n : Nat) : Nat := bif Nat.blt n 475 then 465 else 466
def imt_5_7_3 (n : Nat) : Nat := bif Nat.blt n 477 then 467 else 468
def imt_5_7_4 (n : Nat) : Nat := bif Nat.blt n 479 then 469 else 470
def imt_5_7 (n : Nat) : Nat := bif Nat.blt n 474 then bif Nat.blt n 472 then imt_5_7_0 n else imt_5_7_1 n else bif Nat.blt n 476 then imt_5_7_2 n else bif Nat.blt n 478 then imt_5_7_3 n else imt_5_7_4 n
def imt_5 (n : Nat) : Nat := bif Nat.blt n 440 then bif Nat.blt n 420 then bif Nat.blt n 410 then imt_5_0 n else imt_5_1 n else bif Nat.blt n 430 then imt_5_2 n else imt_5_3 n else bif Nat.blt n 460 then bif Nat.blt n 450 then imt_5_4 n else imt_5_5 n else bif Nat.blt n 470 then imt_5_6 n else imt_5_7 n
def imt_6_0_0 (n : Nat) : Nat := bif Nat.blt n 481 then 471 else 472
def imt_6_0_1 (n : Nat) : Nat := bif Nat.blt n 483 then 473 else 474
def imt_6_0_2 (n : Nat) : Nat := bif Nat.blt n 485 then 475 else 476
def imt_6_0_3 (n : Nat) : Nat := bif Nat.blt n 487 then 477 else 478
def imt_6_0_4 (n : Nat) : Nat := bif Nat.blt n 489 then 479 else 480
def imt_6_0 (n : Nat) : Nat := bif Nat.blt n 484 then bif Nat.blt n 482 then imt_6_0_0 n else imt_6_0_1 n else bif Nat.blt n 486 then imt_6_0_2 n else bif Nat.blt n 488 then imt_6_0_3 n else imt_6_0_4 n
def imt_6_1_0 (n : Nat) : Nat := bif Nat.blt n 491 then 481 else 482
def imt_6_1_1 (n : Nat) : Nat := bif Nat.blt n 493 then 483 else 484
def imt_6_1_2 (n : Nat) : Nat := bif Nat.blt n 495 then 485 else 486
def imt_6_1_3 (n : Nat) : Nat := bif Nat.blt n 497 then 487 else 488
def imt_6_1_4 (n : Nat) : Nat := bif Nat.blt n 499 then 489 else 490
def imt_6_1 (n : Nat) : Nat := bif Nat.blt n 494 then bif Nat.blt n 492 then imt_6_1_0 n else imt_6_1_1 n else bif Nat.blt n 496 then imt_6_1_2 n else bif Nat.blt n 498 then imt_6_1_3 n else imt_6_1_4 n
def imt_6_2_0 (n : Nat) : Nat := bif Nat.blt n 501 then 491 else 492
def imt_6_2_1 (n : Nat) : Nat := bif Nat.blt n 503 then 493 else 494
def imt_6_2_2 (n : Nat) : Nat := bif Nat.blt n 505 then 495 else 496
def imt_6_2_3 (n : Nat) : Nat := bif Nat.blt n 507 then 497 else 498
def imt_6_2_4 (n : Nat) : Nat := bif Nat.blt n 509 then 499 else 500
def imt_6_2 (n : Nat) : Nat := bif Nat.blt n 504 then bif Nat.blt n 502 then imt_6_2_0 n else imt_6_2_1 n else bif Nat.blt n 506 then imt_6_2_2 n else bif Nat.blt n 508 then imt_6_2_3 n else imt_6_2_4 n
def imt_6_3_0 (n : Nat) : Nat := bif Nat.blt n 511 then 501 else 502
def imt_6_3_1 (n : Nat) : Nat := bif Nat.blt n 513 then 503 else 504
def imt_6_3_2 (n : Nat) : Nat := bif Nat.blt n 515 then 505 else 506
def imt_6_3_3 (n : Nat) : Nat := bif Nat.blt n 517 then 507 else 508
def imt_6_3_4 (n : Nat) : Nat := bif Nat.blt n 519 then 509 else 510
def imt_6_3 (n : Nat) : Nat := bif Nat.blt n 514 then bif Nat.blt n 512 then imt_6_3_0 n else imt_6_3_1 n else bif Nat.blt n 516 then imt_6_3_2 n else bif Nat.blt n 518 then imt_6_3_3 n else imt_6_3_4 n
def imt_6_4_0 (n : Nat) : Nat := bif Nat.blt n 521 then 511 else 512
def imt_6_4_1 (n : Nat) : Nat := bif Nat.blt n 523 then 513 else 514
def imt_6_4_2 (n : Nat) : Nat := bif Nat.blt n 525 then 515 else 516
def imt_6_4_3 (n : Nat) : Nat := bif Nat.blt n 527 then 517 else 518
def imt_6_4_4 (n : Nat) : Nat := bif Nat.blt n 529 then 519 else 520
def imt_6_4 (n : Nat) : Nat := bif Nat.blt n 524 then bif Nat.blt n 522 then imt_6_4_0 n else imt_6_4_1 n else bif Nat.blt n 526 then imt_6_4_2 n else bif Nat.blt n 528 then imt_6_4_3 n else imt_6_4_4 n
def imt_6_5_0 (n : Nat) : Nat := bif Nat.blt n 531 then 521 else 522
def imt_6_5_1 (n : Nat) : Nat := bif Nat.blt n 533 then 523 else 524
def imt_6_5_2 (n : Nat) : Nat := bif Nat.blt n 535 then 525 else 526
def imt_6_5_3 (n : Nat) : Nat := bif Nat.blt n 537 then 527 else 528
def imt_6_5_4 (n : Nat) : Nat := bif Nat.blt n 539 then 529 else 530
def imt_6_5 (n : Nat) : Nat := bif Nat.blt n 534 then bif Nat.blt n 532 then imt_6_5_0 n else imt_6_5_1 n else bif Nat.blt n 536 then imt_6_5_2 n else bif Nat.blt n 538 then imt_6_5_3 n else imt_6_5_4 n
def imt_6_6_0 (n : Nat) : Nat := bif Nat.blt n 541 then 531 else 532
def imt_6_6_1 (n : Nat) : Nat := bif Nat.blt n 543 then 533 else 534
def imt_6_6_2 (n : Nat) : Nat := bif Nat.blt n 545 then 535 else 536
def imt_6_6_3 (n : Nat) : Nat := bif Nat.blt n 547 then 537 else 538
def imt_6_6_4 (n : Nat) : Nat := bif Nat.blt n 549 then 539 else 540
def imt_6_6 (n : Nat) : Nat := bif Nat.blt n 544 then bif Nat.blt n 542 then imt_6_6_0 n else imt_6_6_1 n else bif Nat.blt n 546 then imt_6_6_2 n else bif Nat.blt n 548 then imt_6_6_3 n else imt_6_6_4 n
def imt_6_7_0 (n : Nat) : Nat := bif Nat.blt n 551 then 541 else 542
def imt_6_7_1 (n : Nat) : Nat := bif Nat.blt n 553 then 543 else 544
def imt_6_7_2 (n : Nat) : Nat := bif Nat.blt n 555 then 545 else 546
def imt_6_7_3 (n : Nat) : Nat := bif Nat.blt n 557 then 547 else 548
def imt_6_7_4 (n : Nat) : Nat := bif Nat.blt n 559 then 549 else 550
def imt_6_7 (n : Nat) : Nat := bif Nat.blt n 554 then bif Nat.blt n 552 then imt_6_7_0 n else imt_6_7_1 n else bif Nat.blt n 556 then imt_6_7_2 n else bif Nat.blt n 558 then imt_6_7_3 n else imt_6_7_4 n
def imt_6 (n : Nat) : Nat := bif Nat.blt n 520 then bif Nat.blt n 500 then bif Nat.blt n 490 then imt_6_0 n else imt_6_1 n else bif Nat.blt n 510 then imt_6_2 n else imt_6_3 n else bif Nat.blt n 540 then bif Nat.blt n 530 then imt_6_4 n else imt_6_5 n else bif Nat.blt n 550 then imt_6_6 n else imt_6_7 n
def imt_7_0_0 (n : Nat) : Nat := bif Nat.blt n 561 then 551 else 552
def imt_7_0_1 (n : Nat) : Nat := bif Nat.blt n 563 then 553 else 554
def imt_7_0_2 (n : Nat) : Nat := bif Nat.blt n 565 then 555 else 556
def imt_7_0_3 (n : Nat) : Nat := bif Nat.blt n 567 then 557 else 558
def imt_7_0_4 (n : Nat) : Nat := bif Nat.blt n 569 then 559 else 560
def imt_7_0 (n : Nat) : Nat := bif Nat.blt n 564 then bif Nat.blt n 562 then imt_7_0_0 n else imt_7_0_1 n else bif Nat.blt n 566 then imt_7_0_2 n else bif Nat.blt n 568 then imt_7_0_3 n else imt_7_0_4 n
def imt_7_1_0 (n : Nat) : Nat := bif Nat.blt n 571 then 561 else 562
def imt_7_1_1 (n : Nat) : Nat := bif Nat.blt n 573 then 563 else 564
def imt_7_1_2 (n : Nat) : Nat := bif Nat.blt n 575 then 565 else 566
def imt_7_1_3 (n : Nat) : Nat := bif Nat.blt n 577 then 567 else 568
def imt_7_1_4 (n : Nat) : Nat := bif Nat.blt n 579 then 569 else 570
def imt_7_1 (n : Nat) : Nat := bif Nat.blt n 574 then bif Nat.blt n 572 then imt_7_1_0 n else imt_7_1_1 n else bif Nat.blt n 576 then imt_7_1_2 n else bif Nat.blt n 578 then imt_7_1_3 n else imt_7_1_4 n
def imt_7_2_0 (n : Nat) : Nat := bif Nat.blt n 581 then 571 else 572
def imt_7_2_1 (n : Nat) : Nat := bif Nat.blt n 583 then 573 else 574
def imt_7_2_2 (n : Nat) : Nat := bif Nat.blt n 585 then 575 else 576
def imt_7_2_3 (n : Nat) : Nat := bif Nat.blt n 587 then 577 else 578
def imt_7_2_4 (n : Nat) : Nat := bif Nat.blt n 589 then 579 else 580
def imt_7_2 (n : Nat) : Nat := bif Nat.blt n 584 then bif Nat.blt n 582 then imt_7_2_0 n else imt_7_2_1 n else bif Nat.blt n 586 then imt_7_2_2 n else bif Nat.blt n 588 then imt_7_2_3 n else imt_7_2_4 n
def imt_7_3_0 (n : Nat) : Nat := bif Nat.blt n 591 then 581 else 582
def imt_7_3_1 (n : Nat) : Nat := bif Nat.blt n 593 then 583 else 584
def imt_7_3_2 (n : Nat) : Nat := bif Nat.blt n 595 then 585 else 586
def imt_7_3_3 (n : Nat) : Nat := bif Nat.blt n 597 then 587 else 588
def imt_7_3_4 (n : Nat) : Nat := bif Nat.blt n 599 then 589 else 590
def imt_7_3 (n : Nat) : Nat := bif Nat.blt n 594 then bif Nat.blt n 592 then imt_7_3_0 n else imt_7_3_1 n else bif Nat.blt n 596 then imt_7_3_2 n else bif Nat.blt n 598 then imt_7_3_3 n else imt_7_3_4 n
def imt_7_4_0 (n : Nat) : Nat := bif Nat.blt n 601 then 591 else 592
def imt_7_4_1 (n : Nat) : Nat := bif Nat.blt n 603 then 593 else 594
def imt_7_4_2 (n : Nat) : Nat := bif Nat.blt n 605 then 595 else 596
def imt_7_4_3 (n : Nat) : Nat := bif Nat.blt n 607 then 597 else 598
def imt_7_4_4 (n : Nat) : Nat := bif Nat.blt n 609 then 599 else 600
def imt_7_4 (n : Nat) : Nat := bif Nat.blt n 604 then bif Nat.blt n 602 then imt_7_4_0 n else imt_7_4_1 n else bif Nat.blt n 606 then imt_7_4_2 n else bif Nat.blt n 608 then imt_7_4_3 n else imt_7_4_4 n
def imt_7_5_0 (n : Nat) : Nat := bif Nat.blt n 611 then 601 else 602
def imt_7_5_1 (n : Nat) : Nat := bif Nat.blt n 613 then 603 else 604
def imt_7_5_2 (n : Nat) : Nat := bif Nat.blt n 615 then 605 else 606
def imt_7_5_3 (n : Nat) : Nat := bif Nat.blt n 617 then 607 else 608
def imt_7_5_4 (n : Nat) : Nat := bif Nat.blt n 619 then 609 else 610
def imt_7_5 (n : Nat) : Nat := bif Nat.blt n 614 then bif Nat.blt n 612 then imt_7_5_0 n else imt_7_5_1 n else bif Nat.blt n 616 then imt_7_5_2 n else bif Nat.blt n 618 then imt_7_5_3 n else imt_7_5_4 n
def imt_7_6_0 (n : Nat) : Nat := bif Nat.blt n 621 then 611 else 612
def imt_7_6_1 (n : Nat) : Nat := bif Nat.blt n 623 then 613 else 614
def imt_7_6_2 (n : Nat) : Nat := bif Nat.blt n 625 then 615 else 616
def imt_7_6_3 (n : Nat) : Nat := bif Nat.blt n 627 then 617 else 618
def imt_7_6_4 (n : Nat) : Nat := bif Nat.blt n 629 then 619 else 620
def imt_7_6 (n : Nat) : Nat := bif Nat.blt n 624 then bif Nat.blt n 622 then imt_7_6_0 n else imt_7_6_1 n else bif Nat.blt n 626 then imt_7_6_2 n else bif Nat.blt n 628 then imt_7_6_3 n else imt_7_6_4 n
def imt_7_7 (n : Nat) : Nat := bif Nat.blt n 634 then bif Nat.blt n 632 then bif Nat.blt n 631 then 621 else 622 else bif Nat.blt n 633 then 623 else 624 else bif Nat.blt n 636 then bif Nat.blt n 635 then 625 else 626 else bif Nat.blt n 637 then 627 else 628
def imt_7 (n : Nat) : Nat := bif Nat.blt n 600 then bif Nat.blt n 580 then bif Nat.blt n 570 then imt_7_0 n else imt_7_1 n else bif Nat.blt n 590 then imt_7_2 n else imt_7_3 n else bif Nat.blt n 620 then bif Nat.blt n 610 then imt_7_4 n else imt_7_5 n else bif Nat.blt n 630 then imt_7_6 n else imt_7_7 n
def imt (n : Nat) : Nat := bif Nat.blt n 320 then bif Nat.blt n 160 then bif Nat.blt n 80 then imt_0 n else imt_1 n else bif Nat.blt n 240 then imt_2 n else imt_3 n else bif Nat.blt n 480 then bif Nat.blt n 400 then imt_4 n else imt_5 n else bif Nat.blt n 560 then imt_6 n else imt_7 n
theorem mow_ok : ∀ n, 0 ≤ n → n < 629 → (mth n).cls = cx_nm (mow n) := ivj (m := 314) (ivj (m := 157) (ivj (m := 78) (ivj (m := 39) (ivj (m := 19) (ivj (m := 9) (ivj (m := 4) (ivj (m := 2) (ivj (m := 1) (iv1 (P := fun n => (mth n).cls = cx_nm (mow n)) rfl rfl) (iv1 (P := fun n => (mth n).cls = cx_nm (mow n)) rfl rfl)) (ivj (m := 3) (iv1 (P := fun n => (mth n).cls = cx_nm (mow n)) rfl rfl) (iv1 (P := fun n => (mth n).cls = cx_nm (mow n)) rfl rfl))) (ivj (m := 6) (ivj (m := 5) (iv1 (P := fun n => (mth n).cls = cx_nm (mow n)) rfl rfl) (iv1 (P := fun n => (mth n).cls = cx_nm (mow n)) rfl rfl)) (ivj (m := 7) (iv1 (P := fun n => (mth n).cls = cx_nm (mow n)) rfl rfl) (ivj (m := 8) (iv1 (P := fun n => (mth n).cls = cx_nm (mow n)) rfl rfl) (iv1 (P := fun n => (mth n).cls = cx_nm (mow n)) rfl rfl))))) (ivj (m := 14) (ivj (m := 11) (ivj (m := 10) (iv1 (P := fun n => (mth n).cls = cx_nm (mow n)) rfl rfl) (iv1 (P := fun n => (mth n).cls = cx_nm (mow n)) rfl rfl)) (ivj (m := 12) (iv1 (P := fun n => (mth n).cls = cx_nm (mow n)) rfl rfl) (ivj (m := 13) (iv1 (P := fun n => (mth n).cls = cx_nm (mow n)) rfl rfl) (iv1 (P := fun n => (mth n).cls = cx_nm (mow n)) rfl rfl)))) (ivj (m := 16) (ivj (m := 15) (iv1 (P := fun n => (mth n).cls = cx_nm (mow n)) rfl rfl) (iv1 (P := fun n => (mth n).cls = cx_nm (mow n)) rfl rfl)) (ivj (m := 17) (iv1 (P := fun n => (mth n).cls = cx_nm (mow n)) rfl rfl) (ivj (m := 18) (iv1 (P := fun n => (mth n).cls = cx_nm (mow n)) rfl rfl) (iv1 (P := fun n => (mth n).cls = cx_nm (mow n)) rfl rfl)))))) (ivj (m := 29) (ivj (m := 24) (ivj (m := 21) (ivj (m := 20) (iv1 (P := fun n => (mth n).cls = cx_nm (mow n)) rfl rfl) (iv1 (P := fun n => (mth n).cls = cx_nm (mow n)) rfl rfl)) (ivj (m := 22) (iv1 (P := fun n => (mth n).cls = cx_nm (mow n)) rfl rfl) (ivj (m := 23) (iv1 (P := fun n => (mth n).cls = cx_nm (mow n)) rfl rfl) (iv1 (P := fun n => (mth n).cls = cx_nm (mow n)) rfl rfl)))) (ivj (m := 26) (ivj (m := 25) (iv1 (P := fun n => (mth n).cls = cx_nm (mow n)) rfl rfl) (iv1 (P := fun n => (mth n).cls = cx_nm (mow n)) rfl rfl)) (ivj (m := 27) (iv1 (P := fun n => (mth n).cls = cx_nm (mow n)) rfl rfl) (ivj (m := 28) (iv1 (P := fun n => (mth n).cls = cx_nm (mow n)) rfl rfl) (iv1 (P := fun n => (mth n).cls = cx_nm (mow n)) rfl rfl))))) (ivj (m := 34) (ivj (m := 31) (ivj (m := 30) (iv1 (P := fun n => (mth n).cls = cx_nm (mow n)) rfl rfl) (iv1 (P := fun n => (mth n).cls = cx_nm (mow n)) rfl rfl)) (ivj (m := 32) (iv1 (P := fun n => (mth n).cls = cx_nm (mow n)) rfl rfl) (ivj (m := 33) (iv1 (P := fun n => (mth n).cls = cx_nm (mow n)) rfl rfl) (iv1 (P := fun n => (mth n).cls = cx_nm (mow n)) rfl rfl)))) (ivj (m := 36) (ivj (m := 35) (iv1 (P := fun n => (mth n).cls = cx_nm (mow n)) rfl rfl) (iv1 (P := fun n => (mth n).cls = cx_nm (mow n)) rfl rfl)) (ivj (m := 37) (iv1 (P := fun n => (mth n).cls = cx_nm (mow n)) rfl rfl) (ivj (m := 38) (iv1 (P := fun n => (mth n).cls = cx_nm (mow n)) rfl rfl) (iv1 (P := fun n => (mth n).cls = cx_nm (mow n)) rfl rfl))))))) (ivj (m := 58) (ivj (m := 48) (ivj (m := 43) (ivj (m := 41) (ivj (m := 40) (iv1 (P := fun n => (mth n).cls = cx_nm (mow n)) rfl rfl) (iv1 (P := fun n => (mth n).cls = cx_nm (mow n)) rfl rfl)) (ivj (m := 42) (iv1 (P := fun n => (mth n).cls = cx_nm (mow n)) rfl rfl) (iv1 (P := fun n => (mth n).cls = cx_nm (mow n)) rfl rfl))) (ivj (m := 45) (ivj (m := 44) (iv1 (P := fun n => (mth n).cls = cx_nm (mow n)) rfl rfl) (iv1 (P := fun n => (mth n).cls = cx_nm (mow n)) rfl rfl)) (ivj (m := 46) (iv1 (P := fun n => (mth n).cls = cx_nm (mow n)) rfl rfl) (ivj (m := 47) (iv1 (P := fun n => (mth n).cls = cx_nm (mow n)) rfl rfl) (iv1 (P := fun n => (mth n).cls = cx_nm (mow n)) rfl rfl))))) (ivj (m := 53) (ivj (m := 50) (ivj (m := 49) (iv1 (P := fun n => (mth n).cls = cx_nm (mow n)) rfl rfl) (iv1 (P := fun n => (mth n).cls = cx_nm (mow n)) rfl rfl)) (ivj (m := 51) (iv1 (P := fun n => (mth n).cls = cx_nm (mow n)) rfl rfl) (ivj (m := 52) (iv1 (P := fun n => (mth n).cls = cx_nm (mow n)) rfl rfl) (iv1 (P := fun n => (mth n).cls = cx_nm (mow n)) rfl rfl)))) (ivj (m := 55) (ivj (m := 54) (iv1 (P := fun n => (mth n).cls = cx_nm (mow n)) rfl rfl) (iv1 (P := fun n => (mth n).cls = cx_nm (mow n)) rfl rfl)) (ivj (m := 56) (iv1 (P := fun n => (mth n).cls = cx_nm (mow n)) rfl rfl) (ivj (m := 57) (iv1 (P := fun n => (mth n).cls = cx_nm (mow n)) rfl rfl) (iv1 (P := fun n => (mth n).cls = cx_nm (mow n)) rfl rfl)))))) (ivj (m := 68) (ivj (m := 63) (ivj (m := 60) (ivj (m := 59) (iv1 (P := fun n => (mth n).cls = cx_nm (mow n)) rfl rfl) (iv1 (P := fun n => (mth n).cls = cx_nm (mow n)) rfl rfl)) (ivj (m := 61) (iv1 (P := fun n => (mth n).cls = cx_nm (mow n)) rfl rfl) (ivj (m := 62) (iv1 (P := fun n => (mth n).cls = cx_nm (mow n)) rfl rfl) (iv1 (P := fun n => (mth n).cls = cx_nm (mow n)) rfl rfl)))) (ivj (m := 65) (ivj (m := 64) (iv1 (P := fun n => (mth n).cls = cx_nm (mow n)) rfl rfl) (iv1 (P := fun n => (mth n).cls = cx_nm (mow n)) rfl rfl)) (ivj (m := 66) (iv1 (P := fun n => (mth n).cls = cx_nm (mow n)) rfl rfl) (ivj (m := 67) (iv1 (P := fun n => (mth n).cls = cx_nm (mow n)) rfl rfl) (iv1 (P := fun n => (mth n).cls = cx_nm (mow n)) rfl rfl))))) (ivj (m := 73) (ivj (m := 70) (ivj (m := 69) (iv1 (P := fun n => (mth n).cls = cx_nm (mow n)) rfl rfl) (iv1 (P := fun n => (mth n).cls = cx_nm (mow n)) rfl rfl)) (ivj (m := 71) (iv1 (P := fun n => (mth n).cls = cx_nm (mow n)) rfl rfl) (ivj (m := 72) (iv1 (P := fun n => (mth n).cls = cx_nm (mow n)) rfl rfl) (iv1 (P := fun n => (mth n).cls = cx_nm (mow n)) rfl rfl)))) (ivj (m := 75) (ivj (m := 74) (iv1 (P := fun n => (mth n).cls = cx_nm (mow n)) rfl rfl) (iv1 (P := fun n => (mth n).cls = cx_nm (mow n)) rfl rfl)) (ivj (m := 76) (iv1 (P := fun n => (mth n).cls = cx_nm (mow n)) rfl rfl) (ivj (m := 77) (iv1 (P := fun n => (mth n).cls = cx_nm (mow n)) rfl rfl) (iv1 (P := fun n => (mth n).cls = cx_nm (mow n)) rfl rfl)))))))) (ivj (m := 117) (ivj (m := 97) (ivj (m := 87) (ivj (m := 82) (ivj (m := 80) (ivj (m := 79) (iv1 (P := fun n => (mth n).cls = cx_nm (mow n)) rfl rfl) (iv1 (P := fun n => (mth n).cls = cx_nm (mow n)) rfl rfl)) (ivj (m := 81) (iv1 (P := fun n => (mth n).cls = cx_nm (mow n)) rfl rfl) (iv1 (P := fun n => (mth n).cls = cx_nm (mow n)) rfl rfl))) (ivj (m := 84) (ivj (m := 83) (iv1 (P := fun n => (mth n).cls = cx_nm (mow n)) rfl rfl) (iv1 (P := fun n => (mth n).cls = cx_nm (mow n)) rfl rfl)) (ivj (m := 85) (iv1 (P := fun n => (mth n).cls = cx_nm (mow n)) rfl rfl) (ivj (m := 86) (iv1 (P := fun n => (mth n).cls = cx_nm (mow n)) rfl rfl) (iv1 (P := fun n => (mth n).cls = cx_nm (mow n)) rfl rfl))))) (ivj (m := 92) (ivj (m := 89) (ivj (m := 88) (iv1 (P := fun n => (mth n).cls = cx_nm (mow n)) rfl rfl) (iv1 (P := fun n => (mth n).cls = cx_nm (mow n)) rfl rfl)) (ivj (m := 90) (iv1 (P := fun n => (mth n).cls = cx_nm (mow n)) rfl rfl) (ivj (m := 91) (iv1 (P := fun n => (mth n).cls = cx_nm (mow n)) rfl rfl) (iv1 (P := fun n => (mth n).cls = cx_nm (mow n)) rfl rfl)))) (ivj (m := 94) (ivj (m := 93) (iv1 (P := fun n => (mth n).cls = cx_nm (mow n)) rfl rfl) (iv1 (P := fun n => (mth n).cls = cx_nm (mow n)) rfl rfl)) (ivj (m := 95) (iv1 (P := fun n => (mth n).cls = cx_nm (mow n)) rfl rfl) (ivj (m := 96) (iv1 (P := fun n => (mth n).cls = cx_nm (mow n)) rfl rfl) (iv1 (P := fun n => (mth n).cls = cx_nm (mow n)) rfl rfl)))))) (ivj (m := 107) (ivj (m := 102) (ivj (m := 99) (ivj (m := 98) (iv1 (P := fun n => (mth n).cls = cx_nm (mow n)) rfl rfl) (iv1 (P := fun n => (mth n).cls = cx_nm (mow n)) rfl rfl)) (ivj (m := 100) (iv1 (P := fun n => (mth n).cls = cx_nm (mow n)) rfl rfl) (ivj (m := 101) (iv1 (P := fun n => (mth n).cls = cx_nm (mow n)) rfl rfl) (iv1 (P := fun n => (mth n).cls = cx_nm (mow n)) rfl rfl)))) (ivj (m := 104) (ivj (m := 103) (iv1 (P := fun n => (mth n).cls = cx_nm (mow n)) rfl rfl) (iv1 (P := fun n => (mth n).cls = cx_nm (mow n)) rfl rfl)) (ivj (m := 105) (iv1 (P := fun n => (mth n).cls = cx_nm (mow n)) rfl rfl) (ivj (m := 106) (iv1 (P := fun n => (mth n).cls = cx_nm (mow n)) rfl rfl) (iv1 (P := fun n => (mth n).cls = cx_nm (mow n)) rfl rfl))))) (ivj (m := 112) (ivj (m := 109) (ivj (m := 108) (iv1 (P := fun n => (mth n).cls = cx_nm (mow n)) rfl rfl) (iv1 (P := fun n => (mth n).cls = cx_nm (mow n)) rfl rfl)) (ivj (m := 110) (iv1 (P := fun n => (mth n).cls = cx_nm (mow n)) rfl rfl) (ivj (m := 111) (iv1 (P := fun n => (mth n).cls = cx_nm (mow n)) rfl rfl) (iv1 (P := fun n => (mth n).cls = cx_nm (mow n)) rfl rfl)))) (ivj (m := 114) (ivj (m := 113) (iv1 (P := fun n => (mth n).cls = cx_nm (mow n)) rfl rfl) (iv1 (P := fun n => (mth n).cls = cx_nm (mow n)) rfl rfl)) (ivj (m := 115) (iv1 (P := fun n => (mth n).cls = cx_nm (mow n)) rfl rfl) (ivj (m := 116) (iv1 (P := fun n => (mth n).cls = cx_nm (mow n)) rfl rfl) (iv1 (P := fun n => (mth n).cls = cx_nm (mow n)) rfl rfl))))))) (ivj (m := 137) (ivj (m := 127) (ivj (m := 122) (ivj (m := 119) (ivj (m := 118) (iv1 (P := fun n => (mth n).cls = cx_nm (mow n)) rfl rfl) (iv1 (P := fun n => (mth n).cls = cx_nm (mow n)) rfl rfl)) (ivj (m := 120) (iv1 (P := fun n => (mth n).cls = cx_nm (mow n)) rfl rfl) (ivj (m := 121) (iv1 (P := fun n => (mth n).cls = cx_nm (mow n)) rfl rfl) (iv1 (P := fun n => (mth n).cls = cx_nm (mow n)) rfl rfl)))) (ivj (m := 124) (ivj (m := 123) (iv1 (P := fun n => (mth n).cls = cx_nm (mow n)) rfl rfl) (iv1 (P := fun n => (mth n).cls = cx_nm (mow n)) rfl rfl)) (ivj (m := 125) (iv1 (P := fun n => (mth n).cls = cx_nm (mow n)) rfl rfl) (ivj (m := 126) (iv1 (P := fun n => (mth n).cls = cx_nm (mow n)) rfl rfl) (iv1 (P := fun n => (mth n).cls = cx_nm (mow n)) rfl rfl))))) (ivj (m := 132) (ivj (m := 129) (ivj (m := 128) (iv1 (P := fun n => (mth n).cls = cx_nm (mow n)) rfl rfl) (iv1 (P := fun n => (mth n).cls = cx_nm (mow n)) rfl rfl)) (ivj (m := 130) (iv1 (P := fun n => (mth n).cls = cx_nm (mow n)) rfl rfl) (ivj (m := 131) (iv1 (P := fun n => (mth n).cls = cx_nm (mow n)) rfl rfl) (iv1 (P := fun n => (mth n).cls = cx_nm (mow n)) rfl rfl)))) (ivj (m := 134) (ivj (m := 133) (iv1 (P := fun n => (mth n).cls = cx_nm (mow n)) rfl rfl) (iv1 (P := fun n => (mth n).cls = cx_nm (mow n)) rfl rfl)) (ivj (m := 135) (iv1 (P := fun n => (mth n).cls = cx_nm (mow n)) rfl rfl) (ivj (m := 136) (iv1 (P := fun n => (mth n).cls = cx_nm (mow n)) rfl rfl) (iv1 (P := fun n => (mth n).cls = cx_nm (mow n)) rfl rfl)))))) (ivj (m := 147) (ivj (m := 142) (ivj (m := 139) (ivj (m := 138) (iv1 (P := fun n => (mth n).cls = cx_nm (mow n)) rfl rfl) (iv1 (P := fun n => (mth n).cls = cx_nm (mow n)) rfl rfl)) (ivj (m := 140) (iv1 (P := fun n => (mth n).cls = cx_nm (mow n)) rfl rfl) (ivj (m := 141) (iv1 (P := fun n => (mth n).cls = cx_nm (mow n)) rfl rfl) (iv1 (P := fun n => (mth n).cls = cx_nm (mow n)) rfl rfl)))) (ivj (m := 144) (ivj (m := 143) (iv1 (P := fun n => (mth n).cls = cx_nm (mow n)) rfl rfl) (iv1 (P := fun n => (mth n).cls = cx_nm (mow n)) rfl rfl)) (ivj (m := 145) (iv1 (P := fun n => (mth n).cls = cx_nm (mow n)) rfl rfl) (ivj (m := 146) (iv1 (P := fun n => (mth n).cls = cx_nm (mow n)) rfl rfl) (iv1 (P := fun n => (mth n).cls = cx_nm (mow n)) rfl rfl))))) (ivj (m := 152) (ivj (m := 149) (ivj (m := 148) (iv1 (P := fun n => (mth n).cls = cx_nm (mow n)) rfl rfl) (iv1 (P := fun n => (mth n).cls = cx_nm (mow n)) rfl rfl)) (ivj (m := 150) (iv1 (P := fun n => (mth n).cls = cx_nm (mow n)) rfl rfl) (ivj (m := 151) (iv1 (P := fun n => (mth n).cls = cx_nm (mow n)) rfl rfl) (iv1 (P := fun n => (mth n).cls = cx_nm (mow n)) rfl rfl)))) (ivj (m := 154) (ivj (m := 153) (iv1 (P := fun n => (mth n).cls = cx_nm (mow n)) rfl rfl) (iv1 (P := fun n => (mth n).cls = cx_nm (mow n)) rfl rfl)) (ivj (m := 155) (iv1 (P := fun n => (mth n).cls = cx_nm (mow n)) rfl rfl) (ivj (m := 156) (iv1 (P := fun n => (mth n).cls = cx_nm (mow n)) rfl rfl) (iv1 (P := fun n => (mth n).cls = cx_nm (mow n)) rfl rfl))))))))) (ivj (m := 235) (ivj (m := 196) (ivj (m := 176) (ivj (m := 166) (ivj (m := 161) (ivj (m := 159) (ivj (m := 158) (iv1 (P := fun n => (mth n).cls = cx_nm (mow n)) rfl rfl) (iv1 (P := fun n => (mth n).cls = cx_nm (mow n)) rfl rfl)) (ivj (m := 160) (iv1 (P := fun n => (mth n).cls = cx_nm (mow n)) rfl rfl) (iv1 (P := fun n => (mth n).cls = cx_nm (mow n)) rfl rfl))) (ivj (m := 163) (ivj (m := 162) (iv1 (P := fun n => (mth n).cls = cx_nm (mow n)) rfl rfl) (iv1 (P := fun n => (mth n).cls = cx_nm (mow n)) rfl rfl)) (ivj (m := 164) (iv1 (P := fun n => (mth n).cls = cx_nm (mow n)) rfl rfl) (ivj (m := 165) (iv1 (P := fun n => (mth n).cls = cx_nm (mow n)) rfl rfl) (iv1 (P := fun n => (mth n).cls = cx_nm (mow n)) rfl rfl))))) (ivj (m := 171) (ivj (m := 168) (ivj (m := 167) (iv1 (P := fun n => (mth n).cls = cx_nm (mow n)) rfl rfl) (iv1 (P := fun n => (mth n).cls = cx_nm (mow n)) rfl rfl)) (ivj (m := 169) (iv1 (P := fun n => (mth n).cls = cx_nm (mow n)) rfl rfl) (ivj (m := 170) (iv1 (P := fun n => (mth n).cls = cx_nm (mow n)) rfl rfl) (iv1 (P := fun n => (mth n).cls = cx_nm (mow n)) rfl rfl)))) (ivj (m := 173) (ivj (m := 172) (iv1 (P := fun n => (mth n).cls = cx_nm (mow n)) rfl rfl) (iv1 (P := fun n => (mth n).cls = cx_nm (mow n)) rfl rfl)) (ivj (m := 174) (iv1 (P := fun n => (mth n).cls = cx_nm (mow n)) rfl rfl) (ivj (m := 175) (iv1 (P := fun n => (mth n).cls = cx_nm (mow n)) rfl rfl) (iv1 (P := fun n => (mth n).cls = cx_nm (mow n)) rfl rfl)))))) (ivj (m := 186) (ivj (m := 181) (ivj (m := 178) (ivj (m := 177) (iv1 (P := fun n => (mth n).cls = cx_nm (mow n)) rfl rfl) (iv1 (P := fun n => (mth n).cls = cx_nm (mow n)) rfl rfl)) (ivj (m := 179) (iv1 (P := fun n => (mth n).cls = cx_nm (mow n)) rfl rfl) (ivj (m := 180) (iv1 (P := fun n => (mth n).cls = cx_nm (mow n)) rfl rfl) (iv1 (P := fun n => (mth n).cls = cx_nm (mow n)) rfl rfl)))) (ivj (m := 183) (ivj (m := 182) (iv1 (P := fun n => (mth n).cls = cx_nm (mow n)) rfl rfl) (iv1 (P := fun n => (mth n).cls = cx_nm (mow n)) rfl rfl)) (ivj (m := 184) (iv1 (P := fun n => (mth n).cls = cx_nm (mow n)) rfl rfl) (ivj (m := 185) (iv1 (P := fun n => (mth n).cls = cx_nm (mow n)) rfl rfl) (iv1 (P := fun n => (mth n).cls = cx_nm (mow n)) rfl rfl))))) (ivj (m := 191) (ivj (m := 188) (ivj (m := 187) (iv1 (P := fun n => (mth n).cls = cx_nm (mow n)) rfl rfl) (iv1 (P := fun n => (mth n).cls = cx_nm (mow n)) rfl rfl)) (ivj (m := 189) (iv1 (P := fun n => (mth n).cls = cx_nm (mow n)) rfl rfl) (ivj (m := 190) (iv1 (P := fun n => (mth n).cls = cx_nm (mow n)) rfl rfl) (iv1 (P := fun n => (mth n).cls = cx_nm (mow n)) rfl rfl)))) (ivj (m := 193) (ivj (m := 192) (iv1 (P := fun n => (mth n).cls = cx_nm (mow n)) rfl rfl) (iv1 (P := fun n => (mth n).cls = cx_nm (mow n)) rfl rfl)) (ivj (m := 194) (iv1 (P := fun n => (mth n).cls = cx_nm (mow n)) rfl rfl) (ivj (m := 195) (iv1 (P := fun n => (mth n).cls = cx_nm (mow n)) rfl rfl) (iv1 (P := fun n => (mth n).cls = cx_nm (mow n)) rfl rfl))))))) (ivj (m := 215) (ivj (m := 205) (ivj (m := 200) (ivj (m := 198) (ivj (m := 197) (iv1 (P := fun n => (mth n).cls = cx_nm (mow n)) rfl rfl) (iv1 (P := fun n => (mth n).cls = cx_nm (mow n)) rfl rfl)) (ivj (m := 199) (iv1 (P := fun n => (mth n).cls = cx_nm (mow n)) rfl rfl) (iv1 (P := fun n => (mth n).cls = cx_nm (mow n)) rfl rfl))) (ivj (m := 202) (ivj (m := 201) (iv1 (P := fun n => (mth n).cls = cx_nm (mow n)) rfl rfl) (iv1 (P := fun n => (mth n).cls = cx_nm (mow n)) rfl rfl)) (ivj (m := 203) (iv1 (P := fun n => (mth n).cls = cx_nm (mow n)) rfl rfl) (ivj (m := 204) (iv1 (P := fun n => (mth n).cls = cx_nm (mow n)) rfl rfl) (iv1 (P := fun n => (mth n).cls = cx_nm (mow n)) rfl rfl))))) (ivj (m := 210) (ivj (m := 207) (ivj (m := 206) (iv1 (P := fun n => (mth n).cls = cx_nm (mow n)) rfl rfl) (iv1 (P := fun n => (mth n).cls = cx_nm (mow n)) rfl rfl)) (ivj (m := 208) (iv1 (P := fun n => (mth n).cls = cx_nm (mow n)) rfl rfl) (ivj (m := 209) (iv1 (P := fun n => (mth n).cls = cx_nm (mow n)) rfl rfl) (iv1 (P := fun n => (mth n).cls = cx_nm (mow n)) rfl rfl)))) (ivj (m := 212) (ivj (m := 211) (iv1 (P := fun n => (mth n).cls = cx_nm (mow n)) rfl rfl) (iv1 (P := fun n => (mth n).cls = cx_nm (mow n)) rfl rfl)) (ivj (m := 213) (iv1 (P := fun n => (mth n).cls = cx_nm (mow n)) rfl rfl) (ivj (m := 214) (iv1 (P := fun n => (mth n).cls = cx_nm (mow n)) rfl rfl) (iv1 (P := fun n => (mth n).cls = cx_nm (mow n)) rfl rfl)))))) (ivj (m := 225) (ivj (m := 220) (ivj (m := 217) (ivj (m := 216) (iv1 (P := fun n => (mth n).cls = cx_nm (mow n)) rfl rfl) (iv1 (P := fun n => (mth n).cls = cx_nm (mow n)) rfl rfl)) (ivj (m := 218) (iv1 (P := fun n => (mth n).cls = cx_nm (mow n)) rfl rfl) (ivj (m := 219) (iv1 (P := fun n => (mth n).cls = cx_nm (mow n)) rfl rfl) (iv1 (P := fun n => (mth n).cls = cx_nm (mow n)) rfl rfl)))) (ivj (m := 222) (ivj (m := 221) (iv1 (P := fun n => (mth n).cls = cx_nm (mow n)) rfl rfl) (iv1 (P := fun n => (mth n).cls = cx_nm (mow n)) rfl rfl)) (ivj (m := 223) (iv1 (P := fun n => (mth n).cls = cx_nm (mow n)) rfl rfl) (ivj (m := 224) (iv1 (P := fun n => (mth n).cls = cx_nm (mow n)) rfl rfl) (iv1 (P := fun n => (mth n).cls = cx_nm (mow n)) rfl rfl))))) (ivj (m := 230) (ivj (m := 227) (ivj (m := 226) (iv1 (P := fun n => (mth n).cls = cx_nm (mow n)) rfl rfl) (iv1 (P := fun n => (mth n).cls = cx_nm (mow n)) rfl rfl)) (ivj (m := 228) (iv1 (P := fun n => (mth n).cls = cx_nm (mow n)) rfl rfl) (ivj (m := 229) (iv1 (P := fun n => (mth n).cls = cx_nm (mow n)) rfl rfl) (iv1 (P := fun n => (mth n).cls = cx_nm (mow n)) rfl rfl)))) (ivj (m := 232) (ivj (m := 231) (iv1 (P := fun n => (mth n).cls = cx_nm (mow n)) rfl rfl) (iv1 (P := fun n => (mth n).cls = cx_nm (mow n)) rfl rfl)) (ivj (m := 233) (iv1 (P := fun n => (mth n).cls = cx_nm (mow n)) rfl rfl) (ivj (m := 234) (iv1 (P := fun n => (mth n).cls = cx_nm (mow n)) rfl rfl) (iv1 (P := fun n => (mth n).cls = cx_nm (mow n)) rfl rfl)))))))) (ivj (m := 274) (ivj (m := 254) (ivj (m := 244) (ivj (m := 239) (ivj (m := 237) (ivj (m := 236) (iv1 (P := fun n => (mth n).cls = cx_nm (mow n)) rfl rfl) (iv1 (P := fun n => (mth n).cls = cx_nm (mow n)) rfl rfl)) (ivj (m := 238) (iv1 (P := fun n => (mth n).cls = cx_nm (mow n)) rfl rfl) (iv1 (P := fun n => (mth n).cls = cx_nm (mow n)) rfl rfl))) (ivj (m := 241) (ivj (m := 240) (iv1 (P := fun n => (mth n).cls = cx_nm (mow n)) rfl rfl) (iv1 (P := fun n => (mth n).cls = cx_nm (mow n)) rfl rfl)) (ivj (m := 242) (iv1 (P := fun n => (mth n).cls = cx_nm (mow n)) rfl rfl) (ivj (m := 243) (iv1 (P := fun n => (mth n).cls = cx_nm (mow n)) rfl rfl) (iv1 (P := fun n => (mth n).cls = cx_nm (mow n)) rfl rfl))))) (ivj (m := 249) (ivj (m := 246) (ivj (m := 245) (iv1 (P := fun n => (mth n).cls = cx_nm (mow n)) rfl rfl) (iv1 (P := fun n => (mth n).cls = cx_nm (mow n)) rfl rfl)) (ivj (m := 247) (iv1 (P := fun n => (mth n).cls = cx_nm (mow n)) rfl rfl) (ivj (m := 248) (iv1 (P := fun n => (mth n).cls = cx_nm (mow n)) rfl rfl) (iv1 (P := fun n => (mth n).cls = cx_nm (mow n)) rfl rfl)))) (ivj (m := 251) (ivj (m := 250) (iv1 (P := fun n => (mth n).cls = cx_nm (mow n)) rfl rfl) (iv1 (P := fun n => (mth n).cls = cx_nm (mow n)) rfl rfl)) (ivj (m := 252) (iv1 (P := fun n => (mth n).cls = cx_nm (mow n)) rfl rfl) (ivj (m := 253) (iv1 (P := fun n => (mth n).cls = cx_nm (mow n)) rfl rfl) (iv1 (P := fun n => (mth n).cls = cx_nm (mow n)) rfl rfl)))))) (ivj (m := 264) (ivj (m := 259) (ivj (m := 256) (ivj (m := 255) (iv1 (P := fun n => (mth n).cls = cx_nm (mow n)) rfl rfl) (iv1 (P := fun n => (mth n).cls = cx_nm (mow n)) rfl rfl)) (ivj (m := 257) (iv1 (P := fun n => (mth n).cls = cx_nm (mow n)) rfl rfl) (ivj (m := 258) (iv1 (P := fun n => (mth n).cls = cx_nm (mow n)) rfl rfl) (iv1 (P := fun n => (mth n).cls = cx_nm (mow n)) rfl rfl)))) (ivj (m := 261) (ivj (m := 260) (iv1 (P := fun n => (mth n).cls = cx_nm (mow n)) rfl rfl) (iv1 (P := fun n => (mth n).cls = cx_nm (mow n)) rfl rfl)) (ivj (m := 262) (iv1 (P := fun n => (mth n).cls = cx_nm (mow n)) rfl rfl) (ivj (m := 263) (iv1 (P := fun n => (mth n).cls = cx_nm (mow n)) rfl rfl) (iv1 (P := fun n => (mth n).cls = cx_nm (mow n)) rfl rfl))))) (ivj (m := 269) (ivj (m := 266) (ivj (m := 265) (iv1 (P := fun n => (mth n).cls = cx_nm (mow n)) rfl rfl) (iv1 (P := fun n => (mth n).cls = cx_nm (mow n)) rfl rfl)) (ivj (m := 267) (iv1 (P := fun n => (mth n).cls = cx_nm (mow n)) rfl rfl) (ivj (m := 268) (iv1 (P := fun n => (mth n).cls = cx_nm (mow n)) rfl rfl) (iv1 (P := fun n => (mth n).cls = cx_nm (mow n)) rfl rfl)))) (ivj (m := 271) (ivj (m := 270) (iv1 (P := fun n => (mth n).cls = cx_nm (mow n)) rfl rfl) (iv1 (P := fun n => (mth n).cls = cx_nm (mow n)) rfl rfl)) (ivj (m := 272) (iv1 (P := fun n => (mth n).cls = cx_nm (mow n)) rfl rfl) (ivj (m := 273) (iv1 (P := fun n => (mth n).cls = cx_nm (mow n)) rfl rfl) (iv1 (P := fun n => (mth n).cls = cx_nm (mow n)) rfl rfl))))))) (ivj (m := 294) (ivj (m := 284) (ivj (m := 279) (ivj (m := 276) (ivj (m := 275) (iv1 (P := fun n => (mth n).cls = cx_nm (mow n)) rfl rfl) (iv1 (P := fun n => (mth n).cls = cx_nm (mow n)) rfl rfl)) (ivj (m := 277) (iv1 (P := fun n => (mth n).cls = cx_nm (mow n)) rfl rfl) (ivj (m := 278) (iv1 (P := fun n => (mth n).cls = cx_nm (mow n)) rfl rfl) (iv1 (P := fun n => (mth n).cls = cx_nm (mow n)) rfl rfl)))) (ivj (m := 281) (ivj (m := 280) (iv1 (P := fun n => (mth n).cls = cx_nm (mow n)) rfl rfl) (iv1 (P := fun n => (mth n).cls = cx_nm (mow n)) rfl rfl)) (ivj (m := 282) (iv1 (P := fun n => (mth n).cls = cx_nm (mow n)) rfl rfl) (ivj (m := 283) (iv1 (P := fun n => (mth n).cls = cx_nm (mow n)) rfl rfl) (iv1 (P := fun n => (mth n).cls = cx_nm (mow n)) rfl rfl))))) (ivj (m := 289) (ivj (m := 286) (ivj (m := 285) (iv1 (P := fun n => (mth n).cls = cx_nm (mow n)) rfl rfl) (iv1 (P := fun n => (mth n).cls = cx_nm (mow n)) rfl rfl)) (ivj (m := 287) (iv1 (P := fun n => (mth n).cls = cx_nm (mow n)) rfl rfl) (ivj (m := 288) (iv1 (P := fun n => (mth n).cls = cx_nm (mow n)) rfl rfl) (iv1 (P := fun n => (mth n).cls = cx_nm (mow n)) rfl rfl)))) (ivj (m := 291) (ivj (m := 290) (iv1 (P := fun n => (mth n).cls = cx_nm (mow n)) rfl rfl) (iv1 (P := fun n => (mth n).cls = cx_nm (mow n)) rfl rfl)) (ivj (m := 292) (iv1 (P := fun n => (mth n).cls = cx_nm (mow n)) rfl rfl) (ivj (m := 293) (iv1 (P := fun n => (mth n).cls = cx_nm (mow n)) rfl rfl) (iv1 (P := fun n => (mth n).cls = cx_nm (mow n)) rfl rfl)))))) (ivj (m := 304) (ivj (m := 299) (ivj (m := 296) (ivj (m := 295) (iv1 (P := fun n => (mth n).cls = cx_nm (mow n)) rfl rfl) (iv1 (P := fun n => (mth n).cls = cx_nm (mow n)) rfl rfl)) (ivj (m := 297) (iv1 (P := fun n => (mth n).cls = cx_nm (mow n)) rfl rfl) (ivj (m := 298) (iv1 (P := fun n => (mth n).cls = cx_nm (mow n)) rfl rfl) (iv1 (P := fun n => (mth n).cls = cx_nm (mow n)) rfl rfl)))) (ivj (m := 301) (ivj (m := 300) (iv1 (P := fun n => (mth n).cls = cx_nm (mow n)) rfl rfl) (iv1 (P := fun n => (mth n).cls = cx_nm (mow n)) rfl rfl)) (ivj (m := 302) (iv1 (P := fun n => (mth n).cls = cx_nm (mow n)) rfl rfl) (ivj (m := 303) (iv1 (P := fun n => (mth n).cls = cx_nm (mow n)) rfl rfl) (iv1 (P := fun n => (mth n).cls = cx_nm (mow n)) rfl rfl))))) (ivj (m := 309) (ivj (m := 306) (ivj (m := 305) (iv1 (P := fun n => (mth n).cls = cx_nm (mow n)) rfl rfl) (iv1 (P := fun n => (mth n).cls = cx_nm (mow n)) rfl rfl)) (ivj (m := 307) (iv1 (P := fun n => (mth n).cls = cx_nm (mow n)) rfl rfl) (ivj (m := 308) (iv1 (P := fun n => (mth n).cls = cx_nm (mow n)) rfl rfl) (iv1 (P := fun n => (mth n).cls = cx_nm (mow n)) rfl rfl)))) (ivj (m := 311) (ivj (m := 310) (iv1 (P := fun n => (mth n).cls = cx_nm (mow n)) rfl rfl) (iv1 (P := fun n => (mth n).cls = cx_nm (mow n)) rfl rfl)) (ivj (m := 312) (iv1 (P := fun n => (mth n).cls = cx_nm (mow n)) rfl rfl) (ivj (m := 313) (iv1 (P := fun n => (mth n).cls = cx_nm (mow n)) rfl rfl) (iv1 (P := fun n => (mth n).cls = cx_nm (mow n)) rfl rfl)))))))))) (ivj (m := 471) (ivj (m := 392) (ivj (m := 353) (ivj (m := 333) (ivj (m := 323) (ivj (m := 318) (ivj (m := 316) (ivj (m := 315) (iv1 (P := fun n => (mth n).cls = cx_nm (mow n)) rfl rfl) (iv1 (P := fun n => (mth n).cls = cx_nm (mow n)) rfl rfl)) (ivj (m := 317) (iv1 (P := fun n => (mth n).cls = cx_nm (mow n)) rfl rfl) (iv1 (P := fun n => (mth n).cls = cx_nm (mow n)) rfl rfl))) (ivj (m := 320) (ivj (m := 319) (iv1 (P := fun n => (mth n).cls = cx_nm (mow n)) rfl rfl) (iv1 (P := fun n => (mth n).cls = cx_nm (mow n)) rfl rfl)) (ivj (m := 321) (iv1 (P := fun n => (mth n).cls = cx_nm (mow n)) rfl rfl) (ivj (m := 322) (iv1 (P := fun n => (mth n).cls = cx_nm (mow n)) rfl rfl) (iv1 (P := fun n => (mth n).cls = cx_nm (mow n)) rfl rfl))))) (ivj (m := 328) (ivj (m := 325) (ivj (m := 324) (iv1 (P := fun n => (mth n).cls = cx_nm (mow n)) rfl rfl) (iv1 (P := fun n => (mth n).cls = cx_nm (mow n)) rfl rfl)) (ivj (m := 326) (iv1 (P := fun n => (mth n).cls = cx_nm (mow n)) rfl rfl) (ivj (m := 327) (iv1 (P := fun n => (mth n).cls = cx_nm (mow n)) rfl rfl) (iv1 (P := fun n => (mth n).cls = cx_nm (mow n)) rfl rfl)))) (ivj (m := 330) (ivj (m := 329) (iv1 (P := fun n => (mth n).cls = cx_nm (mow n)) rfl rfl) (iv1 (P := fun n => (mth n).cls = cx_nm (mow n)) rfl rfl)) (ivj (m := 331) (iv1 (P := fun n => (mth n).cls = cx_nm (mow n)) rfl rfl) (ivj (m := 332) (iv1 (P := fun n => (mth n).cls = cx_nm (mow n)) rfl rfl) (iv1 (P := fun n => (mth n).cls = cx_nm (mow n)) rfl rfl)))))) (ivj (m := 343) (ivj (m := 338) (ivj (m := 335) (ivj (m := 334) (iv1 (P := fun n => (mth n).cls = cx_nm (mow n)) rfl rfl) (iv1 (P := fun n => (mth n).cls = cx_nm (mow n)) rfl rfl)) (ivj (m := 336) (iv1 (P := fun n => (mth n).cls = cx_nm (mow n)) rfl rfl) (ivj (m := 337) (iv1 (P := fun n => (mth n).cls = cx_nm (mow n)) rfl rfl) (iv1 (P := fun n => (mth n).cls = cx_nm (mow n)) rfl rfl)))) (ivj (m := 340) (ivj (m := 339) (iv1 (P := fun n => (mth n).cls = cx_nm (mow n)) rfl rfl) (iv1 (P := fun n => (mth n).cls = cx_nm (mow n)) rfl rfl)) (ivj (m := 341) (iv1 (P := fun n => (mth n).cls = cx_nm (mow n)) rfl rfl) (ivj (m := 342) (iv1 (P := fun n => (mth n).cls = cx_nm (mow n)) rfl rfl) (iv1 (P := fun n => (mth n).cls = cx_nm (mow n)) rfl rfl))))) (ivj (m := 348) (ivj (m := 345) (ivj (m := 344) (iv1 (P := fun n => (mth n).cls = cx_nm (mow n)) rfl rfl) (iv1 (P := fun n => (mth n).cls = cx_nm (mow n)) rfl rfl)) (ivj (m := 346) (iv1 (P := fun n => (mth n).cls = cx_nm (mow n)) rfl rfl) (ivj (m := 347) (iv1 (P := fun n => (mth n).cls = cx_nm (mow n)) rfl rfl) (iv1 (P := fun n => (mth n).cls = cx_nm (mow n)) rfl rfl)))) (ivj (m := 350) (ivj (m := 349) (iv1 (P := fun n => (mth n).cls = cx_nm (mow n)) rfl rfl) (iv1 (P := fun n => (mth n).cls = cx_nm (mow n)) rfl rfl)) (ivj (m := 351) (iv1 (P := fun n => (mth n).cls = cx_nm (mow n)) rfl rfl) (ivj (m := 352) (iv1 (P := fun n => (mth n).cls = cx_nm (mow n)) rfl rfl) (iv1 (P := fun n => (mth n).cls = cx_nm (mow n)) rfl rfl))))))) (ivj (m := 372) (ivj (m := 362) (ivj (m := 357) (ivj (m := 355) (ivj (m := 354) (iv1 (P := fun n => (mth n).cls = cx_nm (mow n)) rfl rfl) (iv1 (P := fun n => (mth n).cls = cx_nm (mow n)) rfl rfl)) (ivj (m := 356) (iv1 (P := fun n => (mth n).cls = cx_nm (mow n)) rfl rfl) (iv1 (P := fun n => (mth n).cls = cx_nm (mow n)) rfl rfl))) (ivj (m := 359) (ivj (m := 358) (iv1 (P := fun n => (mth n).cls = cx_nm (mow n)) rfl rfl) (iv1 (P := fun n => (mth n).cls = cx_nm (mow n)) rfl rfl)) (ivj (m := 360) (iv1 (P := fun n => (mth n).cls = cx_nm (mow n)) rfl rfl) (ivj (m := 361) (iv1 (P := fun n => (mth n).cls = cx_nm (mow n)) rfl rfl) (iv1 (P := fun n => (mth n).cls = cx_nm (mow n)) rfl rfl))))) (ivj (m := 367) (ivj (m := 364) (ivj (m := 363) (iv1 (P := fun n => (mth n).cls = cx_nm (mow n)) rfl rfl) (iv1 (P := fun n => (mth n).cls = cx_nm (mow n)) rfl rfl)) (ivj (m := 365) (iv1 (P := fun n => (mth n).cls = cx_nm (mow n)) rfl rfl) (ivj (m := 366) (iv1 (P := fun n => (mth n).cls = cx_nm (mow n)) rfl rfl) (iv1 (P := fun n => (mth n).cls = cx_nm (mow n)) rfl rfl)))) (ivj (m := 369) (ivj (m := 368) (iv1 (P := fun n => (mth n).cls = cx_nm (mow n)) rfl rfl) (iv1 (P := fun n => (mth n).cls = cx_nm (mow n)) rfl rfl)) (ivj (m := 370) (iv1 (P := fun n => (mth n).cls = cx_nm (mow n)) rfl rfl) (ivj (m := 371) (iv1 (P := fun n => (mth n).cls = cx_nm (mow n)) rfl rfl) (iv1 (P := fun n => (mth n).cls = cx_nm (mow n)) rfl rfl)))))) (ivj (m := 382) (ivj (m := 377) (ivj (m := 374) (ivj (m := 373) (iv1 (P := fun n => (mth n).cls = cx_nm (mow n)) rfl rfl) (iv1 (P := fun n => (mth n).cls = cx_nm (mow n)) rfl rfl)) (ivj (m := 375) (iv1 (P := fun n => (mth n).cls = cx_nm (mow n)) rfl rfl) (ivj (m := 376) (iv1 (P := fun n => (mth n).cls = cx_nm (mow n)) rfl rfl) (iv1 (P := fun n => (mth n).cls = cx_nm (mow n)) rfl rfl)))) (ivj (m := 379) (ivj (m := 378) (iv1 (P := fun n => (mth n).cls = cx_nm (mow n)) rfl rfl) (iv1 (P := fun n => (mth n).cls = cx_nm (mow n)) rfl rfl)) (ivj (m := 380) (iv1 (P := fun n => (mth n).cls = cx_nm (mow n)) rfl rfl) (ivj (m := 381) (iv1 (P := fun n => (mth n).cls = cx_nm (mow n)) rfl rfl) (iv1 (P := fun n => (mth n).cls = cx_nm (mow n)) rfl rfl))))) (ivj (m := 387) (ivj (m := 384) (ivj (m := 383) (iv1 (P := fun n => (mth n).cls = cx_nm (mow n)) rfl rfl) (iv1 (P := fun n => (mth n).cls = cx_nm (mow n)) rfl rfl)) (ivj (m := 385) (iv1 (P := fun n => (mth n).cls = cx_nm (mow n)) rfl rfl) (ivj (m := 386) (iv1 (P := fun n => (mth n).cls = cx_nm (mow n)) rfl rfl) (iv1 (P := fun n => (mth n).cls = cx_nm (mow n)) rfl rfl)))) (ivj (m := 389) (ivj (m := 388) (iv1 (P := fun n => (mth n).cls = cx_nm (mow n)) rfl rfl) (iv1 (P := fun n => (mth n).cls = cx_nm (mow n)) rfl rfl)) (ivj (m := 390) (iv1 (P := fun n => (mth n).cls = cx_nm (mow n)) rfl rfl) (ivj (m := 391) (iv1 (P := fun n => (mth n).cls = cx_nm (mow n)) rfl rfl) (iv1 (P := fun n => (mth n).cls = cx_nm (mow n)) rfl rfl)))))))) (ivj (m := 431) (ivj (m := 411) (ivj (m := 401) (ivj (m := 396) (ivj (m := 394) (ivj (m := 393) (iv1 (P := fun n => (mth n).cls = cx_nm (mow n)) rfl rfl) (iv1 (P := fun n => (mth n).cls = cx_nm (mow n)) rfl rfl)) (ivj (m := 395) (iv1 (P := fun n => (mth n).cls = cx_nm (mow n)) rfl rfl) (iv1 (P := fun n => (mth n).cls = cx_nm (mow n)) rfl rfl))) (ivj (m := 398) (ivj (m := 397) (iv1 (P := fun n => (mth n).cls = cx_nm (mow n)) rfl rfl) (iv1 (P := fun n => (mth n).cls = cx_nm (mow n)) rfl rfl)) (ivj (m := 399) (iv1 (P := fun n => (mth n).cls = cx_nm (mow n)) rfl rfl) (ivj (m := 400) (iv1 (P := fun n => (mth n).cls = cx_nm (mow n)) rfl rfl) (iv1 (P := fun n => (mth n).cls = cx_nm (mow n)) rfl rfl))))) (ivj (m := 406) (ivj (m := 403) (ivj (m := 402) (iv1 (P := fun n => (mth n).cls = cx_nm (mow n)) rfl rfl) (iv1 (P := fun n => (mth n).cls = cx_nm (mow n)) rfl rfl)) (ivj (m := 404) (iv1 (P := fun n => (mth n).cls = cx_nm (mow n)) rfl rfl) (ivj (m := 405) (iv1 (P := fun n => (mth n).cls = cx_nm (mow n)) rfl rfl) (iv1 (P := fun n => (mth n).cls = cx_nm (mow n)) rfl rfl)))) (ivj (m := 408) (ivj (m := 407) (iv1 (P := fun n => (mth n).cls = cx_nm (mow n)) rfl rfl) (iv1 (P := fun n => (mth n).cls = cx_nm (mow n)) rfl rfl)) (ivj (m := 409) (iv1 (P := fun n => (mth n).cls = cx_nm (mow n)) rfl rfl) (ivj (m := 410) (iv1 (P := fun n => (mth n).cls = cx_nm (mow n)) rfl rfl) (iv1 (P := fun n => (mth n).cls = cx_nm (mow n)) rfl rfl)))))) (ivj (m := 421) (ivj (m := 416) (ivj (m := 413) (ivj (m := 412) (iv1 (P := fun n => (mth n).cls = cx_nm (mow n)) rfl rfl) (iv1 (P := fun n => (mth n).cls = cx_nm (mow n)) rfl rfl)) (ivj (m := 414) (iv1 (P := fun n => (mth n).cls = cx_nm (mow n)) rfl rfl) (ivj (m := 415) (iv1 (P := fun n => (mth n).cls = cx_nm (mow n)) rfl rfl) (iv1 (P := fun n => (mth n).cls = cx_nm (mow n)) rfl rfl)))) (ivj (m := 418) (ivj (m := 417) (iv1 (P := fun n => (mth n).cls = cx_nm (mow n)) rfl rfl) (iv1 (P := fun n => (mth n).cls = cx_nm (mow n)) rfl rfl)) (ivj (m := 419) (iv1 (P := fun n => (mth n).cls = cx_nm (mow n)) rfl rfl) (ivj (m := 420) (iv1 (P := fun n => (mth n).cls = cx_nm (mow n)) rfl rfl) (iv1 (P := fun n => (mth n).cls = cx_nm (mow n)) rfl rfl))))) (ivj (m := 426) (ivj (m := 423) (ivj (m := 422) (iv1 (P := fun n => (mth n).cls = cx_nm (mow n)) rfl rfl) (iv1 (P := fun n => (mth n).cls = cx_nm (mow n)) rfl rfl)) (ivj (m := 424) (iv1 (P := fun n => (mth n).cls = cx_nm (mow n)) rfl rfl) (ivj (m := 425) (iv1 (P := fun n => (mth n).cls = cx_nm (mow n)) rfl rfl) (iv1 (P := fun n => (mth n).cls = cx_nm (mow n)) rfl rfl)))) (ivj (m := 428) (ivj (m := 427) (iv1 (P := fun n => (mth n).cls = cx_nm (mow n)) rfl rfl) (iv1 (P := fun n => (mth n).cls = cx_nm (mow n)) rfl rfl)) (ivj (m := 429) (iv1 (P := fun n => (mth n).cls = cx_nm (mow n)) rfl rfl) (ivj (m := 430) (iv1 (P := fun n => (mth n).cls = cx_nm (mow n)) rfl rfl) (iv1 (P := fun n => (mth n).cls = cx_nm (mow n)) rfl rfl))))))) (ivj (m := 451) (ivj (m := 441) (ivj (m := 436) (ivj (m := 433) (ivj (m := 432) (iv1 (P := fun n => (mth n).cls = cx_nm (mow n)) rfl rfl) (iv1 (P := fun n => (mth n).cls = cx_nm (mow n)) rfl rfl)) (ivj (m := 434) (iv1 (P := fun n => (mth n).cls = cx_nm (mow n)) rfl rfl) (ivj (m := 435) (iv1 (P := fun n => (mth n).cls = cx_nm (mow n)) rfl rfl) (iv1 (P := fun n => (mth n).cls = cx_nm (mow n)) rfl rfl)))) (ivj (m := 438) (ivj (m := 437) (iv1 (P := fun n => (mth n).cls = cx_nm (mow n)) rfl rfl) (iv1 (P := fun n => (mth n).cls = cx_nm (mow n)) rfl rfl)) (ivj (m := 439) (iv1 (P := fun n => (mth n).cls = cx_nm (mow n)) rfl rfl) (ivj (m := 440) (iv1 (P := fun n => (mth n).cls = cx_nm (mow n)) rfl rfl) (iv1 (P := fun n => (mth n).cls = cx_nm (mow n)) rfl rfl))))) (ivj (m := 446) (ivj (m := 443) (ivj (m := 442) (iv1 (P := fun n => (mth n).cls = cx_nm (mow n)) rfl rfl) (iv1 (P := fun n => (mth n).cls = cx_nm (mow n)) rfl rfl)) (ivj (m := 444) (iv1 (P := fun n => (mth n).cls = cx_nm (mow n)) rfl rfl) (ivj (m := 445) (iv1 (P := fun n => (mth n).cls = cx_nm (mow n)) rfl rfl) (iv1 (P := fun n => (mth n).cls = cx_nm (mow n)) rfl rfl)))) (ivj (m := 448) (ivj (m := 447) (iv1 (P := fun n => (mth n).cls = cx_nm (mow n)) rfl rfl) (iv1 (P := fun n => (mth n).cls = cx_nm (mow n)) rfl rfl)) (ivj (m := 449) (iv1 (P := fun n => (mth n).cls = cx_nm (mow n)) rfl rfl) (ivj (m := 450) (iv1 (P := fun n => (mth n).cls = cx_nm (mow n)) rfl rfl) (iv1 (P := fun n => (mth n).cls = cx_nm (mow n)) rfl rfl)))))) (ivj (m := 461) (ivj (m := 456) (ivj (m := 453) (ivj (m := 452) (iv1 (P := fun n => (mth n).cls = cx_nm (mow n)) rfl rfl) (iv1 (P := fun n => (mth n).cls = cx_nm (mow n)) rfl rfl)) (ivj (m := 454) (iv1 (P := fun n => (mth n).cls = cx_nm (mow n)) rfl rfl) (ivj (m := 455) (iv1 (P := fun n => (mth n).cls = cx_nm (mow n)) rfl rfl) (iv1 (P := fun n => (mth n).cls = cx_nm (mow n)) rfl rfl)))) (ivj (m := 458) (ivj (m := 457) (iv1 (P := fun n => (mth n).cls = cx_nm (mow n)) rfl rfl) (iv1 (P := fun n => (mth n).cls = cx_nm (mow n)) rfl rfl)) (ivj (m := 459) (iv1 (P := fun n => (mth n).cls = cx_nm (mow n)) rfl rfl) (ivj (m := 460) (iv1 (P := fun n => (mth n).cls = cx_nm (mow n)) rfl rfl) (iv1 (P := fun n => (mth n).cls = cx_nm (mow n)) rfl rfl))))) (ivj (m := 466) (ivj (m := 463) (ivj (m := 462) (iv1 (P := fun n => (mth n).cls = cx_nm (mow n)) rfl rfl) (iv1 (P := fun n => (mth n).cls = cx_nm (mow n)) rfl rfl)) (ivj (m := 464) (iv1 (P := fun n => (mth n).cls = cx_nm (mow n)) rfl rfl) (ivj (m := 465) (iv1 (P := fun n => (mth n).cls = cx_nm (mow n)) rfl rfl) (iv1 (P := fun n => (mth n).cls = cx_nm (mow n)) rfl rfl)))) (ivj (m := 468) (ivj (m := 467) (iv1 (P := fun n => (mth n).cls = cx_nm (mow n)) rfl rfl) (iv1 (P := fun n => (mth n).cls = cx_nm (mow n)) rfl rfl)) (ivj (m := 469) (iv1 (P := fun n => (mth n).cls = cx_nm (mow n)) rfl rfl) (ivj (m := 470) (iv1 (P := fun n => (mth n).cls = cx_nm (mow n)) rfl rfl) (iv1 (P := fun n => (mth n).cls = cx_nm (mow n)) rfl rfl))))))))) (ivj (m := 550) (ivj (m := 510) (ivj (m := 490) (ivj (m := 480) (ivj (m := 475) (ivj (m := 473) (ivj (m := 472) (iv1 (P := fun n => (mth n).cls = cx_nm (mow n)) rfl rfl) (iv1 (P := fun n => (mth n).cls = cx_nm (mow n)) rfl rfl)) (ivj (m := 474) (iv1 (P := fun n => (mth n).cls = cx_nm (mow n)) rfl rfl) (iv1 (P := fun n => (mth n).cls = cx_nm (mow n)) rfl rfl))) (ivj (m := 477) (ivj (m := 476) (iv1 (P := fun n => (mth n).cls = cx_nm (mow n)) rfl rfl) (iv1 (P := fun n => (mth n).cls = cx_nm (mow n)) rfl rfl)) (ivj (m := 478) (iv1 (P := fun n => (mth n).cls = cx_nm (mow n)) rfl rfl) (ivj (m := 479) (iv1 (P := fun n => (mth n).cls = cx_nm (mow n)) rfl rfl) (iv1 (P := fun n => (mth n).cls = cx_nm (mow n)) rfl rfl))))) (ivj (m := 485) (ivj (m := 482) (ivj (m := 481) (iv1 (P := fun n => (mth n).cls = cx_nm (mow n)) rfl rfl) (iv1 (P := fun n => (mth n).cls = cx_nm (mow n)) rfl rfl)) (ivj (m := 483) (iv1 (P := fun n => (mth n).cls = cx_nm (mow n)) rfl rfl) (ivj (m := 484) (iv1 (P := fun n => (mth n).cls = cx_nm (mow n)) rfl rfl) (iv1 (P := fun n => (mth n).cls = cx_nm (mow n)) rfl rfl)))) (ivj (m := 487) (ivj (m := 486) (iv1 (P := fun n => (mth n).cls = cx_nm (mow n)) rfl rfl) (iv1 (P := fun n => (mth n).cls = cx_nm (mow n)) rfl rfl)) (ivj (m := 488) (iv1 (P := fun n => (mth n).cls = cx_nm (mow n)) rfl rfl) (ivj (m := 489) (iv1 (P := fun n => (mth n).cls = cx_nm (mow n)) rfl rfl) (iv1 (P := fun n => (mth n).cls = cx_nm (mow n)) rfl rfl)))))) (ivj (m := 500) (ivj (m := 495) (ivj (m := 492) (ivj (m := 491) (iv1 (P := fun n => (mth n).cls = cx_nm (mow n)) rfl rfl) (iv1 (P := fun n => (mth n).cls = cx_nm (mow n)) rfl rfl)) (ivj (m := 493) (iv1 (P := fun n => (mth n).cls = cx_nm (mow n)) rfl rfl) (ivj (m := 494) (iv1 (P := fun n => (mth n).cls = cx_nm (mow n)) rfl rfl) (iv1 (P := fun n => (mth n).cls = cx_nm (mow n)) rfl rfl)))) (ivj (m := 497) (ivj (m := 496) (iv1 (P := fun n => (mth n).cls = cx_nm (mow n)) rfl rfl) (iv1 (P := fun n => (mth n).cls = cx_nm (mow n)) rfl rfl)) (ivj (m := 498) (iv1 (P := fun n => (mth n).cls = cx_nm (mow n)) rfl rfl) (ivj (m := 499) (iv1 (P := fun n => (mth n).cls = cx_nm (mow n)) rfl rfl) (iv1 (P := fun n => (mth n).cls = cx_nm (mow n)) rfl rfl))))) (ivj (m := 505) (ivj (m := 502) (ivj (m := 501) (iv1 (P := fun n => (mth n).cls = cx_nm (mow n)) rfl rfl) (iv1 (P := fun n => (mth n).cls = cx_nm (mow n)) rfl rfl)) (ivj (m := 503) (iv1 (P := fun n => (mth n).cls = cx_nm (mow n)) rfl rfl) (ivj (m := 504) (iv1 (P := fun n => (mth n).cls = cx_nm (mow n)) rfl rfl) (iv1 (P := fun n => (mth n).cls = cx_nm (mow n)) rfl rfl)))) (ivj (m := 507) (ivj (m := 506) (iv1 (P := fun n => (mth n).cls = cx_nm (mow n)) rfl rfl) (iv1 (P := fun n => (mth n).cls = cx_nm (mow n)) rfl rfl)) (ivj (m := 508) (iv1 (P := fun n => (mth n).cls = cx_nm (mow n)) rfl rfl) (ivj (m := 509) (iv1 (P := fun n => (mth n).cls = cx_nm (mow n)) rfl rfl) (iv1 (P := fun n => (mth n).cls = cx_nm (mow n)) rfl rfl))))))) (ivj (m := 530) (ivj (m := 520) (ivj (m := 515) (ivj (m := 512) (ivj (m := 511) (iv1 (P := fun n => (mth n).cls = cx_nm (mow n)) rfl rfl) (iv1 (P := fun n => (mth n).cls = cx_nm (mow n)) rfl rfl)) (ivj (m := 513) (iv1 (P := fun n => (mth n).cls = cx_nm (mow n)) rfl rfl) (ivj (m := 514) (iv1 (P := fun n => (mth n).cls = cx_nm (mow n)) rfl rfl) (iv1 (P := fun n => (mth n).cls = cx_nm (mow n)) rfl rfl)))) (ivj (m := 517) (ivj (m := 516) (iv1 (P := fun n => (mth n).cls = cx_nm (mow n)) rfl rfl) (iv1 (P := fun n => (mth n).cls = cx_nm (mow n)) rfl rfl)) (ivj (m := 518) (iv1 (P := fun n => (mth n).cls = cx_nm (mow n)) rfl rfl) (ivj (m := 519) (iv1 (P := fun n => (mth n).cls = cx_nm (mow n)) rfl rfl) (iv1 (P := fun n => (mth n).cls = cx_nm (mow n)) rfl rfl))))) (ivj (m := 525) (ivj (m := 522) (ivj (m := 521) (iv1 (P := fun n => (mth n).cls = cx_nm (mow n)) rfl rfl) (iv1 (P := fun n => (mth n).cls = cx_nm (mow n)) rfl rfl)) (ivj (m := 523) (iv1 (P := fun n => (mth n).cls = cx_nm (mow n)) rfl rfl) (ivj (m := 524) (iv1 (P := fun n => (mth n).cls = cx_nm (mow n)) rfl rfl) (iv1 (P := fun n => (mth n).cls = cx_nm (mow n)) rfl rfl)))) (ivj (m := 527) (ivj (m := 526) (iv1 (P := fun n => (mth n).cls = cx_nm (mow n)) rfl rfl) (iv1 (P := fun n => (mth n).cls = cx_nm (mow n)) rfl rfl)) (ivj (m := 528) (iv1 (P := fun n => (mth n).cls = cx_nm (mow n)) rfl rfl) (ivj (m := 529) (iv1 (P := fun n => (mth n).cls = cx_nm (mow n)) rfl rfl) (iv1 (P := fun n => (mth n).cls = cx_nm (mow n)) rfl rfl)))))) (ivj (m := 540) (ivj (m := 535) (ivj (m := 532) (ivj (m := 531) (iv1 (P := fun n => (mth n).cls = cx_nm (mow n)) rfl rfl) (iv1 (P := fun n => (mth n).cls = cx_nm (mow n)) rfl rfl)) (ivj (m := 533) (iv1 (P := fun n => (mth n).cls = cx_nm (mow n)) rfl rfl) (ivj (m := 534) (iv1 (P := fun n => (mth n).cls = cx_nm (mow n)) rfl rfl) (iv1 (P := fun n => (mth n).cls = cx_nm (mow n)) rfl rfl)))) (ivj (m := 537) (ivj (m := 536) (iv1 (P := fun n => (mth n).cls = cx_nm (mow n)) rfl rfl) (iv1 (P := fun n => (mth n).cls = cx_nm (mow n)) rfl rfl)) (ivj (m := 538) (iv1 (P := fun n => (mth n).cls = cx_nm (mow n)) rfl rfl) (ivj (m := 539) (iv1 (P := fun n => (mth n).cls = cx_nm (mow n)) rfl rfl) (iv1 (P := fun n => (mth n).cls = cx_nm (mow n)) rfl rfl))))) (ivj (m := 545) (ivj (m := 542) (ivj (m := 541) (iv1 (P := fun n => (mth n).cls = cx_nm (mow n)) rfl rfl) (iv1 (P := fun n => (mth n).cls = cx_nm (mow n)) rfl rfl)) (ivj (m := 543) (iv1 (P := fun n => (mth n).cls = cx_nm (mow n)) rfl rfl) (ivj (m := 544) (iv1 (P := fun n => (mth n).cls = cx_nm (mow n)) rfl rfl) (iv1 (P := fun n => (mth n).cls = cx_nm (mow n)) rfl rfl)))) (ivj (m := 547) (ivj (m := 546) (iv1 (P := fun n => (mth n).cls = cx_nm (mow n)) rfl rfl) (iv1 (P := fun n => (mth n).cls = cx_nm (mow n)) rfl rfl)) (ivj (m := 548) (iv1 (P := fun n => (mth n).cls = cx_nm (mow n)) rfl rfl) (ivj (m := 549) (iv1 (P := fun n => (mth n).cls = cx_nm (mow n)) rfl rfl) (iv1 (P := fun n => (mth n).cls = cx_nm (mow n)) rfl rfl)))))))) (ivj (m := 589) (ivj (m := 569) (ivj (m := 559) (ivj (m := 554) (ivj (m := 552) (ivj (m := 551) (iv1 (P := fun n => (mth n).cls = cx_nm (mow n)) rfl rfl) (iv1 (P := fun n => (mth n).cls = cx_nm (mow n)) rfl rfl)) (ivj (m := 553) (iv1 (P := fun n => (mth n).cls = cx_nm (mow n)) rfl rfl) (iv1 (P := fun n => (mth n).cls = cx_nm (mow n)) rfl rfl))) (ivj (m := 556) (ivj (m := 555) (iv1 (P := fun n => (mth n).cls = cx_nm (mow n)) rfl rfl) (iv1 (P := fun n => (mth n).cls = cx_nm (mow n)) rfl rfl)) (ivj (m := 557) (iv1 (P := fun n => (mth n).cls = cx_nm (mow n)) rfl rfl) (ivj (m := 558) (iv1 (P := fun n => (mth n).cls = cx_nm (mow n)) rfl rfl) (iv1 (P := fun n => (mth n).cls = cx_nm (mow n)) rfl rfl))))) (ivj (m := 564) (ivj (m := 561) (ivj (m := 560) (iv1 (P := fun n => (mth n).cls = cx_nm (mow n)) rfl rfl) (iv1 (P := fun n => (mth n).cls = cx_nm (mow n)) rfl rfl)) (ivj (m := 562) (iv1 (P := fun n => (mth n).cls = cx_nm (mow n)) rfl rfl) (ivj (m := 563) (iv1 (P := fun n => (mth n).cls = cx_nm (mow n)) rfl rfl) (iv1 (P := fun n => (mth n).cls = cx_nm (mow n)) rfl rfl)))) (ivj (m := 566) (ivj (m := 565) (iv1 (P := fun n => (mth n).cls = cx_nm (mow n)) rfl rfl) (iv1 (P := fun n => (mth n).cls = cx_nm (mow n)) rfl rfl)) (ivj (m := 567) (iv1 (P := fun n => (mth n).cls = cx_nm (mow n)) rfl rfl) (ivj (m := 568) (iv1 (P := fun n => (mth n).cls = cx_nm (mow n)) rfl rfl) (iv1 (P := fun n => (mth n).cls = cx_nm (mow n)) rfl rfl)))))) (ivj (m := 579) (ivj (m := 574) (ivj (m := 571) (ivj (m := 570) (iv1 (P := fun n => (mth n).cls = cx_nm (mow n)) rfl rfl) (iv1 (P := fun n => (mth n).cls = cx_nm (mow n)) rfl rfl)) (ivj (m := 572) (iv1 (P := fun n => (mth n).cls = cx_nm (mow n)) rfl rfl) (ivj (m := 573) (iv1 (P := fun n => (mth n).cls = cx_nm (mow n)) rfl rfl) (iv1 (P := fun n => (mth n).cls = cx_nm (mow n)) rfl rfl)))) (ivj (m := 576) (ivj (m := 575) (iv1 (P := fun n => (mth n).cls = cx_nm (mow n)) rfl rfl) (iv1 (P := fun n => (mth n).cls = cx_nm (mow n)) rfl rfl)) (ivj (m := 577) (iv1 (P := fun n => (mth n).cls = cx_nm (mow n)) rfl rfl) (ivj (m := 578) (iv1 (P := fun n => (mth n).cls = cx_nm (mow n)) rfl rfl) (iv1 (P := fun n => (mth n).cls = cx_nm (mow n)) rfl rfl))))) (ivj (m := 584) (ivj (m := 581) (ivj (m := 580) (iv1 (P := fun n => (mth n).cls = cx_nm (mow n)) rfl rfl) (iv1 (P := fun n => (mth n).cls = cx_nm (mow n)) rfl rfl)) (ivj (m := 582) (iv1 (P := fun n => (mth n).cls = cx_nm (mow n)) rfl rfl) (ivj (m := 583) (iv1 (P := fun n => (mth n).cls = cx_nm (mow n)) rfl rfl) (iv1 (P := fun n => (mth n).cls = cx_nm (mow n)) rfl rfl)))) (ivj (m := 586) (ivj (m := 585) (iv1 (P := fun n => (mth n).cls = cx_nm (mow n)) rfl rfl) (iv1 (P := fun n => (mth n).cls = cx_nm (mow n)) rfl rfl)) (ivj (m := 587) (iv1 (P := fun n => (mth n).cls = cx_nm (mow n)) rfl rfl) (ivj (m := 588) (iv1 (P := fun n => (mth n).cls = cx_nm (mow n)) rfl rfl) (iv1 (P := fun n => (mth n).cls = cx_nm (mow n)) rfl rfl))))))) (ivj (m := 609) (ivj (m := 599) (ivj (m := 594) (ivj (m := 591) (ivj (m := 590) (iv1 (P := fun n => (mth n).cls = cx_nm (mow n)) rfl rfl) (iv1 (P := fun n => (mth n).cls = cx_nm (mow n)) rfl rfl)) (ivj (m := 592) (iv1 (P := fun n => (mth n).cls = cx_nm (mow n)) rfl rfl) (ivj (m := 593) (iv1 (P := fun n => (mth n).cls = cx_nm (mow n)) rfl rfl) (iv1 (P := fun n => (mth n).cls = cx_nm (mow n)) rfl rfl)))) (ivj (m := 596) (ivj (m := 595) (iv1 (P := fun n => (mth n).cls = cx_nm (mow n)) rfl rfl) (iv1 (P := fun n => (mth n).cls = cx_nm (mow n)) rfl rfl)) (ivj (m := 597) (iv1 (P := fun n => (mth n).cls = cx_nm (mow n)) rfl rfl) (ivj (m := 598) (iv1 (P := fun n => (mth n).cls = cx_nm (mow n)) rfl rfl) (iv1 (P := fun n => (mth n).cls = cx_nm (mow n)) rfl rfl))))) (ivj (m := 604) (ivj (m := 601) (ivj (m := 600) (iv1 (P := fun n => (mth n).cls = cx_nm (mow n)) rfl rfl) (iv1 (P := fun n => (mth n).cls = cx_nm (mow n)) rfl rfl)) (ivj (m := 602) (iv1 (P := fun n => (mth n).cls = cx_nm (mow n)) rfl rfl) (ivj (m := 603) (iv1 (P := fun n => (mth n).cls = cx_nm (mow n)) rfl rfl) (iv1 (P := fun n => (mth n).cls = cx_nm (mow n)) rfl rfl)))) (ivj (m := 606) (ivj (m := 605) (iv1 (P := fun n => (mth n).cls = cx_nm (mow n)) rfl rfl) (iv1 (P := fun n => (mth n).cls = cx_nm (mow n)) rfl rfl)) (ivj (m := 607) (iv1 (P := fun n => (mth n).cls = cx_nm (mow n)) rfl rfl) (ivj (m := 608) (iv1 (P := fun n => (mth n).cls = cx_nm (mow n)) rfl rfl) (iv1 (P := fun n => (mth n).cls = cx_nm (mow n)) rfl rfl)))))) (ivj (m := 619) (ivj (m := 614) (ivj (m := 611) (ivj (m := 610) (iv1 (P := fun n => (mth n).cls = cx_nm (mow n)) rfl rfl) (iv1 (P := fun n => (mth n).cls = cx_nm (mow n)) rfl rfl)) (ivj (m := 612) (iv1 (P := fun n => (mth n).cls = cx_nm (mow n)) rfl rfl) (ivj (m := 613) (iv1 (P := fun n => (mth n).cls = cx_nm (mow n)) rfl rfl) (iv1 (P := fun n => (mth n).cls = cx_nm (mow n)) rfl rfl)))) (ivj (m := 616) (ivj (m := 615) (iv1 (P := fun n => (mth n).cls = cx_nm (mow n)) rfl rfl) (iv1 (P := fun n => (mth n).cls = cx_nm (mow n)) rfl rfl)) (ivj (m := 617) (iv1 (P := fun n => (mth n).cls = cx_nm (mow n)) rfl rfl) (ivj (m := 618) (iv1 (P := fun n => (mth n).cls = cx_nm (mow n)) rfl rfl) (iv1 (P := fun n => (mth n).cls = cx_nm (mow n)) rfl rfl))))) (ivj (m := 624) (ivj (m := 621) (ivj (m := 620) (iv1 (P := fun n => (mth n).cls = cx_nm (mow n)) rfl rfl) (iv1 (P := fun n => (mth n).cls = cx_nm (mow n)) rfl rfl)) (ivj (m := 622) (iv1 (P := fun n => (mth n).cls = cx_nm (mow n)) rfl rfl) (ivj (m := 623) (iv1 (P := fun n => (mth n).cls = cx_nm (mow n)) rfl rfl) (iv1 (P := fun n => (mth n).cls = cx_nm (mow n)) rfl rfl)))) (ivj (m := 626) (ivj (m := 625) (iv1 (P := fun n => (mth n).cls = cx_nm (mow n)) rfl rfl) (iv1 (P := fun n => (mth n).cls = cx_nm (mow n)) rfl rfl)) (ivj (m := 627) (iv1 (P := fun n => (mth n).cls = cx_nm (mow n)) rfl rfl) (ivj (m := 628) (iv1 (P := fun n => (mth n).cls = cx_nm (mow n)) rfl rfl) (iv1 (P := fun n => (mth n).cls = cx_nm (mow n)) rfl rfl))))))))))
theorem uws1 : ∀ k, 0 ≤ k → k < 3 → u_lay (cx_nm 1) (cx_T 1) k ∈ lw_tbl := ivj (m := 1) (iv1 (P := fun k => u_lay (cx_nm 1) (cx_T 1) k ∈ lw_tbl) rfl (lw_at lw_m3 230 rfl)) (ivj (m := 2) (iv1 (P := fun k => u_lay (cx_nm 1) (cx_T 1) k ∈ lw_tbl) rfl (lw_at lw_m3 232 rfl)) (iv1 (P := fun k => u_lay (cx_nm 1) (cx_T 1) k ∈ lw_tbl) rfl (lw_at lw_m3 234 rfl)))
theorem uty1 : ∀ k, k < 3 → (parseFieldDescriptor (cx_T 1 k).2.2.1).isSome = true := by decide +kernel
theorem unm1 : ∀ a, a < 3 → ∀ b, b < 3 → a ≠ b → (cx_T 1 a).2.1 ≠ (cx_T 1 b).2.1 := by decide +kernel
theorem uws2 : ∀ k, 0 ≤ k → k < 3 → u_lay (cx_nm 2) (cx_T 2) k ∈ lw_tbl := ivj (m := 1) (iv1 (P := fun k => u_lay (cx_nm 2) (cx_T 2) k ∈ lw_tbl) rfl (lw_at lw_m1 61 rfl)) (ivj (m := 2) (iv1 (P := fun k => u_lay (cx_nm 2) (cx_T 2) k ∈ lw_tbl) rfl (lw_at lw_m1 63 rfl)) (iv1 (P := fun k => u_lay (cx_nm 2) (cx_T 2) k ∈ lw_tbl) rfl (lw_at lw_m1 65 rfl)))
theorem uty2 : ∀ k, k < 3 → (parseFieldDescriptor (cx_T 2 k).2.2.1).isSome = true := by decide +kernel
theorem unm2 : ∀ a, a < 3 → ∀ b, b < 3 → a ≠ b → (cx_T 2 a).2.1 ≠ (cx_T 2 b).2.1 := by decide +kernel
theorem uws3 : ∀ k, 0 ≤ k → k < 30 → u_lay (cx_nm 3) (cx_T 3) k ∈ lw_tbl := ivj (m := 15) (ivj (m := 7) (ivj (m := 3) (ivj (m := 1) (iv1 (P := fun k => u_lay (cx_nm 3) (cx_T 3) k ∈ lw_tbl) rfl (lw_at lw_m3 166 rfl)) (ivj (m := 2) (iv1 (P := fun k => u_lay (cx_nm 3) (cx_T 3) k ∈ lw_tbl) rfl (lw_at lw_m3 168 rfl)) (iv1 (P := fun k => u_lay (cx_nm 3) (cx_T 3) k ∈ lw_tbl) rfl (lw_at lw_m3 170 rfl)))) (ivj (m := 5) (ivj (m := 4) (iv1 (P := fun k => u_lay (cx_nm 3) (cx_T 3) k ∈ lw_tbl) rfl (lw_at lw_m3 172 rfl)) (iv1 (P := fun k => u_lay (cx_nm 3) (cx_T 3) k ∈ lw_tbl) rfl (lw_at lw_m3 174 rfl))) (ivj (m := 6) (iv1 (P := fun k => u_lay (cx_nm 3) (cx_T 3) k ∈ lw_tbl) rfl (lw_at lw_m3 176 rfl)) (iv1 (P := fun k => u_lay (cx_nm 3) (cx_T 3) k ∈ lw_tbl) rfl (lw_at lw_m3 178 rfl))))) (ivj (m := 11) (ivj (m := 9) (ivj (m := 8) (iv1 (P := fun k => u_lay (cx_nm 3) (cx_T 3) k ∈ lw_tbl) rfl (lw_at lw_m3 180 rfl)) (iv1 (P := fun k => u_lay (cx_nm 3) (cx_T 3) k ∈ lw_tbl) rfl (lw_at lw_m3 182 rfl))) (ivj (m := 10) (iv1 (P := fun k => u_lay (cx_nm 3) (cx_T 3) k ∈ lw_tbl) rfl (lw_at lw_m3 184 rfl)) (iv1 (P := fun k => u_lay (cx_nm 3) (cx_T 3) k ∈ lw_tbl) rfl (lw_at lw_m3 186 rfl)))) (ivj (m := 13) (ivj (m := 12) (iv1 (P := fun k => u_lay (cx_nm 3) (cx_T 3) k ∈ lw_tbl) rfl (lw_at lw_m3 188 rfl)) (iv1 (P := fun k => u_lay (cx_nm 3) (cx_T 3) k ∈ lw_tbl) rfl (lw_at lw_m3 190 rfl))) (ivj (m := 14) (iv1 (P := fun k => u_lay (cx_nm 3) (cx_T 3) k ∈ lw_tbl) rfl (lw_at lw_m3 192 rfl)) (iv1 (P := fun k => u_lay (cx_nm 3) (cx_T 3) k ∈ lw_tbl) rfl (lw_at lw_m3 194 rfl)))))) (ivj (m := 22) (ivj (m := 18) (ivj (m := 16) (iv1 (P := fun k => u_lay (cx_nm 3) (cx_T 3) k ∈ lw_tbl) rfl (lw_at lw_m3 196 rfl)) (ivj (m := 17) (iv1 (P := fun k => u_lay (cx_nm 3) (cx_T 3) k ∈ lw_tbl) rfl (lw_at lw_m3 198 rfl)) (iv1 (P := fun k => u_lay (cx_nm 3) (cx_T 3) k ∈ lw_tbl) rfl (lw_at lw_m3 200 rfl)))) (ivj (m := 20) (ivj (m := 19) (iv1 (P := fun k => u_lay (cx_nm 3) (cx_T 3) k ∈ lw_tbl) rfl (lw_at lw_m3 202 rfl)) (iv1 (P := fun k => u_lay (cx_nm 3) (cx_T 3) k ∈ lw_tbl) rfl (lw_at lw_m3 204 rfl))) (ivj (m := 21) (iv1 (P := fun k => u_lay (cx_nm 3) (cx_T 3) k ∈ lw_tbl) rfl (lw_at lw_m3 206 rfl)) (iv1 (P := fun k => u_lay (cx_nm 3) (cx_T 3) k ∈ lw_tbl) rfl (lw_at lw_m3 208 rfl))))) (ivj (m := 26) (ivj (m := 24) (ivj (m := 23) (iv1 (P := fun k => u_lay (cx_nm 3) (cx_T 3) k ∈ lw_tbl) rfl (lw_at lw_m3 210 rfl)) (iv1 (P := fun k => u_lay (cx_nm 3) (cx_T 3) k ∈ lw_tbl) rfl (lw_at lw_m3 212 rfl))) (ivj (m := 25) (iv1 (P := fun k => u_lay (cx_nm 3) (cx_T 3) k ∈ lw_tbl) rfl (lw_at lw_m3 214 rfl)) (iv1 (P := fun k => u_lay (cx_nm 3) (cx_T 3) k ∈ lw_tbl) rfl (lw_at lw_m3 216 rfl)))) (ivj (m := 28) (ivj (m := 27) (iv1 (P := fun k => u_lay (cx_nm 3) (cx_T 3) k ∈ lw_tbl) rfl (lw_at lw_m3 218 rfl)) (iv1 (P := fun k => u_lay (cx_nm 3) (cx_T 3) k ∈ lw_tbl) rfl (lw_at lw_m3 220 rfl))) (ivj (m := 29) (iv1 (P := fun k => u_lay (cx_nm 3) (cx_T 3) k ∈ lw_tbl) rfl (lw_at lw_m3 222 rfl)) (iv1 (P := fun k => u_lay (cx_nm 3) (cx_T 3) k ∈ lw_tbl) rfl (lw_at lw_m3 224 rfl))))))
theorem uty3 : ∀ k, k < 30 → (parseFieldDescriptor (cx_T 3 k).2.2.1).isSome = true := by decide +kernel
theorem unm3 : ∀ a, a < 30 → ∀ b, b < 30 → a ≠ b → (cx_T 3 a).2.1 ≠ (cx_T 3 b).2.1 := by decide +kernel
theorem uws4 : ∀ k, 0 ≤ k → k < 3 → u_lay (cx_nm 4) (cx_T 4) k ∈ lw_tbl := ivj (m := 1) (iv1 (P := fun k => u_lay (cx_nm 4) (cx_T 4) k ∈ lw_tbl) rfl (lw_at lw_m1 97 rfl)) (ivj (m := 2) (iv1 (P := fun k => u_lay (cx_nm 4) (cx_T 4) k ∈ lw_tbl) rfl (lw_at lw_m1 99 rfl)) (iv1 (P := fun k => u_lay (cx_nm 4) (cx_T 4) k ∈ lw_tbl) rfl (lw_at lw_m1 101 rfl)))
theorem uty4 : ∀ k, k < 3 → (parseFieldDescriptor (cx_T 4 k).2.2.1).isSome = true := by decide +kernel
theorem unm4 : ∀ a, a < 3 → ∀ b, b < 3 → a ≠ b → (cx_T 4 a).2.1 ≠ (cx_T 4 b).2.1 := by decide +kernel
theorem uws5 : ∀ k, 0 ≤ k → k < 15 → u_lay (cx_nm 5) (cx_T 5) k ∈ lw_tbl := ivj (m := 7) (ivj (m := 3) (ivj (m := 1) (iv1 (P := fun k => u_lay (cx_nm 5) (cx_T 5) k ∈ lw_tbl) rfl (lw_at lw_m1 130 rfl)) (ivj (m := 2) (iv1 (P := fun k => u_lay (cx_nm 5) (cx_T 5) k ∈ lw_tbl) rfl (lw_at lw_m1 132 rfl)) (iv1 (P := fun k => u_lay (cx_nm 5) (cx_T 5) k ∈ lw_tbl) rfl (lw_at lw_m1 134 rfl)))) (ivj (m := 5) (ivj (m := 4) (iv1 (P := fun k => u_lay (cx_nm 5) (cx_T 5) k ∈ lw_tbl) rfl (lw_at lw_m1 136 rfl)) (iv1 (P := fun k => u_lay (cx_nm 5) (cx_T 5) k ∈ lw_tbl) rfl (lw_at lw_m1 138 rfl))) (ivj (m := 6) (iv1 (P := fun k => u_lay (cx_nm 5) (cx_T 5) k ∈ lw_tbl) rfl (lw_at lw_m1 140 rfl)) (iv1 (P := fun k => u_lay (cx_nm 5) (cx_T 5) k ∈ lw_tbl) rfl (lw_at lw_m1 142 rfl))))) (ivj (m := 11) (ivj (m := 9) (ivj (m := 8) (iv1 (P := fun k => u_lay (cx_nm 5) (cx_T 5) k ∈ lw_tbl) rfl (lw_at lw_m1 144 rfl)) (iv1 (P := fun k => u_lay (cx_nm 5) (cx_T 5) k ∈ lw_tbl) rfl (lw_at lw_m1 146 rfl))) (ivj (m := 10) (iv1 (P := fun k => u_lay (cx_nm 5) (cx_T 5) k ∈ lw_tbl) rfl (lw_at lw_m1 148 rfl)) (iv1 (P := fun k => u_lay (cx_nm 5) (cx_T 5) k ∈ lw_tbl) rfl (lw_at lw_m1 150 rfl)))) (ivj (m := 13) (ivj (m := 12) (iv1 (P := fun k => u_lay (cx_nm 5) (cx_T 5) k ∈ lw_tbl) rfl (lw_at lw_m1 152 rfl)) (iv1 (P := fun k => u_lay (cx_nm 5) (cx_T 5) k ∈ lw_tbl) rfl (lw_at lw_m1 154 rfl))) (ivj (m := 14) (iv1 (P := fun k => u_lay (cx_nm 5) (cx_T 5) k ∈ lw_tbl) rfl (lw_at lw_m1 156 rfl)) (iv1 (P := fun k => u_lay (cx_nm 5) (cx_T 5) k ∈ lw_tbl) rfl (lw_at lw_m1 158 rfl)))))
theorem uty5 : ∀ k, k < 15 → (parseFieldDescriptor (cx_T 5 k).2.2.1).isSome = true := by decide +kernel
theorem unm5 : ∀ a, a < 15 → ∀ b, b < 15 → a ≠ b → (cx_T 5 a).2.1 ≠ (cx_T 5 b).2.1 := by decide +kernel
theorem uws6 : ∀ k, 0 ≤ k → k < 8 → u_lay (cx_nm 6) (cx_T 6) k ∈ lw_tbl := ivj (m := 4) (ivj (m := 2) (ivj (m := 1) (iv1 (P := fun k => u_lay (cx_nm 6) (cx_T 6) k ∈ lw_tbl) rfl (lw_at lw_m1 185 rfl)) (iv1 (P := fun k => u_lay (cx_nm 6) (cx_T 6) k ∈ lw_tbl) rfl (lw_at lw_m1 187 rfl))) (ivj (m := 3) (iv1 (P := fun k => u_lay (cx_nm 6) (cx_T 6) k ∈ lw_tbl) rfl (lw_at lw_m1 189 rfl)) (iv1 (P := fun k => u_lay (cx_nm 6) (cx_T 6) k ∈ lw_tbl) rfl (lw_at lw_m1 191 rfl)))) (ivj (m := 6) (ivj (m := 5) (iv1 (P := fun k => u_lay (cx_nm 6) (cx_T 6) k ∈ lw_tbl) rfl (lw_at lw_m1 193 rfl)) (iv1 (P := fun k => u_lay (cx_nm 6) (cx_T 6) k ∈ lw_tbl) rfl (lw_at lw_m1 195 rfl))) (ivj (m := 7) (iv1 (P := fun k => u_lay (cx_nm 6) (cx_T 6) k ∈ lw_tbl) rfl (lw_at lw_m1 197 rfl)) (iv1 (P := fun k => u_lay (cx_nm 6) (cx_T 6) k ∈ lw_tbl) rfl (lw_at lw_m1 199 rfl))))
theorem uty6 : ∀ k, k < 8 → (parseFieldDescriptor (cx_T 6 k).2.2.1).isSome = true := by decide +kernel
theorem unm6 : ∀ a, a < 8 → ∀ b, b < 8 → a ≠ b → (cx_T 6 a).2.1 ≠ (cx_T 6 b).2.1 := by decide +kernel
theorem uws7 : ∀ k, 0 ≤ k → k < 9 → u_lay (cx_nm 7) (cx_T 7) k ∈ lw_tbl := ivj (m := 4) (ivj (m := 2) (ivj (m := 1) (iv1 (P := fun k => u_lay (cx_nm 7) (cx_T 7) k ∈ lw_tbl) rfl (lw_at lw_m1 224 rfl)) (iv1 (P := fun k => u_lay (cx_nm 7) (cx_T 7) k ∈ lw_tbl) rfl (lw_at lw_m1 226 rfl))) (ivj (m := 3) (iv1 (P := fun k => u_lay (cx_nm 7) (cx_T 7) k ∈ lw_tbl) rfl (lw_at lw_m1 228 rfl)) (iv1 (P := fun k => u_lay (cx_nm 7) (cx_T 7) k ∈ lw_tbl) rfl (lw_at lw_m1 230 rfl)))) (ivj (m := 6) (ivj (m := 5) (iv1 (P := fun k => u_lay (cx_nm 7) (cx_T 7) k ∈ lw_tbl) rfl (lw_at lw_m1 232 rfl)) (iv1 (P := fun k => u_lay (cx_nm 7) (cx_T 7) k ∈ lw_tbl) rfl (lw_at lw_m1 234 rfl))) (ivj (m := 7) (iv1 (P := fun k => u_lay (cx_nm 7) (cx_T 7) k ∈ lw_tbl) rfl (lw_at lw_m1 236 rfl)) (ivj (m := 8) (iv1 (P := fun k => u_lay (cx_nm 7) (cx_T 7) k ∈ lw_tbl) rfl (lw_at lw_m1 238 rfl)) (iv1 (P := fun k => u_lay (cx_nm 7) (cx_T 7) k ∈ lw_tbl) rfl (lw_at lw_m2 0 rfl)))))
theorem uty7 : ∀ k, k < 9 → (parseFieldDescriptor (cx_T 7 k).2.2.1).isSome = true := by decide +kernel
theorem unm7 : ∀ a, a < 9 → ∀ b, b < 9 → a ≠ b → (cx_T 7 a).2.1 ≠ (cx_T 7 b).2.1 := by decide +kernel
theorem uws8 : ∀ k, 0 ≤ k → k < 12 → u_lay (cx_nm 8) (cx_T 8) k ∈ lw_tbl := ivj (m := 6) (ivj (m := 3) (ivj (m := 1) (iv1 (P := fun k => u_lay (cx_nm 8) (cx_T 8) k ∈ lw_tbl) rfl (lw_at lw_m2 29 rfl)) (ivj (m := 2) (iv1 (P := fun k => u_lay (cx_nm 8) (cx_T 8) k ∈ lw_tbl) rfl (lw_at lw_m2 31 rfl)) (iv1 (P := fun k => u_lay (cx_nm 8) (cx_T 8) k ∈ lw_tbl) rfl (lw_at lw_m2 33 rfl)))) (ivj (m := 4) (iv1 (P := fun k => u_lay (cx_nm 8) (cx_T 8) k ∈ lw_tbl) rfl (lw_at lw_m2 35 rfl)) (ivj (m := 5) (iv1 (P := fun k => u_lay (cx_nm 8) (cx_T 8) k ∈ lw_tbl) rfl (lw_at lw_m2 37 rfl)) (iv1 (P := fun k => u_lay (cx_nm 8) (cx_T 8) k ∈ lw_tbl) rfl (lw_at lw_m2 39 rfl))))) (ivj (m := 9) (ivj (m := 7) (iv1 (P := fun k => u_lay (cx_nm 8) (cx_T 8) k ∈ lw_tbl) rfl (lw_at lw_m2 41 rfl)) (ivj (m := 8) (iv1 (P := fun k => u_lay (cx_nm 8) (cx_T 8) k ∈ lw_tbl) rfl (lw_at lw_m2 43 rfl)) (iv1 (P := fun k => u_lay (cx_nm 8) (cx_T 8) k ∈ lw_tbl) rfl (lw_at lw_m2 45 rfl)))) (ivj (m := 10) (iv1 (P := fun k => u_lay (cx_nm 8) (cx_T 8) k ∈ lw_tbl) rfl (lw_at lw_m2 47 rfl)) (ivj (m := 11) (iv1 (P := fun k => u_lay (cx_nm 8) (cx_T 8) k ∈ lw_tbl) rfl (lw_at lw_m2 49 rfl)) (iv1 (P := fun k => u_lay (cx_nm 8) (cx_T 8) k ∈ lw_tbl) rfl (lw_at lw_m2 51 rfl)))))
theorem uty8 : ∀ k, k < 12 → (parseFieldDescriptor (cx_T 8 k).2.2.1).isSome = true := by decide +kernel
theorem unm8 : ∀ a, a < 12 → ∀ b, b < 12 → a ≠ b → (cx_T 8 a).2.1 ≠ (cx_T 8 b).2.1 := by decide +kernel
theorem uws9 : ∀ k, 0 ≤ k → k < 6 → u_lay (cx_nm 9) (cx_T 9) k ∈ lw_tbl := ivj (m := 3) (ivj (m := 1) (iv1 (P := fun k => u_lay (cx_nm 9) (cx_T 9) k ∈ lw_tbl) rfl (lw_at lw_m2 73 rfl)) (ivj (m := 2) (iv1 (P := fun k => u_lay (cx_nm 9) (cx_T 9) k ∈ lw_tbl) rfl (lw_at lw_m2 75 rfl)) (iv1 (P := fun k => u_lay (cx_nm 9) (cx_T 9) k ∈ lw_tbl) rfl (lw_at lw_m2 77 rfl)))) (ivj (m := 4) (iv1 (P := fun k => u_lay (cx_nm 9) (cx_T 9) k ∈ lw_tbl) rfl (lw_at lw_m2 79 rfl)) (ivj (m := 5) (iv1 (P := fun k => u_lay (cx_nm 9) (cx_T 9) k ∈ lw_tbl) rfl (lw_at lw_m2 81 rfl)) (iv1 (P := fun k => u_lay (cx_nm 9) (cx_T 9) k ∈ lw_tbl) rfl (lw_at lw_m2 83 rfl))))
theorem uty9 : ∀ k, k < 6 → (parseFieldDescriptor (cx_T 9 k).2.2.1).isSome = true := by decide +kernel
theorem unm9 : ∀ a, a < 6 → ∀ b, b < 6 → a ≠ b → (cx_T 9 a).2.1 ≠ (cx_T 9 b).2.1 := by decide +kernel
theorem uws10 : ∀ k, 0 ≤ k → k < 6 → u_lay (cx_nm 10) (cx_T 10) k ∈ lw_tbl := ivj (m := 3) (ivj (m := 1) (iv1 (P := fun k => u_lay (cx_nm 10) (cx_T 10) k ∈ lw_tbl) rfl (lw_at lw_m2 111 rfl)) (ivj (m := 2) (iv1 (P := fun k => u_lay (cx_nm 10) (cx_T 10) k ∈ lw_tbl) rfl (lw_at lw_m2 113 rfl)) (iv1 (P := fun k => u_lay (cx_nm 10) (cx_T 10) k ∈ lw_tbl) rfl (lw_at lw_m2 115 rfl)))) (ivj (m := 4) (iv1 (P := fun k => u_lay (cx_nm 10) (cx_T 10) k ∈ lw_tbl) rfl (lw_at lw_m2 117 rfl)) (ivj (m := 5) (iv1 (P := fun k => u_lay (cx_nm 10) (cx_T 10) k ∈ lw_tbl) rfl (lw_at lw_m2 119 rfl)) (iv1 (P := fun k => u_lay (cx_nm 10) (cx_T 10) k ∈ lw_tbl) rfl (lw_at lw_m2 121 rfl))))
theorem uty10 : ∀ k, k < 6 → (parseFieldDescriptor (cx_T 10 k).2.2.1).isSome = true := by decide +kernel
theorem unm10 : ∀ a, a < 6 → ∀ b, b < 6 → a ≠ b → (cx_T 10 a).2.1 ≠ (cx_T 10 b).2.1 := by decide +kernel
theorem uws11 : ∀ k, 0 ≤ k → k < 13 → u_lay (cx_nm 11) (cx_T 11) k ∈ lw_tbl := ivj (m := 6) (ivj (m := 3) (ivj (m := 1) (iv1 (P := fun k => u_lay (cx_nm 11) (cx_T 11) k ∈ lw_tbl) rfl (lw_at lw_m2 155 rfl)) (ivj (m := 2) (iv1 (P := fun k => u_lay (cx_nm 11) (cx_T 11) k ∈ lw_tbl) rfl (lw_at lw_m2 157 rfl)) (iv1 (P := fun k => u_lay (cx_nm 11) (cx_T 11) k ∈ lw_tbl) rfl (lw_at lw_m2 159 rfl)))) (ivj (m := 4) (iv1 (P := fun k => u_lay (cx_nm 11) (cx_T 11) k ∈ lw_tbl) rfl (lw_at lw_m2 161 rfl)) (ivj (m := 5) (iv1 (P := fun k => u_lay (cx_nm 11) (cx_T 11) k ∈ lw_tbl) rfl (lw_at lw_m2 163 rfl)) (iv1 (P := fun k => u_lay (cx_nm 11) (cx_T 11) k ∈ lw_tbl) rfl (lw_at lw_m2 165 rfl))))) (ivj (m := 9) (ivj (m := 7) (iv1 (P := fun k => u_lay (cx_nm 11) (cx_T 11) k ∈ lw_tbl) rfl (lw_at lw_m2 167 rfl)) (ivj (m := 8) (iv1 (P := fun k => u_lay (cx_nm 11) (cx_T 11) k ∈ lw_tbl) rfl (lw_at lw_m2 169 rfl)) (iv1 (P := fun k => u_lay (cx_nm 11) (cx_T 11) k ∈ lw_tbl) rfl (lw_at lw_m2 171 rfl)))) (ivj (m := 11) (ivj (m := 10) (iv1 (P := fun k => u_lay (cx_nm 11) (cx_T 11) k ∈ lw_tbl) rfl (lw_at lw_m2 173 rfl)) (iv1 (P := fun k => u_lay (cx_nm 11) (cx_T 11) k ∈ lw_tbl) rfl (lw_at lw_m2 175 rfl))) (ivj (m := 12) (iv1 (P := fun k => u_lay (cx_nm 11) (cx_T 11) k ∈ lw_tbl) rfl (lw_at lw_m2 177 rfl)) (iv1 (P := fun k => u_lay (cx_nm 11) (cx_T 11) k ∈ lw_tbl) rfl (lw_at lw_m2 179 rfl)))))
theorem uty11 : ∀ k, k < 13 → (parseFieldDescriptor (cx_T 11 k).2.2.1).isSome = true := by decide +kernel
theorem unm11 : ∀ a, a < 13 → ∀ b, b < 13 → a ≠ b → (cx_T 11 a).2.1 ≠ (cx_T 11 b).2.1 := by decide +kernel
theorem uws12 : ∀ k, 0 ≤ k → k < 8 → u_lay (cx_nm 12) (cx_T 12) k ∈ lw_tbl := ivj (m := 4) (ivj (m := 2) (ivj (m := 1) (iv1 (P := fun k => u_lay (cx_nm 12) (cx_T 12) k ∈ lw_tbl) rfl (lw_at lw_m2 239 rfl)) (iv1 (P := fun k => u_lay (cx_nm 12) (cx_T 12) k ∈ lw_tbl) rfl (lw_at lw_m3 1 rfl))) (ivj (m := 3) (iv1 (P := fun k => u_lay (cx_nm 12) (cx_T 12) k ∈ lw_tbl) rfl (lw_at lw_m3 3 rfl)) (iv1 (P := fun k => u_lay (cx_nm 12) (cx_T 12) k ∈ lw_tbl) rfl (lw_at lw_m3 5 rfl)))) (ivj (m := 6) (ivj (m := 5) (iv1 (P := fun k => u_lay (cx_nm 12) (cx_T 12) k ∈ lw_tbl) rfl (lw_at lw_m3 7 rfl)) (iv1 (P := fun k => u_lay (cx_nm 12) (cx_T 12) k ∈ lw_tbl) rfl (lw_at lw_m3 9 rfl))) (ivj (m := 7) (iv1 (P := fun k => u_lay (cx_nm 12) (cx_T 12) k ∈ lw_tbl) rfl (lw_at lw_m3 11 rfl)) (iv1 (P := fun k => u_lay (cx_nm 12) (cx_T 12) k ∈ lw_tbl) rfl (lw_at lw_m3 13 rfl))))
theorem uty12 : ∀ k, k < 8 → (parseFieldDescriptor (cx_T 12 k).2.2.1).isSome = true := by decide +kernel
theorem unm12 : ∀ a, a < 8 → ∀ b, b < 8 → a ≠ b → (cx_T 12 a).2.1 ≠ (cx_T 12 b).2.1 := by decide +kernel
theorem uws13 : ∀ k, 0 ≤ k → k < 6 → u_lay (cx_nm 13) (cx_T 13) k ∈ lw_tbl := ivj (m := 3) (ivj (m := 1) (iv1 (P := fun k => u_lay (cx_nm 13) (cx_T 13) k ∈ lw_tbl) rfl (lw_at lw_m2 215 rfl)) (ivj (m := 2) (iv1 (P := fun k => u_lay (cx_nm 13) (cx_T 13) k ∈ lw_tbl) rfl (lw_at lw_m2 217 rfl)) (iv1 (P := fun k => u_lay (cx_nm 13) (cx_T 13) k ∈ lw_tbl) rfl (lw_at lw_m2 219 rfl)))) (ivj (m := 4) (iv1 (P := fun k => u_lay (cx_nm 13) (cx_T 13) k ∈ lw_tbl) rfl (lw_at lw_m2 221 rfl)) (ivj (m := 5) (iv1 (P := fun k => u_lay (cx_nm 13) (cx_T 13) k ∈ lw_tbl) rfl (lw_at lw_m2 223 rfl)) (iv1 (P := fun k => u_lay (cx_nm 13) (cx_T 13) k ∈ lw_tbl) rfl (lw_at lw_m2 225 rfl))))
theorem uty13 : ∀ k, k < 6 → (parseFieldDescriptor (cx_T 13 k).2.2.1).isSome = true := by decide +kernel
theorem unm13 : ∀ a, a < 6 → ∀ b, b < 6 → a ≠ b → (cx_T 13 a).2.1 ≠ (cx_T 13 b).2.1 := by decide +kernel
theorem uws14 : ∀ k, 0 ≤ k → k < 17 → u_lay (cx_nm 14) (cx_T 14) k ∈ lw_tbl := ivj (m := 8) (ivj (m := 4) (ivj (m := 2) (ivj (m := 1) (iv1 (P := fun k => u_lay (cx_nm 14) (cx_T 14) k ∈ lw_tbl) rfl (lw_at lw_m3 41 rfl)) (iv1 (P := fun k => u_lay (cx_nm 14) (cx_T 14) k ∈ lw_tbl) rfl (lw_at lw_m3 43 rfl))) (ivj (m := 3) (iv1 (P := fun k => u_lay (cx_nm 14) (cx_T 14) k ∈ lw_tbl) rfl (lw_at lw_m3 45 rfl)) (iv1 (P := fun k => u_lay (cx_nm 14) (cx_T 14) k ∈ lw_tbl) rfl (lw_at lw_m3 47 rfl)))) (ivj (m := 6) (ivj (m := 5) (iv1 (P := fun k => u_lay (cx_nm 14) (cx_T 14) k ∈ lw_tbl) rfl (lw_at lw_m3 49 rfl)) (iv1 (P := fun k => u_lay (cx_nm 14) (cx_T 14) k ∈ lw_tbl) rfl (lw_at lw_m3 51 rfl))) (ivj (m := 7) (iv1 (P := fun k => u_lay (cx_nm 14) (cx_T 14) k ∈ lw_tbl) rfl (lw_at lw_m3 53 rfl)) (iv1 (P := fun k => u_lay (cx_nm 14) (cx_T 14) k ∈ lw_tbl) rfl (lw_at lw_m3 55 rfl))))) (ivj (m := 12) (ivj (m := 10) (ivj (m := 9) (iv1 (P := fun k => u_lay (cx_nm 14) (cx_T 14) k ∈ lw_tbl) rfl (lw_at lw_m3 57 rfl)) (iv1 (P := fun k => u_lay (cx_nm 14) (cx_T 14) k ∈ lw_tbl) rfl (lw_at lw_m3 59 rfl))) (ivj (m := 11) (iv1 (P := fun k => u_lay (cx_nm 14) (cx_T 14) k ∈ lw_tbl) rfl (lw_at lw_m3 61 rfl)) (iv1 (P := fun k => u_lay (cx_nm 14) (cx_T 14) k ∈ lw_tbl) rfl (lw_at lw_m3 63 rfl)))) (ivj (m := 14) (ivj (m := 13) (iv1 (P := fun k => u_lay (cx_nm 14) (cx_T 14) k ∈ lw_tbl) rfl (lw_at lw_m3 65 rfl)) (iv1 (P := fun k => u_lay (cx_nm 14) (cx_T 14) k ∈ lw_tbl) rfl (lw_at lw_m3 67 rfl))) (ivj (m := 15) (iv1 (P := fun k => u_lay (cx_nm 14) (cx_T 14) k ∈ lw_tbl) rfl (lw_at lw_m3 69 rfl)) (ivj (m := 16) (iv1 (P := fun k => u_lay (cx_nm 14) (cx_T 14) k ∈ lw_tbl) rfl (lw_at lw_m3 71 rfl)) (iv1 (P := fun k => u_lay (cx_nm 14) (cx_T 14) k ∈ lw_tbl) rfl (lw_at lw_m3 73 rfl))))))
theorem uty14 : ∀ k, k < 17 → (parseFieldDescriptor (cx_T 14 k).2.2.1).isSome = true := by decide +kernel
theorem unm14 : ∀ a, a < 17 → ∀ b, b < 17 → a ≠ b → (cx_T 14 a).2.1 ≠ (cx_T 14 b).2.1 := by decide +kernel
theorem uws15 : ∀ k, 0 ≤ k → k < 5 → u_lay (cx_nm 15) (cx_T 15) k ∈ lw_tbl := ivj (m := 2) (ivj (m := 1) (iv1 (P := fun k => u_lay (cx_nm 15) (cx_T 15) k ∈ lw_tbl) rfl (lw_at lw_m3 88 rfl)) (iv1 (P := fun k => u_lay (cx_nm 15) (cx_T 15) k ∈ lw_tbl) rfl (lw_at lw_m3 90 rfl))) (ivj (m := 3) (iv1 (P := fun k => u_lay (cx_nm 15) (cx_T 15) k ∈ lw_tbl) rfl (lw_at lw_m3 92 rfl)) (ivj (m := 4) (iv1 (P := fun k => u_lay (cx_nm 15) (cx_T 15) k ∈ lw_tbl) rfl (lw_at lw_m3 94 rfl)) (iv1 (P := fun k => u_lay (cx_nm 15) (cx_T 15) k ∈ lw_tbl) rfl (lw_at lw_m3 96 rfl))))
theorem uty15 : ∀ k, k < 5 → (parseFieldDescriptor (cx_T 15 k).2.2.1).isSome = true := by decide +kernel
theorem unm15 : ∀ a, a < 5 → ∀ b, b < 5 → a ≠ b → (cx_T 15 a).2.1 ≠ (cx_T 15 b).2.1 := by decide +kernel
theorem uws16 : ∀ k, 0 ≤ k → k < 8 → u_lay (cx_nm 16) (cx_T 16) k ∈ lw_tbl := ivj (m := 4) (ivj (m := 2) (ivj (m := 1) (iv1 (P := fun k => u_lay (cx_nm 16) (cx_T 16) k ∈ lw_tbl) rfl (lw_at lw_m3 118 rfl)) (iv1 (P := fun k => u_lay (cx_nm 16) (cx_T 16) k ∈ lw_tbl) rfl (lw_at lw_m3 120 rfl))) (ivj (m := 3) (iv1 (P := fun k => u_lay (cx_nm 16) (cx_T 16) k ∈ lw_tbl) rfl (lw_at lw_m3 122 rfl)) (iv1 (P := fun k => u_lay (cx_nm 16) (cx_T 16) k ∈ lw_tbl) rfl (lw_at lw_m3 124 rfl)))) (ivj (m := 6) (ivj (m := 5) (iv1 (P := fun k => u_lay (cx_nm 16) (cx_T 16) k ∈ lw_tbl) rfl (lw_at lw_m3 126 rfl)) (iv1 (P := fun k => u_lay (cx_nm 16) (cx_T 16) k ∈ lw_tbl) rfl (lw_at lw_m3 128 rfl))) (ivj (m := 7) (iv1 (P := fun k => u_lay (cx_nm 16) (cx_T 16) k ∈ lw_tbl) rfl (lw_at lw_m3 130 rfl)) (iv1 (P := fun k => u_lay (cx_nm 16) (cx_T 16) k ∈ lw_tbl) rfl (lw_at lw_m3 132 rfl))))
theorem uty16 : ∀ k, k < 8 → (parseFieldDescriptor (cx_T 16 k).2.2.1).isSome = true := by decide +kernel
theorem unm16 : ∀ a, a < 8 → ∀ b, b < 8 → a ≠ b → (cx_T 16 a).2.1 ≠ (cx_T 16 b).2.1 := by decide +kernel
theorem uws17 : ∀ k, 0 ≤ k → k < 170 → u_lay (cx_nm 17) (cx_T 17) k ∈ lw_tbl := ivj (m := 85) (ivj (m := 42) (ivj (m := 21) (ivj (m := 10) (ivj (m := 5) (ivj (m := 2) (ivj (m := 1) (iv1 (P := fun k => u_lay (cx_nm 17) (cx_T 17) k ∈ lw_tbl) rfl (lw_at lw_m13 68 rfl)) (iv1 (P := fun k => u_lay (cx_nm 17) (cx_T 17) k ∈ lw_tbl) rfl (lw_at lw_m13 70 rfl))) (ivj (m := 3) (iv1 (P := fun k => u_lay (cx_nm 17) (cx_T 17) k ∈ lw_tbl) rfl (lw_at lw_m13 72 rfl)) (ivj (m := 4) (iv1 (P := fun k => u_lay (cx_nm 17) (cx_T 17) k ∈ lw_tbl) rfl (lw_at lw_m13 74 rfl)) (iv1 (P := fun k => u_lay (cx_nm 17) (cx_T 17) k ∈ lw_tbl) rfl (lw_at lw_m13 76 rfl))))) (ivj (m := 7) (ivj (m := 6) (iv1 (P := fun k => u_lay (cx_nm 17) (cx_T 17) k ∈ lw_tbl) rfl (lw_at lw_m13 78 rfl)) (iv1 (P := fun k => u_lay (cx_nm 17) (cx_T 17) k ∈ lw_tbl) rfl (lw_at lw_m13 80 rfl))) (ivj (m := 8) (iv1 (P := fun k => u_lay (cx_nm 17) (cx_T 17) k ∈ lw_tbl) rfl (lw_at lw_m13 82 rfl)) (ivj (m := 9) (iv1 (P := fun k => u_lay (cx_nm 17) (cx_T 17) k ∈ lw_tbl) rfl (lw_at lw_m13 84 rfl)) (iv1 (P := fun k => u_lay (cx_nm 17) (cx_T 17) k ∈ lw_tbl) rfl (lw_at lw_m13 86 rfl)))))) (ivj (m := 15) (ivj (m := 12) (ivj (m := 11) (iv1 (P := fun k => u_lay (cx_nm 17) (cx_T 17) k ∈ lw_tbl) rfl (lw_at lw_m13 88 rfl)) (iv1 (P := fun k => u_lay (cx_nm 17) (cx_T 17) k ∈ lw_tbl) rfl (lw_at lw_m13 90 rfl))) (ivj (m := 13) (iv1 (P := fun k => u_lay (cx_nm 17) (cx_T 17) k ∈ lw_tbl) rfl (lw_at lw_m13 92 rfl)) (ivj (m := 14) (iv1 (P := fun k => u_lay (cx_nm 17) (cx_T 17) k ∈ lw_tbl) rfl (lw_at lw_m13 94 rfl)) (iv1 (P := fun k => u_lay (cx_nm 17) (cx_T 17) k ∈ lw_tbl) rfl (lw_at lw_m13 96 rfl))))) (ivj (m := 18) (ivj (m := 16) (iv1 (P := fun k => u_lay (cx_nm 17) (cx_T 17) k ∈ lw_tbl) rfl (lw_at lw_m13 98 rfl)) (ivj (m := 17) (iv1 (P := fun k => u_lay (cx_nm 17) (cx_T 17) k ∈ lw_tbl) rfl (lw_at lw_m13 100 rfl)) (iv1 (P := fun k => u_lay (cx_nm 17) (cx_T 17) k ∈ lw_tbl) rfl (lw_at lw_m13 102 rfl)))) (ivj (m := 19) (iv1 (P := fun k => u_lay (cx_nm 17) (cx_T 17) k ∈ lw_tbl) rfl (lw_at lw_m13 104 rfl)) (ivj (m := 20) (iv1 (P := fun k => u_lay (cx_nm 17) (cx_T 17) k ∈ lw_tbl) rfl (lw_at lw_m13 106 rfl)) (iv1 (P := fun k => u_lay (cx_nm 17) (cx_T 17) k ∈ lw_tbl) rfl (lw_at lw_m13 108 rfl))))))) (ivj (m := 31) (ivj (m := 26) (ivj (m := 23) (ivj (m := 22) (iv1 (P := fun k => u_lay (cx_nm 17) (cx_T 17) k ∈ lw_tbl) rfl (lw_at lw_m13 110 rfl)) (iv1 (P := fun k => u_lay (cx_nm 17) (cx_T 17) k ∈ lw_tbl) rfl (lw_at lw_m13 112 rfl))) (ivj (m := 24) (iv1 (P := fun k => u_lay (cx_nm 17) (cx_T 17) k ∈ lw_tbl) rfl (lw_at lw_m13 114 rfl)) (ivj (m := 25) (iv1 (P := fun k => u_lay (cx_nm 17) (cx_T 17) k ∈ lw_tbl) rfl (lw_at lw_m13 116 rfl)) (iv1 (P := fun k => u_lay (cx_nm 17) (cx_T 17) k ∈ lw_tbl) rfl (lw_at lw_m13 118 rfl))))) (ivj (m := 28) (ivj (m := 27) (iv1 (P := fun k => u_lay (cx_nm 17) (cx_T 17) k ∈ lw_tbl) rfl (lw_at lw_m13 120 rfl)) (iv1 (P := fun k => u_lay (cx_nm 17) (cx_T 17) k ∈ lw_tbl) rfl (lw_at lw_m13 122 rfl))) (ivj (m := 29) (iv1 (P := fun k => u_lay (cx_nm 17) (cx_T 17) k ∈ lw_tbl) rfl (lw_at lw_m13 124 rfl)) (ivj (m := 30) (iv1 (P := fun k => u_lay (cx_nm 17) (cx_T 17) k ∈ lw_tbl) rfl (lw_at lw_m13 126 rfl)) (iv1 (P := fun k => u_lay (cx_nm 17) (cx_T 17) k ∈ lw_tbl) rfl (lw_at lw_m13 128 rfl)))))) (ivj (m := 36) (ivj (m := 33) (ivj (m := 32) (iv1 (P := fun k => u_lay (cx_nm 17) (cx_T 17) k ∈ lw_tbl) rfl (lw_at lw_m13 130 rfl)) (iv1 (P := fun k => u_lay (cx_nm 17) (cx_T 17) k ∈ lw_tbl) rfl (lw_at lw_m13 132 rfl))) (ivj (m := 34) (iv1 (P := fun k => u_lay (cx_nm 17) (cx_T 17) k ∈ lw_tbl) rfl (lw_at lw_m13 134 rfl)) (ivj (m := 35) (iv1 (P := fun k => u_lay (cx_nm 17) (cx_T 17) k ∈ lw_tbl) rfl (lw_at lw_m13 136 rfl)) (iv1 (P := fun k => u_lay (cx_nm 17) (cx_T 17) k ∈ lw_tbl) rfl (lw_at lw_m13 138 rfl))))) (ivj (m := 39) (ivj (m := 37) (iv1 (P := fun k => u_lay (cx_nm 17) (cx_T 17) k ∈ lw_tbl) rfl (lw_at lw_m13 140 rfl)) (ivj (m := 38) (iv1 (P := fun k => u_lay (cx_nm 17) (cx_T 17) k ∈ lw_tbl) rfl (lw_at lw_m13 142 rfl)) (iv1 (P := fun k => u_lay (cx_nm 17) (cx_T 17) k ∈ lw_tbl) rfl (lw_at lw_m13 144 rfl)))) (ivj (m := 40) (iv1 (P := fun k => u_lay (cx_nm 17) (cx_T 17) k ∈ lw_tbl) rfl (lw_at lw_m13 146 rfl)) (ivj (m := 41) (iv1 (P := fun k => u_lay (cx_nm 17) (cx_T 17) k ∈ lw_tbl) rfl (lw_at lw_m13 148 rfl)) (iv1 (P := fun k => u_lay (cx_nm 17) (cx_T 17) k ∈ lw_tbl) rfl (lw_at lw_m13 150 rfl)))))))) (ivj (m := 63) (ivj (m := 52) (ivj (m := 47) (ivj (m := 44) (ivj (m := 43) (iv1 (P := fun k => u_lay (cx_nm 17) (cx_T 17) k ∈ lw_tbl) rfl (lw_at lw_m13 152 rfl)) (iv1 (P := fun k => u_lay (cx_nm 17) (cx_T 17) k ∈ lw_tbl) rfl (lw_at lw_m13 154 rfl))) (ivj (m := 45) (iv1 (P := fun k => u_lay (cx_nm 17) (cx_T 17) k ∈ lw_tbl) rfl (lw_at lw_m13 156 rfl)) (ivj (m := 46) (iv1 (P := fun k => u_lay (cx_nm 17) (cx_T 17) k ∈ lw_tbl) rfl (lw_at lw_m13 158 rfl)) (iv1 (P := fun k => u_lay (cx_nm 17) (cx_T 17) k ∈ lw_tbl) rfl (lw_at lw_m13 160 rfl))))) (ivj (m := 49) (ivj (m := 48) (iv1 (P := fun k => u_lay (cx_nm 17) (cx_T 17) k ∈ lw_tbl) rfl (lw_at lw_m13 162 rfl)) (iv1 (P := fun k => u_lay (cx_nm 17) (cx_T 17) k ∈ lw_tbl) rfl (lw_at lw_m13 164 rfl))) (ivj (m := 50) (iv1 (P := fun k => u_lay (cx_nm 17) (cx_T 17) k ∈ lw_tbl) rfl (lw_at lw_m13 166 rfl)) (ivj (m := 51) (iv1 (P := fun k => u_lay (cx_nm 17) (cx_T 17) k ∈ lw_tbl) rfl (lw_at lw_m13 168 rfl)) (iv1 (P := fun k => u_lay (cx_nm 17) (cx_T 17) k ∈ lw_tbl) rfl (lw_at lw_m13 170 rfl)))))) (ivj (m := 57) (ivj (m := 54) (ivj (m := 53) (iv1 (P := fun k => u_lay (cx_nm 17) (cx_T 17) k ∈ lw_tbl) rfl (lw_at lw_m13 172 rfl)) (iv1 (P := fun k => u_lay (cx_nm 17) (cx_T 17) k ∈ lw_tbl) rfl (lw_at lw_m13 174 rfl))) (ivj (m := 55) (iv1 (P := fun k => u_lay (cx_nm 17) (cx_T 17) k ∈ lw_tbl) rfl (lw_at lw_m13 176 rfl)) (ivj (m := 56) (iv1 (P := fun k => u_lay (cx_nm 17) (cx_T 17) k ∈ lw_tbl) rfl (lw_at lw_m13 178 rfl)) (iv1 (P := fun k => u_lay (cx_nm 17) (cx_T 17) k ∈ lw_tbl) rfl (lw_at lw_m13 180 rfl))))) (ivj (m := 60) (ivj (m := 58) (iv1 (P := fun k => u_lay (cx_nm 17) (cx_T 17) k ∈ lw_tbl) rfl (lw_at lw_m13 182 rfl)) (ivj (m := 59) (iv1 (P := fun k => u_lay (cx_nm 17) (cx_T 17) k ∈ lw_tbl) rfl (lw_at lw_m13 184 rfl)) (iv1 (P := fun k => u_lay (cx_nm 17) (cx_T 17) k ∈ lw_tbl) rfl (lw_at lw_m13 186 rfl)))) (ivj (m := 61) (iv1 (P := fun k => u_lay (cx_nm 17) (cx_T 17) k ∈ lw_tbl) rfl (lw_at lw_m13 188 rfl)) (ivj (m := 62) (iv1 (P := fun k => u_lay (cx_nm 17) (cx_T 17) k ∈ lw_tbl) rfl (lw_at lw_m13 190 rfl)) (iv1 (P := fun k => u_lay (cx_nm 17) (cx_T 17) k ∈ lw_tbl) rfl (lw_at lw_m13 192 rfl))))))) (ivj (m := 74) (ivj (m := 68) (ivj (m := 65) (ivj (m := 64) (iv1 (P := fun k => u_lay (cx_nm 17) (cx_T 17) k ∈ lw_tbl) rfl (lw_at lw_m13 194 rfl)) (iv1 (P := fun k => u_lay (cx_nm 17) (cx_T 17) k ∈ lw_tbl) rfl (lw_at lw_m13 196 rfl))) (ivj (m := 66) (iv1 (P := fun k => u_lay (cx_nm 17) (cx_T 17) k ∈ lw_tbl) rfl (lw_at lw_m13 198 rfl)) (ivj (m := 67) (iv1 (P := fun k => u_lay (cx_nm 17) (cx_T 17) k ∈ lw_tbl) rfl (lw_at lw_m13 200 rfl)) (iv1 (P := fun k => u_lay (cx_nm 17) (cx_T 17) k ∈ lw_tbl) rfl (lw_at lw_m13 202 rfl))))) (ivj (m := 71) (ivj (m := 69) (iv1 (P := fun k => u_lay (cx_nm 17) (cx_T 17) k ∈ lw_tbl) rfl (lw_at lw_m13 204 rfl)) (ivj (m := 70) (iv1 (P := fun k => u_lay (cx_nm 17) (cx_T 17) k ∈ lw_tbl) rfl (lw_at lw_m13 206 rfl)) (iv1 (P := fun k => u_lay (cx_nm 17) (cx_T 17) k ∈ lw_tbl) rfl (lw_at lw_m13 208 rfl)))) (ivj (m := 72) (iv1 (P := fun k => u_lay (cx_nm 17) (cx_T 17) k ∈ lw_tbl) rfl (lw_at lw_m13 210 rfl)) (ivj (m := 73) (iv1 (P := fun k => u_lay (cx_nm 17) (cx_T 17) k ∈ lw_tbl) rfl (lw_at lw_m13 212 rfl)) (iv1 (P := fun k => u_lay (cx_nm 17) (cx_T 17) k ∈ lw_tbl) rfl (lw_at lw_m13 214 rfl)))))) (ivj (m := 79) (ivj (m := 76) (ivj (m := 75) (iv1 (P := fun k => u_lay (cx_nm 17) (cx_T 17) k ∈ lw_tbl) rfl (lw_at lw_m13 216 rfl)) (iv1 (P := fun k => u_lay (cx_nm 17) (cx_T 17) k ∈ lw_tbl) rfl (lw_at lw_m13 218 rfl))) (ivj (m := 77) (iv1 (P := fun k => u_lay (cx_nm 17) (cx_T 17) k ∈ lw_tbl) rfl (lw_at lw_m13 220 rfl)) (ivj (m := 78) (iv1 (P := fun k => u_lay (cx_nm 17) (cx_T 17) k ∈ lw_tbl) rfl (lw_at lw_m13 222 rfl)) (iv1 (P := fun k => u_lay (cx_nm 17) (cx_T 17) k ∈ lw_tbl) rfl (lw_at lw_m13 224 rfl))))) (ivj (m := 82) (ivj (m := 80) (iv1 (P := fun k => u_lay (cx_nm 17) (cx_T 17) k ∈ lw_tbl) rfl (lw_at lw_m13 226 rfl)) (ivj (m := 81) (iv1 (P := fun k => u_lay (cx_nm 17) (cx_T 17) k ∈ lw_tbl) rfl (lw_at lw_m13 228 rfl)) (iv1 (P := fun k => u_lay (cx_nm 17) (cx_T 17) k ∈ lw_tbl) rfl (lw_at lw_m13 230 rfl)))) (ivj (m := 83) (iv1 (P := fun k => u_lay (cx_nm 17) (cx_T 17) k ∈ lw_tbl) rfl (lw_at lw_m13 232 rfl)) (ivj (m := 84) (iv1 (P := fun k => u_lay (cx_nm 17) (cx_T 17) k ∈ lw_tbl) rfl (lw_at lw_m13 234 rfl)) (iv1 (P := fun k => u_lay (cx_nm 17) (cx_T 17) k ∈ lw_tbl) rfl (lw_at lw_m13 236 rfl))))))))) (ivj (m := 127) (ivj (m := 106) (ivj (m := 95) (ivj (m := 90) (ivj (m := 87) (ivj (m := 86) (iv1 (P := fun k => u_lay (cx_nm 17) (cx_T 17) k ∈ lw_tbl) rfl (lw_at lw_m13 238 rfl)) (iv1 (P := fun k => u_lay (cx_nm 17) (cx_T 17) k ∈ lw_tbl) rfl (lw_at lw_m14 0 rfl))) (ivj (m := 88) (iv1 (P := fun k => u_lay (cx_nm 17) (cx_T 17) k ∈ lw_tbl) rfl (lw_at lw_m14 2 rfl)) (ivj (m := 89) (iv1 (P := fun k => u_lay (cx_nm 17) (cx_T 17) k ∈ lw_tbl) rfl (lw_at lw_m14 4 rfl)) (iv1 (P := fun k => u_lay (cx_nm 17) (cx_T 17) k ∈ lw_tbl) rfl (lw_at lw_m14 6 rfl))))) (ivj (m := 92) (ivj (m := 91) (iv1 (P := fun k => u_lay (cx_nm 17) (cx_T 17) k ∈ lw_tbl) rfl (lw_at lw_m14 8 rfl)) (iv1 (P := fun k => u_lay (cx_nm 17) (cx_T 17) k ∈ lw_tbl) rfl (lw_at lw_m14 10 rfl))) (ivj (m := 93) (iv1 (P := fun k => u_lay (cx_nm 17) (cx_T 17) k ∈ lw_tbl) rfl (lw_at lw_m14 12 rfl)) (ivj (m := 94) (iv1 (P := fun k => u_lay (cx_nm 17) (cx_T 17) k ∈ lw_tbl) rfl (lw_at lw_m14 14 rfl)) (iv1 (P := fun k => u_lay (cx_nm 17) (cx_T 17) k ∈ lw_tbl) rfl (lw_at lw_m14 16 rfl)))))) (ivj (m := 100) (ivj (m := 97) (ivj (m := 96) (iv1 (P := fun k => u_lay (cx_nm 17) (cx_T 17) k ∈ lw_tbl) rfl (lw_at lw_m14 18 rfl)) (iv1 (P := fun k => u_lay (cx_nm 17) (cx_T 17) k ∈ lw_tbl) rfl (lw_at lw_m14 20 rfl))) (ivj (m := 98) (iv1 (P := fun k => u_lay (cx_nm 17) (cx_T 17) k ∈ lw_tbl) rfl (lw_at lw_m14 22 rfl)) (ivj (m := 99) (iv1 (P := fun k => u_lay (cx_nm 17) (cx_T 17) k ∈ lw_tbl) rfl (lw_at lw_m14 24 rfl)) (iv1 (P := fun k => u_lay (cx_nm 17) (cx_T 17) k ∈ lw_tbl) rfl (lw_at lw_m14 26 rfl))))) (ivj (m := 103) (ivj (m := 101) (iv1 (P := fun k => u_lay (cx_nm 17) (cx_T 17) k ∈ lw_tbl) rfl (lw_at lw_m14 28 rfl)) (ivj (m := 102) (iv1 (P := fun k => u_lay (cx_nm 17) (cx_T 17) k ∈ lw_tbl) rfl (lw_at lw_m14 30 rfl)) (iv1 (P := fun k => u_lay (cx_nm 17) (cx_T 17) k ∈ lw_tbl) rfl (lw_at lw_m14 32 rfl)))) (ivj (m := 104) (iv1 (P := fun k => u_lay (cx_nm 17) (cx_T 17) k ∈ lw_tbl) rfl (lw_at lw_m14 34 rfl)) (ivj (m := 105) (iv1 (P := fun k => u_lay (cx_nm 17) (cx_T 17) k ∈ lw_tbl) rfl (lw_at lw_m14 36 rfl)) (iv1 (P := fun k => u_lay (cx_nm 17) (cx_T 17) k ∈ lw_tbl) rfl (lw_at lw_m14 38 rfl))))))) (ivj (m := 116) (ivj (m := 111) (ivj (m := 108) (ivj (m := 107) (iv1 (P := fun k => u_lay (cx_nm 17) (cx_T 17) k ∈ lw_tbl) rfl (lw_at lw_m14 40 rfl)) (iv1 (P := fun k => u_lay (cx_nm 17) (cx_T 17) k ∈ lw_tbl) rfl (lw_at lw_m14 42 rfl))) (ivj (m := 109) (iv1 (P := fun k => u_lay (cx_nm 17) (cx_T 17) k ∈ lw_tbl) rfl (lw_at lw_m14 44 rfl)) (ivj (m := 110) (iv1 (P := fun k => u_lay (cx_nm 17) (cx_T 17) k ∈ lw_tbl) rfl (lw_at lw_m14 46 rfl)) (iv1 (P := fun k => u_lay (cx_nm 17) (cx_T 17) k ∈ lw_tbl) rfl (lw_at lw_m14 48 rfl))))) (ivj (m := 113) (ivj (m := 112) (iv1 (P := fun k => u_lay (cx_nm 17) (cx_T 17) k ∈ lw_tbl) rfl (lw_at lw_m14 50 rfl)) (iv1 (P := fun k => u_lay (cx_nm 17) (cx_T 17) k ∈ lw_tbl) rfl (lw_at lw_m14 52 rfl))) (ivj (m := 114) (iv1 (P := fun k => u_lay (cx_nm 17) (cx_T 17) k ∈ lw_tbl) rfl (lw_at lw_m14 54 rfl)) (ivj (m := 115) (iv1 (P := fun k => u_lay (cx_nm 17) (cx_T 17) k ∈ lw_tbl) rfl (lw_at lw_m14 56 rfl)) (iv1 (P := fun k => u_lay (cx_nm 17) (cx_T 17) k ∈ lw_tbl) rfl (lw_at lw_m14 58 rfl)))))) (ivj (m := 121) (ivj (m := 118) (ivj (m := 117) (iv1 (P := fun k => u_lay (cx_nm 17) (cx_T 17) k ∈ lw_tbl) rfl (lw_at lw_m14 60 rfl)) (iv1 (P := fun k => u_lay (cx_nm 17) (cx_T 17) k ∈ lw_tbl) rfl (lw_at lw_m14 62 rfl))) (ivj (m := 119) (iv1 (P := fun k => u_lay (cx_nm 17) (cx_T 17) k ∈ lw_tbl) rfl (lw_at lw_m14 64 rfl)) (ivj (m := 120) (iv1 (P := fun k => u_lay (cx_nm 17) (cx_T 17) k ∈ lw_tbl) rfl (lw_at lw_m14 66 rfl)) (iv1 (P := fun k => u_lay (cx_nm 17) (cx_T 17) k ∈ lw_tbl) rfl (lw_at lw_m14 68 rfl))))) (ivj (m := 124) (ivj (m := 122) (iv1 (P := fun k => u_lay (cx_nm 17) (cx_T 17) k ∈ lw_tbl) rfl (lw_at lw_m14 70 rfl)) (ivj (m := 123) (iv1 (P := fun k => u_lay (cx_nm 17) (cx_T 17) k ∈ lw_tbl) rfl (lw_at lw_m14 72 rfl)) (iv1 (P := fun k => u_lay (cx_nm 17) (cx_T 17) k ∈ lw_tbl) rfl (lw_at lw_m14 74 rfl)))) (ivj (m := 125) (iv1 (P := fun k => u_lay (cx_nm 17) (cx_T 17) k ∈ lw_tbl) rfl (lw_at lw_m14 76 rfl)) (ivj (m := 126) (iv1 (P := fun k => u_lay (cx_nm 17) (cx_T 17) k ∈ lw_tbl) rfl (lw_at lw_m14 78 rfl)) (iv1 (P := fun k => u_lay (cx_nm 17) (cx_T 17) k ∈ lw_tbl) rfl (lw_at lw_m14 80 rfl)))))))) (ivj (m := 148) (ivj (m := 137) (ivj (m := 132) (ivj (m := 129) (ivj (m := 128) (iv1 (P := fun k => u_lay (cx_nm 17) (cx_T 17) k ∈ lw_tbl) rfl (lw_at lw_m14 82 rfl)) (iv1 (P := fun k => u_lay (cx_nm 17) (cx_T 17) k ∈ lw_tbl) rfl (lw_at lw_m14 84 rfl))) (ivj (m := 130) (iv1 (P := fun k => u_lay (cx_nm 17) (cx_T 17) k ∈ lw_tbl) rfl (lw_at lw_m14 86 rfl)) (ivj (m := 131) (iv1 (P := fun k => u_lay (cx_nm 17) (cx_T 17) k ∈ lw_tbl) rfl (lw_at lw_m14 88 rfl)) (iv1 (P := fun k => u_lay (cx_nm 17) (cx_T 17) k ∈ lw_tbl) rfl (lw_at lw_m14 90 rfl))))) (ivj (m := 134) (ivj (m := 133) (iv1 (P := fun k => u_lay (cx_nm 17) (cx_T 17) k ∈ lw_tbl) rfl (lw_at lw_m14 92 rfl)) (iv1 (P := fun k => u_lay (cx_nm 17) (cx_T 17) k ∈ lw_tbl) rfl (lw_at lw_m14 94 rfl))) (ivj (m := 135) (iv1 (P := fun k => u_lay (cx_nm 17) (cx_T 17) k ∈ lw_tbl) rfl (lw_at lw_m14 96 rfl)) (ivj (m := 136) (iv1 (P := fun k => u_lay (cx_nm 17) (cx_T 17) k ∈ lw_tbl) rfl (lw_at lw_m14 98 rfl)) (iv1 (P := fun k => u_lay (cx_nm 17) (cx_T 17) k ∈ lw_tbl) rfl (lw_at lw_m14 100 rfl)))))) (ivj (m := 142) (ivj (m := 139) (ivj (m := 138) (iv1 (P := fun k => u_lay (cx_nm 17) (cx_T 17) k ∈ lw_tbl) rfl (lw_at lw_m14 102 rfl)) (iv1 (P := fun k => u_lay (cx_nm 17) (cx_T 17) k ∈ lw_tbl) rfl (lw_at lw_m14 104 rfl))) (ivj (m := 140) (iv1 (P := fun k => u_lay (cx_nm 17) (cx_T 17) k ∈ lw_tbl) rfl (lw_at lw_m14 106 rfl)) (ivj (m := 141) (iv1 (P := fun k => u_lay (cx_nm 17) (cx_T 17) k ∈ lw_tbl) rfl (lw_at lw_m14 108 rfl)) (iv1 (P := fun k => u_lay (cx_nm 17) (cx_T 17) k ∈ lw_tbl) rfl (lw_at lw_m14 110 rfl))))) (ivj (m := 145) (ivj (m := 143) (iv1 (P := fun k => u_lay (cx_nm 17) (cx_T 17) k ∈ lw_tbl) rfl (lw_at lw_m14 112 rfl)) (ivj (m := 144) (iv1 (P := fun k => u_lay (cx_nm 17) (cx_T 17) k ∈ lw_tbl) rfl (lw_at lw_m14 114 rfl)) (iv1 (P := fun k => u_lay (cx_nm 17) (cx_T 17) k ∈ lw_tbl) rfl (lw_at lw_m14 116 rfl)))) (ivj (m := 146) (iv1 (P := fun k => u_lay (cx_nm 17) (cx_T 17) k ∈ lw_tbl) rfl (lw_at lw_m14 118 rfl)) (ivj (m := 147) (iv1 (P := fun k => u_lay (cx_nm 17) (cx_T 17) k ∈ lw_tbl) rfl (lw_at lw_m14 120 rfl)) (iv1 (P := fun k => u_lay (cx_nm 17) (cx_T 17) k ∈ lw_tbl) rfl (lw_at lw_m14 122 rfl))))))) (ivj (m := 159) (ivj (m := 153) (ivj (m := 150) (ivj (m := 149) (iv1 (P := fun k => u_lay (cx_nm 17) (cx_T 17) k ∈ lw_tbl) rfl (lw_at lw_m14 124 rfl)) (iv1 (P := fun k => u_lay (cx_nm 17) (cx_T 17) k ∈ lw_tbl) rfl (lw_at lw_m14 126 rfl))) (ivj (m := 151) (iv1 (P := fun k => u_lay (cx_nm 17) (cx_T 17) k ∈ lw_tbl) rfl (lw_at lw_m14 128 rfl)) (ivj (m := 152) (iv1 (P := fun k => u_lay (cx_nm 17) (cx_T 17) k ∈ lw_tbl) rfl (lw_at lw_m14 130 rfl)) (iv1 (P := fun k => u_lay (cx_nm 17) (cx_T 17) k ∈ lw_tbl) rfl (lw_at lw_m14 132 rfl))))) (ivj (m := 156) (ivj (m := 154) (iv1 (P := fun k => u_lay (cx_nm 17) (cx_T 17) k ∈ lw_tbl) rfl (lw_at lw_m14 134 rfl)) (ivj (m := 155) (iv1 (P := fun k => u_lay (cx_nm 17) (cx_T 17) k ∈ lw_tbl) rfl (lw_at lw_m14 136 rfl)) (iv1 (P := fun k => u_lay (cx_nm 17) (cx_T 17) k ∈ lw_tbl) rfl (lw_at lw_m14 138 rfl)))) (ivj (m := 157) (iv1 (P := fun k => u_lay (cx_nm 17) (cx_T 17) k ∈ lw_tbl) rfl (lw_at lw_m14 140 rfl)) (ivj (m := 158) (iv1 (P := fun k => u_lay (cx_nm 17) (cx_T 17) k ∈ lw_tbl) rfl (lw_at lw_m14 142 rfl)) (iv1 (P := fun k => u_lay (cx_nm 17) (cx_T 17) k ∈ lw_tbl) rfl (lw_at lw_m14 144 rfl)))))) (ivj (m := 164) (ivj (m := 161) (ivj (m := 160) (iv1 (P := fun k => u_lay (cx_nm 17) (cx_T 17) k ∈ lw_tbl) rfl (lw_at lw_m14 146 rfl)) (iv1 (P := fun k => u_lay (cx_nm 17) (cx_T 17) k ∈ lw_tbl) rfl (lw_at lw_m14 148 rfl))) (ivj (m := 162) (iv1 (P := fun k => u_lay (cx_nm 17) (cx_T 17) k ∈ lw_tbl) rfl (lw_at lw_m14 150 rfl)) (ivj (m := 163) (iv1 (P := fun k => u_lay (cx_nm 17) (cx_T 17) k ∈ lw_tbl) rfl (lw_at lw_m14 152 rfl)) (iv1 (P := fun k => u_lay (cx_nm 17) (cx_T 17) k ∈ lw_tbl) rfl (lw_at lw_m14 154 rfl))))) (ivj (m := 167) (ivj (m := 165) (iv1 (P := fun k => u_lay (cx_nm 17) (cx_T 17) k ∈ lw_tbl) rfl (lw_at lw_m14 156 rfl)) (ivj (m := 166) (iv1 (P := fun k => u_lay (cx_nm 17) (cx_T 17) k ∈ lw_tbl) rfl (lw_at lw_m14 158 rfl)) (iv1 (P := fun k => u_lay (cx_nm 17) (cx_T 17) k ∈ lw_tbl) rfl (lw_at lw_m14 160 rfl)))) (ivj (m := 168) (iv1 (P := fun k => u_lay (cx_nm 17) (cx_T 17) k ∈ lw_tbl) rfl (lw_at lw_m14 162 rfl)) (ivj (m := 169) (iv1 (P := fun k => u_lay (cx_nm 17) (cx_T 17) k ∈ lw_tbl) rfl (lw_at lw_m14 164 rfl)) (iv1 (P := fun k => u_lay (cx_nm 17) (cx_T 17) k ∈ lw_tbl) rfl (lw_at lw_m14 166 rfl)))))))))
theorem uty17 : ∀ k, k < 170 → (parseFieldDescriptor (cx_T 17 k).2.2.1).isSome = true := by decide +kernel
theorem unm17 : ∀ a, a < 170 → ∀ b, b < 170 → a ≠ b → (cx_T 17 a).2.1 ≠ (cx_T 17 b).2.1 := by decide +kernel
theorem uws19 : ∀ k, 0 ≤ k → k < 5 → u_lay (cx_nm 19) (cx_T 19) k ∈ lw_tbl := ivj (m := 2) (ivj (m := 1) (iv1 (P := fun k => u_lay (cx_nm 19) (cx_T 19) k ∈ lw_tbl) rfl (lw_at lw_m5 39 rfl)) (iv1 (P := fun k => u_lay (cx_nm 19) (cx_T 19) k ∈ lw_tbl) rfl (lw_at lw_m5 41 rfl))) (ivj (m := 3) (iv1 (P := fun k => u_lay (cx_nm 19) (cx_T 19) k ∈ lw_tbl) rfl (lw_at lw_m5 43 rfl)) (ivj (m := 4) (iv1 (P := fun k => u_lay (cx_nm 19) (cx_T 19) k ∈ lw_tbl) rfl (lw_at lw_m5 45 rfl)) (iv1 (P := fun k => u_lay (cx_nm 19) (cx_T 19) k ∈ lw_tbl) rfl (lw_at lw_m5 47 rfl))))
theorem uty19 : ∀ k, k < 5 → (parseFieldDescriptor (cx_T 19 k).2.2.1).isSome = true := by decide +kernel
theorem unm19 : ∀ a, a < 5 → ∀ b, b < 5 → a ≠ b → (cx_T 19 a).2.1 ≠ (cx_T 19 b).2.1 := by decide +kernel
theorem uws20 : ∀ k, 0 ≤ k → k < 14 → u_lay (cx_nm 20) (cx_T 20) k ∈ lw_tbl := ivj (m := 7) (ivj (m := 3) (ivj (m := 1) (iv1 (P := fun k => u_lay (cx_nm 20) (cx_T 20) k ∈ lw_tbl) rfl (lw_at lw_m5 168 rfl)) (ivj (m := 2) (iv1 (P := fun k => u_lay (cx_nm 20) (cx_T 20) k ∈ lw_tbl) rfl (lw_at lw_m5 170 rfl)) (iv1 (P := fun k => u_lay (cx_nm 20) (cx_T 20) k ∈ lw_tbl) rfl (lw_at lw_m5 172 rfl)))) (ivj (m := 5) (ivj (m := 4) (iv1 (P := fun k => u_lay (cx_nm 20) (cx_T 20) k ∈ lw_tbl) rfl (lw_at lw_m5 174 rfl)) (iv1 (P := fun k => u_lay (cx_nm 20) (cx_T 20) k ∈ lw_tbl) rfl (lw_at lw_m5 176 rfl))) (ivj (m := 6) (iv1 (P := fun k => u_lay (cx_nm 20) (cx_T 20) k ∈ lw_tbl) rfl (lw_at lw_m5 178 rfl)) (iv1 (P := fun k => u_lay (cx_nm 20) (cx_T 20) k ∈ lw_tbl) rfl (lw_at lw_m5 180 rfl))))) (ivj (m := 10) (ivj (m := 8) (iv1 (P := fun k => u_lay (cx_nm 20) (cx_T 20) k ∈ lw_tbl) rfl (lw_at lw_m5 182 rfl)) (ivj (m := 9) (iv1 (P := fun k => u_lay (cx_nm 20) (cx_T 20) k ∈ lw_tbl) rfl (lw_at lw_m5 184 rfl)) (iv1 (P := fun k => u_lay (cx_nm 20) (cx_T 20) k ∈ lw_tbl) rfl (lw_at lw_m5 186 rfl)))) (ivj (m := 12) (ivj (m := 11) (iv1 (P := fun k => u_lay (cx_nm 20) (cx_T 20) k ∈ lw_tbl) rfl (lw_at lw_m5 188 rfl)) (iv1 (P := fun k => u_lay (cx_nm 20) (cx_T 20) k ∈ lw_tbl) rfl (lw_at lw_m5 190 rfl))) (ivj (m := 13) (iv1 (P := fun k => u_lay (cx_nm 20) (cx_T 20) k ∈ lw_tbl) rfl (lw_at lw_m5 192 rfl)) (iv1 (P := fun k => u_lay (cx_nm 20) (cx_T 20) k ∈ lw_tbl) rfl (lw_at lw_m5 194 rfl)))))
theorem uty20 : ∀ k, k < 14 → (parseFieldDescriptor (cx_T 20 k).2.2.1).isSome = true := by decide +kernel
theorem unm20 : ∀ a, a < 14 → ∀ b, b < 14 → a ≠ b → (cx_T 20 a).2.1 ≠ (cx_T 20 b).2.1 := by decide +kernel
theorem uws21 : ∀ k, 0 ≤ k → k < 8 → u_lay (cx_nm 21) (cx_T 21) k ∈ lw_tbl := ivj (m := 4) (ivj (m := 2) (ivj (m := 1) (iv1 (P := fun k => u_lay (cx_nm 21) (cx_T 21) k ∈ lw_tbl) rfl (lw_at lw_m6 114 rfl)) (iv1 (P := fun k => u_lay (cx_nm 21) (cx_T 21) k ∈ lw_tbl) rfl (lw_at lw_m6 116 rfl))) (ivj (m := 3) (iv1 (P := fun k => u_lay (cx_nm 21) (cx_T 21) k ∈ lw_tbl) rfl (lw_at lw_m6 118 rfl)) (iv1 (P := fun k => u_lay (cx_nm 21) (cx_T 21) k ∈ lw_tbl) rfl (lw_at lw_m6 120 rfl)))) (ivj (m := 6) (ivj (m := 5) (iv1 (P := fun k => u_lay (cx_nm 21) (cx_T 21) k ∈ lw_tbl) rfl (lw_at lw_m6 122 rfl)) (iv1 (P := fun k => u_lay (cx_nm 21) (cx_T 21) k ∈ lw_tbl) rfl (lw_at lw_m6 124 rfl))) (ivj (m := 7) (iv1 (P := fun k => u_lay (cx_nm 21) (cx_T 21) k ∈ lw_tbl) rfl (lw_at lw_m6 126 rfl)) (iv1 (P := fun k => u_lay (cx_nm 21) (cx_T 21) k ∈ lw_tbl) rfl (lw_at lw_m6 128 rfl))))
theorem uty21 : ∀ k, k < 8 → (parseFieldDescriptor (cx_T 21 k).2.2.1).isSome = true := by decide +kernel
theorem unm21 : ∀ a, a < 8 → ∀ b, b < 8 → a ≠ b → (cx_T 21 a).2.1 ≠ (cx_T 21 b).2.1 := by decide +kernel
theorem uws22 : ∀ k, 0 ≤ k → k < 6 → u_lay (cx_nm 22) (cx_T 22) k ∈ lw_tbl := ivj (m := 3) (ivj (m := 1) (iv1 (P := fun k => u_lay (cx_nm 22) (cx_T 22) k ∈ lw_tbl) rfl (lw_at lw_m6 162 rfl)) (ivj (m := 2) (iv1 (P := fun k => u_lay (cx_nm 22) (cx_T 22) k ∈ lw_tbl) rfl (lw_at lw_m6 164 rfl)) (iv1 (P := fun k => u_lay (cx_nm 22) (cx_T 22) k ∈ lw_tbl) rfl (lw_at lw_m6 166 rfl)))) (ivj (m := 4) (iv1 (P := fun k => u_lay (cx_nm 22) (cx_T 22) k ∈ lw_tbl) rfl (lw_at lw_m6 168 rfl)) (ivj (m := 5) (iv1 (P := fun k => u_lay (cx_nm 22) (cx_T 22) k ∈ lw_tbl) rfl (lw_at lw_m6 170 rfl)) (iv1 (P := fun k => u_lay (cx_nm 22) (cx_T 22) k ∈ lw_tbl) rfl (lw_at lw_m6 172 rfl))))
theorem uty22 : ∀ k, k < 6 → (parseFieldDescriptor (cx_T 22 k).2.2.1).isSome = true := by decide +kernel
theorem unm22 : ∀ a, a < 6 → ∀ b, b < 6 → a ≠ b → (cx_T 22 a).2.1 ≠ (cx_T 22 b).2.1 := by decide +kernel
theorem uws23 : ∀ k, 0 ≤ k → k < 5 → u_lay (cx_nm 23) (cx_T 23) k ∈ lw_tbl := ivj (m := 2) (ivj (m := 1) (iv1 (P := fun k => u_lay (cx_nm 23) (cx_T 23) k ∈ lw_tbl) rfl (lw_at lw_m6 198 rfl)) (iv1 (P := fun k => u_lay (cx_nm 23) (cx_T 23) k ∈ lw_tbl) rfl (lw_at lw_m6 200 rfl))) (ivj (m := 3) (iv1 (P := fun k => u_lay (cx_nm 23) (cx_T 23) k ∈ lw_tbl) rfl (lw_at lw_m6 202 rfl)) (ivj (m := 4) (iv1 (P := fun k => u_lay (cx_nm 23) (cx_T 23) k ∈ lw_tbl) rfl (lw_at lw_m6 204 rfl)) (iv1 (P := fun k => u_lay (cx_nm 23) (cx_T 23) k ∈ lw_tbl) rfl (lw_at lw_m6 206 rfl))))
theorem uty23 : ∀ k, k < 5 → (parseFieldDescriptor (cx_T 23 k).2.2.1).isSome = true := by decide +kernel
theorem unm23 : ∀ a, a < 5 → ∀ b, b < 5 → a ≠ b → (cx_T 23 a).2.1 ≠ (cx_T 23 b).2.1 := by decide +kernel
theorem uws24 : ∀ k, 0 ≤ k → k < 10 → u_lay (cx_nm 24) (cx_T 24) k ∈ lw_tbl := ivj (m := 5) (ivj (m := 2) (ivj (m := 1) (iv1 (P := fun k => u_lay (cx_nm 24) (cx_T 24) k ∈ lw_tbl) rfl (lw_at lw_m7 117 rfl)) (iv1 (P := fun k => u_lay (cx_nm 24) (cx_T 24) k ∈ lw_tbl) rfl (lw_at lw_m7 119 rfl))) (ivj (m := 3) (iv1 (P := fun k => u_lay (cx_nm 24) (cx_T 24) k ∈ lw_tbl) rfl (lw_at lw_m7 121 rfl)) (ivj (m := 4) (iv1 (P := fun k => u_lay (cx_nm 24) (cx_T 24) k ∈ lw_tbl) rfl (lw_at lw_m7 123 rfl)) (iv1 (P := fun k => u_lay (cx_nm 24) (cx_T 24) k ∈ lw_tbl) rfl (lw_at lw_m7 125 rfl))))) (ivj (m := 7) (ivj (m := 6) (iv1 (P := fun k => u_lay (cx_nm 24) (cx_T 24) k ∈ lw_tbl) rfl (lw_at lw_m7 127 rfl)) (iv1 (P := fun k => u_lay (cx_nm 24) (cx_T 24) k ∈ lw_tbl) rfl (lw_at lw_m7 129 rfl))) (ivj (m := 8) (iv1 (P := fun k => u_lay (cx_nm 24) (cx_T 24) k ∈ lw_tbl) rfl (lw_at lw_m7 131 rfl)) (ivj (m := 9) (iv1 (P := fun k => u_lay (cx_nm 24) (cx_T 24) k ∈ lw_tbl) rfl (lw_at lw_m7 133 rfl)) (iv1 (P := fun k => u_lay (cx_nm 24) (cx_T 24) k ∈ lw_tbl) rfl (lw_at lw_m7 135 rfl)))))
theorem uty24 : ∀ k, k < 10 → (parseFieldDescriptor (cx_T 24 k).2.2.1).isSome = true := by decide +kernel
theorem unm24 : ∀ a, a < 10 → ∀ b, b < 10 → a ≠ b → (cx_T 24 a).2.1 ≠ (cx_T 24 b).2.1 := by decide +kernel
theorem uws25 : ∀ k, 0 ≤ k → k < 3 → u_lay (cx_nm 25) (cx_T 25) k ∈ lw_tbl := ivj (m := 1) (iv1 (P := fun k => u_lay (cx_nm 25) (cx_T 25) k ∈ lw_tbl) rfl (lw_at lw_m7 170 rfl)) (ivj (m := 2) (iv1 (P := fun k => u_lay (cx_nm 25) (cx_T 25) k ∈ lw_tbl) rfl (lw_at lw_m7 172 rfl)) (iv1 (P := fun k => u_lay (cx_nm 25) (cx_T 25) k ∈ lw_tbl) rfl (lw_at lw_m7 174 rfl)))
theorem uty25 : ∀ k, k < 3 → (parseFieldDescriptor (cx_T 25 k).2.2.1).isSome = true := by decide +kernel
theorem unm25 : ∀ a, a < 3 → ∀ b, b < 3 → a ≠ b → (cx_T 25 a).2.1 ≠ (cx_T 25 b).2.1 := by decide +kernel
theorem uws26 : ∀ k, 0 ≤ k → k < 4 → u_lay (cx_nm 26) (cx_T 26) k ∈ lw_tbl := ivj (m := 2) (ivj (m := 1) (iv1 (P := fun k => u_lay (cx_nm 26) (cx_T 26) k ∈ lw_tbl) rfl (lw_at lw_m7 226 rfl)) (iv1 (P := fun k => u_lay (cx_nm 26) (cx_T 26) k ∈ lw_tbl) rfl (lw_at lw_m7 228 rfl))) (ivj (m := 3) (iv1 (P := fun k => u_lay (cx_nm 26) (cx_T 26) k ∈ lw_tbl) rfl (lw_at lw_m7 230 rfl)) (iv1 (P := fun k => u_lay (cx_nm 26) (cx_T 26) k ∈ lw_tbl) rfl (lw_at lw_m7 232 rfl)))
theorem uty26 : ∀ k, k < 4 → (parseFieldDescriptor (cx_T 26 k).2.2.1).isSome = true := by decide +kernel
theorem unm26 : ∀ a, a < 4 → ∀ b, b < 4 → a ≠ b → (cx_T 26 a).2.1 ≠ (cx_T 26 b).2.1 := by decide +kernel
theorem uws27 : ∀ k, 0 ≤ k → k < 3 → u_lay (cx_nm 27) (cx_T 27) k ∈ lw_tbl := ivj (m := 1) (iv1 (P := fun k => u_lay (cx_nm 27) (cx_T 27) k ∈ lw_tbl) rfl (lw_at lw_m8 154 rfl)) (ivj (m := 2) (iv1 (P := fun k => u_lay (cx_nm 27) (cx_T 27) k ∈ lw_tbl) rfl (lw_at lw_m8 156 rfl)) (iv1 (P := fun k => u_lay (cx_nm 27) (cx_T 27) k ∈ lw_tbl) rfl (lw_at lw_m8 158 rfl)))
theorem uty27 : ∀ k, k < 3 → (parseFieldDescriptor (cx_T 27 k).2.2.1).isSome = true := by decide +kernel
theorem unm27 : ∀ a, a < 3 → ∀ b, b < 3 → a ≠ b → (cx_T 27 a).2.1 ≠ (cx_T 27 b).2.1 := by decide +kernel
theorem uws28 : ∀ k, 0 ≤ k → k < 4 → u_lay (cx_nm 28) (cx_T 28) k ∈ lw_tbl := ivj (m := 2) (ivj (m := 1) (iv1 (P := fun k => u_lay (cx_nm 28) (cx_T 28) k ∈ lw_tbl) rfl (lw_at lw_m9 14 rfl)) (iv1 (P := fun k => u_lay (cx_nm 28) (cx_T 28) k ∈ lw_tbl) rfl (lw_at lw_m9 16 rfl))) (ivj (m := 3) (iv1 (P := fun k => u_lay (cx_nm 28) (cx_T 28) k ∈ lw_tbl) rfl (lw_at lw_m9 18 rfl)) (iv1 (P := fun k => u_lay (cx_nm 28) (cx_T 28) k ∈ lw_tbl) rfl (lw_at lw_m9 20 rfl)))
theorem uty28 : ∀ k, k < 4 → (parseFieldDescriptor (cx_T 28 k).2.2.1).isSome = true := by decide +kernel
theorem unm28 : ∀ a, a < 4 → ∀ b, b < 4 → a ≠ b → (cx_T 28 a).2.1 ≠ (cx_T 28 b).2.1 := by decide +kernel
theorem uws29 : ∀ k, 0 ≤ k → k < 4 → u_lay (cx_nm 29) (cx_T 29) k ∈ lw_tbl := ivj (m := 2) (ivj (m := 1) (iv1 (P := fun k => u_lay (cx_nm 29) (cx_T 29) k ∈ lw_tbl) rfl (lw_at lw_m9 113 rfl)) (iv1 (P := fun k => u_lay (cx_nm 29) (cx_T 29) k ∈ lw_tbl) rfl (lw_at lw_m9 115 rfl))) (ivj (m := 3) (iv1 (P := fun k => u_lay (cx_nm 29) (cx_T 29) k ∈ lw_tbl) rfl (lw_at lw_m9 117 rfl)) (iv1 (P := fun k => u_lay (cx_nm 29) (cx_T 29) k ∈ lw_tbl) rfl (lw_at lw_m9 119 rfl)))
theorem uty29 : ∀ k, k < 4 → (parseFieldDescriptor (cx_T 29 k).2.2.1).isSome = true := by decide +kernel
theorem unm29 : ∀ a, a < 4 → ∀ b, b < 4 → a ≠ b → (cx_T 29 a).2.1 ≠ (cx_T 29 b).2.1 := by decide +kernel
theorem uws30 : ∀ k, 0 ≤ k → k < 9 → u_lay (cx_nm 30) (cx_T 30) k ∈ lw_tbl := ivj (m := 4) (ivj (m := 2) (ivj (m := 1) (iv1 (P := fun k => u_lay (cx_nm 30) (cx_T 30) k ∈ lw_tbl) rfl (lw_at lw_m12 20 rfl)) (iv1 (P := fun k => u_lay (cx_nm 30) (cx_T 30) k ∈ lw_tbl) rfl (lw_at lw_m12 22 rfl))) (ivj (m := 3) (iv1 (P := fun k => u_lay (cx_nm 30) (cx_T 30) k ∈ lw_tbl) rfl (lw_at lw_m12 24 rfl)) (iv1 (P := fun k => u_lay (cx_nm 30) (cx_T 30) k ∈ lw_tbl) rfl (lw_at lw_m12 26 rfl)))) (ivj (m := 6) (ivj (m := 5) (iv1 (P := fun k => u_lay (cx_nm 30) (cx_T 30) k ∈ lw_tbl) rfl (lw_at lw_m12 28 rfl)) (iv1 (P := fun k => u_lay (cx_nm 30) (cx_T 30) k ∈ lw_tbl) rfl (lw_at lw_m12 30 rfl))) (ivj (m := 7) (iv1 (P := fun k => u_lay (cx_nm 30) (cx_T 30) k ∈ lw_tbl) rfl (lw_at lw_m12 32 rfl)) (ivj (m := 8) (iv1 (P := fun k => u_lay (cx_nm 30) (cx_T 30) k ∈ lw_tbl) rfl (lw_at lw_m12 34 rfl)) (iv1 (P := fun k => u_lay (cx_nm 30) (cx_T 30) k ∈ lw_tbl) rfl (lw_at lw_m12 36 rfl)))))
theorem uty30 : ∀ k, k < 9 → (parseFieldDescriptor (cx_T 30 k).2.2.1).isSome = true := by decide +kernel
theorem unm30 : ∀ a, a < 9 → ∀ b, b < 9 → a ≠ b → (cx_T 30 a).2.1 ≠ (cx_T 30 b).2.1 := by decide +kernel
def uwsP (c : Nat) : Prop := ∀ k, k < cx_N c → u_lay (cx_nm c) (cx_T c) k ∈ lw_tbl
theorem uws_ok : ∀ c, 0 ≤ c → c < 36 → uwsP c := ivj (m := 18) (ivj (m := 9) (ivj (m := 4) (ivj (m := 2) (ivj (m := 1) (iv1 (P := uwsP) rfl (fun k h => absurd h (Nat.not_lt_zero _))) (iv1 (P := uwsP) rfl (fun k h => uws1 k (Nat.zero_le _) h))) (ivj (m := 3) (iv1 (P := uwsP) rfl (fun k h => uws2 k (Nat.zero_le _) h)) (iv1 (P := uwsP) rfl (fun k h => uws3 k (Nat.zero_le _) h)))) (ivj (m := 6) (ivj (m := 5) (iv1 (P := uwsP) rfl (fun k h => uws4 k (Nat.zero_le _) h)) (iv1 (P := uwsP) rfl (fun k h => uws5 k (Nat.zero_le _) h))) (ivj (m := 7) (iv1 (P := uwsP) rfl (fun k h => uws6 k (Nat.zero_le _) h)) (ivj (m := 8) (iv1 (P := uwsP) rfl (fun k h => uws7 k (Nat.zero_le _) h)) (iv1 (P := uwsP) rfl (fun k h => uws8 k (Nat.zero_le _) h)))))) (ivj (m := 13) (ivj (m := 11) (ivj (m := 10) (iv1 (P := uwsP) rfl (fun k h => uws9 k (Nat.zero_le _) h)) (iv1 (P := uwsP) rfl (fun k h => uws10 k (Nat.zero_le _) h))) (ivj (m := 12) (iv1 (P := uwsP) rfl (fun k h => uws11 k (Nat.zero_le _) h)) (iv1 (P := uwsP) rfl (fun k h => uws12 k (Nat.zero_le _) h)))) (ivj (m := 15) (ivj (m := 14) (iv1 (P := uwsP) rfl (fun k h => uws13 k (Nat.zero_le _) h)) (iv1 (P := uwsP) rfl (fun k h => uws14 k (Nat.zero_le _) h))) (ivj (m := 16) (iv1 (P := uwsP) rfl (fun k h => uws15 k (Nat.zero_le _) h)) (ivj (m := 17) (iv1 (P := uwsP) rfl (fun k h => uws16 k (Nat.zero_le _) h)) (iv1 (P := uwsP) rfl (fun k h => uws17 k (Nat.zero_le _) h))))))) (ivj (m := 27) (ivj (m := 22) (ivj (m := 20) (ivj (m := 19) (iv1 (P := uwsP) rfl (fun k h => absurd h (Nat.not_lt_zero _))) (iv1 (P := uwsP) rfl (fun k h => uws19 k (Nat.zero_le _) h))) (ivj (m := 21) (iv1 (P := uwsP) rfl (fun k h => uws20 k (Nat.zero_le _) h)) (iv1 (P := uwsP) rfl (fun k h => uws21 k (Nat.zero_le _) h)))) (ivj (m := 24) (ivj (m := 23) (iv1 (P := uwsP) rfl (fun k h => uws22 k (Nat.zero_le _) h)) (iv1 (P := uwsP) rfl (fun k h => uws23 k (Nat.zero_le _) h))) (ivj (m := 25) (iv1 (P := uwsP) rfl (fun k h => uws24 k (Nat.zero_le _) h)) (ivj (m := 26) (iv1 (P := uwsP) rfl (fun k h => uws25 k (Nat.zero_le _) h)) (iv1 (P := uwsP) rfl (fun k h => uws26 k (Nat.zero_le _) h)))))) (ivj (m := 31) (ivj (m := 29) (ivj (m := 28) (iv1 (P := uwsP) rfl (fun k h => uws27 k (Nat.zero_le _) h)) (iv1 (P := uwsP) rfl (fun k h => uws28 k (Nat.zero_le _) h))) (ivj (m := 30) (iv1 (P := uwsP) rfl (fun k h => uws29 k (Nat.zero_le _) h)) (iv1 (P := uwsP) rfl (fun k h => uws30 k (Nat.zero_le _) h)))) (ivj (m := 33) (ivj (m := 32) (iv1 (P := uwsP) rfl (fun k h => absurd h (Nat.not_lt_zero _))) (iv1 (P := uwsP) rfl (fun k h => absurd h (Nat.not_lt_zero _)))) (ivj (m := 34) (iv1 (P := uwsP) rfl (fun k h => absurd h (Nat.not_lt_zero _))) (ivj (m := 35) (iv1 (P := uwsP) rfl (fun k h => absurd h (Nat.not_lt_zero _))) (iv1 (P := uwsP) rfl (fun k h => absurd h (Nat.not_lt_zero _))))))))
def unmP (c : Nat) : Prop := ∀ a, a < cx_N c → ∀ b, b < cx_N c → a ≠ b → (cx_T c a).2.1 ≠ (cx_T c b).2.1
theorem unm_ok : ∀ c, 0 ≤ c → c < 36 → unmP c := ivj (m := 18) (ivj (m := 9) (ivj (m := 4) (ivj (m := 2) (ivj (m := 1) (iv1 (P := unmP) rfl (fun a h => absurd h (Nat.not_lt_zero _))) (iv1 (P := unmP) rfl (unm1))) (ivj (m := 3) (iv1 (P := unmP) rfl (unm2)) (iv1 (P := unmP) rfl (unm3)))) (ivj (m := 6) (ivj (m := 5) (iv1 (P := unmP) rfl (unm4)) (iv1 (P := unmP) rfl (unm5))) (ivj (m := 7) (iv1 (P := unmP) rfl (unm6)) (ivj (m := 8) (iv1 (P := unmP) rfl (unm7)) (iv1 (P := unmP) rfl (unm8)))))) (ivj (m := 13) (ivj (m := 11) (ivj (m := 10) (iv1 (P := unmP) rfl (unm9)) (iv1 (P := unmP) rfl (unm10))) (ivj (m := 12) (iv1 (P := unmP) rfl (unm11)) (iv1 (P := unmP) rfl (unm12)))) (ivj (m := 15) (ivj (m := 14) (iv1 (P := unmP) rfl (unm13)) (iv1 (P := unmP) rfl (unm14))) (ivj (m := 16) (iv1 (P := unmP) rfl (unm15)) (ivj (m := 17) (iv1 (P := unmP) rfl (unm16)) (iv1 (P := unmP) rfl (unm17))))))) (ivj (m := 27) (ivj (m := 22) (ivj (m := 20) (ivj (m := 19) (iv1 (P := unmP) rfl (fun a h => absurd h (Nat.not_lt_zero _))) (iv1 (P := unmP) rfl (unm19))) (ivj (m := 21) (iv1 (P := unmP) rfl (unm20)) (iv1 (P := unmP) rfl (unm21)))) (ivj (m := 24) (ivj (m := 23) (iv1 (P := unmP) rfl (unm22)) (iv1 (P := unmP) rfl (unm23))) (ivj (m := 25) (iv1 (P := unmP) rfl (unm24)) (ivj (m := 26) (iv1 (P := unmP) rfl (unm25)) (iv1 (P := unmP) rfl (unm26)))))) (ivj (m := 31) (ivj (m := 29) (ivj (m := 28) (iv1 (P := unmP) rfl (unm27)) (iv1 (P := unmP) rfl (unm28))) (ivj (m := 30) (iv1 (P := unmP) rfl (unm29)) (iv1 (P := unmP) rfl (unm30)))) (ivj (m := 33) (ivj (m := 32) (iv1 (P := unmP) rfl (fun a h => absurd h (Nat.not_lt_zero _))) (iv1 (P := unmP) rfl (fun a h => absurd h (Nat.not_lt_zero _)))) (ivj (m := 34) (iv1 (P := unmP) rfl (fun a h => absurd h (Nat.not_lt_zero _))) (ivj (m := 35) (iv1 (P := unmP) rfl (fun a h => absurd h (Nat.not_lt_zero _))) (iv1 (P := unmP) rfl (fun a h => absurd h (Nat.not_lt_zero _))))))))
def cx_ty (c k : Nat) : FieldType := (parseFieldDescriptor (cx_T c k).2.2.1).getD .int
def utyP (c : Nat) : Prop := ∀ k, k < cx_N c → (parseFieldDescriptor (cx_T c k).2.2.1).isSome = true
theorem uty_ok : ∀ c, 0 ≤ c → c < 36 → utyP c := ivj (m := 18) (ivj (m := 9) (ivj (m := 4) (ivj (m := 2) (ivj (m := 1) (iv1 (P := utyP) rfl (fun a h => absurd h (Nat.not_lt_zero _))) (iv1 (P := utyP) rfl (uty1))) (ivj (m := 3) (iv1 (P := utyP) rfl (uty2)) (iv1 (P := utyP) rfl (uty3)))) (ivj (m := 6) (ivj (m := 5) (iv1 (P := utyP) rfl (uty4)) (iv1 (P := utyP) rfl (uty5))) (ivj (m := 7) (iv1 (P := utyP) rfl (uty6)) (ivj (m := 8) (iv1 (P := utyP) rfl (uty7)) (iv1 (P := utyP) rfl (uty8)))))) (ivj (m := 13) (ivj (m := 11) (ivj (m := 10) (iv1 (P := utyP) rfl (uty9)) (iv1 (P := utyP) rfl (uty10))) (ivj (m := 12) (iv1 (P := utyP) rfl (uty11)) (iv1 (P := utyP) rfl (uty12)))) (ivj (m := 15) (ivj (m := 14) (iv1 (P := utyP) rfl (uty13)) (iv1 (P := utyP) rfl (uty14))) (ivj (m := 16) (iv1 (P := utyP) rfl (uty15)) (ivj (m := 17) (iv1 (P := utyP) rfl (uty16)) (iv1 (P := utyP) rfl (uty17))))))) (ivj (m := 27) (ivj (m := 22) (ivj (m := 20) (ivj (m := 19) (iv1 (P := utyP) rfl (fun a h => absurd h (Nat.not_lt_zero _))) (iv1 (P := utyP) rfl (uty19))) (ivj (m := 21) (iv1 (P := utyP) rfl (uty20)) (iv1 (P := utyP) rfl (uty21)))) (ivj (m := 24) (ivj (m := 23) (iv1 (P := utyP) rfl (uty22)) (iv1 (P := utyP) rfl (uty23))) (ivj (m := 25) (iv1 (P := utyP) rfl (uty24)) (ivj (m := 26) (iv1 (P := utyP) rfl (uty25)) (iv1 (P := utyP) rfl (uty26)))))) (ivj (m := 31) (ivj (m := 29) (ivj (m := 28) (iv1 (P := utyP) rfl (uty27)) (iv1 (P := utyP) rfl (uty28))) (ivj (m := 30) (iv1 (P := utyP) rfl (uty29)) (iv1 (P := utyP) rfl (uty30)))) (ivj (m := 33) (ivj (m := 32) (iv1 (P := utyP) rfl (fun a h => absurd h (Nat.not_lt_zero _))) (iv1 (P := utyP) rfl (fun a h => absurd h (Nat.not_lt_zero _)))) (ivj (m := 34) (iv1 (P := utyP) rfl (fun a h => absurd h (Nat.not_lt_zero _))) (ivj (m := 35) (iv1 (P := utyP) rfl (fun a h => absurd h (Nat.not_lt_zero _))) (iv1 (P := utyP) rfl (fun a h => absurd h (Nat.not_lt_zero _))))))))
def kdok (c k : Nat) : Bool := bif Nat.beq (cx_kt c k).1 0 then decide (cx_ty c k = .int) else bif Nat.beq (cx_kt c k).1 6 then decide (cx_ty c k = .boolean) else (cx_ty c k).isReference
theorem ukd1 : ∀ k, k < 3 → kdok 1 k = true := by decide +kernel
theorem ukd2 : ∀ k, k < 3 → kdok 2 k = true := by decide +kernel
theorem ukd3 : ∀ k, k < 30 → kdok 3 k = true := by decide +kernel
theorem ukd4 : ∀ k, k < 3 → kdok 4 k = true := by decide +kernel
theorem ukd5 : ∀ k, k < 15 → kdok 5 k = true := by decide +kernel
theorem ukd6 : ∀ k, k < 8 → kdok 6 k = true := by decide +kernel
theorem ukd7 : ∀ k, k < 9 → kdok 7 k = true := by decide +kernel
theorem ukd8 : ∀ k, k < 12 → kdok 8 k = true := by decide +kernel
theorem ukd9 : ∀ k, k < 6 → kdok 9 k = true := by decide +kernel
theorem ukd10 : ∀ k, k < 6 → kdok 10 k = true := by decide +kernel
theorem ukd11 : ∀ k, k < 13 → kdok 11 k = true := by decide +kernel
theorem ukd12 : ∀ k, k < 8 → kdok 12 k = true := by decide +kernel
theorem ukd13 : ∀ k, k < 6 → kdok 13 k = true := by decide +kernel
theorem ukd14 : ∀ k, k < 17 → kdok 14 k = true := by decide +kernel
theorem ukd15 : ∀ k, k < 5 → kdok 15 k = true := by decide +kernel
theorem ukd16 : ∀ k, k < 8 → kdok 16 k = true := by decide +kernel
theorem ukd17 : ∀ k, k < 170 → kdok 17 k = true := by decide +kernel
theorem ukd19 : ∀ k, k < 5 → kdok 19 k = true := by decide +kernel
theorem ukd20 : ∀ k, k < 14 → kdok 20 k = true := by decide +kernel
theorem ukd21 : ∀ k, k < 8 → kdok 21 k = true := by decide +kernel
theorem ukd22 : ∀ k, k < 6 → kdok 22 k = true := by decide +kernel
theorem ukd23 : ∀ k, k < 5 → kdok 23 k = true := by decide +kernel
theorem ukd24 : ∀ k, k < 10 → kdok 24 k = true := by decide +kernel
theorem ukd25 : ∀ k, k < 3 → kdok 25 k = true := by decide +kernel
theorem ukd26 : ∀ k, k < 4 → kdok 26 k = true := by decide +kernel
theorem ukd27 : ∀ k, k < 3 → kdok 27 k = true := by decide +kernel
theorem ukd28 : ∀ k, k < 4 → kdok 28 k = true := by decide +kernel
theorem ukd29 : ∀ k, k < 4 → kdok 29 k = true := by decide +kernel
theorem ukd30 : ∀ k, k < 9 → kdok 30 k = true := by decide +kernel
def ukdP (c : Nat) : Prop := ∀ k, k < cx_N c → kdok c k = true
theorem ukd_ok : ∀ c, 0 ≤ c → c < 36 → ukdP c := ivj (m := 18) (ivj (m := 9) (ivj (m := 4) (ivj (m := 2) (ivj (m := 1) (iv1 (P := ukdP) rfl (fun a h => absurd h (Nat.not_lt_zero _))) (iv1 (P := ukdP) rfl (ukd1))) (ivj (m := 3) (iv1 (P := ukdP) rfl (ukd2)) (iv1 (P := ukdP) rfl (ukd3)))) (ivj (m := 6) (ivj (m := 5) (iv1 (P := ukdP) rfl (ukd4)) (iv1 (P := ukdP) rfl (ukd5))) (ivj (m := 7) (iv1 (P := ukdP) rfl (ukd6)) (ivj (m := 8) (iv1 (P := ukdP) rfl (ukd7)) (iv1 (P := ukdP) rfl (ukd8)))))) (ivj (m := 13) (ivj (m := 11) (ivj (m := 10) (iv1 (P := ukdP) rfl (ukd9)) (iv1 (P := ukdP) rfl (ukd10))) (ivj (m := 12) (iv1 (P := ukdP) rfl (ukd11)) (iv1 (P := ukdP) rfl (ukd12)))) (ivj (m := 15) (ivj (m := 14) (iv1 (P := ukdP) rfl (ukd13)) (iv1 (P := ukdP) rfl (ukd14))) (ivj (m := 16) (iv1 (P := ukdP) rfl (ukd15)) (ivj (m := 17) (iv1 (P := ukdP) rfl (ukd16)) (iv1 (P := ukdP) rfl (ukd17))))))) (ivj (m := 27) (ivj (m := 22) (ivj (m := 20) (ivj (m := 19) (iv1 (P := ukdP) rfl (fun a h => absurd h (Nat.not_lt_zero _))) (iv1 (P := ukdP) rfl (ukd19))) (ivj (m := 21) (iv1 (P := ukdP) rfl (ukd20)) (iv1 (P := ukdP) rfl (ukd21)))) (ivj (m := 24) (ivj (m := 23) (iv1 (P := ukdP) rfl (ukd22)) (iv1 (P := ukdP) rfl (ukd23))) (ivj (m := 25) (iv1 (P := ukdP) rfl (ukd24)) (ivj (m := 26) (iv1 (P := ukdP) rfl (ukd25)) (iv1 (P := ukdP) rfl (ukd26)))))) (ivj (m := 31) (ivj (m := 29) (ivj (m := 28) (iv1 (P := ukdP) rfl (ukd27)) (iv1 (P := ukdP) rfl (ukd28))) (ivj (m := 30) (iv1 (P := ukdP) rfl (ukd29)) (iv1 (P := ukdP) rfl (ukd30)))) (ivj (m := 33) (ivj (m := 32) (iv1 (P := ukdP) rfl (fun a h => absurd h (Nat.not_lt_zero _))) (iv1 (P := ukdP) rfl (fun a h => absurd h (Nat.not_lt_zero _)))) (ivj (m := 34) (iv1 (P := ukdP) rfl (fun a h => absurd h (Nat.not_lt_zero _))) (ivj (m := 35) (iv1 (P := ukdP) rfl (fun a h => absurd h (Nat.not_lt_zero _))) (iv1 (P := ukdP) rfl (fun a h => absurd h (Nat.not_lt_zero _))))))))
def cx_sl (c : Nat) : Nat := bif Nat.blt c 18 then bif Nat.blt c 9 then bif Nat.blt c 4 then bif Nat.blt c 2 then bif Nat.blt c 1 then 0 else 3 else bif Nat.blt c 3 then 3 else 30 else bif Nat.blt c 6 then bif Nat.blt c 5 then 3 else 15 else bif Nat.blt c 7 then 8 else bif Nat.blt c 8 then 9 else 12 else bif Nat.blt c 13 then bif Nat.blt c 11 then bif Nat.blt c 10 then 6 else 6 else bif Nat.blt c 12 then 13 else 8 else bif Nat.blt c 15 then bif Nat.blt c 14 then 6 else 17 else bif Nat.blt c 16 then 5 else bif Nat.blt c 17 then 8 else 170 else bif Nat.blt c 27 then bif Nat.blt c 22 then bif Nat.blt c 20 then bif Nat.blt c 19 then 6 else 5 else bif Nat.blt c 21 then 14 else 8 else bif Nat.blt c 24 then bif Nat.blt c 23 then 6 else 5 else bif Nat.blt c 25 then 10 else bif Nat.blt c 26 then 3 else 4 else bif Nat.blt c 31 then bif Nat.blt c 29 then bif Nat.blt c 28 then 3 else 4 else bif Nat.blt c 30 then 4 else 9 else bif Nat.blt c 33 then bif Nat.blt c 32 then 0 else 6 else bif Nat.blt c 34 then 6 else bif Nat.blt c 35 then 6 else 6
def cx_mk (c : Nat) : Bool := bif Nat.blt c 18 then bif Nat.blt c 9 then bif Nat.blt c 4 then bif Nat.blt c 2 then bif Nat.blt c 1 then false else true else bif Nat.blt c 3 then true else true else bif Nat.blt c 6 then bif Nat.blt c 5 then true else true else bif Nat.blt c 7 then true else bif Nat.blt c 8 then true else true else bif Nat.blt c 13 then bif Nat.blt c 11 then bif Nat.blt c 10 then true else true else bif Nat.blt c 12 then true else true else bif Nat.blt c 15 then bif Nat.blt c 14 then true else true else bif Nat.blt c 16 then true else bif Nat.blt c 17 then true else true else bif Nat.blt c 27 then bif Nat.blt c 22 then bif Nat.blt c 20 then bif Nat.blt c 19 then true else true else bif Nat.blt c 21 then true else true else bif Nat.blt c 24 then bif Nat.blt c 23 then true else true else bif Nat.blt c 25 then true else bif Nat.blt c 26 then true else true else bif Nat.blt c 31 then bif Nat.blt c 29 then bif Nat.blt c 28 then true else true else bif Nat.blt c 30 then true else true else bif Nat.blt c 33 then bif Nat.blt c 32 then false else true else bif Nat.blt c 34 then true else bif Nat.blt c 35 then true else true
def mkP (c : Nat) : Prop := cx_mk c = true → Cond.instantiable (cx_nm c) (cx_sl c) ∈ lw_tbl ∧ Cond.initialized (cx_nm c) ∈ lw_tbl
theorem mk_ok : ∀ c, 0 ≤ c → c < 36 → mkP c := ivj (m := 18) (ivj (m := 9) (ivj (m := 4) (ivj (m := 2) (ivj (m := 1) (iv1 (P := mkP) rfl (fun h => by cases h)) (iv1 (P := mkP) rfl (fun h => ⟨lw_at lw_m1 42 rfl, lw_at lw_m1 1 rfl⟩))) (ivj (m := 3) (iv1 (P := mkP) rfl (fun h => ⟨lw_at lw_m1 50 rfl, lw_at lw_m1 2 rfl⟩)) (iv1 (P := mkP) rfl (fun h => ⟨lw_at lw_m1 71 rfl, lw_at lw_m1 3 rfl⟩)))) (ivj (m := 6) (ivj (m := 5) (iv1 (P := mkP) rfl (fun h => ⟨lw_at lw_m1 77 rfl, lw_at lw_m1 4 rfl⟩)) (iv1 (P := mkP) rfl (fun h => ⟨lw_at lw_m1 105 rfl, lw_at lw_m1 5 rfl⟩))) (ivj (m := 7) (iv1 (P := mkP) rfl (fun h => ⟨lw_at lw_m1 163 rfl, lw_at lw_m1 6 rfl⟩)) (ivj (m := 8) (iv1 (P := mkP) rfl (fun h => ⟨lw_at lw_m1 203 rfl, lw_at lw_m1 7 rfl⟩)) (iv1 (P := mkP) rfl (fun h => ⟨lw_at lw_m2 4 rfl, lw_at lw_m1 8 rfl⟩)))))) (ivj (m := 13) (ivj (m := 11) (ivj (m := 10) (iv1 (P := mkP) rfl (fun h => ⟨lw_at lw_m2 56 rfl, lw_at lw_m1 9 rfl⟩)) (iv1 (P := mkP) rfl (fun h => ⟨lw_at lw_m2 95 rfl, lw_at lw_m1 10 rfl⟩))) (ivj (m := 12) (iv1 (P := mkP) rfl (fun h => ⟨lw_at lw_m2 125 rfl, lw_at lw_m1 11 rfl⟩)) (iv1 (P := mkP) rfl (fun h => ⟨lw_at lw_m2 183 rfl, lw_at lw_m1 12 rfl⟩)))) (ivj (m := 15) (ivj (m := 14) (iv1 (P := mkP) rfl (fun h => ⟨lw_at lw_m2 193 rfl, lw_at lw_m1 13 rfl⟩)) (iv1 (P := mkP) rfl (fun h => ⟨lw_at lw_m3 17 rfl, lw_at lw_m1 14 rfl⟩))) (ivj (m := 16) (iv1 (P := mkP) rfl (fun h => ⟨lw_at lw_m3 77 rfl, lw_at lw_m1 15 rfl⟩)) (ivj (m := 17) (iv1 (P := mkP) rfl (fun h => ⟨lw_at lw_m3 100 rfl, lw_at lw_m1 16 rfl⟩)) (iv1 (P := mkP) rfl (fun h => ⟨lw_at lw_m12 131 rfl, lw_at lw_m1 17 rfl⟩))))))) (ivj (m := 27) (ivj (m := 22) (ivj (m := 20) (ivj (m := 19) (iv1 (P := mkP) rfl (fun h => ⟨lw_at lw_m4 219 rfl, lw_at lw_m1 23 rfl⟩)) (iv1 (P := mkP) rfl (fun h => ⟨lw_at lw_m5 16 rfl, lw_at lw_m1 24 rfl⟩))) (ivj (m := 21) (iv1 (P := mkP) rfl (fun h => ⟨lw_at lw_m5 127 rfl, lw_at lw_m1 26 rfl⟩)) (iv1 (P := mkP) rfl (fun h => ⟨lw_at lw_m6 91 rfl, lw_at lw_m1 28 rfl⟩)))) (ivj (m := 24) (ivj (m := 23) (iv1 (P := mkP) rfl (fun h => ⟨lw_at lw_m6 140 rfl, lw_at lw_m1 29 rfl⟩)) (iv1 (P := mkP) rfl (fun h => ⟨lw_at lw_m6 183 rfl, lw_at lw_m1 30 rfl⟩))) (ivj (m := 25) (iv1 (P := mkP) rfl (fun h => ⟨lw_at lw_m7 86 rfl, lw_at lw_m1 31 rfl⟩)) (ivj (m := 26) (iv1 (P := mkP) rfl (fun h => ⟨lw_at lw_m7 159 rfl, lw_at lw_m1 34 rfl⟩)) (iv1 (P := mkP) rfl (fun h => ⟨lw_at lw_m7 211 rfl, lw_at lw_m1 35 rfl⟩)))))) (ivj (m := 31) (ivj (m := 29) (ivj (m := 28) (iv1 (P := mkP) rfl (fun h => ⟨lw_at lw_m8 145 rfl, lw_at lw_m1 36 rfl⟩)) (iv1 (P := mkP) rfl (fun h => ⟨lw_at lw_m9 3 rfl, lw_at lw_m1 38 rfl⟩))) (ivj (m := 30) (iv1 (P := mkP) rfl (fun h => ⟨lw_at lw_m9 102 rfl, lw_at lw_m1 39 rfl⟩)) (iv1 (P := mkP) rfl (fun h => ⟨lw_at lw_m11 233 rfl, lw_at lw_m1 40 rfl⟩)))) (ivj (m := 33) (ivj (m := 32) (iv1 (P := mkP) rfl (fun h => by cases h)) (iv1 (P := mkP) rfl (fun h => ⟨lw_at lw_m4 68 rfl, lw_at lw_m1 21 rfl⟩))) (ivj (m := 34) (iv1 (P := mkP) rfl (fun h => ⟨lw_at lw_m4 159 rfl, lw_at lw_m1 22 rfl⟩)) (ivj (m := 35) (iv1 (P := mkP) rfl (fun h => ⟨lw_at lw_m5 66 rfl, lw_at lw_m1 25 rfl⟩)) (iv1 (P := mkP) rfl (fun h => ⟨lw_at lw_m5 229 rfl, lw_at lw_m1 27 rfl⟩)))))))
def cx_ao (c : Nat) : Bool := bif Nat.blt c 18 then bif Nat.blt c 9 then bif Nat.blt c 4 then bif Nat.blt c 2 then bif Nat.blt c 1 then false else false else bif Nat.blt c 3 then false else false else bif Nat.blt c 6 then bif Nat.blt c 5 then false else false else bif Nat.blt c 7 then false else bif Nat.blt c 8 then false else false else bif Nat.blt c 13 then bif Nat.blt c 11 then bif Nat.blt c 10 then false else false else bif Nat.blt c 12 then false else false else bif Nat.blt c 15 then bif Nat.blt c 14 then true else false else bif Nat.blt c 16 then false else bif Nat.blt c 17 then false else false else bif Nat.blt c 27 then bif Nat.blt c 22 then bif Nat.blt c 20 then bif Nat.blt c 19 then false else true else bif Nat.blt c 21 then true else true else bif Nat.blt c 24 then bif Nat.blt c 23 then true else true else bif Nat.blt c 25 then true else bif Nat.blt c 26 then true else true else bif Nat.blt c 31 then bif Nat.blt c 29 then bif Nat.blt c 28 then true else true else bif Nat.blt c 30 then true else true else bif Nat.blt c 33 then bif Nat.blt c 32 then false else false else bif Nat.blt c 34 then false else bif Nat.blt c 35 then false else false
def aoP (c : Nat) : Prop := cx_ao c = true → Cond.arrayOver (.object (cx_nm c)) ∈ lw_tbl
theorem ao_ok : ∀ c, 0 ≤ c → c < 36 → aoP c := ivj (m := 18) (ivj (m := 9) (ivj (m := 4) (ivj (m := 2) (ivj (m := 1) (iv1 (P := aoP) rfl (fun h => by cases h)) (iv1 (P := aoP) rfl (fun h => by cases h))) (ivj (m := 3) (iv1 (P := aoP) rfl (fun h => by cases h)) (iv1 (P := aoP) rfl (fun h => by cases h)))) (ivj (m := 6) (ivj (m := 5) (iv1 (P := aoP) rfl (fun h => by cases h)) (iv1 (P := aoP) rfl (fun h => by cases h))) (ivj (m := 7) (iv1 (P := aoP) rfl (fun h => by cases h)) (ivj (m := 8) (iv1 (P := aoP) rfl (fun h => by cases h)) (iv1 (P := aoP) rfl (fun h => by cases h)))))) (ivj (m := 13) (ivj (m := 11) (ivj (m := 10) (iv1 (P := aoP) rfl (fun h => by cases h)) (iv1 (P := aoP) rfl (fun h => by cases h))) (ivj (m := 12) (iv1 (P := aoP) rfl (fun h => by cases h)) (iv1 (P := aoP) rfl (fun h => by cases h)))) (ivj (m := 15) (ivj (m := 14) (iv1 (P := aoP) rfl (fun h => lw_at lw_m2 191 rfl)) (iv1 (P := aoP) rfl (fun h => by cases h))) (ivj (m := 16) (iv1 (P := aoP) rfl (fun h => by cases h)) (ivj (m := 17) (iv1 (P := aoP) rfl (fun h => by cases h)) (iv1 (P := aoP) rfl (fun h => by cases h))))))) (ivj (m := 27) (ivj (m := 22) (ivj (m := 20) (ivj (m := 19) (iv1 (P := aoP) rfl (fun h => by cases h)) (iv1 (P := aoP) rfl (fun h => lw_at lw_m1 111 rfl))) (ivj (m := 21) (iv1 (P := aoP) rfl (fun h => lw_at lw_m1 169 rfl)) (iv1 (P := aoP) rfl (fun h => lw_at lw_m2 87 rfl)))) (ivj (m := 24) (ivj (m := 23) (iv1 (P := aoP) rfl (fun h => lw_at lw_m2 131 rfl)) (iv1 (P := aoP) rfl (fun h => lw_at lw_m2 89 rfl))) (ivj (m := 25) (iv1 (P := aoP) rfl (fun h => lw_at lw_m2 91 rfl)) (ivj (m := 26) (iv1 (P := aoP) rfl (fun h => lw_at lw_m7 92 rfl)) (iv1 (P := aoP) rfl (fun h => lw_at lw_m7 94 rfl)))))) (ivj (m := 31) (ivj (m := 29) (ivj (m := 28) (iv1 (P := aoP) rfl (fun h => lw_at lw_m2 10 rfl)) (iv1 (P := aoP) rfl (fun h => lw_at lw_m2 93 rfl))) (ivj (m := 30) (iv1 (P := aoP) rfl (fun h => lw_at lw_m2 62 rfl)) (iv1 (P := aoP) rfl (fun h => lw_at lw_m3 106 rfl)))) (ivj (m := 33) (ivj (m := 32) (iv1 (P := aoP) rfl (fun h => by cases h)) (iv1 (P := aoP) rfl (fun h => by cases h))) (ivj (m := 34) (iv1 (P := aoP) rfl (fun h => by cases h)) (ivj (m := 35) (iv1 (P := aoP) rfl (fun h => by cases h)) (iv1 (P := aoP) rfl (fun h => by cases h)))))))
theorem ac_int : Cond.arrayClass FieldType.int ∈ lw_tbl := lw_at lw_m1 69 rfl
theorem ac_byte : Cond.arrayClass FieldType.byte ∈ lw_tbl := lw_at lw_m1 68 rfl
theorem ac_boolean : Cond.arrayClass FieldType.boolean ∈ lw_tbl := lw_at lw_m1 161 rfl
theorem ac_short : Cond.arrayClass FieldType.short ∈ lw_tbl := lw_at lw_m14 169 rfl
theorem ac_long : Cond.arrayClass FieldType.long ∈ lw_tbl := lw_at lw_m2 54 rfl
def wokO (c : Nat) (e : Nat × Nat) : Prop := Cond.methodLink (cx_nm c) e.1 Lib.objectInit ∈ lw_tbl
def objL0 : List (Nat × Nat) := []
theorem objL0_ok : ∀ e ∈ objL0, wokO 0 e := fun e h => by cases h
def objL1 : List (Nat × Nat) := [(46, 0)]
theorem objL1_ok : ∀ e ∈ objL1, wokO 1 e := List.forall_mem_cons.mpr ⟨lw_at lw_m1 46 rfl, fun e h => by cases h⟩
def objL2 : List (Nat × Nat) := [(1, 0)]
theorem objL2_ok : ∀ e ∈ objL2, wokO 2 e := List.forall_mem_cons.mpr ⟨lw_at lw_m1 54 rfl, fun e h => by cases h⟩
def objL3 : List (Nat × Nat) := [(3, 0)]
theorem objL3_ok : ∀ e ∈ objL3, wokO 3 e := List.forall_mem_cons.mpr ⟨lw_at lw_m1 75 rfl, fun e h => by cases h⟩
def objL4 : List (Nat × Nat) := [(3, 0)]
theorem objL4_ok : ∀ e ∈ objL4, wokO 4 e := List.forall_mem_cons.mpr ⟨lw_at lw_m1 81 rfl, fun e h => by cases h⟩
def objL5 : List (Nat × Nat) := [(7, 0)]
theorem objL5_ok : ∀ e ∈ objL5, wokO 5 e := List.forall_mem_cons.mpr ⟨lw_at lw_m1 109 rfl, fun e h => by cases h⟩
def objL6 : List (Nat × Nat) := [(3, 0)]
theorem objL6_ok : ∀ e ∈ objL6, wokO 6 e := List.forall_mem_cons.mpr ⟨lw_at lw_m1 167 rfl, fun e h => by cases h⟩
def objL7 : List (Nat × Nat) := [(3, 0)]
theorem objL7_ok : ∀ e ∈ objL7, wokO 7 e := List.forall_mem_cons.mpr ⟨lw_at lw_m1 207 rfl, fun e h => by cases h⟩
def objL8 : List (Nat × Nat) := [(3, 0)]
theorem objL8_ok : ∀ e ∈ objL8, wokO 8 e := List.forall_mem_cons.mpr ⟨lw_at lw_m2 8 rfl, fun e h => by cases h⟩
def objL9 : List (Nat × Nat) := [(3, 0)]
theorem objL9_ok : ∀ e ∈ objL9, wokO 9 e := List.forall_mem_cons.mpr ⟨lw_at lw_m2 60 rfl, fun e h => by cases h⟩
def objL10 : List (Nat × Nat) := [(3, 0)]
theorem objL10_ok : ∀ e ∈ objL10, wokO 10 e := List.forall_mem_cons.mpr ⟨lw_at lw_m2 99 rfl, fun e h => by cases h⟩
def objL11 : List (Nat × Nat) := [(5, 0)]
theorem objL11_ok : ∀ e ∈ objL11, wokO 11 e := List.forall_mem_cons.mpr ⟨lw_at lw_m2 129 rfl, fun e h => by cases h⟩
def objL12 : List (Nat × Nat) := [(3, 0)]
theorem objL12_ok : ∀ e ∈ objL12, wokO 12 e := List.forall_mem_cons.mpr ⟨lw_at lw_m2 187 rfl, fun e h => by cases h⟩
def objL13 : List (Nat × Nat) := [(3, 0)]
theorem objL13_ok : ∀ e ∈ objL13, wokO 13 e := List.forall_mem_cons.mpr ⟨lw_at lw_m2 197 rfl, fun e h => by cases h⟩
def objL14 : List (Nat × Nat) := [(5, 0)]
theorem objL14_ok : ∀ e ∈ objL14, wokO 14 e := List.forall_mem_cons.mpr ⟨lw_at lw_m3 21 rfl, fun e h => by cases h⟩
def objL15 : List (Nat × Nat) := [(3, 0)]
theorem objL15_ok : ∀ e ∈ objL15, wokO 15 e := List.forall_mem_cons.mpr ⟨lw_at lw_m3 81 rfl, fun e h => by cases h⟩
def objL16 : List (Nat × Nat) := [(3, 0)]
theorem objL16_ok : ∀ e ∈ objL16, wokO 16 e := List.forall_mem_cons.mpr ⟨lw_at lw_m3 104 rfl, fun e h => by cases h⟩
def objL17 : List (Nat × Nat) := [(1, 0)]
theorem objL17_ok : ∀ e ∈ objL17, wokO 17 e := List.forall_mem_cons.mpr ⟨lw_at lw_m12 135 rfl, fun e h => by cases h⟩
def objL19 : List (Nat × Nat) := [(1, 0)]
theorem objL19_ok : ∀ e ∈ objL19, wokO 19 e := List.forall_mem_cons.mpr ⟨lw_at lw_m5 20 rfl, fun e h => by cases h⟩
def objL20 : List (Nat × Nat) := [(3, 0)]
theorem objL20_ok : ∀ e ∈ objL20, wokO 20 e := List.forall_mem_cons.mpr ⟨lw_at lw_m5 135 rfl, fun e h => by cases h⟩
def objL21 : List (Nat × Nat) := [(1, 0)]
theorem objL21_ok : ∀ e ∈ objL21, wokO 21 e := List.forall_mem_cons.mpr ⟨lw_at lw_m6 95 rfl, fun e h => by cases h⟩
def objL22 : List (Nat × Nat) := [(3, 0)]
theorem objL22_ok : ∀ e ∈ objL22, wokO 22 e := List.forall_mem_cons.mpr ⟨lw_at lw_m6 144 rfl, fun e h => by cases h⟩
def objL23 : List (Nat × Nat) := [(1, 0)]
theorem objL23_ok : ∀ e ∈ objL23, wokO 23 e := List.forall_mem_cons.mpr ⟨lw_at lw_m6 187 rfl, fun e h => by cases h⟩
def objL24 : List (Nat × Nat) := [(1, 0)]
theorem objL24_ok : ∀ e ∈ objL24, wokO 24 e := List.forall_mem_cons.mpr ⟨lw_at lw_m7 90 rfl, fun e h => by cases h⟩
def objL25 : List (Nat × Nat) := [(1, 0)]
theorem objL25_ok : ∀ e ∈ objL25, wokO 25 e := List.forall_mem_cons.mpr ⟨lw_at lw_m7 163 rfl, fun e h => by cases h⟩
def objL26 : List (Nat × Nat) := [(1, 0)]
theorem objL26_ok : ∀ e ∈ objL26, wokO 26 e := List.forall_mem_cons.mpr ⟨lw_at lw_m7 215 rfl, fun e h => by cases h⟩
def objL27 : List (Nat × Nat) := [(1, 0)]
theorem objL27_ok : ∀ e ∈ objL27, wokO 27 e := List.forall_mem_cons.mpr ⟨lw_at lw_m8 149 rfl, fun e h => by cases h⟩
def objL28 : List (Nat × Nat) := [(1, 0)]
theorem objL28_ok : ∀ e ∈ objL28, wokO 28 e := List.forall_mem_cons.mpr ⟨lw_at lw_m9 7 rfl, fun e h => by cases h⟩
def objL29 : List (Nat × Nat) := [(3, 0)]
theorem objL29_ok : ∀ e ∈ objL29, wokO 29 e := List.forall_mem_cons.mpr ⟨lw_at lw_m9 106 rfl, fun e h => by cases h⟩
def objL30 : List (Nat × Nat) := [(1, 0)]
theorem objL30_ok : ∀ e ∈ objL30, wokO 30 e := List.forall_mem_cons.mpr ⟨lw_at lw_m11 237 rfl, fun e h => by cases h⟩
def objL36 : List (Nat × Nat) := []
theorem objL36_ok : ∀ e ∈ objL36, wokO 36 e := fun e h => by cases h
def objL (c : Nat) : List (Nat × Nat) := bif Nat.blt c 18 then bif Nat.blt c 9 then bif Nat.blt c 4 then bif Nat.blt c 2 then bif Nat.blt c 1 then objL0 else objL1 else bif Nat.blt c 3 then objL2 else objL3 else bif Nat.blt c 6 then bif Nat.blt c 5 then objL4 else objL5 else bif Nat.blt c 7 then objL6 else bif Nat.blt c 8 then objL7 else objL8 else bif Nat.blt c 13 then bif Nat.blt c 11 then bif Nat.blt c 10 then objL9 else objL10 else bif Nat.blt c 12 then objL11 else objL12 else bif Nat.blt c 15 then bif Nat.blt c 14 then objL13 else objL14 else bif Nat.blt c 16 then objL15 else bif Nat.blt c 17 then objL16 else objL17 else bif Nat.blt c 27 then bif Nat.blt c 22 then bif Nat.blt c 20 then bif Nat.blt c 19 then [] else objL19 else bif Nat.blt c 21 then objL20 else objL21 else bif Nat.blt c 24 then bif Nat.blt c 23 then objL22 else objL23 else bif Nat.blt c 25 then objL24 else bif Nat.blt c 26 then objL25 else objL26 else bif Nat.blt c 32 then bif Nat.blt c 29 then bif Nat.blt c 28 then objL27 else objL28 else bif Nat.blt c 30 then objL29 else bif Nat.blt c 31 then objL30 else [] else bif Nat.blt c 34 then bif Nat.blt c 33 then [] else [] else bif Nat.blt c 35 then [] else bif Nat.blt c 36 then [] else objL36
theorem objL_ok : ∀ c, ∀ e ∈ objL c, wokO c e := by
  intro c
  by_cases hc : c < 37
  · unfold objL
    rcases c with _ | _ | _ | _ | _ | _ | _ | _ | _ | _ | _ | _ | _ | _ | _ | _ | _ | _ | _ | _ | _ | _ | _ | _ | _ | _ | _ | _ | _ | _ | _ | _ | _ | _ | _ | _ | _ | c
    · exact objL0_ok
    · exact objL1_ok
    · exact objL2_ok
    · exact objL3_ok
    · exact objL4_ok
    · exact objL5_ok
    · exact objL6_ok
    · exact objL7_ok
    · exact objL8_ok
    · exact objL9_ok
    · exact objL10_ok
    · exact objL11_ok
    · exact objL12_ok
    · exact objL13_ok
    · exact objL14_ok
    · exact objL15_ok
    · exact objL16_ok
    · exact objL17_ok
    · exact fun e h => by cases h
    · exact objL19_ok
    · exact objL20_ok
    · exact objL21_ok
    · exact objL22_ok
    · exact objL23_ok
    · exact objL24_ok
    · exact objL25_ok
    · exact objL26_ok
    · exact objL27_ok
    · exact objL28_ok
    · exact objL29_ok
    · exact objL30_ok
    · exact fun e h => by cases h
    · exact fun e h => by cases h
    · exact fun e h => by cases h
    · exact fun e h => by cases h
    · exact fun e h => by cases h
    · exact objL36_ok
    · omega
  · have : objL c = [] := by
      unfold objL
      simp only [blt_f (a := c) (b := 18) (by omega), blt_f (a := c) (b := 27) (by omega), blt_f (a := c) (b := 32) (by omega), blt_f (a := c) (b := 34) (by omega), blt_f (a := c) (b := 35) (by omega), blt_f (a := c) (b := 36) (by omega), cond_false]
      rfl
    rw [this]; intro e h; cases h
theorem obj_i : Cond.instanceMethod Lib.objectInit ∈ lw_tbl := lw_at lw_m1 47 rfl
theorem obj_c : Cond.code Lib.objectInit ⟨#[0xb1]⟩ 1 none ∈ lw_tbl := lw_at lw_m1 48 rfl
def mpar_0_0_0 (n : Nat) : Nat := bif Nat.blt n 1 then 1 else 0
def mpar_0_0_1 (n : Nat) : Nat := bif Nat.blt n 3 then 0 else 0
def mpar_0_0_2 (n : Nat) : Nat := bif Nat.blt n 5 then 0 else 0
def mpar_0_0_3 (n : Nat) : Nat := bif Nat.blt n 7 then 0 else 0
def mpar_0_0_4 (n : Nat) : Nat := bif Nat.blt n 9 then 0 else 0
def mpar_0_0 (n : Nat) : Nat := bif Nat.blt n 4 then bif Nat.blt n 2 then mpar_0_0_0 n else mpar_0_0_1 n else bif Nat.blt n 6 then mpar_0_0_2 n else bif Nat.blt n 8 then mpar_0_0_3 n else mpar_0_0_4 n
def mpar_0_1_0 (n : Nat) : Nat := bif Nat.blt n 11 then 0 else 0
def mpar_0_1_1 (n : Nat) : Nat := bif Nat.blt n 13 then 0 else 0
def mpar_0_1_2 (n : Nat) : Nat := bif Nat.blt n 15 then 0 else 0
def mpar_0_1_3 (n : Nat) : Nat := bif Nat.blt n 17 then 0 else 0
def mpar_0_1_4 (n : Nat) : Nat := bif Nat.blt n 19 then 1 else 1
def mpar_0_1 (n : Nat) : Nat := bif Nat.blt n 14 then bif Nat.blt n 12 then mpar_0_1_0 n else mpar_0_1_1 n else bif Nat.blt n 16 then mpar_0_1_2 n else bif Nat.blt n 18 then mpar_0_1_3 n else mpar_0_1_4 n
def mpar_0_2_0 (n : Nat) : Nat := bif Nat.blt n 21 then 0 else 1
def mpar_0_2_1 (n : Nat) : Nat := bif Nat.blt n 23 then 1 else 0
def mpar_0_2_2 (n : Nat) : Nat := bif Nat.blt n 25 then 1 else 1
def mpar_0_2_3 (n : Nat) : Nat := bif Nat.blt n 27 then 3 else 1
def mpar_0_2_4 (n : Nat) : Nat := bif Nat.blt n 29 then 3 else 1
def mpar_0_2 (n : Nat) : Nat := bif Nat.blt n 24 then bif Nat.blt n 22 then mpar_0_2_0 n else mpar_0_2_1 n else bif Nat.blt n 26 then mpar_0_2_2 n else bif Nat.blt n 28 then mpar_0_2_3 n else mpar_0_2_4 n
def mpar_0_3_0 (n : Nat) : Nat := bif Nat.blt n 31 then 1 else 1
def mpar_0_3_1 (n : Nat) : Nat := bif Nat.blt n 33 then 1 else 2
def mpar_0_3_2 (n : Nat) : Nat := bif Nat.blt n 35 then 1 else 2
def mpar_0_3_3 (n : Nat) : Nat := bif Nat.blt n 37 then 4 else 4
def mpar_0_3_4 (n : Nat) : Nat := bif Nat.blt n 39 then 3 else 4
def mpar_0_3 (n : Nat) : Nat := bif Nat.blt n 34 then bif Nat.blt n 32 then mpar_0_3_0 n else mpar_0_3_1 n else bif Nat.blt n 36 then mpar_0_3_2 n else bif Nat.blt n 38 then mpar_0_3_3 n else mpar_0_3_4 n
def mpar_0_4_0 (n : Nat) : Nat := bif Nat.blt n 41 then 1 else 1
def mpar_0_4_1 (n : Nat) : Nat := bif Nat.blt n 43 then 1 else 2
def mpar_0_4_2 (n : Nat) : Nat := bif Nat.blt n 45 then 1 else 1
def mpar_0_4_3 (n : Nat) : Nat := bif Nat.blt n 47 then 1 else 1
def mpar_0_4_4 (n : Nat) : Nat := bif Nat.blt n 49 then 4 else 3
def mpar_0_4 (n : Nat) : Nat := bif Nat.blt n 44 then bif Nat.blt n 42 then mpar_0_4_0 n else mpar_0_4_1 n else bif Nat.blt n 46 then mpar_0_4_2 n else bif Nat.blt n 48 then mpar_0_4_3 n else mpar_0_4_4 n
def mpar_0_5_0 (n : Nat) : Nat := bif Nat.blt n 51 then 4 else 1
def mpar_0_5_1 (n : Nat) : Nat := bif Nat.blt n 53 then 1 else 1
def mpar_0_5_2 (n : Nat) : Nat := bif Nat.blt n 55 then 1 else 0
def mpar_0_5_3 (n : Nat) : Nat := bif Nat.blt n 57 then 2 else 2
def mpar_0_5_4 (n : Nat) : Nat := bif Nat.blt n 59 then 5 else 1
def mpar_0_5 (n : Nat) : Nat := bif Nat.blt n 54 then bif Nat.blt n 52 then mpar_0_5_0 n else mpar_0_5_1 n else bif Nat.blt n 56 then mpar_0_5_2 n else bif Nat.blt n 58 then mpar_0_5_3 n else mpar_0_5_4 n
def mpar_0_6_0 (n : Nat) : Nat := bif Nat.blt n 61 then 3 else 4
def mpar_0_6_1 (n : Nat) : Nat := bif Nat.blt n 63 then 3 else 4
def mpar_0_6_2 (n : Nat) : Nat := bif Nat.blt n 65 then 3 else 3
def mpar_0_6_3 (n : Nat) : Nat := bif Nat.blt n 67 then 0 else 2
def mpar_0_6_4 (n : Nat) : Nat := bif Nat.blt n 69 then 4 else 4
def mpar_0_6 (n : Nat) : Nat := bif Nat.blt n 64 then bif Nat.blt n 62 then mpar_0_6_0 n else mpar_0_6_1 n else bif Nat.blt n 66 then mpar_0_6_2 n else bif Nat.blt n 68 then mpar_0_6_3 n else mpar_0_6_4 n
def mpar_0_7_0 (n : Nat) : Nat := bif Nat.blt n 71 then 4 else 4
def mpar_0_7_1 (n : Nat) : Nat := bif Nat.blt n 73 then 5 else 1
def mpar_0_7_2 (n : Nat) : Nat := bif Nat.blt n 75 then 4 else 1
def mpar_0_7_3 (n : Nat) : Nat := bif Nat.blt n 77 then 2 else 1
def mpar_0_7_4 (n : Nat) : Nat := 1
def mpar_0_7 (n : Nat) : Nat := bif Nat.blt n 74 then bif Nat.blt n 72 then mpar_0_7_0 n else mpar_0_7_1 n else bif Nat.blt n 76 then mpar_0_7_2 n else bif Nat.blt n 78 then mpar_0_7_3 n else mpar_0_7_4 n
def mpar_0 (n : Nat) : Nat := bif Nat.blt n 40 then bif Nat.blt n 20 then bif Nat.blt n 10 then mpar_0_0 n else mpar_0_1 n else bif Nat.blt n 30 then mpar_0_2 n else mpar_0_3 n else bif Nat.blt n 60 then bif Nat.blt n 50 then mpar_0_4 n else mpar_0_5 n else bif Nat.blt n 70 then mpar_0_6 n else mpar_0_7 n
def mpar_1_0_0 (n : Nat) : Nat := bif Nat.blt n 80 then 2 else 1
def mpar_1_0_1 (n : Nat) : Nat := bif Nat.blt n 82 then 1 else 0
def mpar_1_0_2 (n : Nat) : Nat := bif Nat.blt n 84 then 3 else 3
def mpar_1_0_3 (n : Nat) : Nat := bif Nat.blt n 86 then 1 else 3
def mpar_1_0_4 (n : Nat) : Nat := bif Nat.blt n 88 then 3 else 2
def mpar_1_0 (n : Nat) : Nat := bif Nat.blt n 83 then bif Nat.blt n 81 then mpar_1_0_0 n else mpar_1_0_1 n else bif Nat.blt n 85 then mpar_1_0_2 n else bif Nat.blt n 87 then mpar_1_0_3 n else mpar_1_0_4 n
def mpar_1_1_0 (n : Nat) : Nat := bif Nat.blt n 90 then 1 else 2
def mpar_1_1_1 (n : Nat) : Nat := bif Nat.blt n 92 then 4 else 4
def mpar_1_1_2 (n : Nat) : Nat := bif Nat.blt n 94 then 5 else 1
def mpar_1_1_3 (n : Nat) : Nat := bif Nat.blt n 96 then 3 else 3
def mpar_1_1_4 (n : Nat) : Nat := bif Nat.blt n 98 then 1 else 1
def mpar_1_1 (n : Nat) : Nat := bif Nat.blt n 93 then bif Nat.blt n 91 then mpar_1_1_0 n else mpar_1_1_1 n else bif Nat.blt n 95 then mpar_1_1_2 n else bif Nat.blt n 97 then mpar_1_1_3 n else mpar_1_1_4 n
def mpar_1_2_0 (n : Nat) : Nat := bif Nat.blt n 100 then 2 else 0
def mpar_1_2_1 (n : Nat) : Nat := bif Nat.blt n 102 then 0 else 4
def mpar_1_2_2 (n : Nat) : Nat := bif Nat.blt n 104 then 2 else 1
def mpar_1_2_3 (n : Nat) : Nat := bif Nat.blt n 106 then 2 else 1
def mpar_1_2_4 (n : Nat) : Nat := bif Nat.blt n 108 then 1 else 1
def mpar_1_2 (n : Nat) : Nat := bif Nat.blt n 103 then bif Nat.blt n 101 then mpar_1_2_0 n else mpar_1_2_1 n else bif Nat.blt n 105 then mpar_1_2_2 n else bif Nat.blt n 107 then mpar_1_2_3 n else mpar_1_2_4 n
def mpar_1_3_0 (n : Nat) : Nat := bif Nat.blt n 110 then 2 else 0
def mpar_1_3_1 (n : Nat) : Nat := bif Nat.blt n 112 then 1 else 2
def mpar_1_3_2 (n : Nat) : Nat := bif Nat.blt n 114 then 1 else 1
def mpar_1_3_3 (n : Nat) : Nat := bif Nat.blt n 116 then 0 else 1
def mpar_1_3_4 (n : Nat) : Nat := bif Nat.blt n 118 then 3 else 3
def mpar_1_3 (n : Nat) : Nat := bif Nat.blt n 113 then bif Nat.blt n 111 then mpar_1_3_0 n else mpar_1_3_1 n else bif Nat.blt n 115 then mpar_1_3_2 n else bif Nat.blt n 117 then mpar_1_3_3 n else mpar_1_3_4 n
def mpar_1_4_0 (n : Nat) : Nat := bif Nat.blt n 120 then 1 else 0
def mpar_1_4_1 (n : Nat) : Nat := bif Nat.blt n 122 then 1 else 2
def mpar_1_4_2 (n : Nat) : Nat := bif Nat.blt n 124 then 6 else 3
def mpar_1_4_3 (n : Nat) : Nat := bif Nat.blt n 126 then 3 else 0
def mpar_1_4_4 (n : Nat) : Nat := bif Nat.blt n 128 then 3 else 2
def mpar_1_4 (n : Nat) : Nat := bif Nat.blt n 123 then bif Nat.blt n 121 then mpar_1_4_0 n else mpar_1_4_1 n else bif Nat.blt n 125 then mpar_1_4_2 n else bif Nat.blt n 127 then mpar_1_4_3 n else mpar_1_4_4 n
def mpar_1_5_0 (n : Nat) : Nat := bif Nat.blt n 130 then 3 else 3
def mpar_1_5_1 (n : Nat) : Nat := bif Nat.blt n 132 then 1 else 0
def mpar_1_5_2 (n : Nat) : Nat := bif Nat.blt n 134 then 1 else 1
def mpar_1_5_3 (n : Nat) : Nat := bif Nat.blt n 136 then 1 else 1
def mpar_1_5_4 (n : Nat) : Nat := bif Nat.blt n 138 then 1 else 2
def mpar_1_5 (n : Nat) : Nat := bif Nat.blt n 133 then bif Nat.blt n 131 then mpar_1_5_0 n else mpar_1_5_1 n else bif Nat.blt n 135 then mpar_1_5_2 n else bif Nat.blt n 137 then mpar_1_5_3 n else mpar_1_5_4 n
def mpar_1_6_0 (n : Nat) : Nat := bif Nat.blt n 140 then 0 else 1
def mpar_1_6_1 (n : Nat) : Nat := bif Nat.blt n 142 then 0 else 0
def mpar_1_6_2 (n : Nat) : Nat := bif Nat.blt n 144 then 1 else 3
def mpar_1_6_3 (n : Nat) : Nat := bif Nat.blt n 146 then 1 else 1
def mpar_1_6_4 (n : Nat) : Nat := bif Nat.blt n 148 then 0 else 1
def mpar_1_6 (n : Nat) : Nat := bif Nat.blt n 143 then bif Nat.blt n 141 then mpar_1_6_0 n else mpar_1_6_1 n else bif Nat.blt n 145 then mpar_1_6_2 n else bif Nat.blt n 147 then mpar_1_6_3 n else mpar_1_6_4 n
def mpar_1_7_0 (n : Nat) : Nat := bif Nat.blt n 150 then 1 else 1
def mpar_1_7_1 (n : Nat) : Nat := bif Nat.blt n 152 then 1 else 1
def mpar_1_7_2 (n : Nat) : Nat := bif Nat.blt n 154 then 2 else 1
def mpar_1_7_3 (n : Nat) : Nat := bif Nat.blt n 156 then 4 else 1
def mpar_1_7_4 (n : Nat) : Nat := 5
def mpar_1_7 (n : Nat) : Nat := bif Nat.blt n 153 then bif Nat.blt n 151 then mpar_1_7_0 n else mpar_1_7_1 n else bif Nat.blt n 155 then mpar_1_7_2 n else bif Nat.blt n 157 then mpar_1_7_3 n else mpar_1_7_4 n
def mpar_1 (n : Nat) : Nat := bif Nat.blt n 119 then bif Nat.blt n 99 then bif Nat.blt n 89 then mpar_1_0 n else mpar_1_1 n else bif Nat.blt n 109 then mpar_1_2 n else mpar_1_3 n else bif Nat.blt n 139 then bif Nat.blt n 129 then mpar_1_4 n else mpar_1_5 n else bif Nat.blt n 149 then mpar_1_6 n else mpar_1_7 n
def mpar_2_0_0 (n : Nat) : Nat := bif Nat.blt n 159 then 1 else 4
def mpar_2_0_1 (n : Nat) : Nat := bif Nat.blt n 161 then 1 else 1
def mpar_2_0_2 (n : Nat) : Nat := bif Nat.blt n 163 then 0 else 1
def mpar_2_0_3 (n : Nat) : Nat := bif Nat.blt n 165 then 3 else 0
def mpar_2_0_4 (n : Nat) : Nat := bif Nat.blt n 167 then 2 else 2
def mpar_2_0 (n : Nat) : Nat := bif Nat.blt n 162 then bif Nat.blt n 160 then mpar_2_0_0 n else mpar_2_0_1 n else bif Nat.blt n 164 then mpar_2_0_2 n else bif Nat.blt n 166 then mpar_2_0_3 n else mpar_2_0_4 n
def mpar_2_1_0 (n : Nat) : Nat := bif Nat.blt n 169 then 2 else 2
def mpar_2_1_1 (n : Nat) : Nat := bif Nat.blt n 171 then 3 else 3
def mpar_2_1_2 (n : Nat) : Nat := bif Nat.blt n 173 then 1 else 1
def mpar_2_1_3 (n : Nat) : Nat := bif Nat.blt n 175 then 1 else 0
def mpar_2_1_4 (n : Nat) : Nat := bif Nat.blt n 177 then 1 else 1
def mpar_2_1 (n : Nat) : Nat := bif Nat.blt n 172 then bif Nat.blt n 170 then mpar_2_1_0 n else mpar_2_1_1 n else bif Nat.blt n 174 then mpar_2_1_2 n else bif Nat.blt n 176 then mpar_2_1_3 n else mpar_2_1_4 n
def mpar_2_2_0 (n : Nat) : Nat := bif Nat.blt n 179 then 1 else 4
def mpar_2_2_1 (n : Nat) : Nat := bif Nat.blt n 181 then 1 else 1
def mpar_2_2_2 (n : Nat) : Nat := bif Nat.blt n 183 then 1 else 0
def mpar_2_2_3 (n : Nat) : Nat := bif Nat.blt n 185 then 2 else 3
def mpar_2_2_4 (n : Nat) : Nat := bif Nat.blt n 187 then 1 else 2
def mpar_2_2 (n : Nat) : Nat := bif Nat.blt n 182 then bif Nat.blt n 180 then mpar_2_2_0 n else mpar_2_2_1 n else bif Nat.blt n 184 then mpar_2_2_2 n else bif Nat.blt n 186 then mpar_2_2_3 n else mpar_2_2_4 n
def mpar_2_3_0 (n : Nat) : Nat := bif Nat.blt n 189 then 1 else 3
def mpar_2_3_1 (n : Nat) : Nat := bif Nat.blt n 191 then 1 else 1
def mpar_2_3_2 (n : Nat) : Nat := bif Nat.blt n 193 then 0 else 1
def mpar_2_3_3 (n : Nat) : Nat := bif Nat.blt n 195 then 3 else 0
def mpar_2_3_4 (n : Nat) : Nat := bif Nat.blt n 197 then 1 else 4
def mpar_2_3 (n : Nat) : Nat := bif Nat.blt n 192 then bif Nat.blt n 190 then mpar_2_3_0 n else mpar_2_3_1 n else bif Nat.blt n 194 then mpar_2_3_2 n else bif Nat.blt n 196 then mpar_2_3_3 n else mpar_2_3_4 n
def mpar_2_4_0 (n : Nat) : Nat := bif Nat.blt n 199 then 2 else 2
def mpar_2_4_1 (n : Nat) : Nat := bif Nat.blt n 201 then 2 else 0
def mpar_2_4_2 (n : Nat) : Nat := bif Nat.blt n 203 then 2 else 1
def mpar_2_4_3 (n : Nat) : Nat := bif Nat.blt n 205 then 2 else 2
def mpar_2_4_4 (n : Nat) : Nat := bif Nat.blt n 207 then 3 else 3
def mpar_2_4 (n : Nat) : Nat := bif Nat.blt n 202 then bif Nat.blt n 200 then mpar_2_4_0 n else mpar_2_4_1 n else bif Nat.blt n 204 then mpar_2_4_2 n else bif Nat.blt n 206 then mpar_2_4_3 n else mpar_2_4_4 n
def mpar_2_5_0 (n : Nat) : Nat := bif Nat.blt n 209 then 2 else 2
def mpar_2_5_1 (n : Nat) : Nat := bif Nat.blt n 211 then 2 else 4
def mpar_2_5_2 (n : Nat) : Nat := bif Nat.blt n 213 then 2 else 2
def mpar_2_5_3 (n : Nat) : Nat := bif Nat.blt n 215 then 1 else 3
def mpar_2_5_4 (n : Nat) : Nat := bif Nat.blt n 217 then 0 else 1
def mpar_2_5 (n : Nat) : Nat := bif Nat.blt n 212 then bif Nat.blt n 210 then mpar_2_5_0 n else mpar_2_5_1 n else bif Nat.blt n 214 then mpar_2_5_2 n else bif Nat.blt n 216 then mpar_2_5_3 n else mpar_2_5_4 n
def mpar_2_6_0 (n : Nat) : Nat := bif Nat.blt n 219 then 2 else 6
def mpar_2_6_1 (n : Nat) : Nat := bif Nat.blt n 221 then 1 else 1
def mpar_2_6_2 (n : Nat) : Nat := bif Nat.blt n 223 then 1 else 2
def mpar_2_6_3 (n : Nat) : Nat := bif Nat.blt n 225 then 3 else 2
def mpar_2_6_4 (n : Nat) : Nat := bif Nat.blt n 227 then 1 else 1
def mpar_2_6 (n : Nat) : Nat := bif Nat.blt n 222 then bif Nat.blt n 220 then mpar_2_6_0 n else mpar_2_6_1 n else bif Nat.blt n 224 then mpar_2_6_2 n else bif Nat.blt n 226 then mpar_2_6_3 n else mpar_2_6_4 n
def mpar_2_7_0 (n : Nat) : Nat := bif Nat.blt n 229 then 1 else 1
def mpar_2_7_1 (n : Nat) : Nat := bif Nat.blt n 231 then 2 else 0
def mpar_2_7_2 (n : Nat) : Nat := bif Nat.blt n 233 then 0 else 1
def mpar_2_7_3 (n : Nat) : Nat := bif Nat.blt n 235 then 1 else 3
def mpar_2_7_4 (n : Nat) : Nat := 0
def mpar_2_7 (n : Nat) : Nat := bif Nat.blt n 232 then bif Nat.blt n 230 then mpar_2_7_0 n else mpar_2_7_1 n else bif Nat.blt n 234 then mpar_2_7_2 n else bif Nat.blt n 236 then mpar_2_7_3 n else mpar_2_7_4 n
def mpar_2 (n : Nat) : Nat := bif Nat.blt n 198 then bif Nat.blt n 178 then bif Nat.blt n 168 then mpar_2_0 n else mpar_2_1 n else bif Nat.blt n 188 then mpar_2_2 n else mpar_2_3 n else bif Nat.blt n 218 then bif Nat.blt n 208 then mpar_2_4 n else mpar_2_5 n else bif Nat.blt n 228 then mpar_2_6 n else mpar_2_7 n
def mpar_3_0_0 (n : Nat) : Nat := bif Nat.blt n 238 then 3 else 1
def mpar_3_0_1 (n : Nat) : Nat := bif Nat.blt n 240 then 3 else 2
def mpar_3_0_2 (n : Nat) : Nat := bif Nat.blt n 242 then 3 else 1
def mpar_3_0_3 (n : Nat) : Nat := bif Nat.blt n 244 then 1 else 2
def mpar_3_0_4 (n : Nat) : Nat := bif Nat.blt n 246 then 1 else 0
def mpar_3_0 (n : Nat) : Nat := bif Nat.blt n 241 then bif Nat.blt n 239 then mpar_3_0_0 n else mpar_3_0_1 n else bif Nat.blt n 243 then mpar_3_0_2 n else bif Nat.blt n 245 then mpar_3_0_3 n else mpar_3_0_4 n
def mpar_3_1_0 (n : Nat) : Nat := bif Nat.blt n 248 then 5 else 4
def mpar_3_1_1 (n : Nat) : Nat := bif Nat.blt n 250 then 4 else 2
def mpar_3_1_2 (n : Nat) : Nat := bif Nat.blt n 252 then 4 else 1
def mpar_3_1_3 (n : Nat) : Nat := bif Nat.blt n 254 then 2 else 3
def mpar_3_1_4 (n : Nat) : Nat := bif Nat.blt n 256 then 1 else 1
def mpar_3_1 (n : Nat) : Nat := bif Nat.blt n 251 then bif Nat.blt n 249 then mpar_3_1_0 n else mpar_3_1_1 n else bif Nat.blt n 253 then mpar_3_1_2 n else bif Nat.blt n 255 then mpar_3_1_3 n else mpar_3_1_4 n
def mpar_3_2_0 (n : Nat) : Nat := bif Nat.blt n 258 then 2 else 2
def mpar_3_2_1 (n : Nat) : Nat := bif Nat.blt n 260 then 3 else 2
def mpar_3_2_2 (n : Nat) : Nat := bif Nat.blt n 262 then 4 else 3
def mpar_3_2_3 (n : Nat) : Nat := bif Nat.blt n 264 then 2 else 2
def mpar_3_2_4 (n : Nat) : Nat := bif Nat.blt n 266 then 4 else 4
def mpar_3_2 (n : Nat) : Nat := bif Nat.blt n 261 then bif Nat.blt n 259 then mpar_3_2_0 n else mpar_3_2_1 n else bif Nat.blt n 263 then mpar_3_2_2 n else bif Nat.blt n 265 then mpar_3_2_3 n else mpar_3_2_4 n
def mpar_3_3_0 (n : Nat) : Nat := bif Nat.blt n 268 then 1 else 4
def mpar_3_3_1 (n : Nat) : Nat := bif Nat.blt n 270 then 1 else 0
def mpar_3_3_2 (n : Nat) : Nat := bif Nat.blt n 272 then 0 else 0
def mpar_3_3_3 (n : Nat) : Nat := bif Nat.blt n 274 then 1 else 1
def mpar_3_3_4 (n : Nat) : Nat := bif Nat.blt n 276 then 1 else 2
def mpar_3_3 (n : Nat) : Nat := bif Nat.blt n 271 then bif Nat.blt n 269 then mpar_3_3_0 n else mpar_3_3_1 n else bif Nat.blt n 273 then mpar_3_3_2 n else bif Nat.blt n 275 then mpar_3_3_3 n else mpar_3_3_4 n
def mpar_3_4_0 (n : Nat) : Nat := bif Nat.blt n 278 then 2 else 1
def mpar_3_4_1 (n : Nat) : Nat := bif Nat.blt n 280 then 1 else 1
def mpar_3_4_2 (n : Nat) : Nat := bif Nat.blt n 282 then 2 else 1
def mpar_3_4_3 (n : Nat) : Nat := bif Nat.blt n 284 then 0 else 0
def mpar_3_4_4 (n : Nat) : Nat := bif Nat.blt n 286 then 0 else 1
def mpar_3_4 (n : Nat) : Nat := bif Nat.blt n 281 then bif Nat.blt n 279 then mpar_3_4_0 n else mpar_3_4_1 n else bif Nat.blt n 283 then mpar_3_4_2 n else bif Nat.blt n 285 then mpar_3_4_3 n else mpar_3_4_4 n
def mpar_3_5_0 (n : Nat) : Nat := bif Nat.blt n 288 then 2 else 1
def mpar_3_5_1 (n : Nat) : Nat := bif Nat.blt n 290 then 1 else 0
def mpar_3_5_2 (n : Nat) : Nat := bif Nat.blt n 292 then 2 else 1
def mpar_3_5_3 (n : Nat) : Nat := bif Nat.blt n 294 then 5 else 1
def mpar_3_5_4 (n : Nat) : Nat := bif Nat.blt n 296 then 5 else 1
def mpar_3_5 (n : Nat) : Nat := bif Nat.blt n 291 then bif Nat.blt n 289 then mpar_3_5_0 n else mpar_3_5_1 n else bif Nat.blt n 293 then mpar_3_5_2 n else bif Nat.blt n 295 then mpar_3_5_3 n else mpar_3_5_4 n
def mpar_3_6_0 (n : Nat) : Nat := bif Nat.blt n 298 then 1 else 3
def mpar_3_6_1 (n : Nat) : Nat := bif Nat.blt n 300 then 0 else 0
def mpar_3_6_2 (n : Nat) : Nat := bif Nat.blt n 302 then 1 else 2
def mpar_3_6_3 (n : Nat) : Nat := bif Nat.blt n 304 then 1 else 1
def mpar_3_6_4 (n : Nat) : Nat := bif Nat.blt n 306 then 1 else 1
def mpar_3_6 (n : Nat) : Nat := bif Nat.blt n 301 then bif Nat.blt n 299 then mpar_3_6_0 n else mpar_3_6_1 n else bif Nat.blt n 303 then mpar_3_6_2 n else bif Nat.blt n 305 then mpar_3_6_3 n else mpar_3_6_4 n
def mpar_3_7_0 (n : Nat) : Nat := bif Nat.blt n 308 then 4 else 0
def mpar_3_7_1 (n : Nat) : Nat := bif Nat.blt n 310 then 0 else 1
def mpar_3_7_2 (n : Nat) : Nat := bif Nat.blt n 312 then 0 else 2
def mpar_3_7_3 (n : Nat) : Nat := bif Nat.blt n 314 then 0 else 1
def mpar_3_7_4 (n : Nat) : Nat := 1
def mpar_3_7 (n : Nat) : Nat := bif Nat.blt n 311 then bif Nat.blt n 309 then mpar_3_7_0 n else mpar_3_7_1 n else bif Nat.blt n 313 then mpar_3_7_2 n else bif Nat.blt n 315 then mpar_3_7_3 n else mpar_3_7_4 n
def mpar_3 (n : Nat) : Nat := bif Nat.blt n 277 then bif Nat.blt n 257 then bif Nat.blt n 247 then mpar_3_0 n else mpar_3_1 n else bif Nat.blt n 267 then mpar_3_2 n else mpar_3_3 n else bif Nat.blt n 297 then bif Nat.blt n 287 then mpar_3_4 n else mpar_3_5 n else bif Nat.blt n 307 then mpar_3_6 n else mpar_3_7 n
def mpar_4_0_0 (n : Nat) : Nat := bif Nat.blt n 317 then 3 else 3
def mpar_4_0_1 (n : Nat) : Nat := bif Nat.blt n 319 then 4 else 1
def mpar_4_0_2 (n : Nat) : Nat := bif Nat.blt n 321 then 1 else 0
def mpar_4_0_3 (n : Nat) : Nat := bif Nat.blt n 323 then 2 else 2
def mpar_4_0_4 (n : Nat) : Nat := bif Nat.blt n 325 then 0 else 1
def mpar_4_0 (n : Nat) : Nat := bif Nat.blt n 320 then bif Nat.blt n 318 then mpar_4_0_0 n else mpar_4_0_1 n else bif Nat.blt n 322 then mpar_4_0_2 n else bif Nat.blt n 324 then mpar_4_0_3 n else mpar_4_0_4 n
def mpar_4_1_0 (n : Nat) : Nat := bif Nat.blt n 327 then 0 else 0
def mpar_4_1_1 (n : Nat) : Nat := bif Nat.blt n 329 then 2 else 1
def mpar_4_1_2 (n : Nat) : Nat := bif Nat.blt n 331 then 3 else 3
def mpar_4_1_3 (n : Nat) : Nat := bif Nat.blt n 333 then 2 else 2
def mpar_4_1_4 (n : Nat) : Nat := bif Nat.blt n 335 then 1 else 2
def mpar_4_1 (n : Nat) : Nat := bif Nat.blt n 330 then bif Nat.blt n 328 then mpar_4_1_0 n else mpar_4_1_1 n else bif Nat.blt n 332 then mpar_4_1_2 n else bif Nat.blt n 334 then mpar_4_1_3 n else mpar_4_1_4 n
def mpar_4_2_0 (n : Nat) : Nat := bif Nat.blt n 337 then 1 else 2
def mpar_4_2_1 (n : Nat) : Nat := bif Nat.blt n 339 then 1 else 2
def mpar_4_2_2 (n : Nat) : Nat := bif Nat.blt n 341 then 3 else 3
def mpar_4_2_3 (n : Nat) : Nat := bif Nat.blt n 343 then 4 else 3
def mpar_4_2_4 (n : Nat) : Nat := bif Nat.blt n 345 then 1 else 1
def mpar_4_2 (n : Nat) : Nat := bif Nat.blt n 340 then bif Nat.blt n 338 then mpar_4_2_0 n else mpar_4_2_1 n else bif Nat.blt n 342 then mpar_4_2_2 n else bif Nat.blt n 344 then mpar_4_2_3 n else mpar_4_2_4 n
def mpar_4_3_0 (n : Nat) : Nat := bif Nat.blt n 347 then 3 else 2
def mpar_4_3_1 (n : Nat) : Nat := bif Nat.blt n 349 then 2 else 0
def mpar_4_3_2 (n : Nat) : Nat := bif Nat.blt n 351 then 1 else 1
def mpar_4_3_3 (n : Nat) : Nat := bif Nat.blt n 353 then 1 else 1
def mpar_4_3_4 (n : Nat) : Nat := bif Nat.blt n 355 then 1 else 1
def mpar_4_3 (n : Nat) : Nat := bif Nat.blt n 350 then bif Nat.blt n 348 then mpar_4_3_0 n else mpar_4_3_1 n else bif Nat.blt n 352 then mpar_4_3_2 n else bif Nat.blt n 354 then mpar_4_3_3 n else mpar_4_3_4 n
def mpar_4_4_0 (n : Nat) : Nat := bif Nat.blt n 357 then 1 else 1
def mpar_4_4_1 (n : Nat) : Nat := bif Nat.blt n 359 then 3 else 1
def mpar_4_4_2 (n : Nat) : Nat := bif Nat.blt n 361 then 1 else 1
def mpar_4_4_3 (n : Nat) : Nat := bif Nat.blt n 363 then 5 else 3
def mpar_4_4_4 (n : Nat) : Nat := bif Nat.blt n 365 then 3 else 3
def mpar_4_4 (n : Nat) : Nat := bif Nat.blt n 360 then bif Nat.blt n 358 then mpar_4_4_0 n else mpar_4_4_1 n else bif Nat.blt n 362 then mpar_4_4_2 n else bif Nat.blt n 364 then mpar_4_4_3 n else mpar_4_4_4 n
def mpar_4_5_0 (n : Nat) : Nat := bif Nat.blt n 367 then 3 else 1
def mpar_4_5_1 (n : Nat) : Nat := bif Nat.blt n 369 then 5 else 6
def mpar_4_5_2 (n : Nat) : Nat := bif Nat.blt n 371 then 1 else 6
def mpar_4_5_3 (n : Nat) : Nat := bif Nat.blt n 373 then 1 else 5
def mpar_4_5_4 (n : Nat) : Nat := bif Nat.blt n 375 then 3 else 3
def mpar_4_5 (n : Nat) : Nat := bif Nat.blt n 370 then bif Nat.blt n 368 then mpar_4_5_0 n else mpar_4_5_1 n else bif Nat.blt n 372 then mpar_4_5_2 n else bif Nat.blt n 374 then mpar_4_5_3 n else mpar_4_5_4 n
def mpar_4_6_0 (n : Nat) : Nat := bif Nat.blt n 377 then 2 else 0
def mpar_4_6_1 (n : Nat) : Nat := bif Nat.blt n 379 then 0 else 3
def mpar_4_6_2 (n : Nat) : Nat := bif Nat.blt n 381 then 1 else 1
def mpar_4_6_3 (n : Nat) : Nat := bif Nat.blt n 383 then 4 else 2
def mpar_4_6_4 (n : Nat) : Nat := bif Nat.blt n 385 then 2 else 2
def mpar_4_6 (n : Nat) : Nat := bif Nat.blt n 380 then bif Nat.blt n 378 then mpar_4_6_0 n else mpar_4_6_1 n else bif Nat.blt n 382 then mpar_4_6_2 n else bif Nat.blt n 384 then mpar_4_6_3 n else mpar_4_6_4 n
def mpar_4_7_0 (n : Nat) : Nat := bif Nat.blt n 387 then 5 else 3
def mpar_4_7_1 (n : Nat) : Nat := bif Nat.blt n 389 then 3 else 3
def mpar_4_7_2 (n : Nat) : Nat := bif Nat.blt n 391 then 6 else 4
def mpar_4_7_3 (n : Nat) : Nat := bif Nat.blt n 393 then 4 else 4
def mpar_4_7_4 (n : Nat) : Nat := 2
def mpar_4_7 (n : Nat) : Nat := bif Nat.blt n 390 then bif Nat.blt n 388 then mpar_4_7_0 n else mpar_4_7_1 n else bif Nat.blt n 392 then mpar_4_7_2 n else bif Nat.blt n 394 then mpar_4_7_3 n else mpar_4_7_4 n
def mpar_4 (n : Nat) : Nat := bif Nat.blt n 356 then bif Nat.blt n 336 then bif Nat.blt n 326 then mpar_4_0 n else mpar_4_1 n else bif Nat.blt n 346 then mpar_4_2 n else mpar_4_3 n else bif Nat.blt n 376 then bif Nat.blt n 366 then mpar_4_4 n else mpar_4_5 n else bif Nat.blt n 386 then mpar_4_6 n else mpar_4_7 n
def mpar_5_0_0 (n : Nat) : Nat := bif Nat.blt n 396 then 2 else 4
def mpar_5_0_1 (n : Nat) : Nat := bif Nat.blt n 398 then 2 else 2
def mpar_5_0_2 (n : Nat) : Nat := bif Nat.blt n 400 then 2 else 2
def mpar_5_0_3 (n : Nat) : Nat := bif Nat.blt n 402 then 0 else 0
def mpar_5_0_4 (n : Nat) : Nat := bif Nat.blt n 404 then 3 else 1
def mpar_5_0 (n : Nat) : Nat := bif Nat.blt n 399 then bif Nat.blt n 397 then mpar_5_0_0 n else mpar_5_0_1 n else bif Nat.blt n 401 then mpar_5_0_2 n else bif Nat.blt n 403 then mpar_5_0_3 n else mpar_5_0_4 n
def mpar_5_1_0 (n : Nat) : Nat := bif Nat.blt n 406 then 1 else 1
def mpar_5_1_1 (n : Nat) : Nat := bif Nat.blt n 408 then 1 else 4
def mpar_5_1_2 (n : Nat) : Nat := bif Nat.blt n 410 then 2 else 2
def mpar_5_1_3 (n : Nat) : Nat := bif Nat.blt n 412 then 2 else 3
def mpar_5_1_4 (n : Nat) : Nat := bif Nat.blt n 414 then 1 else 1
def mpar_5_1 (n : Nat) : Nat := bif Nat.blt n 409 then bif Nat.blt n 407 then mpar_5_1_0 n else mpar_5_1_1 n else bif Nat.blt n 411 then mpar_5_1_2 n else bif Nat.blt n 413 then mpar_5_1_3 n else mpar_5_1_4 n
def mpar_5_2_0 (n : Nat) : Nat := bif Nat.blt n 416 then 0 else 2
def mpar_5_2_1 (n : Nat) : Nat := bif Nat.blt n 418 then 1 else 1
def mpar_5_2_2 (n : Nat) : Nat := bif Nat.blt n 420 then 1 else 1
def mpar_5_2_3 (n : Nat) : Nat := bif Nat.blt n 422 then 0 else 1
def mpar_5_2_4 (n : Nat) : Nat := bif Nat.blt n 424 then 1 else 2
def mpar_5_2 (n : Nat) : Nat := bif Nat.blt n 419 then bif Nat.blt n 417 then mpar_5_2_0 n else mpar_5_2_1 n else bif Nat.blt n 421 then mpar_5_2_2 n else bif Nat.blt n 423 then mpar_5_2_3 n else mpar_5_2_4 n
def mpar_5_3_0 (n : Nat) : Nat := bif Nat.blt n 426 then 3 else 3
def mpar_5_3_1 (n : Nat) : Nat := bif Nat.blt n 428 then 4 else 5
def mpar_5_3_2 (n : Nat) : Nat := bif Nat.blt n 430 then 2 else 1
def mpar_5_3_3 (n : Nat) : Nat := bif Nat.blt n 432 then 2 else 3
def mpar_5_3_4 (n : Nat) : Nat := bif Nat.blt n 434 then 2 else 3
def mpar_5_3 (n : Nat) : Nat := bif Nat.blt n 429 then bif Nat.blt n 427 then mpar_5_3_0 n else mpar_5_3_1 n else bif Nat.blt n 431 then mpar_5_3_2 n else bif Nat.blt n 433 then mpar_5_3_3 n else mpar_5_3_4 n
def mpar_5_4_0 (n : Nat) : Nat := bif Nat.blt n 436 then 2 else 2
def mpar_5_4_1 (n : Nat) : Nat := bif Nat.blt n 438 then 2 else 3
def mpar_5_4_2 (n : Nat) : Nat := bif Nat.blt n 440 then 4 else 1
def mpar_5_4_3 (n : Nat) : Nat := bif Nat.blt n 442 then 1 else 1
def mpar_5_4_4 (n : Nat) : Nat := bif Nat.blt n 444 then 1 else 1
def mpar_5_4 (n : Nat) : Nat := bif Nat.blt n 439 then bif Nat.blt n 437 then mpar_5_4_0 n else mpar_5_4_1 n else bif Nat.blt n 441 then mpar_5_4_2 n else bif Nat.blt n 443 then mpar_5_4_3 n else mpar_5_4_4 n
def mpar_5_5_0 (n : Nat) : Nat := bif Nat.blt n 446 then 1 else 2
def mpar_5_5_1 (n : Nat) : Nat := bif Nat.blt n 448 then 1 else 1
def mpar_5_5_2 (n : Nat) : Nat := bif Nat.blt n 450 then 1 else 2
def mpar_5_5_3 (n : Nat) : Nat := bif Nat.blt n 452 then 3 else 2
def mpar_5_5_4 (n : Nat) : Nat := bif Nat.blt n 454 then 2 else 3
def mpar_5_5 (n : Nat) : Nat := bif Nat.blt n 449 then bif Nat.blt n 447 then mpar_5_5_0 n else mpar_5_5_1 n else bif Nat.blt n 451 then mpar_5_5_2 n else bif Nat.blt n 453 then mpar_5_5_3 n else mpar_5_5_4 n
def mpar_5_6_0 (n : Nat) : Nat := bif Nat.blt n 456 then 1 else 1
def mpar_5_6_1 (n : Nat) : Nat := bif Nat.blt n 458 then 3 else 1
def mpar_5_6_2 (n : Nat) : Nat := bif Nat.blt n 460 then 1 else 4
def mpar_5_6_3 (n : Nat) : Nat := bif Nat.blt n 462 then 2 else 2
def mpar_5_6_4 (n : Nat) : Nat := bif Nat.blt n 464 then 2 else 5
def mpar_5_6 (n : Nat) : Nat := bif Nat.blt n 459 then bif Nat.blt n 457 then mpar_5_6_0 n else mpar_5_6_1 n else bif Nat.blt n 461 then mpar_5_6_2 n else bif Nat.blt n 463 then mpar_5_6_3 n else mpar_5_6_4 n
def mpar_5_7_0 (n : Nat) : Nat := bif Nat.blt n 466 then 4 else 4
def mpar_5_7_1 (n : Nat) : Nat := bif Nat.blt n 468 then 4 else 2
def mpar_5_7_2 (n : Nat) : Nat := bif Nat.blt n 470 then 2 else 2
def mpar_5_7_3 (n : Nat) : Nat := bif Nat.blt n 472 then 3 else 1
def mpar_5_7_4 (n : Nat) : Nat := 1
def mpar_5_7 (n : Nat) : Nat := bif Nat.blt n 469 then bif Nat.blt n 467 then mpar_5_7_0 n else mpar_5_7_1 n else bif Nat.blt n 471 then mpar_5_7_2 n else bif Nat.blt n 473 then mpar_5_7_3 n else mpar_5_7_4 n
def mpar_5 (n : Nat) : Nat := bif Nat.blt n 435 then bif Nat.blt n 415 then bif Nat.blt n 405 then mpar_5_0 n else mpar_5_1 n else bif Nat.blt n 425 then mpar_5_2 n else mpar_5_3 n else bif Nat.blt n 455 then bif Nat.blt n 445 then mpar_5_4 n else mpar_5_5 n else bif Nat.blt n 465 then mpar_5_6 n else mpar_5_7 n
def mpar_6_0_0 (n : Nat) : Nat := bif Nat.blt n 475 then 4 else 2
def mpar_6_0_1 (n : Nat) : Nat := bif Nat.blt n 477 then 2 else 5
def mpar_6_0_2 (n : Nat) : Nat := bif Nat.blt n 479 then 3 else 3
def mpar_6_0_3 (n : Nat) : Nat := bif Nat.blt n 481 then 5 else 3
def mpar_6_0_4 (n : Nat) : Nat := bif Nat.blt n 483 then 3 else 3
def mpar_6_0 (n : Nat) : Nat := bif Nat.blt n 478 then bif Nat.blt n 476 then mpar_6_0_0 n else mpar_6_0_1 n else bif Nat.blt n 480 then mpar_6_0_2 n else bif Nat.blt n 482 then mpar_6_0_3 n else mpar_6_0_4 n
def mpar_6_1_0 (n : Nat) : Nat := bif Nat.blt n 485 then 5 else 3
def mpar_6_1_1 (n : Nat) : Nat := bif Nat.blt n 487 then 3 else 4
def mpar_6_1_2 (n : Nat) : Nat := bif Nat.blt n 489 then 2 else 2
def mpar_6_1_3 (n : Nat) : Nat := bif Nat.blt n 491 then 2 else 3
def mpar_6_1_4 (n : Nat) : Nat := bif Nat.blt n 493 then 1 else 1
def mpar_6_1 (n : Nat) : Nat := bif Nat.blt n 488 then bif Nat.blt n 486 then mpar_6_1_0 n else mpar_6_1_1 n else bif Nat.blt n 490 then mpar_6_1_2 n else bif Nat.blt n 492 then mpar_6_1_3 n else mpar_6_1_4 n
def mpar_6_2_0 (n : Nat) : Nat := bif Nat.blt n 495 then 3 else 1
def mpar_6_2_1 (n : Nat) : Nat := bif Nat.blt n 497 then 1 else 1
def mpar_6_2_2 (n : Nat) : Nat := bif Nat.blt n 499 then 3 else 2
def mpar_6_2_3 (n : Nat) : Nat := bif Nat.blt n 501 then 2 else 4
def mpar_6_2_4 (n : Nat) : Nat := bif Nat.blt n 503 then 2 else 2
def mpar_6_2 (n : Nat) : Nat := bif Nat.blt n 498 then bif Nat.blt n 496 then mpar_6_2_0 n else mpar_6_2_1 n else bif Nat.blt n 500 then mpar_6_2_2 n else bif Nat.blt n 502 then mpar_6_2_3 n else mpar_6_2_4 n
def mpar_6_3_0 (n : Nat) : Nat := bif Nat.blt n 505 then 2 else 3
def mpar_6_3_1 (n : Nat) : Nat := bif Nat.blt n 507 then 1 else 1
def mpar_6_3_2 (n : Nat) : Nat := bif Nat.blt n 509 then 4 else 2
def mpar_6_3_3 (n : Nat) : Nat := bif Nat.blt n 511 then 2 else 3
def mpar_6_3_4 (n : Nat) : Nat := bif Nat.blt n 513 then 1 else 1
def mpar_6_3 (n : Nat) : Nat := bif Nat.blt n 508 then bif Nat.blt n 506 then mpar_6_3_0 n else mpar_6_3_1 n else bif Nat.blt n 510 then mpar_6_3_2 n else bif Nat.blt n 512 then mpar_6_3_3 n else mpar_6_3_4 n
def mpar_6_4_0 (n : Nat) : Nat := bif Nat.blt n 515 then 5 else 3
def mpar_6_4_1 (n : Nat) : Nat := bif Nat.blt n 517 then 3 else 3
def mpar_6_4_2 (n : Nat) : Nat := bif Nat.blt n 519 then 1 else 1
def mpar_6_4_3 (n : Nat) : Nat := bif Nat.blt n 521 then 4 else 2
def mpar_6_4_4 (n : Nat) : Nat := bif Nat.blt n 523 then 2 else 3
def mpar_6_4 (n : Nat) : Nat := bif Nat.blt n 518 then bif Nat.blt n 516 then mpar_6_4_0 n else mpar_6_4_1 n else bif Nat.blt n 520 then mpar_6_4_2 n else bif Nat.blt n 522 then mpar_6_4_3 n else mpar_6_4_4 n
def mpar_6_5_0 (n : Nat) : Nat := bif Nat.blt n 525 then 1 else 1
def mpar_6_5_1 (n : Nat) : Nat := bif Nat.blt n 527 then 4 else 2
def mpar_6_5_2 (n : Nat) : Nat := bif Nat.blt n 529 then 2 else 2
def mpar_6_5_3 (n : Nat) : Nat := bif Nat.blt n 531 then 3 else 1
def mpar_6_5_4 (n : Nat) : Nat := bif Nat.blt n 533 then 1 else 5
def mpar_6_5 (n : Nat) : Nat := bif Nat.blt n 528 then bif Nat.blt n 526 then mpar_6_5_0 n else mpar_6_5_1 n else bif Nat.blt n 530 then mpar_6_5_2 n else bif Nat.blt n 532 then mpar_6_5_3 n else mpar_6_5_4 n
def mpar_6_6_0 (n : Nat) : Nat := bif Nat.blt n 535 then 3 else 3
def mpar_6_6_1 (n : Nat) : Nat := bif Nat.blt n 537 then 3 else 1
def mpar_6_6_2 (n : Nat) : Nat := bif Nat.blt n 539 then 1 else 4
def mpar_6_6_3 (n : Nat) : Nat := bif Nat.blt n 541 then 2 else 2
def mpar_6_6_4 (n : Nat) : Nat := bif Nat.blt n 543 then 2 else 3
def mpar_6_6 (n : Nat) : Nat := bif Nat.blt n 538 then bif Nat.blt n 536 then mpar_6_6_0 n else mpar_6_6_1 n else bif Nat.blt n 540 then mpar_6_6_2 n else bif Nat.blt n 542 then mpar_6_6_3 n else mpar_6_6_4 n
def mpar_6_7_0 (n : Nat) : Nat := bif Nat.blt n 545 then 1 else 1
def mpar_6_7_1 (n : Nat) : Nat := bif Nat.blt n 547 then 1 else 1
def mpar_6_7_2 (n : Nat) : Nat := bif Nat.blt n 549 then 1 else 5
def mpar_6_7_3 (n : Nat) : Nat := bif Nat.blt n 551 then 3 else 3
def mpar_6_7_4 (n : Nat) : Nat := 0
def mpar_6_7 (n : Nat) : Nat := bif Nat.blt n 548 then bif Nat.blt n 546 then mpar_6_7_0 n else mpar_6_7_1 n else bif Nat.blt n 550 then mpar_6_7_2 n else bif Nat.blt n 552 then mpar_6_7_3 n else mpar_6_7_4 n
def mpar_6 (n : Nat) : Nat := bif Nat.blt n 514 then bif Nat.blt n 494 then bif Nat.blt n 484 then mpar_6_0 n else mpar_6_1 n else bif Nat.blt n 504 then mpar_6_2 n else mpar_6_3 n else bif Nat.blt n 534 then bif Nat.blt n 524 then mpar_6_4 n else mpar_6_5 n else bif Nat.blt n 544 then mpar_6_6 n else mpar_6_7 n
def mpar_7_0_0 (n : Nat) : Nat := bif Nat.blt n 554 then 3 else 5
def mpar_7_0_1 (n : Nat) : Nat := bif Nat.blt n 556 then 3 else 3
def mpar_7_0_2 (n : Nat) : Nat := bif Nat.blt n 558 then 3 else 2
def mpar_7_0_3 (n : Nat) : Nat := bif Nat.blt n 560 then 1 else 1
def mpar_7_0_4 (n : Nat) : Nat := bif Nat.blt n 562 then 3 else 1
def mpar_7_0 (n : Nat) : Nat := bif Nat.blt n 557 then bif Nat.blt n 555 then mpar_7_0_0 n else mpar_7_0_1 n else bif Nat.blt n 559 then mpar_7_0_2 n else bif Nat.blt n 561 then mpar_7_0_3 n else mpar_7_0_4 n
def mpar_7_1_0 (n : Nat) : Nat := bif Nat.blt n 564 then 1 else 6
def mpar_7_1_1 (n : Nat) : Nat := bif Nat.blt n 566 then 4 else 4
def mpar_7_1_2 (n : Nat) : Nat := bif Nat.blt n 568 then 4 else 2
def mpar_7_1_3 (n : Nat) : Nat := bif Nat.blt n 570 then 2 else 5
def mpar_7_1_4 (n : Nat) : Nat := bif Nat.blt n 572 then 3 else 3
def mpar_7_1 (n : Nat) : Nat := bif Nat.blt n 567 then bif Nat.blt n 565 then mpar_7_1_0 n else mpar_7_1_1 n else bif Nat.blt n 569 then mpar_7_1_2 n else bif Nat.blt n 571 then mpar_7_1_3 n else mpar_7_1_4 n
def mpar_7_2_0 (n : Nat) : Nat := bif Nat.blt n 574 then 1 else 3
def mpar_7_2_1 (n : Nat) : Nat := bif Nat.blt n 576 then 4 else 2
def mpar_7_2_2 (n : Nat) : Nat := bif Nat.blt n 578 then 2 else 2
def mpar_7_2_3 (n : Nat) : Nat := bif Nat.blt n 580 then 5 else 3
def mpar_7_2_4 (n : Nat) : Nat := bif Nat.blt n 582 then 3 else 4
def mpar_7_2 (n : Nat) : Nat := bif Nat.blt n 577 then bif Nat.blt n 575 then mpar_7_2_0 n else mpar_7_2_1 n else bif Nat.blt n 579 then mpar_7_2_2 n else bif Nat.blt n 581 then mpar_7_2_3 n else mpar_7_2_4 n
def mpar_7_3_0 (n : Nat) : Nat := bif Nat.blt n 584 then 2 else 2
def mpar_7_3_1 (n : Nat) : Nat := bif Nat.blt n 586 then 2 else 5
def mpar_7_3_2 (n : Nat) : Nat := bif Nat.blt n 588 then 3 else 3
def mpar_7_3_3 (n : Nat) : Nat := bif Nat.blt n 590 then 3 else 6
def mpar_7_3_4 (n : Nat) : Nat := bif Nat.blt n 592 then 4 else 4
def mpar_7_3 (n : Nat) : Nat := bif Nat.blt n 587 then bif Nat.blt n 585 then mpar_7_3_0 n else mpar_7_3_1 n else bif Nat.blt n 589 then mpar_7_3_2 n else bif Nat.blt n 591 then mpar_7_3_3 n else mpar_7_3_4 n
def mpar_7_4_0 (n : Nat) : Nat := bif Nat.blt n 594 then 3 else 2
def mpar_7_4_1 (n : Nat) : Nat := bif Nat.blt n 596 then 2 else 6
def mpar_7_4_2 (n : Nat) : Nat := bif Nat.blt n 598 then 4 else 4
def mpar_7_4_3 (n : Nat) : Nat := bif Nat.blt n 600 then 3 else 1
def mpar_7_4_4 (n : Nat) : Nat := bif Nat.blt n 602 then 1 else 4
def mpar_7_4 (n : Nat) : Nat := bif Nat.blt n 597 then bif Nat.blt n 595 then mpar_7_4_0 n else mpar_7_4_1 n else bif Nat.blt n 599 then mpar_7_4_2 n else bif Nat.blt n 601 then mpar_7_4_3 n else mpar_7_4_4 n
def mpar_7_5_0 (n : Nat) : Nat := bif Nat.blt n 604 then 2 else 2
def mpar_7_5_1 (n : Nat) : Nat := bif Nat.blt n 606 then 2 else 5
def mpar_7_5_2 (n : Nat) : Nat := bif Nat.blt n 608 then 4 else 4
def mpar_7_5_3 (n : Nat) : Nat := bif Nat.blt n 610 then 4 else 2
def mpar_7_5_4 (n : Nat) : Nat := bif Nat.blt n 612 then 2 else 2
def mpar_7_5 (n : Nat) : Nat := bif Nat.blt n 607 then bif Nat.blt n 605 then mpar_7_5_0 n else mpar_7_5_1 n else bif Nat.blt n 609 then mpar_7_5_2 n else bif Nat.blt n 611 then mpar_7_5_3 n else mpar_7_5_4 n
def mpar_7_6_0 (n : Nat) : Nat := bif Nat.blt n 614 then 4 else 2
def mpar_7_6_1 (n : Nat) : Nat := bif Nat.blt n 616 then 2 else 2
def mpar_7_6_2 (n : Nat) : Nat := bif Nat.blt n 618 then 2 else 0
def mpar_7_6_3 (n : Nat) : Nat := bif Nat.blt n 620 then 0 else 2
def mpar_7_6_4 (n : Nat) : Nat := bif Nat.blt n 622 then 0 else 0
def mpar_7_6 (n : Nat) : Nat := bif Nat.blt n 617 then bif Nat.blt n 615 then mpar_7_6_0 n else mpar_7_6_1 n else bif Nat.blt n 619 then mpar_7_6_2 n else bif Nat.blt n 621 then mpar_7_6_3 n else mpar_7_6_4 n
def mpar_7_7 (n : Nat) : Nat := bif Nat.blt n 626 then bif Nat.blt n 624 then 3 else bif Nat.blt n 625 then 1 else 1 else bif Nat.blt n 627 then 6 else bif Nat.blt n 628 then 5 else 5
def mpar_7 (n : Nat) : Nat := bif Nat.blt n 593 then bif Nat.blt n 573 then bif Nat.blt n 563 then mpar_7_0 n else mpar_7_1 n else bif Nat.blt n 583 then mpar_7_2 n else mpar_7_3 n else bif Nat.blt n 613 then bif Nat.blt n 603 then mpar_7_4 n else mpar_7_5 n else bif Nat.blt n 623 then mpar_7_6 n else mpar_7_7 n
def mpar (n : Nat) : Nat := bif Nat.blt n 316 then bif Nat.blt n 158 then bif Nat.blt n 79 then mpar_0 n else mpar_1 n else bif Nat.blt n 237 then mpar_2 n else mpar_3 n else bif Nat.blt n 474 then bif Nat.blt n 395 then mpar_4 n else mpar_5 n else bif Nat.blt n 553 then mpar_6 n else mpar_7 n
def mparP (n : Nat) : Prop := (parseMethodDescriptor (mth n).desc).map (fun d => d.parameters.length) = some (mpar n)
theorem mparT_0 : ∀ n, 0 ≤ n → n < 60 → mparP n := ivj (m := 30) (ivj (m := 15) (ivj (m := 7) (ivj (m := 3) (ivj (m := 1) (iv1 (P := mparP) rfl (show (parseMethodDescriptor (mth 0).desc).map (fun d => d.parameters.length) = some (mpar 0) by decide +kernel)) (ivj (m := 2) (iv1 (P := mparP) rfl (show (parseMethodDescriptor (mth 1).desc).map (fun d => d.parameters.length) = some (mpar 1) by decide +kernel)) (iv1 (P := mparP) rfl (show (parseMethodDescriptor (mth 2).desc).map (fun d => d.parameters.length) = some (mpar 2) by decide +kernel)))) (ivj (m := 5) (ivj (m := 4) (iv1 (P := mparP) rfl (show (parseMethodDescriptor (mth 3).desc).map (fun d => d.parameters.length) = some (mpar 3) by decide +kernel)) (iv1 (P := mparP) rfl (show (parseMethodDescriptor (mth 4).desc).map (fun d => d.parameters.length) = some (mpar 4) by decide +kernel))) (ivj (m := 6) (iv1 (P := mparP) rfl (show (parseMethodDescriptor (mth 5).desc).map (fun d => d.parameters.length) = some (mpar 5) by decide +kernel)) (iv1 (P := mparP) rfl (show (parseMethodDescriptor (mth 6).desc).map (fun d => d.parameters.length) = some (mpar 6) by decide +kernel))))) (ivj (m := 11) (ivj (m := 9) (ivj (m := 8) (iv1 (P := mparP) rfl (show (parseMethodDescriptor (mth 7).desc).map (fun d => d.parameters.length) = some (mpar 7) by decide +kernel)) (iv1 (P := mparP) rfl (show (parseMethodDescriptor (mth 8).desc).map (fun d => d.parameters.length) = some (mpar 8) by decide +kernel))) (ivj (m := 10) (iv1 (P := mparP) rfl (show (parseMethodDescriptor (mth 9).desc).map (fun d => d.parameters.length) = some (mpar 9) by decide +kernel)) (iv1 (P := mparP) rfl (show (parseMethodDescriptor (mth 10).desc).map (fun d => d.parameters.length) = some (mpar 10) by decide +kernel)))) (ivj (m := 13) (ivj (m := 12) (iv1 (P := mparP) rfl (show (parseMethodDescriptor (mth 11).desc).map (fun d => d.parameters.length) = some (mpar 11) by decide +kernel)) (iv1 (P := mparP) rfl (show (parseMethodDescriptor (mth 12).desc).map (fun d => d.parameters.length) = some (mpar 12) by decide +kernel))) (ivj (m := 14) (iv1 (P := mparP) rfl (show (parseMethodDescriptor (mth 13).desc).map (fun d => d.parameters.length) = some (mpar 13) by decide +kernel)) (iv1 (P := mparP) rfl (show (parseMethodDescriptor (mth 14).desc).map (fun d => d.parameters.length) = some (mpar 14) by decide +kernel)))))) (ivj (m := 22) (ivj (m := 18) (ivj (m := 16) (iv1 (P := mparP) rfl (show (parseMethodDescriptor (mth 15).desc).map (fun d => d.parameters.length) = some (mpar 15) by decide +kernel)) (ivj (m := 17) (iv1 (P := mparP) rfl (show (parseMethodDescriptor (mth 16).desc).map (fun d => d.parameters.length) = some (mpar 16) by decide +kernel)) (iv1 (P := mparP) rfl (show (parseMethodDescriptor (mth 17).desc).map (fun d => d.parameters.length) = some (mpar 17) by decide +kernel)))) (ivj (m := 20) (ivj (m := 19) (iv1 (P := mparP) rfl (show (parseMethodDescriptor (mth 18).desc).map (fun d => d.parameters.length) = some (mpar 18) by decide +kernel)) (iv1 (P := mparP) rfl (show (parseMethodDescriptor (mth 19).desc).map (fun d => d.parameters.length) = some (mpar 19) by decide +kernel))) (ivj (m := 21) (iv1 (P := mparP) rfl (show (parseMethodDescriptor (mth 20).desc).map (fun d => d.parameters.length) = some (mpar 20) by decide +kernel)) (iv1 (P := mparP) rfl (show (parseMethodDescriptor (mth 21).desc).map (fun d => d.parameters.length) = some (mpar 21) by decide +kernel))))) (ivj (m := 26) (ivj (m := 24) (ivj (m := 23) (iv1 (P := mparP) rfl (show (parseMethodDescriptor (mth 22).desc).map (fun d => d.parameters.length) = some (mpar 22) by decide +kernel)) (iv1 (P := mparP) rfl (show (parseMethodDescriptor (mth 23).desc).map (fun d => d.parameters.length) = some (mpar 23) by decide +kernel))) (ivj (m := 25) (iv1 (P := mparP) rfl (show (parseMethodDescriptor (mth 24).desc).map (fun d => d.parameters.length) = some (mpar 24) by decide +kernel)) (iv1 (P := mparP) rfl (show (parseMethodDescriptor (mth 25).desc).map (fun d => d.parameters.length) = some (mpar 25) by decide +kernel)))) (ivj (m := 28) (ivj (m := 27) (iv1 (P := mparP) rfl (show (parseMethodDescriptor (mth 26).desc).map (fun d => d.parameters.length) = some (mpar 26) by decide +kernel)) (iv1 (P := mparP) rfl (show (parseMethodDescriptor (mth 27).desc).map (fun d => d.parameters.length) = some (mpar 27) by decide +kernel))) (ivj (m := 29) (iv1 (P := mparP) rfl (show (parseMethodDescriptor (mth 28).desc).map (fun d => d.parameters.length) = some (mpar 28) by decide +kernel)) (iv1 (P := mparP) rfl (show (parseMethodDescriptor (mth 29).desc).map (fun d => d.parameters.length) = some (mpar 29) by decide +kernel))))))) (ivj (m := 45) (ivj (m := 37) (ivj (m := 33) (ivj (m := 31) (iv1 (P := mparP) rfl (show (parseMethodDescriptor (mth 30).desc).map (fun d => d.parameters.length) = some (mpar 30) by decide +kernel)) (ivj (m := 32) (iv1 (P := mparP) rfl (show (parseMethodDescriptor (mth 31).desc).map (fun d => d.parameters.length) = some (mpar 31) by decide +kernel)) (iv1 (P := mparP) rfl (show (parseMethodDescriptor (mth 32).desc).map (fun d => d.parameters.length) = some (mpar 32) by decide +kernel)))) (ivj (m := 35) (ivj (m := 34) (iv1 (P := mparP) rfl (show (parseMethodDescriptor (mth 33).desc).map (fun d => d.parameters.length) = some (mpar 33) by decide +kernel)) (iv1 (P := mparP) rfl (show (parseMethodDescriptor (mth 34).desc).map (fun d => d.parameters.length) = some (mpar 34) by decide +kernel))) (ivj (m := 36) (iv1 (P := mparP) rfl (show (parseMethodDescriptor (mth 35).desc).map (fun d => d.parameters.length) = some (mpar 35) by decide +kernel)) (iv1 (P := mparP) rfl (show (parseMethodDescriptor (mth 36).desc).map (fun d => d.parameters.length) = some (mpar 36) by decide +kernel))))) (ivj (m := 41) (ivj (m := 39) (ivj (m := 38) (iv1 (P := mparP) rfl (show (parseMethodDescriptor (mth 37).desc).map (fun d => d.parameters.length) = some (mpar 37) by decide +kernel)) (iv1 (P := mparP) rfl (show (parseMethodDescriptor (mth 38).desc).map (fun d => d.parameters.length) = some (mpar 38) by decide +kernel))) (ivj (m := 40) (iv1 (P := mparP) rfl (show (parseMethodDescriptor (mth 39).desc).map (fun d => d.parameters.length) = some (mpar 39) by decide +kernel)) (iv1 (P := mparP) rfl (show (parseMethodDescriptor (mth 40).desc).map (fun d => d.parameters.length) = some (mpar 40) by decide +kernel)))) (ivj (m := 43) (ivj (m := 42) (iv1 (P := mparP) rfl (show (parseMethodDescriptor (mth 41).desc).map (fun d => d.parameters.length) = some (mpar 41) by decide +kernel)) (iv1 (P := mparP) rfl (show (parseMethodDescriptor (mth 42).desc).map (fun d => d.parameters.length) = some (mpar 42) by decide +kernel))) (ivj (m := 44) (iv1 (P := mparP) rfl (show (parseMethodDescriptor (mth 43).desc).map (fun d => d.parameters.length) = some (mpar 43) by decide +kernel)) (iv1 (P := mparP) rfl (show (parseMethodDescriptor (mth 44).desc).map (fun d => d.parameters.length) = some (mpar 44) by decide +kernel)))))) (ivj (m := 52) (ivj (m := 48) (ivj (m := 46) (iv1 (P := mparP) rfl (show (parseMethodDescriptor (mth 45).desc).map (fun d => d.parameters.length) = some (mpar 45) by decide +kernel)) (ivj (m := 47) (iv1 (P := mparP) rfl (show (parseMethodDescriptor (mth 46).desc).map (fun d => d.parameters.length) = some (mpar 46) by decide +kernel)) (iv1 (P := mparP) rfl (show (parseMethodDescriptor (mth 47).desc).map (fun d => d.parameters.length) = some (mpar 47) by decide +kernel)))) (ivj (m := 50) (ivj (m := 49) (iv1 (P := mparP) rfl (show (parseMethodDescriptor (mth 48).desc).map (fun d => d.parameters.length) = some (mpar 48) by decide +kernel)) (iv1 (P := mparP) rfl (show (parseMethodDescriptor (mth 49).desc).map (fun d => d.parameters.length) = some (mpar 49) by decide +kernel))) (ivj (m := 51) (iv1 (P := mparP) rfl (show (parseMethodDescriptor (mth 50).desc).map (fun d => d.parameters.length) = some (mpar 50) by decide +kernel)) (iv1 (P := mparP) rfl (show (parseMethodDescriptor (mth 51).desc).map (fun d => d.parameters.length) = some (mpar 51) by decide +kernel))))) (ivj (m := 56) (ivj (m := 54) (ivj (m := 53) (iv1 (P := mparP) rfl (show (parseMethodDescriptor (mth 52).desc).map (fun d => d.parameters.length) = some (mpar 52) by decide +kernel)) (iv1 (P := mparP) rfl (show (parseMethodDescriptor (mth 53).desc).map (fun d => d.parameters.length) = some (mpar 53) by decide +kernel))) (ivj (m := 55) (iv1 (P := mparP) rfl (show (parseMethodDescriptor (mth 54).desc).map (fun d => d.parameters.length) = some (mpar 54) by decide +kernel)) (iv1 (P := mparP) rfl (show (parseMethodDescriptor (mth 55).desc).map (fun d => d.parameters.length) = some (mpar 55) by decide +kernel)))) (ivj (m := 58) (ivj (m := 57) (iv1 (P := mparP) rfl (show (parseMethodDescriptor (mth 56).desc).map (fun d => d.parameters.length) = some (mpar 56) by decide +kernel)) (iv1 (P := mparP) rfl (show (parseMethodDescriptor (mth 57).desc).map (fun d => d.parameters.length) = some (mpar 57) by decide +kernel))) (ivj (m := 59) (iv1 (P := mparP) rfl (show (parseMethodDescriptor (mth 58).desc).map (fun d => d.parameters.length) = some (mpar 58) by decide +kernel)) (iv1 (P := mparP) rfl (show (parseMethodDescriptor (mth 59).desc).map (fun d => d.parameters.length) = some (mpar 59) by decide +kernel)))))))
theorem mparT_60 : ∀ n, 60 ≤ n → n < 120 → mparP n := ivj (m := 90) (ivj (m := 75) (ivj (m := 67) (ivj (m := 63) (ivj (m := 61) (iv1 (P := mparP) rfl (show (parseMethodDescriptor (mth 60).desc).map (fun d => d.parameters.length) = some (mpar 60) by decide +kernel)) (ivj (m := 62) (iv1 (P := mparP) rfl (show (parseMethodDescriptor (mth 61).desc).map (fun d => d.parameters.length) = some (mpar 61) by decide +kernel)) (iv1 (P := mparP) rfl (show (parseMethodDescriptor (mth 62).desc).map (fun d => d.parameters.length) = some (mpar 62) by decide +kernel)))) (ivj (m := 65) (ivj (m := 64) (iv1 (P := mparP) rfl (show (parseMethodDescriptor (mth 63).desc).map (fun d => d.parameters.length) = some (mpar 63) by decide +kernel)) (iv1 (P := mparP) rfl (show (parseMethodDescriptor (mth 64).desc).map (fun d => d.parameters.length) = some (mpar 64) by decide +kernel))) (ivj (m := 66) (iv1 (P := mparP) rfl (show (parseMethodDescriptor (mth 65).desc).map (fun d => d.parameters.length) = some (mpar 65) by decide +kernel)) (iv1 (P := mparP) rfl (show (parseMethodDescriptor (mth 66).desc).map (fun d => d.parameters.length) = some (mpar 66) by decide +kernel))))) (ivj (m := 71) (ivj (m := 69) (ivj (m := 68) (iv1 (P := mparP) rfl (show (parseMethodDescriptor (mth 67).desc).map (fun d => d.parameters.length) = some (mpar 67) by decide +kernel)) (iv1 (P := mparP) rfl (show (parseMethodDescriptor (mth 68).desc).map (fun d => d.parameters.length) = some (mpar 68) by decide +kernel))) (ivj (m := 70) (iv1 (P := mparP) rfl (show (parseMethodDescriptor (mth 69).desc).map (fun d => d.parameters.length) = some (mpar 69) by decide +kernel)) (iv1 (P := mparP) rfl (show (parseMethodDescriptor (mth 70).desc).map (fun d => d.parameters.length) = some (mpar 70) by decide +kernel)))) (ivj (m := 73) (ivj (m := 72) (iv1 (P := mparP) rfl (show (parseMethodDescriptor (mth 71).desc).map (fun d => d.parameters.length) = some (mpar 71) by decide +kernel)) (iv1 (P := mparP) rfl (show (parseMethodDescriptor (mth 72).desc).map (fun d => d.parameters.length) = some (mpar 72) by decide +kernel))) (ivj (m := 74) (iv1 (P := mparP) rfl (show (parseMethodDescriptor (mth 73).desc).map (fun d => d.parameters.length) = some (mpar 73) by decide +kernel)) (iv1 (P := mparP) rfl (show (parseMethodDescriptor (mth 74).desc).map (fun d => d.parameters.length) = some (mpar 74) by decide +kernel)))))) (ivj (m := 82) (ivj (m := 78) (ivj (m := 76) (iv1 (P := mparP) rfl (show (parseMethodDescriptor (mth 75).desc).map (fun d => d.parameters.length) = some (mpar 75) by decide +kernel)) (ivj (m := 77) (iv1 (P := mparP) rfl (show (parseMethodDescriptor (mth 76).desc).map (fun d => d.parameters.length) = some (mpar 76) by decide +kernel)) (iv1 (P := mparP) rfl (show (parseMethodDescriptor (mth 77).desc).map (fun d => d.parameters.length) = some (mpar 77) by decide +kernel)))) (ivj (m := 80) (ivj (m := 79) (iv1 (P := mparP) rfl (show (parseMethodDescriptor (mth 78).desc).map (fun d => d.parameters.length) = some (mpar 78) by decide +kernel)) (iv1 (P := mparP) rfl (show (parseMethodDescriptor (mth 79).desc).map (fun d => d.parameters.length) = some (mpar 79) by decide +kernel))) (ivj (m := 81) (iv1 (P := mparP) rfl (show (parseMethodDescriptor (mth 80).desc).map (fun d => d.parameters.length) = some (mpar 80) by decide +kernel)) (iv1 (P := mparP) rfl (show (parseMethodDescriptor (mth 81).desc).map (fun d => d.parameters.length) = some (mpar 81) by decide +kernel))))) (ivj (m := 86) (ivj (m := 84) (ivj (m := 83) (iv1 (P := mparP) rfl (show (parseMethodDescriptor (mth 82).desc).map (fun d => d.parameters.length) = some (mpar 82) by decide +kernel)) (iv1 (P := mparP) rfl (show (parseMethodDescriptor (mth 83).desc).map (fun d => d.parameters.length) = some (mpar 83) by decide +kernel))) (ivj (m := 85) (iv1 (P := mparP) rfl (show (parseMethodDescriptor (mth 84).desc).map (fun d => d.parameters.length) = some (mpar 84) by decide +kernel)) (iv1 (P := mparP) rfl (show (parseMethodDescriptor (mth 85).desc).map (fun d => d.parameters.length) = some (mpar 85) by decide +kernel)))) (ivj (m := 88) (ivj (m := 87) (iv1 (P := mparP) rfl (show (parseMethodDescriptor (mth 86).desc).map (fun d => d.parameters.length) = some (mpar 86) by decide +kernel)) (iv1 (P := mparP) rfl (show (parseMethodDescriptor (mth 87).desc).map (fun d => d.parameters.length) = some (mpar 87) by decide +kernel))) (ivj (m := 89) (iv1 (P := mparP) rfl (show (parseMethodDescriptor (mth 88).desc).map (fun d => d.parameters.length) = some (mpar 88) by decide +kernel)) (iv1 (P := mparP) rfl (show (parseMethodDescriptor (mth 89).desc).map (fun d => d.parameters.length) = some (mpar 89) by decide +kernel))))))) (ivj (m := 105) (ivj (m := 97) (ivj (m := 93) (ivj (m := 91) (iv1 (P := mparP) rfl (show (parseMethodDescriptor (mth 90).desc).map (fun d => d.parameters.length) = some (mpar 90) by decide +kernel)) (ivj (m := 92) (iv1 (P := mparP) rfl (show (parseMethodDescriptor (mth 91).desc).map (fun d => d.parameters.length) = some (mpar 91) by decide +kernel)) (iv1 (P := mparP) rfl (show (parseMethodDescriptor (mth 92).desc).map (fun d => d.parameters.length) = some (mpar 92) by decide +kernel)))) (ivj (m := 95) (ivj (m := 94) (iv1 (P := mparP) rfl (show (parseMethodDescriptor (mth 93).desc).map (fun d => d.parameters.length) = some (mpar 93) by decide +kernel)) (iv1 (P := mparP) rfl (show (parseMethodDescriptor (mth 94).desc).map (fun d => d.parameters.length) = some (mpar 94) by decide +kernel))) (ivj (m := 96) (iv1 (P := mparP) rfl (show (parseMethodDescriptor (mth 95).desc).map (fun d => d.parameters.length) = some (mpar 95) by decide +kernel)) (iv1 (P := mparP) rfl (show (parseMethodDescriptor (mth 96).desc).map (fun d => d.parameters.length) = some (mpar 96) by decide +kernel))))) (ivj (m := 101) (ivj (m := 99) (ivj (m := 98) (iv1 (P := mparP) rfl (show (parseMethodDescriptor (mth 97).desc).map (fun d => d.parameters.length) = some (mpar 97) by decide +kernel)) (iv1 (P := mparP) rfl (show (parseMethodDescriptor (mth 98).desc).map (fun d => d.parameters.length) = some (mpar 98) by decide +kernel))) (ivj (m := 100) (iv1 (P := mparP) rfl (show (parseMethodDescriptor (mth 99).desc).map (fun d => d.parameters.length) = some (mpar 99) by decide +kernel)) (iv1 (P := mparP) rfl (show (parseMethodDescriptor (mth 100).desc).map (fun d => d.parameters.length) = some (mpar 100) by decide +kernel)))) (ivj (m := 103) (ivj (m := 102) (iv1 (P := mparP) rfl (show (parseMethodDescriptor (mth 101).desc).map (fun d => d.parameters.length) = some (mpar 101) by decide +kernel)) (iv1 (P := mparP) rfl (show (parseMethodDescriptor (mth 102).desc).map (fun d => d.parameters.length) = some (mpar 102) by decide +kernel))) (ivj (m := 104) (iv1 (P := mparP) rfl (show (parseMethodDescriptor (mth 103).desc).map (fun d => d.parameters.length) = some (mpar 103) by decide +kernel)) (iv1 (P := mparP) rfl (show (parseMethodDescriptor (mth 104).desc).map (fun d => d.parameters.length) = some (mpar 104) by decide +kernel)))))) (ivj (m := 112) (ivj (m := 108) (ivj (m := 106) (iv1 (P := mparP) rfl (show (parseMethodDescriptor (mth 105).desc).map (fun d => d.parameters.length) = some (mpar 105) by decide +kernel)) (ivj (m := 107) (iv1 (P := mparP) rfl (show (parseMethodDescriptor (mth 106).desc).map (fun d => d.parameters.length) = some (mpar 106) by decide +kernel)) (iv1 (P := mparP) rfl (show (parseMethodDescriptor (mth 107).desc).map (fun d => d.parameters.length) = some (mpar 107) by decide +kernel)))) (ivj (m := 110) (ivj (m := 109) (iv1 (P := mparP) rfl (show (parseMethodDescriptor (mth 108).desc).map (fun d => d.parameters.length) = some (mpar 108) by decide +kernel)) (iv1 (P := mparP) rfl (show (parseMethodDescriptor (mth 109).desc).map (fun d => d.parameters.length) = some (mpar 109) by decide +kernel))) (ivj (m := 111) (iv1 (P := mparP) rfl (show (parseMethodDescriptor (mth 110).desc).map (fun d => d.parameters.length) = some (mpar 110) by decide +kernel)) (iv1 (P := mparP) rfl (show (parseMethodDescriptor (mth 111).desc).map (fun d => d.parameters.length) = some (mpar 111) by decide +kernel))))) (ivj (m := 116) (ivj (m := 114) (ivj (m := 113) (iv1 (P := mparP) rfl (show (parseMethodDescriptor (mth 112).desc).map (fun d => d.parameters.length) = some (mpar 112) by decide +kernel)) (iv1 (P := mparP) rfl (show (parseMethodDescriptor (mth 113).desc).map (fun d => d.parameters.length) = some (mpar 113) by decide +kernel))) (ivj (m := 115) (iv1 (P := mparP) rfl (show (parseMethodDescriptor (mth 114).desc).map (fun d => d.parameters.length) = some (mpar 114) by decide +kernel)) (iv1 (P := mparP) rfl (show (parseMethodDescriptor (mth 115).desc).map (fun d => d.parameters.length) = some (mpar 115) by decide +kernel)))) (ivj (m := 118) (ivj (m := 117) (iv1 (P := mparP) rfl (show (parseMethodDescriptor (mth 116).desc).map (fun d => d.parameters.length) = some (mpar 116) by decide +kernel)) (iv1 (P := mparP) rfl (show (parseMethodDescriptor (mth 117).desc).map (fun d => d.parameters.length) = some (mpar 117) by decide +kernel))) (ivj (m := 119) (iv1 (P := mparP) rfl (show (parseMethodDescriptor (mth 118).desc).map (fun d => d.parameters.length) = some (mpar 118) by decide +kernel)) (iv1 (P := mparP) rfl (show (parseMethodDescriptor (mth 119).desc).map (fun d => d.parameters.length) = some (mpar 119) by decide +kernel)))))))
theorem mparT_120 : ∀ n, 120 ≤ n → n < 180 → mparP n := ivj (m := 150) (ivj (m := 135) (ivj (m := 127) (ivj (m := 123) (ivj (m := 121) (iv1 (P := mparP) rfl (show (parseMethodDescriptor (mth 120).desc).map (fun d => d.parameters.length) = some (mpar 120) by decide +kernel)) (ivj (m := 122) (iv1 (P := mparP) rfl (show (parseMethodDescriptor (mth 121).desc).map (fun d => d.parameters.length) = some (mpar 121) by decide +kernel)) (iv1 (P := mparP) rfl (show (parseMethodDescriptor (mth 122).desc).map (fun d => d.parameters.length) = some (mpar 122) by decide +kernel)))) (ivj (m := 125) (ivj (m := 124) (iv1 (P := mparP) rfl (show (parseMethodDescriptor (mth 123).desc).map (fun d => d.parameters.length) = some (mpar 123) by decide +kernel)) (iv1 (P := mparP) rfl (show (parseMethodDescriptor (mth 124).desc).map (fun d => d.parameters.length) = some (mpar 124) by decide +kernel))) (ivj (m := 126) (iv1 (P := mparP) rfl (show (parseMethodDescriptor (mth 125).desc).map (fun d => d.parameters.length) = some (mpar 125) by decide +kernel)) (iv1 (P := mparP) rfl (show (parseMethodDescriptor (mth 126).desc).map (fun d => d.parameters.length) = some (mpar 126) by decide +kernel))))) (ivj (m := 131) (ivj (m := 129) (ivj (m := 128) (iv1 (P := mparP) rfl (show (parseMethodDescriptor (mth 127).desc).map (fun d => d.parameters.length) = some (mpar 127) by decide +kernel)) (iv1 (P := mparP) rfl (show (parseMethodDescriptor (mth 128).desc).map (fun d => d.parameters.length) = some (mpar 128) by decide +kernel))) (ivj (m := 130) (iv1 (P := mparP) rfl (show (parseMethodDescriptor (mth 129).desc).map (fun d => d.parameters.length) = some (mpar 129) by decide +kernel)) (iv1 (P := mparP) rfl (show (parseMethodDescriptor (mth 130).desc).map (fun d => d.parameters.length) = some (mpar 130) by decide +kernel)))) (ivj (m := 133) (ivj (m := 132) (iv1 (P := mparP) rfl (show (parseMethodDescriptor (mth 131).desc).map (fun d => d.parameters.length) = some (mpar 131) by decide +kernel)) (iv1 (P := mparP) rfl (show (parseMethodDescriptor (mth 132).desc).map (fun d => d.parameters.length) = some (mpar 132) by decide +kernel))) (ivj (m := 134) (iv1 (P := mparP) rfl (show (parseMethodDescriptor (mth 133).desc).map (fun d => d.parameters.length) = some (mpar 133) by decide +kernel)) (iv1 (P := mparP) rfl (show (parseMethodDescriptor (mth 134).desc).map (fun d => d.parameters.length) = some (mpar 134) by decide +kernel)))))) (ivj (m := 142) (ivj (m := 138) (ivj (m := 136) (iv1 (P := mparP) rfl (show (parseMethodDescriptor (mth 135).desc).map (fun d => d.parameters.length) = some (mpar 135) by decide +kernel)) (ivj (m := 137) (iv1 (P := mparP) rfl (show (parseMethodDescriptor (mth 136).desc).map (fun d => d.parameters.length) = some (mpar 136) by decide +kernel)) (iv1 (P := mparP) rfl (show (parseMethodDescriptor (mth 137).desc).map (fun d => d.parameters.length) = some (mpar 137) by decide +kernel)))) (ivj (m := 140) (ivj (m := 139) (iv1 (P := mparP) rfl (show (parseMethodDescriptor (mth 138).desc).map (fun d => d.parameters.length) = some (mpar 138) by decide +kernel)) (iv1 (P := mparP) rfl (show (parseMethodDescriptor (mth 139).desc).map (fun d => d.parameters.length) = some (mpar 139) by decide +kernel))) (ivj (m := 141) (iv1 (P := mparP) rfl (show (parseMethodDescriptor (mth 140).desc).map (fun d => d.parameters.length) = some (mpar 140) by decide +kernel)) (iv1 (P := mparP) rfl (show (parseMethodDescriptor (mth 141).desc).map (fun d => d.parameters.length) = some (mpar 141) by decide +kernel))))) (ivj (m := 146) (ivj (m := 144) (ivj (m := 143) (iv1 (P := mparP) rfl (show (parseMethodDescriptor (mth 142).desc).map (fun d => d.parameters.length) = some (mpar 142) by decide +kernel)) (iv1 (P := mparP) rfl (show (parseMethodDescriptor (mth 143).desc).map (fun d => d.parameters.length) = some (mpar 143) by decide +kernel))) (ivj (m := 145) (iv1 (P := mparP) rfl (show (parseMethodDescriptor (mth 144).desc).map (fun d => d.parameters.length) = some (mpar 144) by decide +kernel)) (iv1 (P := mparP) rfl (show (parseMethodDescriptor (mth 145).desc).map (fun d => d.parameters.length) = some (mpar 145) by decide +kernel)))) (ivj (m := 148) (ivj (m := 147) (iv1 (P := mparP) rfl (show (parseMethodDescriptor (mth 146).desc).map (fun d => d.parameters.length) = some (mpar 146) by decide +kernel)) (iv1 (P := mparP) rfl (show (parseMethodDescriptor (mth 147).desc).map (fun d => d.parameters.length) = some (mpar 147) by decide +kernel))) (ivj (m := 149) (iv1 (P := mparP) rfl (show (parseMethodDescriptor (mth 148).desc).map (fun d => d.parameters.length) = some (mpar 148) by decide +kernel)) (iv1 (P := mparP) rfl (show (parseMethodDescriptor (mth 149).desc).map (fun d => d.parameters.length) = some (mpar 149) by decide +kernel))))))) (ivj (m := 165) (ivj (m := 157) (ivj (m := 153) (ivj (m := 151) (iv1 (P := mparP) rfl (show (parseMethodDescriptor (mth 150).desc).map (fun d => d.parameters.length) = some (mpar 150) by decide +kernel)) (ivj (m := 152) (iv1 (P := mparP) rfl (show (parseMethodDescriptor (mth 151).desc).map (fun d => d.parameters.length) = some (mpar 151) by decide +kernel)) (iv1 (P := mparP) rfl (show (parseMethodDescriptor (mth 152).desc).map (fun d => d.parameters.length) = some (mpar 152) by decide +kernel)))) (ivj (m := 155) (ivj (m := 154) (iv1 (P := mparP) rfl (show (parseMethodDescriptor (mth 153).desc).map (fun d => d.parameters.length) = some (mpar 153) by decide +kernel)) (iv1 (P := mparP) rfl (show (parseMethodDescriptor (mth 154).desc).map (fun d => d.parameters.length) = some (mpar 154) by decide +kernel))) (ivj (m := 156) (iv1 (P := mparP) rfl (show (parseMethodDescriptor (mth 155).desc).map (fun d => d.parameters.length) = some (mpar 155) by decide +kernel)) (iv1 (P := mparP) rfl (show (parseMethodDescriptor (mth 156).desc).map (fun d => d.parameters.length) = some (mpar 156) by decide +kernel))))) (ivj (m := 161) (ivj (m := 159) (ivj (m := 158) (iv1 (P := mparP) rfl (show (parseMethodDescriptor (mth 157).desc).map (fun d => d.parameters.length) = some (mpar 157) by decide +kernel)) (iv1 (P := mparP) rfl (show (parseMethodDescriptor (mth 158).desc).map (fun d => d.parameters.length) = some (mpar 158) by decide +kernel))) (ivj (m := 160) (iv1 (P := mparP) rfl (show (parseMethodDescriptor (mth 159).desc).map (fun d => d.parameters.length) = some (mpar 159) by decide +kernel)) (iv1 (P := mparP) rfl (show (parseMethodDescriptor (mth 160).desc).map (fun d => d.parameters.length) = some (mpar 160) by decide +kernel)))) (ivj (m := 163) (ivj (m := 162) (iv1 (P := mparP) rfl (show (parseMethodDescriptor (mth 161).desc).map (fun d => d.parameters.length) = some (mpar 161) by decide +kernel)) (iv1 (P := mparP) rfl (show (parseMethodDescriptor (mth 162).desc).map (fun d => d.parameters.length) = some (mpar 162) by decide +kernel))) (ivj (m := 164) (iv1 (P := mparP) rfl (show (parseMethodDescriptor (mth 163).desc).map (fun d => d.parameters.length) = some (mpar 163) by decide +kernel)) (iv1 (P := mparP) rfl (show (parseMethodDescriptor (mth 164).desc).map (fun d => d.parameters.length) = some (mpar 164) by decide +kernel)))))) (ivj (m := 172) (ivj (m := 168) (ivj (m := 166) (iv1 (P := mparP) rfl (show (parseMethodDescriptor (mth 165).desc).map (fun d => d.parameters.length) = some (mpar 165) by decide +kernel)) (ivj (m := 167) (iv1 (P := mparP) rfl (show (parseMethodDescriptor (mth 166).desc).map (fun d => d.parameters.length) = some (mpar 166) by decide +kernel)) (iv1 (P := mparP) rfl (show (parseMethodDescriptor (mth 167).desc).map (fun d => d.parameters.length) = some (mpar 167) by decide +kernel)))) (ivj (m := 170) (ivj (m := 169) (iv1 (P := mparP) rfl (show (parseMethodDescriptor (mth 168).desc).map (fun d => d.parameters.length) = some (mpar 168) by decide +kernel)) (iv1 (P := mparP) rfl (show (parseMethodDescriptor (mth 169).desc).map (fun d => d.parameters.length) = some (mpar 169) by decide +kernel))) (ivj (m := 171) (iv1 (P := mparP) rfl (show (parseMethodDescriptor (mth 170).desc).map (fun d => d.parameters.length) = some (mpar 170) by decide +kernel)) (iv1 (P := mparP) rfl (show (parseMethodDescriptor (mth 171).desc).map (fun d => d.parameters.length) = some (mpar 171) by decide +kernel))))) (ivj (m := 176) (ivj (m := 174) (ivj (m := 173) (iv1 (P := mparP) rfl (show (parseMethodDescriptor (mth 172).desc).map (fun d => d.parameters.length) = some (mpar 172) by decide +kernel)) (iv1 (P := mparP) rfl (show (parseMethodDescriptor (mth 173).desc).map (fun d => d.parameters.length) = some (mpar 173) by decide +kernel))) (ivj (m := 175) (iv1 (P := mparP) rfl (show (parseMethodDescriptor (mth 174).desc).map (fun d => d.parameters.length) = some (mpar 174) by decide +kernel)) (iv1 (P := mparP) rfl (show (parseMethodDescriptor (mth 175).desc).map (fun d => d.parameters.length) = some (mpar 175) by decide +kernel)))) (ivj (m := 178) (ivj (m := 177) (iv1 (P := mparP) rfl (show (parseMethodDescriptor (mth 176).desc).map (fun d => d.parameters.length) = some (mpar 176) by decide +kernel)) (iv1 (P := mparP) rfl (show (parseMethodDescriptor (mth 177).desc).map (fun d => d.parameters.length) = some (mpar 177) by decide +kernel))) (ivj (m := 179) (iv1 (P := mparP) rfl (show (parseMethodDescriptor (mth 178).desc).map (fun d => d.parameters.length) = some (mpar 178) by decide +kernel)) (iv1 (P := mparP) rfl (show (parseMethodDescriptor (mth 179).desc).map (fun d => d.parameters.length) = some (mpar 179) by decide +kernel)))))))
theorem mparT_180 : ∀ n, 180 ≤ n → n < 240 → mparP n := ivj (m := 210) (ivj (m := 195) (ivj (m := 187) (ivj (m := 183) (ivj (m := 181) (iv1 (P := mparP) rfl (show (parseMethodDescriptor (mth 180).desc).map (fun d => d.parameters.length) = some (mpar 180) by decide +kernel)) (ivj (m := 182) (iv1 (P := mparP) rfl (show (parseMethodDescriptor (mth 181).desc).map (fun d => d.parameters.length) = some (mpar 181) by decide +kernel)) (iv1 (P := mparP) rfl (show (parseMethodDescriptor (mth 182).desc).map (fun d => d.parameters.length) = some (mpar 182) by decide +kernel)))) (ivj (m := 185) (ivj (m := 184) (iv1 (P := mparP) rfl (show (parseMethodDescriptor (mth 183).desc).map (fun d => d.parameters.length) = some (mpar 183) by decide +kernel)) (iv1 (P := mparP) rfl (show (parseMethodDescriptor (mth 184).desc).map (fun d => d.parameters.length) = some (mpar 184) by decide +kernel))) (ivj (m := 186) (iv1 (P := mparP) rfl (show (parseMethodDescriptor (mth 185).desc).map (fun d => d.parameters.length) = some (mpar 185) by decide +kernel)) (iv1 (P := mparP) rfl (show (parseMethodDescriptor (mth 186).desc).map (fun d => d.parameters.length) = some (mpar 186) by decide +kernel))))) (ivj (m := 191) (ivj (m := 189) (ivj (m := 188) (iv1 (P := mparP) rfl (show (parseMethodDescriptor (mth 187).desc).map (fun d => d.parameters.length) = some (mpar 187) by decide +kernel)) (iv1 (P := mparP) rfl (show (parseMethodDescriptor (mth 188).desc).map (fun d => d.parameters.length) = some (mpar 188) by decide +kernel))) (ivj (m := 190) (iv1 (P := mparP) rfl (show (parseMethodDescriptor (mth 189).desc).map (fun d => d.parameters.length) = some (mpar 189) by decide +kernel)) (iv1 (P := mparP) rfl (show (parseMethodDescriptor (mth 190).desc).map (fun d => d.parameters.length) = some (mpar 190) by decide +kernel)))) (ivj (m := 193) (ivj (m := 192) (iv1 (P := mparP) rfl (show (parseMethodDescriptor (mth 191).desc).map (fun d => d.parameters.length) = some (mpar 191) by decide +kernel)) (iv1 (P := mparP) rfl (show (parseMethodDescriptor (mth 192).desc).map (fun d => d.parameters.length) = some (mpar 192) by decide +kernel))) (ivj (m := 194) (iv1 (P := mparP) rfl (show (parseMethodDescriptor (mth 193).desc).map (fun d => d.parameters.length) = some (mpar 193) by decide +kernel)) (iv1 (P := mparP) rfl (show (parseMethodDescriptor (mth 194).desc).map (fun d => d.parameters.length) = some (mpar 194) by decide +kernel)))))) (ivj (m := 202) (ivj (m := 198) (ivj (m := 196) (iv1 (P := mparP) rfl (show (parseMethodDescriptor (mth 195).desc).map (fun d => d.parameters.length) = some (mpar 195) by decide +kernel)) (ivj (m := 197) (iv1 (P := mparP) rfl (show (parseMethodDescriptor (mth 196).desc).map (fun d => d.parameters.length) = some (mpar 196) by decide +kernel)) (iv1 (P := mparP) rfl (show (parseMethodDescriptor (mth 197).desc).map (fun d => d.parameters.length) = some (mpar 197) by decide +kernel)))) (ivj (m := 200) (ivj (m := 199) (iv1 (P := mparP) rfl (show (parseMethodDescriptor (mth 198).desc).map (fun d => d.parameters.length) = some (mpar 198) by decide +kernel)) (iv1 (P := mparP) rfl (show (parseMethodDescriptor (mth 199).desc).map (fun d => d.parameters.length) = some (mpar 199) by decide +kernel))) (ivj (m := 201) (iv1 (P := mparP) rfl (show (parseMethodDescriptor (mth 200).desc).map (fun d => d.parameters.length) = some (mpar 200) by decide +kernel)) (iv1 (P := mparP) rfl (show (parseMethodDescriptor (mth 201).desc).map (fun d => d.parameters.length) = some (mpar 201) by decide +kernel))))) (ivj (m := 206) (ivj (m := 204) (ivj (m := 203) (iv1 (P := mparP) rfl (show (parseMethodDescriptor (mth 202).desc).map (fun d => d.parameters.length) = some (mpar 202) by decide +kernel)) (iv1 (P := mparP) rfl (show (parseMethodDescriptor (mth 203).desc).map (fun d => d.parameters.length) = some (mpar 203) by decide +kernel))) (ivj (m := 205) (iv1 (P := mparP) rfl (show (parseMethodDescriptor (mth 204).desc).map (fun d => d.parameters.length) = some (mpar 204) by decide +kernel)) (iv1 (P := mparP) rfl (show (parseMethodDescriptor (mth 205).desc).map (fun d => d.parameters.length) = some (mpar 205) by decide +kernel)))) (ivj (m := 208) (ivj (m := 207) (iv1 (P := mparP) rfl (show (parseMethodDescriptor (mth 206).desc).map (fun d => d.parameters.length) = some (mpar 206) by decide +kernel)) (iv1 (P := mparP) rfl (show (parseMethodDescriptor (mth 207).desc).map (fun d => d.parameters.length) = some (mpar 207) by decide +kernel))) (ivj (m := 209) (iv1 (P := mparP) rfl (show (parseMethodDescriptor (mth 208).desc).map (fun d => d.parameters.length) = some (mpar 208) by decide +kernel)) (iv1 (P := mparP) rfl (show (parseMethodDescriptor (mth 209).desc).map (fun d => d.parameters.length) = some (mpar 209) by decide +kernel))))))) (ivj (m := 225) (ivj (m := 217) (ivj (m := 213) (ivj (m := 211) (iv1 (P := mparP) rfl (show (parseMethodDescriptor (mth 210).desc).map (fun d => d.parameters.length) = some (mpar 210) by decide +kernel)) (ivj (m := 212) (iv1 (P := mparP) rfl (show (parseMethodDescriptor (mth 211).desc).map (fun d => d.parameters.length) = some (mpar 211) by decide +kernel)) (iv1 (P := mparP) rfl (show (parseMethodDescriptor (mth 212).desc).map (fun d => d.parameters.length) = some (mpar 212) by decide +kernel)))) (ivj (m := 215) (ivj (m := 214) (iv1 (P := mparP) rfl (show (parseMethodDescriptor (mth 213).desc).map (fun d => d.parameters.length) = some (mpar 213) by decide +kernel)) (iv1 (P := mparP) rfl (show (parseMethodDescriptor (mth 214).desc).map (fun d => d.parameters.length) = some (mpar 214) by decide +kernel))) (ivj (m := 216) (iv1 (P := mparP) rfl (show (parseMethodDescriptor (mth 215).desc).map (fun d => d.parameters.length) = some (mpar 215) by decide +kernel)) (iv1 (P := mparP) rfl (show (parseMethodDescriptor (mth 216).desc).map (fun d => d.parameters.length) = some (mpar 216) by decide +kernel))))) (ivj (m := 221) (ivj (m := 219) (ivj (m := 218) (iv1 (P := mparP) rfl (show (parseMethodDescriptor (mth 217).desc).map (fun d => d.parameters.length) = some (mpar 217) by decide +kernel)) (iv1 (P := mparP) rfl (show (parseMethodDescriptor (mth 218).desc).map (fun d => d.parameters.length) = some (mpar 218) by decide +kernel))) (ivj (m := 220) (iv1 (P := mparP) rfl (show (parseMethodDescriptor (mth 219).desc).map (fun d => d.parameters.length) = some (mpar 219) by decide +kernel)) (iv1 (P := mparP) rfl (show (parseMethodDescriptor (mth 220).desc).map (fun d => d.parameters.length) = some (mpar 220) by decide +kernel)))) (ivj (m := 223) (ivj (m := 222) (iv1 (P := mparP) rfl (show (parseMethodDescriptor (mth 221).desc).map (fun d => d.parameters.length) = some (mpar 221) by decide +kernel)) (iv1 (P := mparP) rfl (show (parseMethodDescriptor (mth 222).desc).map (fun d => d.parameters.length) = some (mpar 222) by decide +kernel))) (ivj (m := 224) (iv1 (P := mparP) rfl (show (parseMethodDescriptor (mth 223).desc).map (fun d => d.parameters.length) = some (mpar 223) by decide +kernel)) (iv1 (P := mparP) rfl (show (parseMethodDescriptor (mth 224).desc).map (fun d => d.parameters.length) = some (mpar 224) by decide +kernel)))))) (ivj (m := 232) (ivj (m := 228) (ivj (m := 226) (iv1 (P := mparP) rfl (show (parseMethodDescriptor (mth 225).desc).map (fun d => d.parameters.length) = some (mpar 225) by decide +kernel)) (ivj (m := 227) (iv1 (P := mparP) rfl (show (parseMethodDescriptor (mth 226).desc).map (fun d => d.parameters.length) = some (mpar 226) by decide +kernel)) (iv1 (P := mparP) rfl (show (parseMethodDescriptor (mth 227).desc).map (fun d => d.parameters.length) = some (mpar 227) by decide +kernel)))) (ivj (m := 230) (ivj (m := 229) (iv1 (P := mparP) rfl (show (parseMethodDescriptor (mth 228).desc).map (fun d => d.parameters.length) = some (mpar 228) by decide +kernel)) (iv1 (P := mparP) rfl (show (parseMethodDescriptor (mth 229).desc).map (fun d => d.parameters.length) = some (mpar 229) by decide +kernel))) (ivj (m := 231) (iv1 (P := mparP) rfl (show (parseMethodDescriptor (mth 230).desc).map (fun d => d.parameters.length) = some (mpar 230) by decide +kernel)) (iv1 (P := mparP) rfl (show (parseMethodDescriptor (mth 231).desc).map (fun d => d.parameters.length) = some (mpar 231) by decide +kernel))))) (ivj (m := 236) (ivj (m := 234) (ivj (m := 233) (iv1 (P := mparP) rfl (show (parseMethodDescriptor (mth 232).desc).map (fun d => d.parameters.length) = some (mpar 232) by decide +kernel)) (iv1 (P := mparP) rfl (show (parseMethodDescriptor (mth 233).desc).map (fun d => d.parameters.length) = some (mpar 233) by decide +kernel))) (ivj (m := 235) (iv1 (P := mparP) rfl (show (parseMethodDescriptor (mth 234).desc).map (fun d => d.parameters.length) = some (mpar 234) by decide +kernel)) (iv1 (P := mparP) rfl (show (parseMethodDescriptor (mth 235).desc).map (fun d => d.parameters.length) = some (mpar 235) by decide +kernel)))) (ivj (m := 238) (ivj (m := 237) (iv1 (P := mparP) rfl (show (parseMethodDescriptor (mth 236).desc).map (fun d => d.parameters.length) = some (mpar 236) by decide +kernel)) (iv1 (P := mparP) rfl (show (parseMethodDescriptor (mth 237).desc).map (fun d => d.parameters.length) = some (mpar 237) by decide +kernel))) (ivj (m := 239) (iv1 (P := mparP) rfl (show (parseMethodDescriptor (mth 238).desc).map (fun d => d.parameters.length) = some (mpar 238) by decide +kernel)) (iv1 (P := mparP) rfl (show (parseMethodDescriptor (mth 239).desc).map (fun d => d.parameters.length) = some (mpar 239) by decide +kernel)))))))
theorem mparT_240 : ∀ n, 240 ≤ n → n < 300 → mparP n := ivj (m := 270) (ivj (m := 255) (ivj (m := 247) (ivj (m := 243) (ivj (m := 241) (iv1 (P := mparP) rfl (show (parseMethodDescriptor (mth 240).desc).map (fun d => d.parameters.length) = some (mpar 240) by decide +kernel)) (ivj (m := 242) (iv1 (P := mparP) rfl (show (parseMethodDescriptor (mth 241).desc).map (fun d => d.parameters.length) = some (mpar 241) by decide +kernel)) (iv1 (P := mparP) rfl (show (parseMethodDescriptor (mth 242).desc).map (fun d => d.parameters.length) = some (mpar 242) by decide +kernel)))) (ivj (m := 245) (ivj (m := 244) (iv1 (P := mparP) rfl (show (parseMethodDescriptor (mth 243).desc).map (fun d => d.parameters.length) = some (mpar 243) by decide +kernel)) (iv1 (P := mparP) rfl (show (parseMethodDescriptor (mth 244).desc).map (fun d => d.parameters.length) = some (mpar 244) by decide +kernel))) (ivj (m := 246) (iv1 (P := mparP) rfl (show (parseMethodDescriptor (mth 245).desc).map (fun d => d.parameters.length) = some (mpar 245) by decide +kernel)) (iv1 (P := mparP) rfl (show (parseMethodDescriptor (mth 246).desc).map (fun d => d.parameters.length) = some (mpar 246) by decide +kernel))))) (ivj (m := 251) (ivj (m := 249) (ivj (m := 248) (iv1 (P := mparP) rfl (show (parseMethodDescriptor (mth 247).desc).map (fun d => d.parameters.length) = some (mpar 247) by decide +kernel)) (iv1 (P := mparP) rfl (show (parseMethodDescriptor (mth 248).desc).map (fun d => d.parameters.length) = some (mpar 248) by decide +kernel))) (ivj (m := 250) (iv1 (P := mparP) rfl (show (parseMethodDescriptor (mth 249).desc).map (fun d => d.parameters.length) = some (mpar 249) by decide +kernel)) (iv1 (P := mparP) rfl (show (parseMethodDescriptor (mth 250).desc).map (fun d => d.parameters.length) = some (mpar 250) by decide +kernel)))) (ivj (m := 253) (ivj (m := 252) (iv1 (P := mparP) rfl (show (parseMethodDescriptor (mth 251).desc).map (fun d => d.parameters.length) = some (mpar 251) by decide +kernel)) (iv1 (P := mparP) rfl (show (parseMethodDescriptor (mth 252).desc).map (fun d => d.parameters.length) = some (mpar 252) by decide +kernel))) (ivj (m := 254) (iv1 (P := mparP) rfl (show (parseMethodDescriptor (mth 253).desc).map (fun d => d.parameters.length) = some (mpar 253) by decide +kernel)) (iv1 (P := mparP) rfl (show (parseMethodDescriptor (mth 254).desc).map (fun d => d.parameters.length) = some (mpar 254) by decide +kernel)))))) (ivj (m := 262) (ivj (m := 258) (ivj (m := 256) (iv1 (P := mparP) rfl (show (parseMethodDescriptor (mth 255).desc).map (fun d => d.parameters.length) = some (mpar 255) by decide +kernel)) (ivj (m := 257) (iv1 (P := mparP) rfl (show (parseMethodDescriptor (mth 256).desc).map (fun d => d.parameters.length) = some (mpar 256) by decide +kernel)) (iv1 (P := mparP) rfl (show (parseMethodDescriptor (mth 257).desc).map (fun d => d.parameters.length) = some (mpar 257) by decide +kernel)))) (ivj (m := 260) (ivj (m := 259) (iv1 (P := mparP) rfl (show (parseMethodDescriptor (mth 258).desc).map (fun d => d.parameters.length) = some (mpar 258) by decide +kernel)) (iv1 (P := mparP) rfl (show (parseMethodDescriptor (mth 259).desc).map (fun d => d.parameters.length) = some (mpar 259) by decide +kernel))) (ivj (m := 261) (iv1 (P := mparP) rfl (show (parseMethodDescriptor (mth 260).desc).map (fun d => d.parameters.length) = some (mpar 260) by decide +kernel)) (iv1 (P := mparP) rfl (show (parseMethodDescriptor (mth 261).desc).map (fun d => d.parameters.length) = some (mpar 261) by decide +kernel))))) (ivj (m := 266) (ivj (m := 264) (ivj (m := 263) (iv1 (P := mparP) rfl (show (parseMethodDescriptor (mth 262).desc).map (fun d => d.parameters.length) = some (mpar 262) by decide +kernel)) (iv1 (P := mparP) rfl (show (parseMethodDescriptor (mth 263).desc).map (fun d => d.parameters.length) = some (mpar 263) by decide +kernel))) (ivj (m := 265) (iv1 (P := mparP) rfl (show (parseMethodDescriptor (mth 264).desc).map (fun d => d.parameters.length) = some (mpar 264) by decide +kernel)) (iv1 (P := mparP) rfl (show (parseMethodDescriptor (mth 265).desc).map (fun d => d.parameters.length) = some (mpar 265) by decide +kernel)))) (ivj (m := 268) (ivj (m := 267) (iv1 (P := mparP) rfl (show (parseMethodDescriptor (mth 266).desc).map (fun d => d.parameters.length) = some (mpar 266) by decide +kernel)) (iv1 (P := mparP) rfl (show (parseMethodDescriptor (mth 267).desc).map (fun d => d.parameters.length) = some (mpar 267) by decide +kernel))) (ivj (m := 269) (iv1 (P := mparP) rfl (show (parseMethodDescriptor (mth 268).desc).map (fun d => d.parameters.length) = some (mpar 268) by decide +kernel)) (iv1 (P := mparP) rfl (show (parseMethodDescriptor (mth 269).desc).map (fun d => d.parameters.length) = some (mpar 269) by decide +kernel))))))) (ivj (m := 285) (ivj (m := 277) (ivj (m := 273) (ivj (m := 271) (iv1 (P := mparP) rfl (show (parseMethodDescriptor (mth 270).desc).map (fun d => d.parameters.length) = some (mpar 270) by decide +kernel)) (ivj (m := 272) (iv1 (P := mparP) rfl (show (parseMethodDescriptor (mth 271).desc).map (fun d => d.parameters.length) = some (mpar 271) by decide +kernel)) (iv1 (P := mparP) rfl (show (parseMethodDescriptor (mth 272).desc).map (fun d => d.parameters.length) = some (mpar 272) by decide +kernel)))) (ivj (m := 275) (ivj (m := 274) (iv1 (P := mparP) rfl (show (parseMethodDescriptor (mth 273).desc).map (fun d => d.parameters.length) = some (mpar 273) by decide +kernel)) (iv1 (P := mparP) rfl (show (parseMethodDescriptor (mth 274).desc).map (fun d => d.parameters.length) = some (mpar 274) by decide +kernel))) (ivj (m := 276) (iv1 (P := mparP) rfl (show (parseMethodDescriptor (mth 275).desc).map (fun d => d.parameters.length) = some (mpar 275) by decide +kernel)) (iv1 (P := mparP) rfl (show (parseMethodDescriptor (mth 276).desc).map (fun d => d.parameters.length) = some (mpar 276) by decide +kernel))))) (ivj (m := 281) (ivj (m := 279) (ivj (m := 278) (iv1 (P := mparP) rfl (show (parseMethodDescriptor (mth 277).desc).map (fun d => d.parameters.length) = some (mpar 277) by decide +kernel)) (iv1 (P := mparP) rfl (show (parseMethodDescriptor (mth 278).desc).map (fun d => d.parameters.length) = some (mpar 278) by decide +kernel))) (ivj (m := 280) (iv1 (P := mparP) rfl (show (parseMethodDescriptor (mth 279).desc).map (fun d => d.parameters.length) = some (mpar 279) by decide +kernel)) (iv1 (P := mparP) rfl (show (parseMethodDescriptor (mth 280).desc).map (fun d => d.parameters.length) = some (mpar 280) by decide +kernel)))) (ivj (m := 283) (ivj (m := 282) (iv1 (P := mparP) rfl (show (parseMethodDescriptor (mth 281).desc).map (fun d => d.parameters.length) = some (mpar 281) by decide +kernel)) (iv1 (P := mparP) rfl (show (parseMethodDescriptor (mth 282).desc).map (fun d => d.parameters.length) = some (mpar 282) by decide +kernel))) (ivj (m := 284) (iv1 (P := mparP) rfl (show (parseMethodDescriptor (mth 283).desc).map (fun d => d.parameters.length) = some (mpar 283) by decide +kernel)) (iv1 (P := mparP) rfl (show (parseMethodDescriptor (mth 284).desc).map (fun d => d.parameters.length) = some (mpar 284) by decide +kernel)))))) (ivj (m := 292) (ivj (m := 288) (ivj (m := 286) (iv1 (P := mparP) rfl (show (parseMethodDescriptor (mth 285).desc).map (fun d => d.parameters.length) = some (mpar 285) by decide +kernel)) (ivj (m := 287) (iv1 (P := mparP) rfl (show (parseMethodDescriptor (mth 286).desc).map (fun d => d.parameters.length) = some (mpar 286) by decide +kernel)) (iv1 (P := mparP) rfl (show (parseMethodDescriptor (mth 287).desc).map (fun d => d.parameters.length) = some (mpar 287) by decide +kernel)))) (ivj (m := 290) (ivj (m := 289) (iv1 (P := mparP) rfl (show (parseMethodDescriptor (mth 288).desc).map (fun d => d.parameters.length) = some (mpar 288) by decide +kernel)) (iv1 (P := mparP) rfl (show (parseMethodDescriptor (mth 289).desc).map (fun d => d.parameters.length) = some (mpar 289) by decide +kernel))) (ivj (m := 291) (iv1 (P := mparP) rfl (show (parseMethodDescriptor (mth 290).desc).map (fun d => d.parameters.length) = some (mpar 290) by decide +kernel)) (iv1 (P := mparP) rfl (show (parseMethodDescriptor (mth 291).desc).map (fun d => d.parameters.length) = some (mpar 291) by decide +kernel))))) (ivj (m := 296) (ivj (m := 294) (ivj (m := 293) (iv1 (P := mparP) rfl (show (parseMethodDescriptor (mth 292).desc).map (fun d => d.parameters.length) = some (mpar 292) by decide +kernel)) (iv1 (P := mparP) rfl (show (parseMethodDescriptor (mth 293).desc).map (fun d => d.parameters.length) = some (mpar 293) by decide +kernel))) (ivj (m := 295) (iv1 (P := mparP) rfl (show (parseMethodDescriptor (mth 294).desc).map (fun d => d.parameters.length) = some (mpar 294) by decide +kernel)) (iv1 (P := mparP) rfl (show (parseMethodDescriptor (mth 295).desc).map (fun d => d.parameters.length) = some (mpar 295) by decide +kernel)))) (ivj (m := 298) (ivj (m := 297) (iv1 (P := mparP) rfl (show (parseMethodDescriptor (mth 296).desc).map (fun d => d.parameters.length) = some (mpar 296) by decide +kernel)) (iv1 (P := mparP) rfl (show (parseMethodDescriptor (mth 297).desc).map (fun d => d.parameters.length) = some (mpar 297) by decide +kernel))) (ivj (m := 299) (iv1 (P := mparP) rfl (show (parseMethodDescriptor (mth 298).desc).map (fun d => d.parameters.length) = some (mpar 298) by decide +kernel)) (iv1 (P := mparP) rfl (show (parseMethodDescriptor (mth 299).desc).map (fun d => d.parameters.length) = some (mpar 299) by decide +kernel)))))))
theorem mparT_300 : ∀ n, 300 ≤ n → n < 360 → mparP n := ivj (m := 330) (ivj (m := 315) (ivj (m := 307) (ivj (m := 303) (ivj (m := 301) (iv1 (P := mparP) rfl (show (parseMethodDescriptor (mth 300).desc).map (fun d => d.parameters.length) = some (mpar 300) by decide +kernel)) (ivj (m := 302) (iv1 (P := mparP) rfl (show (parseMethodDescriptor (mth 301).desc).map (fun d => d.parameters.length) = some (mpar 301) by decide +kernel)) (iv1 (P := mparP) rfl (show (parseMethodDescriptor (mth 302).desc).map (fun d => d.parameters.length) = some (mpar 302) by decide +kernel)))) (ivj (m := 305) (ivj (m := 304) (iv1 (P := mparP) rfl (show (parseMethodDescriptor (mth 303).desc).map (fun d => d.parameters.length) = some (mpar 303) by decide +kernel)) (iv1 (P := mparP) rfl (show (parseMethodDescriptor (mth 304).desc).map (fun d => d.parameters.length) = some (mpar 304) by decide +kernel))) (ivj (m := 306) (iv1 (P := mparP) rfl (show (parseMethodDescriptor (mth 305).desc).map (fun d => d.parameters.length) = some (mpar 305) by decide +kernel)) (iv1 (P := mparP) rfl (show (parseMethodDescriptor (mth 306).desc).map (fun d => d.parameters.length) = some (mpar 306) by decide +kernel))))) (ivj (m := 311) (ivj (m := 309) (ivj (m := 308) (iv1 (P := mparP) rfl (show (parseMethodDescriptor (mth 307).desc).map (fun d => d.parameters.length) = some (mpar 307) by decide +kernel)) (iv1 (P := mparP) rfl (show (parseMethodDescriptor (mth 308).desc).map (fun d => d.parameters.length) = some (mpar 308) by decide +kernel))) (ivj (m := 310) (iv1 (P := mparP) rfl (show (parseMethodDescriptor (mth 309).desc).map (fun d => d.parameters.length) = some (mpar 309) by decide +kernel)) (iv1 (P := mparP) rfl (show (parseMethodDescriptor (mth 310).desc).map (fun d => d.parameters.length) = some (mpar 310) by decide +kernel)))) (ivj (m := 313) (ivj (m := 312) (iv1 (P := mparP) rfl (show (parseMethodDescriptor (mth 311).desc).map (fun d => d.parameters.length) = some (mpar 311) by decide +kernel)) (iv1 (P := mparP) rfl (show (parseMethodDescriptor (mth 312).desc).map (fun d => d.parameters.length) = some (mpar 312) by decide +kernel))) (ivj (m := 314) (iv1 (P := mparP) rfl (show (parseMethodDescriptor (mth 313).desc).map (fun d => d.parameters.length) = some (mpar 313) by decide +kernel)) (iv1 (P := mparP) rfl (show (parseMethodDescriptor (mth 314).desc).map (fun d => d.parameters.length) = some (mpar 314) by decide +kernel)))))) (ivj (m := 322) (ivj (m := 318) (ivj (m := 316) (iv1 (P := mparP) rfl (show (parseMethodDescriptor (mth 315).desc).map (fun d => d.parameters.length) = some (mpar 315) by decide +kernel)) (ivj (m := 317) (iv1 (P := mparP) rfl (show (parseMethodDescriptor (mth 316).desc).map (fun d => d.parameters.length) = some (mpar 316) by decide +kernel)) (iv1 (P := mparP) rfl (show (parseMethodDescriptor (mth 317).desc).map (fun d => d.parameters.length) = some (mpar 317) by decide +kernel)))) (ivj (m := 320) (ivj (m := 319) (iv1 (P := mparP) rfl (show (parseMethodDescriptor (mth 318).desc).map (fun d => d.parameters.length) = some (mpar 318) by decide +kernel)) (iv1 (P := mparP) rfl (show (parseMethodDescriptor (mth 319).desc).map (fun d => d.parameters.length) = some (mpar 319) by decide +kernel))) (ivj (m := 321) (iv1 (P := mparP) rfl (show (parseMethodDescriptor (mth 320).desc).map (fun d => d.parameters.length) = some (mpar 320) by decide +kernel)) (iv1 (P := mparP) rfl (show (parseMethodDescriptor (mth 321).desc).map (fun d => d.parameters.length) = some (mpar 321) by decide +kernel))))) (ivj (m := 326) (ivj (m := 324) (ivj (m := 323) (iv1 (P := mparP) rfl (show (parseMethodDescriptor (mth 322).desc).map (fun d => d.parameters.length) = some (mpar 322) by decide +kernel)) (iv1 (P := mparP) rfl (show (parseMethodDescriptor (mth 323).desc).map (fun d => d.parameters.length) = some (mpar 323) by decide +kernel))) (ivj (m := 325) (iv1 (P := mparP) rfl (show (parseMethodDescriptor (mth 324).desc).map (fun d => d.parameters.length) = some (mpar 324) by decide +kernel)) (iv1 (P := mparP) rfl (show (parseMethodDescriptor (mth 325).desc).map (fun d => d.parameters.length) = some (mpar 325) by decide +kernel)))) (ivj (m := 328) (ivj (m := 327) (iv1 (P := mparP) rfl (show (parseMethodDescriptor (mth 326).desc).map (fun d => d.parameters.length) = some (mpar 326) by decide +kernel)) (iv1 (P := mparP) rfl (show (parseMethodDescriptor (mth 327).desc).map (fun d => d.parameters.length) = some (mpar 327) by decide +kernel))) (ivj (m := 329) (iv1 (P := mparP) rfl (show (parseMethodDescriptor (mth 328).desc).map (fun d => d.parameters.length) = some (mpar 328) by decide +kernel)) (iv1 (P := mparP) rfl (show (parseMethodDescriptor (mth 329).desc).map (fun d => d.parameters.length) = some (mpar 329) by decide +kernel))))))) (ivj (m := 345) (ivj (m := 337) (ivj (m := 333) (ivj (m := 331) (iv1 (P := mparP) rfl (show (parseMethodDescriptor (mth 330).desc).map (fun d => d.parameters.length) = some (mpar 330) by decide +kernel)) (ivj (m := 332) (iv1 (P := mparP) rfl (show (parseMethodDescriptor (mth 331).desc).map (fun d => d.parameters.length) = some (mpar 331) by decide +kernel)) (iv1 (P := mparP) rfl (show (parseMethodDescriptor (mth 332).desc).map (fun d => d.parameters.length) = some (mpar 332) by decide +kernel)))) (ivj (m := 335) (ivj (m := 334) (iv1 (P := mparP) rfl (show (parseMethodDescriptor (mth 333).desc).map (fun d => d.parameters.length) = some (mpar 333) by decide +kernel)) (iv1 (P := mparP) rfl (show (parseMethodDescriptor (mth 334).desc).map (fun d => d.parameters.length) = some (mpar 334) by decide +kernel))) (ivj (m := 336) (iv1 (P := mparP) rfl (show (parseMethodDescriptor (mth 335).desc).map (fun d => d.parameters.length) = some (mpar 335) by decide +kernel)) (iv1 (P := mparP) rfl (show (parseMethodDescriptor (mth 336).desc).map (fun d => d.parameters.length) = some (mpar 336) by decide +kernel))))) (ivj (m := 341) (ivj (m := 339) (ivj (m := 338) (iv1 (P := mparP) rfl (show (parseMethodDescriptor (mth 337).desc).map (fun d => d.parameters.length) = some (mpar 337) by decide +kernel)) (iv1 (P := mparP) rfl (show (parseMethodDescriptor (mth 338).desc).map (fun d => d.parameters.length) = some (mpar 338) by decide +kernel))) (ivj (m := 340) (iv1 (P := mparP) rfl (show (parseMethodDescriptor (mth 339).desc).map (fun d => d.parameters.length) = some (mpar 339) by decide +kernel)) (iv1 (P := mparP) rfl (show (parseMethodDescriptor (mth 340).desc).map (fun d => d.parameters.length) = some (mpar 340) by decide +kernel)))) (ivj (m := 343) (ivj (m := 342) (iv1 (P := mparP) rfl (show (parseMethodDescriptor (mth 341).desc).map (fun d => d.parameters.length) = some (mpar 341) by decide +kernel)) (iv1 (P := mparP) rfl (show (parseMethodDescriptor (mth 342).desc).map (fun d => d.parameters.length) = some (mpar 342) by decide +kernel))) (ivj (m := 344) (iv1 (P := mparP) rfl (show (parseMethodDescriptor (mth 343).desc).map (fun d => d.parameters.length) = some (mpar 343) by decide +kernel)) (iv1 (P := mparP) rfl (show (parseMethodDescriptor (mth 344).desc).map (fun d => d.parameters.length) = some (mpar 344) by decide +kernel)))))) (ivj (m := 352) (ivj (m := 348) (ivj (m := 346) (iv1 (P := mparP) rfl (show (parseMethodDescriptor (mth 345).desc).map (fun d => d.parameters.length) = some (mpar 345) by decide +kernel)) (ivj (m := 347) (iv1 (P := mparP) rfl (show (parseMethodDescriptor (mth 346).desc).map (fun d => d.parameters.length) = some (mpar 346) by decide +kernel)) (iv1 (P := mparP) rfl (show (parseMethodDescriptor (mth 347).desc).map (fun d => d.parameters.length) = some (mpar 347) by decide +kernel)))) (ivj (m := 350) (ivj (m := 349) (iv1 (P := mparP) rfl (show (parseMethodDescriptor (mth 348).desc).map (fun d => d.parameters.length) = some (mpar 348) by decide +kernel)) (iv1 (P := mparP) rfl (show (parseMethodDescriptor (mth 349).desc).map (fun d => d.parameters.length) = some (mpar 349) by decide +kernel))) (ivj (m := 351) (iv1 (P := mparP) rfl (show (parseMethodDescriptor (mth 350).desc).map (fun d => d.parameters.length) = some (mpar 350) by decide +kernel)) (iv1 (P := mparP) rfl (show (parseMethodDescriptor (mth 351).desc).map (fun d => d.parameters.length) = some (mpar 351) by decide +kernel))))) (ivj (m := 356) (ivj (m := 354) (ivj (m := 353) (iv1 (P := mparP) rfl (show (parseMethodDescriptor (mth 352).desc).map (fun d => d.parameters.length) = some (mpar 352) by decide +kernel)) (iv1 (P := mparP) rfl (show (parseMethodDescriptor (mth 353).desc).map (fun d => d.parameters.length) = some (mpar 353) by decide +kernel))) (ivj (m := 355) (iv1 (P := mparP) rfl (show (parseMethodDescriptor (mth 354).desc).map (fun d => d.parameters.length) = some (mpar 354) by decide +kernel)) (iv1 (P := mparP) rfl (show (parseMethodDescriptor (mth 355).desc).map (fun d => d.parameters.length) = some (mpar 355) by decide +kernel)))) (ivj (m := 358) (ivj (m := 357) (iv1 (P := mparP) rfl (show (parseMethodDescriptor (mth 356).desc).map (fun d => d.parameters.length) = some (mpar 356) by decide +kernel)) (iv1 (P := mparP) rfl (show (parseMethodDescriptor (mth 357).desc).map (fun d => d.parameters.length) = some (mpar 357) by decide +kernel))) (ivj (m := 359) (iv1 (P := mparP) rfl (show (parseMethodDescriptor (mth 358).desc).map (fun d => d.parameters.length) = some (mpar 358) by decide +kernel)) (iv1 (P := mparP) rfl (show (parseMethodDescriptor (mth 359).desc).map (fun d => d.parameters.length) = some (mpar 359) by decide +kernel)))))))
theorem mparT_360 : ∀ n, 360 ≤ n → n < 420 → mparP n := ivj (m := 390) (ivj (m := 375) (ivj (m := 367) (ivj (m := 363) (ivj (m := 361) (iv1 (P := mparP) rfl (show (parseMethodDescriptor (mth 360).desc).map (fun d => d.parameters.length) = some (mpar 360) by decide +kernel)) (ivj (m := 362) (iv1 (P := mparP) rfl (show (parseMethodDescriptor (mth 361).desc).map (fun d => d.parameters.length) = some (mpar 361) by decide +kernel)) (iv1 (P := mparP) rfl (show (parseMethodDescriptor (mth 362).desc).map (fun d => d.parameters.length) = some (mpar 362) by decide +kernel)))) (ivj (m := 365) (ivj (m := 364) (iv1 (P := mparP) rfl (show (parseMethodDescriptor (mth 363).desc).map (fun d => d.parameters.length) = some (mpar 363) by decide +kernel)) (iv1 (P := mparP) rfl (show (parseMethodDescriptor (mth 364).desc).map (fun d => d.parameters.length) = some (mpar 364) by decide +kernel))) (ivj (m := 366) (iv1 (P := mparP) rfl (show (parseMethodDescriptor (mth 365).desc).map (fun d => d.parameters.length) = some (mpar 365) by decide +kernel)) (iv1 (P := mparP) rfl (show (parseMethodDescriptor (mth 366).desc).map (fun d => d.parameters.length) = some (mpar 366) by decide +kernel))))) (ivj (m := 371) (ivj (m := 369) (ivj (m := 368) (iv1 (P := mparP) rfl (show (parseMethodDescriptor (mth 367).desc).map (fun d => d.parameters.length) = some (mpar 367) by decide +kernel)) (iv1 (P := mparP) rfl (show (parseMethodDescriptor (mth 368).desc).map (fun d => d.parameters.length) = some (mpar 368) by decide +kernel))) (ivj (m := 370) (iv1 (P := mparP) rfl (show (parseMethodDescriptor (mth 369).desc).map (fun d => d.parameters.length) = some (mpar 369) by decide +kernel)) (iv1 (P := mparP) rfl (show (parseMethodDescriptor (mth 370).desc).map (fun d => d.parameters.length) = some (mpar 370) by decide +kernel)))) (ivj (m := 373) (ivj (m := 372) (iv1 (P := mparP) rfl (show (parseMethodDescriptor (mth 371).desc).map (fun d => d.parameters.length) = some (mpar 371) by decide +kernel)) (iv1 (P := mparP) rfl (show (parseMethodDescriptor (mth 372).desc).map (fun d => d.parameters.length) = some (mpar 372) by decide +kernel))) (ivj (m := 374) (iv1 (P := mparP) rfl (show (parseMethodDescriptor (mth 373).desc).map (fun d => d.parameters.length) = some (mpar 373) by decide +kernel)) (iv1 (P := mparP) rfl (show (parseMethodDescriptor (mth 374).desc).map (fun d => d.parameters.length) = some (mpar 374) by decide +kernel)))))) (ivj (m := 382) (ivj (m := 378) (ivj (m := 376) (iv1 (P := mparP) rfl (show (parseMethodDescriptor (mth 375).desc).map (fun d => d.parameters.length) = some (mpar 375) by decide +kernel)) (ivj (m := 377) (iv1 (P := mparP) rfl (show (parseMethodDescriptor (mth 376).desc).map (fun d => d.parameters.length) = some (mpar 376) by decide +kernel)) (iv1 (P := mparP) rfl (show (parseMethodDescriptor (mth 377).desc).map (fun d => d.parameters.length) = some (mpar 377) by decide +kernel)))) (ivj (m := 380) (ivj (m := 379) (iv1 (P := mparP) rfl (show (parseMethodDescriptor (mth 378).desc).map (fun d => d.parameters.length) = some (mpar 378) by decide +kernel)) (iv1 (P := mparP) rfl (show (parseMethodDescriptor (mth 379).desc).map (fun d => d.parameters.length) = some (mpar 379) by decide +kernel))) (ivj (m := 381) (iv1 (P := mparP) rfl (show (parseMethodDescriptor (mth 380).desc).map (fun d => d.parameters.length) = some (mpar 380) by decide +kernel)) (iv1 (P := mparP) rfl (show (parseMethodDescriptor (mth 381).desc).map (fun d => d.parameters.length) = some (mpar 381) by decide +kernel))))) (ivj (m := 386) (ivj (m := 384) (ivj (m := 383) (iv1 (P := mparP) rfl (show (parseMethodDescriptor (mth 382).desc).map (fun d => d.parameters.length) = some (mpar 382) by decide +kernel)) (iv1 (P := mparP) rfl (show (parseMethodDescriptor (mth 383).desc).map (fun d => d.parameters.length) = some (mpar 383) by decide +kernel))) (ivj (m := 385) (iv1 (P := mparP) rfl (show (parseMethodDescriptor (mth 384).desc).map (fun d => d.parameters.length) = some (mpar 384) by decide +kernel)) (iv1 (P := mparP) rfl (show (parseMethodDescriptor (mth 385).desc).map (fun d => d.parameters.length) = some (mpar 385) by decide +kernel)))) (ivj (m := 388) (ivj (m := 387) (iv1 (P := mparP) rfl (show (parseMethodDescriptor (mth 386).desc).map (fun d => d.parameters.length) = some (mpar 386) by decide +kernel)) (iv1 (P := mparP) rfl (show (parseMethodDescriptor (mth 387).desc).map (fun d => d.parameters.length) = some (mpar 387) by decide +kernel))) (ivj (m := 389) (iv1 (P := mparP) rfl (show (parseMethodDescriptor (mth 388).desc).map (fun d => d.parameters.length) = some (mpar 388) by decide +kernel)) (iv1 (P := mparP) rfl (show (parseMethodDescriptor (mth 389).desc).map (fun d => d.parameters.length) = some (mpar 389) by decide +kernel))))))) (ivj (m := 405) (ivj (m := 397) (ivj (m := 393) (ivj (m := 391) (iv1 (P := mparP) rfl (show (parseMethodDescriptor (mth 390).desc).map (fun d => d.parameters.length) = some (mpar 390) by decide +kernel)) (ivj (m := 392) (iv1 (P := mparP) rfl (show (parseMethodDescriptor (mth 391).desc).map (fun d => d.parameters.length) = some (mpar 391) by decide +kernel)) (iv1 (P := mparP) rfl (show (parseMethodDescriptor (mth 392).desc).map (fun d => d.parameters.length) = some (mpar 392) by decide +kernel)))) (ivj (m := 395) (ivj (m := 394) (iv1 (P := mparP) rfl (show (parseMethodDescriptor (mth 393).desc).map (fun d => d.parameters.length) = some (mpar 393) by decide +kernel)) (iv1 (P := mparP) rfl (show (parseMethodDescriptor (mth 394).desc).map (fun d => d.parameters.length) = some (mpar 394) by decide +kernel))) (ivj (m := 396) (iv1 (P := mparP) rfl (show (parseMethodDescriptor (mth 395).desc).map (fun d => d.parameters.length) = some (mpar 395) by decide +kernel)) (iv1 (P := mparP) rfl (show (parseMethodDescriptor (mth 396).desc).map (fun d => d.parameters.length) = some (mpar 396) by decide +kernel))))) (ivj (m := 401) (ivj (m := 399) (ivj (m := 398) (iv1 (P := mparP) rfl (show (parseMethodDescriptor (mth 397).desc).map (fun d => d.parameters.length) = some (mpar 397) by decide +kernel)) (iv1 (P := mparP) rfl (show (parseMethodDescriptor (mth 398).desc).map (fun d => d.parameters.length) = some (mpar 398) by decide +kernel))) (ivj (m := 400) (iv1 (P := mparP) rfl (show (parseMethodDescriptor (mth 399).desc).map (fun d => d.parameters.length) = some (mpar 399) by decide +kernel)) (iv1 (P := mparP) rfl (show (parseMethodDescriptor (mth 400).desc).map (fun d => d.parameters.length) = some (mpar 400) by decide +kernel)))) (ivj (m := 403) (ivj (m := 402) (iv1 (P := mparP) rfl (show (parseMethodDescriptor (mth 401).desc).map (fun d => d.parameters.length) = some (mpar 401) by decide +kernel)) (iv1 (P := mparP) rfl (show (parseMethodDescriptor (mth 402).desc).map (fun d => d.parameters.length) = some (mpar 402) by decide +kernel))) (ivj (m := 404) (iv1 (P := mparP) rfl (show (parseMethodDescriptor (mth 403).desc).map (fun d => d.parameters.length) = some (mpar 403) by decide +kernel)) (iv1 (P := mparP) rfl (show (parseMethodDescriptor (mth 404).desc).map (fun d => d.parameters.length) = some (mpar 404) by decide +kernel)))))) (ivj (m := 412) (ivj (m := 408) (ivj (m := 406) (iv1 (P := mparP) rfl (show (parseMethodDescriptor (mth 405).desc).map (fun d => d.parameters.length) = some (mpar 405) by decide +kernel)) (ivj (m := 407) (iv1 (P := mparP) rfl (show (parseMethodDescriptor (mth 406).desc).map (fun d => d.parameters.length) = some (mpar 406) by decide +kernel)) (iv1 (P := mparP) rfl (show (parseMethodDescriptor (mth 407).desc).map (fun d => d.parameters.length) = some (mpar 407) by decide +kernel)))) (ivj (m := 410) (ivj (m := 409) (iv1 (P := mparP) rfl (show (parseMethodDescriptor (mth 408).desc).map (fun d => d.parameters.length) = some (mpar 408) by decide +kernel)) (iv1 (P := mparP) rfl (show (parseMethodDescriptor (mth 409).desc).map (fun d => d.parameters.length) = some (mpar 409) by decide +kernel))) (ivj (m := 411) (iv1 (P := mparP) rfl (show (parseMethodDescriptor (mth 410).desc).map (fun d => d.parameters.length) = some (mpar 410) by decide +kernel)) (iv1 (P := mparP) rfl (show (parseMethodDescriptor (mth 411).desc).map (fun d => d.parameters.length) = some (mpar 411) by decide +kernel))))) (ivj (m := 416) (ivj (m := 414) (ivj (m := 413) (iv1 (P := mparP) rfl (show (parseMethodDescriptor (mth 412).desc).map (fun d => d.parameters.length) = some (mpar 412) by decide +kernel)) (iv1 (P := mparP) rfl (show (parseMethodDescriptor (mth 413).desc).map (fun d => d.parameters.length) = some (mpar 413) by decide +kernel))) (ivj (m := 415) (iv1 (P := mparP) rfl (show (parseMethodDescriptor (mth 414).desc).map (fun d => d.parameters.length) = some (mpar 414) by decide +kernel)) (iv1 (P := mparP) rfl (show (parseMethodDescriptor (mth 415).desc).map (fun d => d.parameters.length) = some (mpar 415) by decide +kernel)))) (ivj (m := 418) (ivj (m := 417) (iv1 (P := mparP) rfl (show (parseMethodDescriptor (mth 416).desc).map (fun d => d.parameters.length) = some (mpar 416) by decide +kernel)) (iv1 (P := mparP) rfl (show (parseMethodDescriptor (mth 417).desc).map (fun d => d.parameters.length) = some (mpar 417) by decide +kernel))) (ivj (m := 419) (iv1 (P := mparP) rfl (show (parseMethodDescriptor (mth 418).desc).map (fun d => d.parameters.length) = some (mpar 418) by decide +kernel)) (iv1 (P := mparP) rfl (show (parseMethodDescriptor (mth 419).desc).map (fun d => d.parameters.length) = some (mpar 419) by decide +kernel)))))))
theorem mparT_420 : ∀ n, 420 ≤ n → n < 480 → mparP n := ivj (m := 450) (ivj (m := 435) (ivj (m := 427) (ivj (m := 423) (ivj (m := 421) (iv1 (P := mparP) rfl (show (parseMethodDescriptor (mth 420).desc).map (fun d => d.parameters.length) = some (mpar 420) by decide +kernel)) (ivj (m := 422) (iv1 (P := mparP) rfl (show (parseMethodDescriptor (mth 421).desc).map (fun d => d.parameters.length) = some (mpar 421) by decide +kernel)) (iv1 (P := mparP) rfl (show (parseMethodDescriptor (mth 422).desc).map (fun d => d.parameters.length) = some (mpar 422) by decide +kernel)))) (ivj (m := 425) (ivj (m := 424) (iv1 (P := mparP) rfl (show (parseMethodDescriptor (mth 423).desc).map (fun d => d.parameters.length) = some (mpar 423) by decide +kernel)) (iv1 (P := mparP) rfl (show (parseMethodDescriptor (mth 424).desc).map (fun d => d.parameters.length) = some (mpar 424) by decide +kernel))) (ivj (m := 426) (iv1 (P := mparP) rfl (show (parseMethodDescriptor (mth 425).desc).map (fun d => d.parameters.length) = some (mpar 425) by decide +kernel)) (iv1 (P := mparP) rfl (show (parseMethodDescriptor (mth 426).desc).map (fun d => d.parameters.length) = some (mpar 426) by decide +kernel))))) (ivj (m := 431) (ivj (m := 429) (ivj (m := 428) (iv1 (P := mparP) rfl (show (parseMethodDescriptor (mth 427).desc).map (fun d => d.parameters.length) = some (mpar 427) by decide +kernel)) (iv1 (P := mparP) rfl (show (parseMethodDescriptor (mth 428).desc).map (fun d => d.parameters.length) = some (mpar 428) by decide +kernel))) (ivj (m := 430) (iv1 (P := mparP) rfl (show (parseMethodDescriptor (mth 429).desc).map (fun d => d.parameters.length) = some (mpar 429) by decide +kernel)) (iv1 (P := mparP) rfl (show (parseMethodDescriptor (mth 430).desc).map (fun d => d.parameters.length) = some (mpar 430) by decide +kernel)))) (ivj (m := 433) (ivj (m := 432) (iv1 (P := mparP) rfl (show (parseMethodDescriptor (mth 431).desc).map (fun d => d.parameters.length) = some (mpar 431) by decide +kernel)) (iv1 (P := mparP) rfl (show (parseMethodDescriptor (mth 432).desc).map (fun d => d.parameters.length) = some (mpar 432) by decide +kernel))) (ivj (m := 434) (iv1 (P := mparP) rfl (show (parseMethodDescriptor (mth 433).desc).map (fun d => d.parameters.length) = some (mpar 433) by decide +kernel)) (iv1 (P := mparP) rfl (show (parseMethodDescriptor (mth 434).desc).map (fun d => d.parameters.length) = some (mpar 434) by decide +kernel)))))) (ivj (m := 442) (ivj (m := 438) (ivj (m := 436) (iv1 (P := mparP) rfl (show (parseMethodDescriptor (mth 435).desc).map (fun d => d.parameters.length) = some (mpar 435) by decide +kernel)) (ivj (m := 437) (iv1 (P := mparP) rfl (show (parseMethodDescriptor (mth 436).desc).map (fun d => d.parameters.length) = some (mpar 436) by decide +kernel)) (iv1 (P := mparP) rfl (show (parseMethodDescriptor (mth 437).desc).map (fun d => d.parameters.length) = some (mpar 437) by decide +kernel)))) (ivj (m := 440) (ivj (m := 439) (iv1 (P := mparP) rfl (show (parseMethodDescriptor (mth 438).desc).map (fun d => d.parameters.length) = some (mpar 438) by decide +kernel)) (iv1 (P := mparP) rfl (show (parseMethodDescriptor (mth 439).desc).map (fun d => d.parameters.length) = some (mpar 439) by decide +kernel))) (ivj (m := 441) (iv1 (P := mparP) rfl (show (parseMethodDescriptor (mth 440).desc).map (fun d => d.parameters.length) = some (mpar 440) by decide +kernel)) (iv1 (P := mparP) rfl (show (parseMethodDescriptor (mth 441).desc).map (fun d => d.parameters.length) = some (mpar 441) by decide +kernel))))) (ivj (m := 446) (ivj (m := 444) (ivj (m := 443) (iv1 (P := mparP) rfl (show (parseMethodDescriptor (mth 442).desc).map (fun d => d.parameters.length) = some (mpar 442) by decide +kernel)) (iv1 (P := mparP) rfl (show (parseMethodDescriptor (mth 443).desc).map (fun d => d.parameters.length) = some (mpar 443) by decide +kernel))) (ivj (m := 445) (iv1 (P := mparP) rfl (show (parseMethodDescriptor (mth 444).desc).map (fun d => d.parameters.length) = some (mpar 444) by decide +kernel)) (iv1 (P := mparP) rfl (show (parseMethodDescriptor (mth 445).desc).map (fun d => d.parameters.length) = some (mpar 445) by decide +kernel)))) (ivj (m := 448) (ivj (m := 447) (iv1 (P := mparP) rfl (show (parseMethodDescriptor (mth 446).desc).map (fun d => d.parameters.length) = some (mpar 446) by decide +kernel)) (iv1 (P := mparP) rfl (show (parseMethodDescriptor (mth 447).desc).map (fun d => d.parameters.length) = some (mpar 447) by decide +kernel))) (ivj (m := 449) (iv1 (P := mparP) rfl (show (parseMethodDescriptor (mth 448).desc).map (fun d => d.parameters.length) = some (mpar 448) by decide +kernel)) (iv1 (P := mparP) rfl (show (parseMethodDescriptor (mth 449).desc).map (fun d => d.parameters.length) = some (mpar 449) by decide +kernel))))))) (ivj (m := 465) (ivj (m := 457) (ivj (m := 453) (ivj (m := 451) (iv1 (P := mparP) rfl (show (parseMethodDescriptor (mth 450).desc).map (fun d => d.parameters.length) = some (mpar 450) by decide +kernel)) (ivj (m := 452) (iv1 (P := mparP) rfl (show (parseMethodDescriptor (mth 451).desc).map (fun d => d.parameters.length) = some (mpar 451) by decide +kernel)) (iv1 (P := mparP) rfl (show (parseMethodDescriptor (mth 452).desc).map (fun d => d.parameters.length) = some (mpar 452) by decide +kernel)))) (ivj (m := 455) (ivj (m := 454) (iv1 (P := mparP) rfl (show (parseMethodDescriptor (mth 453).desc).map (fun d => d.parameters.length) = some (mpar 453) by decide +kernel)) (iv1 (P := mparP) rfl (show (parseMethodDescriptor (mth 454).desc).map (fun d => d.parameters.length) = some (mpar 454) by decide +kernel))) (ivj (m := 456) (iv1 (P := mparP) rfl (show (parseMethodDescriptor (mth 455).desc).map (fun d => d.parameters.length) = some (mpar 455) by decide +kernel)) (iv1 (P := mparP) rfl (show (parseMethodDescriptor (mth 456).desc).map (fun d => d.parameters.length) = some (mpar 456) by decide +kernel))))) (ivj (m := 461) (ivj (m := 459) (ivj (m := 458) (iv1 (P := mparP) rfl (show (parseMethodDescriptor (mth 457).desc).map (fun d => d.parameters.length) = some (mpar 457) by decide +kernel)) (iv1 (P := mparP) rfl (show (parseMethodDescriptor (mth 458).desc).map (fun d => d.parameters.length) = some (mpar 458) by decide +kernel))) (ivj (m := 460) (iv1 (P := mparP) rfl (show (parseMethodDescriptor (mth 459).desc).map (fun d => d.parameters.length) = some (mpar 459) by decide +kernel)) (iv1 (P := mparP) rfl (show (parseMethodDescriptor (mth 460).desc).map (fun d => d.parameters.length) = some (mpar 460) by decide +kernel)))) (ivj (m := 463) (ivj (m := 462) (iv1 (P := mparP) rfl (show (parseMethodDescriptor (mth 461).desc).map (fun d => d.parameters.length) = some (mpar 461) by decide +kernel)) (iv1 (P := mparP) rfl (show (parseMethodDescriptor (mth 462).desc).map (fun d => d.parameters.length) = some (mpar 462) by decide +kernel))) (ivj (m := 464) (iv1 (P := mparP) rfl (show (parseMethodDescriptor (mth 463).desc).map (fun d => d.parameters.length) = some (mpar 463) by decide +kernel)) (iv1 (P := mparP) rfl (show (parseMethodDescriptor (mth 464).desc).map (fun d => d.parameters.length) = some (mpar 464) by decide +kernel)))))) (ivj (m := 472) (ivj (m := 468) (ivj (m := 466) (iv1 (P := mparP) rfl (show (parseMethodDescriptor (mth 465).desc).map (fun d => d.parameters.length) = some (mpar 465) by decide +kernel)) (ivj (m := 467) (iv1 (P := mparP) rfl (show (parseMethodDescriptor (mth 466).desc).map (fun d => d.parameters.length) = some (mpar 466) by decide +kernel)) (iv1 (P := mparP) rfl (show (parseMethodDescriptor (mth 467).desc).map (fun d => d.parameters.length) = some (mpar 467) by decide +kernel)))) (ivj (m := 470) (ivj (m := 469) (iv1 (P := mparP) rfl (show (parseMethodDescriptor (mth 468).desc).map (fun d => d.parameters.length) = some (mpar 468) by decide +kernel)) (iv1 (P := mparP) rfl (show (parseMethodDescriptor (mth 469).desc).map (fun d => d.parameters.length) = some (mpar 469) by decide +kernel))) (ivj (m := 471) (iv1 (P := mparP) rfl (show (parseMethodDescriptor (mth 470).desc).map (fun d => d.parameters.length) = some (mpar 470) by decide +kernel)) (iv1 (P := mparP) rfl (show (parseMethodDescriptor (mth 471).desc).map (fun d => d.parameters.length) = some (mpar 471) by decide +kernel))))) (ivj (m := 476) (ivj (m := 474) (ivj (m := 473) (iv1 (P := mparP) rfl (show (parseMethodDescriptor (mth 472).desc).map (fun d => d.parameters.length) = some (mpar 472) by decide +kernel)) (iv1 (P := mparP) rfl (show (parseMethodDescriptor (mth 473).desc).map (fun d => d.parameters.length) = some (mpar 473) by decide +kernel))) (ivj (m := 475) (iv1 (P := mparP) rfl (show (parseMethodDescriptor (mth 474).desc).map (fun d => d.parameters.length) = some (mpar 474) by decide +kernel)) (iv1 (P := mparP) rfl (show (parseMethodDescriptor (mth 475).desc).map (fun d => d.parameters.length) = some (mpar 475) by decide +kernel)))) (ivj (m := 478) (ivj (m := 477) (iv1 (P := mparP) rfl (show (parseMethodDescriptor (mth 476).desc).map (fun d => d.parameters.length) = some (mpar 476) by decide +kernel)) (iv1 (P := mparP) rfl (show (parseMethodDescriptor (mth 477).desc).map (fun d => d.parameters.length) = some (mpar 477) by decide +kernel))) (ivj (m := 479) (iv1 (P := mparP) rfl (show (parseMethodDescriptor (mth 478).desc).map (fun d => d.parameters.length) = some (mpar 478) by decide +kernel)) (iv1 (P := mparP) rfl (show (parseMethodDescriptor (mth 479).desc).map (fun d => d.parameters.length) = some (mpar 479) by decide +kernel)))))))
theorem mparT_480 : ∀ n, 480 ≤ n → n < 540 → mparP n := ivj (m := 510) (ivj (m := 495) (ivj (m := 487) (ivj (m := 483) (ivj (m := 481) (iv1 (P := mparP) rfl (show (parseMethodDescriptor (mth 480).desc).map (fun d => d.parameters.length) = some (mpar 480) by decide +kernel)) (ivj (m := 482) (iv1 (P := mparP) rfl (show (parseMethodDescriptor (mth 481).desc).map (fun d => d.parameters.length) = some (mpar 481) by decide +kernel)) (iv1 (P := mparP) rfl (show (parseMethodDescriptor (mth 482).desc).map (fun d => d.parameters.length) = some (mpar 482) by decide +kernel)))) (ivj (m := 485) (ivj (m := 484) (iv1 (P := mparP) rfl (show (parseMethodDescriptor (mth 483).desc).map (fun d => d.parameters.length) = some (mpar 483) by decide +kernel)) (iv1 (P := mparP) rfl (show (parseMethodDescriptor (mth 484).desc).map (fun d => d.parameters.length) = some (mpar 484) by decide +kernel))) (ivj (m := 486) (iv1 (P := mparP) rfl (show (parseMethodDescriptor (mth 485).desc).map (fun d => d.parameters.length) = some (mpar 485) by decide +kernel)) (iv1 (P := mparP) rfl (show (parseMethodDescriptor (mth 486).desc).map (fun d => d.parameters.length) = some (mpar 486) by decide +kernel))))) (ivj (m := 491) (ivj (m := 489) (ivj (m := 488) (iv1 (P := mparP) rfl (show (parseMethodDescriptor (mth 487).desc).map (fun d => d.parameters.length) = some (mpar 487) by decide +kernel)) (iv1 (P := mparP) rfl (show (parseMethodDescriptor (mth 488).desc).map (fun d => d.parameters.length) = some (mpar 488) by decide +kernel))) (ivj (m := 490) (iv1 (P := mparP) rfl (show (parseMethodDescriptor (mth 489).desc).map (fun d => d.parameters.length) = some (mpar 489) by decide +kernel)) (iv1 (P := mparP) rfl (show (parseMethodDescriptor (mth 490).desc).map (fun d => d.parameters.length) = some (mpar 490) by decide +kernel)))) (ivj (m := 493) (ivj (m := 492) (iv1 (P := mparP) rfl (show (parseMethodDescriptor (mth 491).desc).map (fun d => d.parameters.length) = some (mpar 491) by decide +kernel)) (iv1 (P := mparP) rfl (show (parseMethodDescriptor (mth 492).desc).map (fun d => d.parameters.length) = some (mpar 492) by decide +kernel))) (ivj (m := 494) (iv1 (P := mparP) rfl (show (parseMethodDescriptor (mth 493).desc).map (fun d => d.parameters.length) = some (mpar 493) by decide +kernel)) (iv1 (P := mparP) rfl (show (parseMethodDescriptor (mth 494).desc).map (fun d => d.parameters.length) = some (mpar 494) by decide +kernel)))))) (ivj (m := 502) (ivj (m := 498) (ivj (m := 496) (iv1 (P := mparP) rfl (show (parseMethodDescriptor (mth 495).desc).map (fun d => d.parameters.length) = some (mpar 495) by decide +kernel)) (ivj (m := 497) (iv1 (P := mparP) rfl (show (parseMethodDescriptor (mth 496).desc).map (fun d => d.parameters.length) = some (mpar 496) by decide +kernel)) (iv1 (P := mparP) rfl (show (parseMethodDescriptor (mth 497).desc).map (fun d => d.parameters.length) = some (mpar 497) by decide +kernel)))) (ivj (m := 500) (ivj (m := 499) (iv1 (P := mparP) rfl (show (parseMethodDescriptor (mth 498).desc).map (fun d => d.parameters.length) = some (mpar 498) by decide +kernel)) (iv1 (P := mparP) rfl (show (parseMethodDescriptor (mth 499).desc).map (fun d => d.parameters.length) = some (mpar 499) by decide +kernel))) (ivj (m := 501) (iv1 (P := mparP) rfl (show (parseMethodDescriptor (mth 500).desc).map (fun d => d.parameters.length) = some (mpar 500) by decide +kernel)) (iv1 (P := mparP) rfl (show (parseMethodDescriptor (mth 501).desc).map (fun d => d.parameters.length) = some (mpar 501) by decide +kernel))))) (ivj (m := 506) (ivj (m := 504) (ivj (m := 503) (iv1 (P := mparP) rfl (show (parseMethodDescriptor (mth 502).desc).map (fun d => d.parameters.length) = some (mpar 502) by decide +kernel)) (iv1 (P := mparP) rfl (show (parseMethodDescriptor (mth 503).desc).map (fun d => d.parameters.length) = some (mpar 503) by decide +kernel))) (ivj (m := 505) (iv1 (P := mparP) rfl (show (parseMethodDescriptor (mth 504).desc).map (fun d => d.parameters.length) = some (mpar 504) by decide +kernel)) (iv1 (P := mparP) rfl (show (parseMethodDescriptor (mth 505).desc).map (fun d => d.parameters.length) = some (mpar 505) by decide +kernel)))) (ivj (m := 508) (ivj (m := 507) (iv1 (P := mparP) rfl (show (parseMethodDescriptor (mth 506).desc).map (fun d => d.parameters.length) = some (mpar 506) by decide +kernel)) (iv1 (P := mparP) rfl (show (parseMethodDescriptor (mth 507).desc).map (fun d => d.parameters.length) = some (mpar 507) by decide +kernel))) (ivj (m := 509) (iv1 (P := mparP) rfl (show (parseMethodDescriptor (mth 508).desc).map (fun d => d.parameters.length) = some (mpar 508) by decide +kernel)) (iv1 (P := mparP) rfl (show (parseMethodDescriptor (mth 509).desc).map (fun d => d.parameters.length) = some (mpar 509) by decide +kernel))))))) (ivj (m := 525) (ivj (m := 517) (ivj (m := 513) (ivj (m := 511) (iv1 (P := mparP) rfl (show (parseMethodDescriptor (mth 510).desc).map (fun d => d.parameters.length) = some (mpar 510) by decide +kernel)) (ivj (m := 512) (iv1 (P := mparP) rfl (show (parseMethodDescriptor (mth 511).desc).map (fun d => d.parameters.length) = some (mpar 511) by decide +kernel)) (iv1 (P := mparP) rfl (show (parseMethodDescriptor (mth 512).desc).map (fun d => d.parameters.length) = some (mpar 512) by decide +kernel)))) (ivj (m := 515) (ivj (m := 514) (iv1 (P := mparP) rfl (show (parseMethodDescriptor (mth 513).desc).map (fun d => d.parameters.length) = some (mpar 513) by decide +kernel)) (iv1 (P := mparP) rfl (show (parseMethodDescriptor (mth 514).desc).map (fun d => d.parameters.length) = some (mpar 514) by decide +kernel))) (ivj (m := 516) (iv1 (P := mparP) rfl (show (parseMethodDescriptor (mth 515).desc).map (fun d => d.parameters.length) = some (mpar 515) by decide +kernel)) (iv1 (P := mparP) rfl (show (parseMethodDescriptor (mth 516).desc).map (fun d => d.parameters.length) = some (mpar 516) by decide +kernel))))) (ivj (m := 521) (ivj (m := 519) (ivj (m := 518) (iv1 (P := mparP) rfl (show (parseMethodDescriptor (mth 517).desc).map (fun d => d.parameters.length) = some (mpar 517) by decide +kernel)) (iv1 (P := mparP) rfl (show (parseMethodDescriptor (mth 518).desc).map (fun d => d.parameters.length) = some (mpar 518) by decide +kernel))) (ivj (m := 520) (iv1 (P := mparP) rfl (show (parseMethodDescriptor (mth 519).desc).map (fun d => d.parameters.length) = some (mpar 519) by decide +kernel)) (iv1 (P := mparP) rfl (show (parseMethodDescriptor (mth 520).desc).map (fun d => d.parameters.length) = some (mpar 520) by decide +kernel)))) (ivj (m := 523) (ivj (m := 522) (iv1 (P := mparP) rfl (show (parseMethodDescriptor (mth 521).desc).map (fun d => d.parameters.length) = some (mpar 521) by decide +kernel)) (iv1 (P := mparP) rfl (show (parseMethodDescriptor (mth 522).desc).map (fun d => d.parameters.length) = some (mpar 522) by decide +kernel))) (ivj (m := 524) (iv1 (P := mparP) rfl (show (parseMethodDescriptor (mth 523).desc).map (fun d => d.parameters.length) = some (mpar 523) by decide +kernel)) (iv1 (P := mparP) rfl (show (parseMethodDescriptor (mth 524).desc).map (fun d => d.parameters.length) = some (mpar 524) by decide +kernel)))))) (ivj (m := 532) (ivj (m := 528) (ivj (m := 526) (iv1 (P := mparP) rfl (show (parseMethodDescriptor (mth 525).desc).map (fun d => d.parameters.length) = some (mpar 525) by decide +kernel)) (ivj (m := 527) (iv1 (P := mparP) rfl (show (parseMethodDescriptor (mth 526).desc).map (fun d => d.parameters.length) = some (mpar 526) by decide +kernel)) (iv1 (P := mparP) rfl (show (parseMethodDescriptor (mth 527).desc).map (fun d => d.parameters.length) = some (mpar 527) by decide +kernel)))) (ivj (m := 530) (ivj (m := 529) (iv1 (P := mparP) rfl (show (parseMethodDescriptor (mth 528).desc).map (fun d => d.parameters.length) = some (mpar 528) by decide +kernel)) (iv1 (P := mparP) rfl (show (parseMethodDescriptor (mth 529).desc).map (fun d => d.parameters.length) = some (mpar 529) by decide +kernel))) (ivj (m := 531) (iv1 (P := mparP) rfl (show (parseMethodDescriptor (mth 530).desc).map (fun d => d.parameters.length) = some (mpar 530) by decide +kernel)) (iv1 (P := mparP) rfl (show (parseMethodDescriptor (mth 531).desc).map (fun d => d.parameters.length) = some (mpar 531) by decide +kernel))))) (ivj (m := 536) (ivj (m := 534) (ivj (m := 533) (iv1 (P := mparP) rfl (show (parseMethodDescriptor (mth 532).desc).map (fun d => d.parameters.length) = some (mpar 532) by decide +kernel)) (iv1 (P := mparP) rfl (show (parseMethodDescriptor (mth 533).desc).map (fun d => d.parameters.length) = some (mpar 533) by decide +kernel))) (ivj (m := 535) (iv1 (P := mparP) rfl (show (parseMethodDescriptor (mth 534).desc).map (fun d => d.parameters.length) = some (mpar 534) by decide +kernel)) (iv1 (P := mparP) rfl (show (parseMethodDescriptor (mth 535).desc).map (fun d => d.parameters.length) = some (mpar 535) by decide +kernel)))) (ivj (m := 538) (ivj (m := 537) (iv1 (P := mparP) rfl (show (parseMethodDescriptor (mth 536).desc).map (fun d => d.parameters.length) = some (mpar 536) by decide +kernel)) (iv1 (P := mparP) rfl (show (parseMethodDescriptor (mth 537).desc).map (fun d => d.parameters.length) = some (mpar 537) by decide +kernel))) (ivj (m := 539) (iv1 (P := mparP) rfl (show (parseMethodDescriptor (mth 538).desc).map (fun d => d.parameters.length) = some (mpar 538) by decide +kernel)) (iv1 (P := mparP) rfl (show (parseMethodDescriptor (mth 539).desc).map (fun d => d.parameters.length) = some (mpar 539) by decide +kernel)))))))
theorem mparT_540 : ∀ n, 540 ≤ n → n < 600 → mparP n := ivj (m := 570) (ivj (m := 555) (ivj (m := 547) (ivj (m := 543) (ivj (m := 541) (iv1 (P := mparP) rfl (show (parseMethodDescriptor (mth 540).desc).map (fun d => d.parameters.length) = some (mpar 540) by decide +kernel)) (ivj (m := 542) (iv1 (P := mparP) rfl (show (parseMethodDescriptor (mth 541).desc).map (fun d => d.parameters.length) = some (mpar 541) by decide +kernel)) (iv1 (P := mparP) rfl (show (parseMethodDescriptor (mth 542).desc).map (fun d => d.parameters.length) = some (mpar 542) by decide +kernel)))) (ivj (m := 545) (ivj (m := 544) (iv1 (P := mparP) rfl (show (parseMethodDescriptor (mth 543).desc).map (fun d => d.parameters.length) = some (mpar 543) by decide +kernel)) (iv1 (P := mparP) rfl (show (parseMethodDescriptor (mth 544).desc).map (fun d => d.parameters.length) = some (mpar 544) by decide +kernel))) (ivj (m := 546) (iv1 (P := mparP) rfl (show (parseMethodDescriptor (mth 545).desc).map (fun d => d.parameters.length) = some (mpar 545) by decide +kernel)) (iv1 (P := mparP) rfl (show (parseMethodDescriptor (mth 546).desc).map (fun d => d.parameters.length) = some (mpar 546) by decide +kernel))))) (ivj (m := 551) (ivj (m := 549) (ivj (m := 548) (iv1 (P := mparP) rfl (show (parseMethodDescriptor (mth 547).desc).map (fun d => d.parameters.length) = some (mpar 547) by decide +kernel)) (iv1 (P := mparP) rfl (show (parseMethodDescriptor (mth 548).desc).map (fun d => d.parameters.length) = some (mpar 548) by decide +kernel))) (ivj (m := 550) (iv1 (P := mparP) rfl (show (parseMethodDescriptor (mth 549).desc).map (fun d => d.parameters.length) = some (mpar 549) by decide +kernel)) (iv1 (P := mparP) rfl (show (parseMethodDescriptor (mth 550).desc).map (fun d => d.parameters.length) = some (mpar 550) by decide +kernel)))) (ivj (m := 553) (ivj (m := 552) (iv1 (P := mparP) rfl (show (parseMethodDescriptor (mth 551).desc).map (fun d => d.parameters.length) = some (mpar 551) by decide +kernel)) (iv1 (P := mparP) rfl (show (parseMethodDescriptor (mth 552).desc).map (fun d => d.parameters.length) = some (mpar 552) by decide +kernel))) (ivj (m := 554) (iv1 (P := mparP) rfl (show (parseMethodDescriptor (mth 553).desc).map (fun d => d.parameters.length) = some (mpar 553) by decide +kernel)) (iv1 (P := mparP) rfl (show (parseMethodDescriptor (mth 554).desc).map (fun d => d.parameters.length) = some (mpar 554) by decide +kernel)))))) (ivj (m := 562) (ivj (m := 558) (ivj (m := 556) (iv1 (P := mparP) rfl (show (parseMethodDescriptor (mth 555).desc).map (fun d => d.parameters.length) = some (mpar 555) by decide +kernel)) (ivj (m := 557) (iv1 (P := mparP) rfl (show (parseMethodDescriptor (mth 556).desc).map (fun d => d.parameters.length) = some (mpar 556) by decide +kernel)) (iv1 (P := mparP) rfl (show (parseMethodDescriptor (mth 557).desc).map (fun d => d.parameters.length) = some (mpar 557) by decide +kernel)))) (ivj (m := 560) (ivj (m := 559) (iv1 (P := mparP) rfl (show (parseMethodDescriptor (mth 558).desc).map (fun d => d.parameters.length) = some (mpar 558) by decide +kernel)) (iv1 (P := mparP) rfl (show (parseMethodDescriptor (mth 559).desc).map (fun d => d.parameters.length) = some (mpar 559) by decide +kernel))) (ivj (m := 561) (iv1 (P := mparP) rfl (show (parseMethodDescriptor (mth 560).desc).map (fun d => d.parameters.length) = some (mpar 560) by decide +kernel)) (iv1 (P := mparP) rfl (show (parseMethodDescriptor (mth 561).desc).map (fun d => d.parameters.length) = some (mpar 561) by decide +kernel))))) (ivj (m := 566) (ivj (m := 564) (ivj (m := 563) (iv1 (P := mparP) rfl (show (parseMethodDescriptor (mth 562).desc).map (fun d => d.parameters.length) = some (mpar 562) by decide +kernel)) (iv1 (P := mparP) rfl (show (parseMethodDescriptor (mth 563).desc).map (fun d => d.parameters.length) = some (mpar 563) by decide +kernel))) (ivj (m := 565) (iv1 (P := mparP) rfl (show (parseMethodDescriptor (mth 564).desc).map (fun d => d.parameters.length) = some (mpar 564) by decide +kernel)) (iv1 (P := mparP) rfl (show (parseMethodDescriptor (mth 565).desc).map (fun d => d.parameters.length) = some (mpar 565) by decide +kernel)))) (ivj (m := 568) (ivj (m := 567) (iv1 (P := mparP) rfl (show (parseMethodDescriptor (mth 566).desc).map (fun d => d.parameters.length) = some (mpar 566) by decide +kernel)) (iv1 (P := mparP) rfl (show (parseMethodDescriptor (mth 567).desc).map (fun d => d.parameters.length) = some (mpar 567) by decide +kernel))) (ivj (m := 569) (iv1 (P := mparP) rfl (show (parseMethodDescriptor (mth 568).desc).map (fun d => d.parameters.length) = some (mpar 568) by decide +kernel)) (iv1 (P := mparP) rfl (show (parseMethodDescriptor (mth 569).desc).map (fun d => d.parameters.length) = some (mpar 569) by decide +kernel))))))) (ivj (m := 585) (ivj (m := 577) (ivj (m := 573) (ivj (m := 571) (iv1 (P := mparP) rfl (show (parseMethodDescriptor (mth 570).desc).map (fun d => d.parameters.length) = some (mpar 570) by decide +kernel)) (ivj (m := 572) (iv1 (P := mparP) rfl (show (parseMethodDescriptor (mth 571).desc).map (fun d => d.parameters.length) = some (mpar 571) by decide +kernel)) (iv1 (P := mparP) rfl (show (parseMethodDescriptor (mth 572).desc).map (fun d => d.parameters.length) = some (mpar 572) by decide +kernel)))) (ivj (m := 575) (ivj (m := 574) (iv1 (P := mparP) rfl (show (parseMethodDescriptor (mth 573).desc).map (fun d => d.parameters.length) = some (mpar 573) by decide +kernel)) (iv1 (P := mparP) rfl (show (parseMethodDescriptor (mth 574).desc).map (fun d => d.parameters.length) = some (mpar 574) by decide +kernel))) (ivj (m := 576) (iv1 (P := mparP) rfl (show (parseMethodDescriptor (mth 575).desc).map (fun d => d.parameters.length) = some (mpar 575) by decide +kernel)) (iv1 (P := mparP) rfl (show (parseMethodDescriptor (mth 576).desc).map (fun d => d.parameters.length) = some (mpar 576) by decide +kernel))))) (ivj (m := 581) (ivj (m := 579) (ivj (m := 578) (iv1 (P := mparP) rfl (show (parseMethodDescriptor (mth 577).desc).map (fun d => d.parameters.length) = some (mpar 577) by decide +kernel)) (iv1 (P := mparP) rfl (show (parseMethodDescriptor (mth 578).desc).map (fun d => d.parameters.length) = some (mpar 578) by decide +kernel))) (ivj (m := 580) (iv1 (P := mparP) rfl (show (parseMethodDescriptor (mth 579).desc).map (fun d => d.parameters.length) = some (mpar 579) by decide +kernel)) (iv1 (P := mparP) rfl (show (parseMethodDescriptor (mth 580).desc).map (fun d => d.parameters.length) = some (mpar 580) by decide +kernel)))) (ivj (m := 583) (ivj (m := 582) (iv1 (P := mparP) rfl (show (parseMethodDescriptor (mth 581).desc).map (fun d => d.parameters.length) = some (mpar 581) by decide +kernel)) (iv1 (P := mparP) rfl (show (parseMethodDescriptor (mth 582).desc).map (fun d => d.parameters.length) = some (mpar 582) by decide +kernel))) (ivj (m := 584) (iv1 (P := mparP) rfl (show (parseMethodDescriptor (mth 583).desc).map (fun d => d.parameters.length) = some (mpar 583) by decide +kernel)) (iv1 (P := mparP) rfl (show (parseMethodDescriptor (mth 584).desc).map (fun d => d.parameters.length) = some (mpar 584) by decide +kernel)))))) (ivj (m := 592) (ivj (m := 588) (ivj (m := 586) (iv1 (P := mparP) rfl (show (parseMethodDescriptor (mth 585).desc).map (fun d => d.parameters.length) = some (mpar 585) by decide +kernel)) (ivj (m := 587) (iv1 (P := mparP) rfl (show (parseMethodDescriptor (mth 586).desc).map (fun d => d.parameters.length) = some (mpar 586) by decide +kernel)) (iv1 (P := mparP) rfl (show (parseMethodDescriptor (mth 587).desc).map (fun d => d.parameters.length) = some (mpar 587) by decide +kernel)))) (ivj (m := 590) (ivj (m := 589) (iv1 (P := mparP) rfl (show (parseMethodDescriptor (mth 588).desc).map (fun d => d.parameters.length) = some (mpar 588) by decide +kernel)) (iv1 (P := mparP) rfl (show (parseMethodDescriptor (mth 589).desc).map (fun d => d.parameters.length) = some (mpar 589) by decide +kernel))) (ivj (m := 591) (iv1 (P := mparP) rfl (show (parseMethodDescriptor (mth 590).desc).map (fun d => d.parameters.length) = some (mpar 590) by decide +kernel)) (iv1 (P := mparP) rfl (show (parseMethodDescriptor (mth 591).desc).map (fun d => d.parameters.length) = some (mpar 591) by decide +kernel))))) (ivj (m := 596) (ivj (m := 594) (ivj (m := 593) (iv1 (P := mparP) rfl (show (parseMethodDescriptor (mth 592).desc).map (fun d => d.parameters.length) = some (mpar 592) by decide +kernel)) (iv1 (P := mparP) rfl (show (parseMethodDescriptor (mth 593).desc).map (fun d => d.parameters.length) = some (mpar 593) by decide +kernel))) (ivj (m := 595) (iv1 (P := mparP) rfl (show (parseMethodDescriptor (mth 594).desc).map (fun d => d.parameters.length) = some (mpar 594) by decide +kernel)) (iv1 (P := mparP) rfl (show (parseMethodDescriptor (mth 595).desc).map (fun d => d.parameters.length) = some (mpar 595) by decide +kernel)))) (ivj (m := 598) (ivj (m := 597) (iv1 (P := mparP) rfl (show (parseMethodDescriptor (mth 596).desc).map (fun d => d.parameters.length) = some (mpar 596) by decide +kernel)) (iv1 (P := mparP) rfl (show (parseMethodDescriptor (mth 597).desc).map (fun d => d.parameters.length) = some (mpar 597) by decide +kernel))) (ivj (m := 599) (iv1 (P := mparP) rfl (show (parseMethodDescriptor (mth 598).desc).map (fun d => d.parameters.length) = some (mpar 598) by decide +kernel)) (iv1 (P := mparP) rfl (show (parseMethodDescriptor (mth 599).desc).map (fun d => d.parameters.length) = some (mpar 599) by decide +kernel)))))))
theorem mparT_600 : ∀ n, 600 ≤ n → n < 629 → mparP n := ivj (m := 614) (ivj (m := 607) (ivj (m := 603) (ivj (m := 601) (iv1 (P := mparP) rfl (show (parseMethodDescriptor (mth 600).desc).map (fun d => d.parameters.length) = some (mpar 600) by decide +kernel)) (ivj (m := 602) (iv1 (P := mparP) rfl (show (parseMethodDescriptor (mth 601).desc).map (fun d => d.parameters.length) = some (mpar 601) by decide +kernel)) (iv1 (P := mparP) rfl (show (parseMethodDescriptor (mth 602).desc).map (fun d => d.parameters.length) = some (mpar 602) by decide +kernel)))) (ivj (m := 605) (ivj (m := 604) (iv1 (P := mparP) rfl (show (parseMethodDescriptor (mth 603).desc).map (fun d => d.parameters.length) = some (mpar 603) by decide +kernel)) (iv1 (P := mparP) rfl (show (parseMethodDescriptor (mth 604).desc).map (fun d => d.parameters.length) = some (mpar 604) by decide +kernel))) (ivj (m := 606) (iv1 (P := mparP) rfl (show (parseMethodDescriptor (mth 605).desc).map (fun d => d.parameters.length) = some (mpar 605) by decide +kernel)) (iv1 (P := mparP) rfl (show (parseMethodDescriptor (mth 606).desc).map (fun d => d.parameters.length) = some (mpar 606) by decide +kernel))))) (ivj (m := 610) (ivj (m := 608) (iv1 (P := mparP) rfl (show (parseMethodDescriptor (mth 607).desc).map (fun d => d.parameters.length) = some (mpar 607) by decide +kernel)) (ivj (m := 609) (iv1 (P := mparP) rfl (show (parseMethodDescriptor (mth 608).desc).map (fun d => d.parameters.length) = some (mpar 608) by decide +kernel)) (iv1 (P := mparP) rfl (show (parseMethodDescriptor (mth 609).desc).map (fun d => d.parameters.length) = some (mpar 609) by decide +kernel)))) (ivj (m := 612) (ivj (m := 611) (iv1 (P := mparP) rfl (show (parseMethodDescriptor (mth 610).desc).map (fun d => d.parameters.length) = some (mpar 610) by decide +kernel)) (iv1 (P := mparP) rfl (show (parseMethodDescriptor (mth 611).desc).map (fun d => d.parameters.length) = some (mpar 611) by decide +kernel))) (ivj (m := 613) (iv1 (P := mparP) rfl (show (parseMethodDescriptor (mth 612).desc).map (fun d => d.parameters.length) = some (mpar 612) by decide +kernel)) (iv1 (P := mparP) rfl (show (parseMethodDescriptor (mth 613).desc).map (fun d => d.parameters.length) = some (mpar 613) by decide +kernel)))))) (ivj (m := 621) (ivj (m := 617) (ivj (m := 615) (iv1 (P := mparP) rfl (show (parseMethodDescriptor (mth 614).desc).map (fun d => d.parameters.length) = some (mpar 614) by decide +kernel)) (ivj (m := 616) (iv1 (P := mparP) rfl (show (parseMethodDescriptor (mth 615).desc).map (fun d => d.parameters.length) = some (mpar 615) by decide +kernel)) (iv1 (P := mparP) rfl (show (parseMethodDescriptor (mth 616).desc).map (fun d => d.parameters.length) = some (mpar 616) by decide +kernel)))) (ivj (m := 619) (ivj (m := 618) (iv1 (P := mparP) rfl (show (parseMethodDescriptor (mth 617).desc).map (fun d => d.parameters.length) = some (mpar 617) by decide +kernel)) (iv1 (P := mparP) rfl (show (parseMethodDescriptor (mth 618).desc).map (fun d => d.parameters.length) = some (mpar 618) by decide +kernel))) (ivj (m := 620) (iv1 (P := mparP) rfl (show (parseMethodDescriptor (mth 619).desc).map (fun d => d.parameters.length) = some (mpar 619) by decide +kernel)) (iv1 (P := mparP) rfl (show (parseMethodDescriptor (mth 620).desc).map (fun d => d.parameters.length) = some (mpar 620) by decide +kernel))))) (ivj (m := 625) (ivj (m := 623) (ivj (m := 622) (iv1 (P := mparP) rfl (show (parseMethodDescriptor (mth 621).desc).map (fun d => d.parameters.length) = some (mpar 621) by decide +kernel)) (iv1 (P := mparP) rfl (show (parseMethodDescriptor (mth 622).desc).map (fun d => d.parameters.length) = some (mpar 622) by decide +kernel))) (ivj (m := 624) (iv1 (P := mparP) rfl (show (parseMethodDescriptor (mth 623).desc).map (fun d => d.parameters.length) = some (mpar 623) by decide +kernel)) (iv1 (P := mparP) rfl (show (parseMethodDescriptor (mth 624).desc).map (fun d => d.parameters.length) = some (mpar 624) by decide +kernel)))) (ivj (m := 627) (ivj (m := 626) (iv1 (P := mparP) rfl (show (parseMethodDescriptor (mth 625).desc).map (fun d => d.parameters.length) = some (mpar 625) by decide +kernel)) (iv1 (P := mparP) rfl (show (parseMethodDescriptor (mth 626).desc).map (fun d => d.parameters.length) = some (mpar 626) by decide +kernel))) (ivj (m := 628) (iv1 (P := mparP) rfl (show (parseMethodDescriptor (mth 627).desc).map (fun d => d.parameters.length) = some (mpar 627) by decide +kernel)) (iv1 (P := mparP) rfl (show (parseMethodDescriptor (mth 628).desc).map (fun d => d.parameters.length) = some (mpar 628) by decide +kernel))))))
theorem mpar_ok : ∀ n, 0 ≤ n → n < 629 → mparP n := ivj (m := 60) mparT_0 (ivj (m := 120) mparT_60 (ivj (m := 180) mparT_120 (ivj (m := 240) mparT_180 (ivj (m := 300) mparT_240 (ivj (m := 360) mparT_300 (ivj (m := 420) mparT_360 (ivj (m := 480) mparT_420 (ivj (m := 540) mparT_480 (ivj (m := 600) mparT_540 (mparT_600))))))))))
def plP (c : Nat) : Prop := cx_nm c ≠ "java/lang/invoke/MethodHandle" ∧ cx_nm c ≠ "java/lang/invoke/VarHandle"
theorem pl_ok : ∀ c, 0 ≤ c → c < 37 → plP c := ivj (m := 18) (ivj (m := 9) (ivj (m := 4) (ivj (m := 2) (ivj (m := 1) (iv1 (P := plP) rfl ⟨by decide +kernel, by decide +kernel⟩) (iv1 (P := plP) rfl ⟨by decide +kernel, by decide +kernel⟩)) (ivj (m := 3) (iv1 (P := plP) rfl ⟨by decide +kernel, by decide +kernel⟩) (iv1 (P := plP) rfl ⟨by decide +kernel, by decide +kernel⟩))) (ivj (m := 6) (ivj (m := 5) (iv1 (P := plP) rfl ⟨by decide +kernel, by decide +kernel⟩) (iv1 (P := plP) rfl ⟨by decide +kernel, by decide +kernel⟩)) (ivj (m := 7) (iv1 (P := plP) rfl ⟨by decide +kernel, by decide +kernel⟩) (ivj (m := 8) (iv1 (P := plP) rfl ⟨by decide +kernel, by decide +kernel⟩) (iv1 (P := plP) rfl ⟨by decide +kernel, by decide +kernel⟩))))) (ivj (m := 13) (ivj (m := 11) (ivj (m := 10) (iv1 (P := plP) rfl ⟨by decide +kernel, by decide +kernel⟩) (iv1 (P := plP) rfl ⟨by decide +kernel, by decide +kernel⟩)) (ivj (m := 12) (iv1 (P := plP) rfl ⟨by decide +kernel, by decide +kernel⟩) (iv1 (P := plP) rfl ⟨by decide +kernel, by decide +kernel⟩))) (ivj (m := 15) (ivj (m := 14) (iv1 (P := plP) rfl ⟨by decide +kernel, by decide +kernel⟩) (iv1 (P := plP) rfl ⟨by decide +kernel, by decide +kernel⟩)) (ivj (m := 16) (iv1 (P := plP) rfl ⟨by decide +kernel, by decide +kernel⟩) (ivj (m := 17) (iv1 (P := plP) rfl ⟨by decide +kernel, by decide +kernel⟩) (iv1 (P := plP) rfl ⟨by decide +kernel, by decide +kernel⟩)))))) (ivj (m := 27) (ivj (m := 22) (ivj (m := 20) (ivj (m := 19) (iv1 (P := plP) rfl ⟨by decide +kernel, by decide +kernel⟩) (iv1 (P := plP) rfl ⟨by decide +kernel, by decide +kernel⟩)) (ivj (m := 21) (iv1 (P := plP) rfl ⟨by decide +kernel, by decide +kernel⟩) (iv1 (P := plP) rfl ⟨by decide +kernel, by decide +kernel⟩))) (ivj (m := 24) (ivj (m := 23) (iv1 (P := plP) rfl ⟨by decide +kernel, by decide +kernel⟩) (iv1 (P := plP) rfl ⟨by decide +kernel, by decide +kernel⟩)) (ivj (m := 25) (iv1 (P := plP) rfl ⟨by decide +kernel, by decide +kernel⟩) (ivj (m := 26) (iv1 (P := plP) rfl ⟨by decide +kernel, by decide +kernel⟩) (iv1 (P := plP) rfl ⟨by decide +kernel, by decide +kernel⟩))))) (ivj (m := 32) (ivj (m := 29) (ivj (m := 28) (iv1 (P := plP) rfl ⟨by decide +kernel, by decide +kernel⟩) (iv1 (P := plP) rfl ⟨by decide +kernel, by decide +kernel⟩)) (ivj (m := 30) (iv1 (P := plP) rfl ⟨by decide +kernel, by decide +kernel⟩) (ivj (m := 31) (iv1 (P := plP) rfl ⟨by decide +kernel, by decide +kernel⟩) (iv1 (P := plP) rfl ⟨by decide +kernel, by decide +kernel⟩)))) (ivj (m := 34) (ivj (m := 33) (iv1 (P := plP) rfl ⟨by decide +kernel, by decide +kernel⟩) (iv1 (P := plP) rfl ⟨by decide +kernel, by decide +kernel⟩)) (ivj (m := 35) (iv1 (P := plP) rfl ⟨by decide +kernel, by decide +kernel⟩) (ivj (m := 36) (iv1 (P := plP) rfl ⟨by decide +kernel, by decide +kernel⟩) (iv1 (P := plP) rfl ⟨by decide +kernel, by decide +kernel⟩))))))
def mowP (n : Nat) : Prop := mow n < 37 ∧ mlo n ≤ 60 ∧ plainFor (mth n) = true ∧ (mki n = 2 → (mth n).name = "<init>" ∧ mha n = [] ∧ mre n = none)
theorem mowl_0 : ∀ n, 0 ≤ n → n < 60 → mowP n := ivj (m := 30) (ivj (m := 15) (ivj (m := 7) (ivj (m := 3) (ivj (m := 1) (iv1 (P := mowP) rfl ⟨by decide, by decide, by decide +kernel, fun h => by revert h; decide⟩) (ivj (m := 2) (iv1 (P := mowP) rfl ⟨by decide, by decide, by decide +kernel, fun _ => ⟨rfl, rfl, rfl⟩⟩) (iv1 (P := mowP) rfl ⟨by decide, by decide, by decide +kernel, fun _ => ⟨rfl, rfl, rfl⟩⟩))) (ivj (m := 5) (ivj (m := 4) (iv1 (P := mowP) rfl ⟨by decide, by decide, by decide +kernel, fun _ => ⟨rfl, rfl, rfl⟩⟩) (iv1 (P := mowP) rfl ⟨by decide, by decide, by decide +kernel, fun _ => ⟨rfl, rfl, rfl⟩⟩)) (ivj (m := 6) (iv1 (P := mowP) rfl ⟨by decide, by decide, by decide +kernel, fun _ => ⟨rfl, rfl, rfl⟩⟩) (iv1 (P := mowP) rfl ⟨by decide, by decide, by decide +kernel, fun _ => ⟨rfl, rfl, rfl⟩⟩)))) (ivj (m := 11) (ivj (m := 9) (ivj (m := 8) (iv1 (P := mowP) rfl ⟨by decide, by decide, by decide +kernel, fun _ => ⟨rfl, rfl, rfl⟩⟩) (iv1 (P := mowP) rfl ⟨by decide, by decide, by decide +kernel, fun _ => ⟨rfl, rfl, rfl⟩⟩)) (ivj (m := 10) (iv1 (P := mowP) rfl ⟨by decide, by decide, by decide +kernel, fun _ => ⟨rfl, rfl, rfl⟩⟩) (iv1 (P := mowP) rfl ⟨by decide, by decide, by decide +kernel, fun _ => ⟨rfl, rfl, rfl⟩⟩))) (ivj (m := 13) (ivj (m := 12) (iv1 (P := mowP) rfl ⟨by decide, by decide, by decide +kernel, fun _ => ⟨rfl, rfl, rfl⟩⟩) (iv1 (P := mowP) rfl ⟨by decide, by decide, by decide +kernel, fun _ => ⟨rfl, rfl, rfl⟩⟩)) (ivj (m := 14) (iv1 (P := mowP) rfl ⟨by decide, by decide, by decide +kernel, fun _ => ⟨rfl, rfl, rfl⟩⟩) (iv1 (P := mowP) rfl ⟨by decide, by decide, by decide +kernel, fun _ => ⟨rfl, rfl, rfl⟩⟩))))) (ivj (m := 22) (ivj (m := 18) (ivj (m := 16) (iv1 (P := mowP) rfl ⟨by decide, by decide, by decide +kernel, fun _ => ⟨rfl, rfl, rfl⟩⟩) (ivj (m := 17) (iv1 (P := mowP) rfl ⟨by decide, by decide, by decide +kernel, fun _ => ⟨rfl, rfl, rfl⟩⟩) (iv1 (P := mowP) rfl ⟨by decide, by decide, by decide +kernel, fun _ => ⟨rfl, rfl, rfl⟩⟩))) (ivj (m := 20) (ivj (m := 19) (iv1 (P := mowP) rfl ⟨by decide, by decide, by decide +kernel, fun h => by revert h; decide⟩) (iv1 (P := mowP) rfl ⟨by decide, by decide, by decide +kernel, fun h => by revert h; decide⟩)) (ivj (m := 21) (iv1 (P := mowP) rfl ⟨by decide, by decide, by decide +kernel, fun h => by revert h; decide⟩) (iv1 (P := mowP) rfl ⟨by decide, by decide, by decide +kernel, fun h => by revert h; decide⟩)))) (ivj (m := 26) (ivj (m := 24) (ivj (m := 23) (iv1 (P := mowP) rfl ⟨by decide, by decide, by decide +kernel, fun h => by revert h; decide⟩) (iv1 (P := mowP) rfl ⟨by decide, by decide, by decide +kernel, fun h => by revert h; decide⟩)) (ivj (m := 25) (iv1 (P := mowP) rfl ⟨by decide, by decide, by decide +kernel, fun h => by revert h; decide⟩) (iv1 (P := mowP) rfl ⟨by decide, by decide, by decide +kernel, fun h => by revert h; decide⟩))) (ivj (m := 28) (ivj (m := 27) (iv1 (P := mowP) rfl ⟨by decide, by decide, by decide +kernel, fun h => by revert h; decide⟩) (iv1 (P := mowP) rfl ⟨by decide, by decide, by decide +kernel, fun h => by revert h; decide⟩)) (ivj (m := 29) (iv1 (P := mowP) rfl ⟨by decide, by decide, by decide +kernel, fun h => by revert h; decide⟩) (iv1 (P := mowP) rfl ⟨by decide, by decide, by decide +kernel, fun h => by revert h; decide⟩)))))) (ivj (m := 45) (ivj (m := 37) (ivj (m := 33) (ivj (m := 31) (iv1 (P := mowP) rfl ⟨by decide, by decide, by decide +kernel, fun h => by revert h; decide⟩) (ivj (m := 32) (iv1 (P := mowP) rfl ⟨by decide, by decide, by decide +kernel, fun h => by revert h; decide⟩) (iv1 (P := mowP) rfl ⟨by decide, by decide, by decide +kernel, fun h => by revert h; decide⟩))) (ivj (m := 35) (ivj (m := 34) (iv1 (P := mowP) rfl ⟨by decide, by decide, by decide +kernel, fun h => by revert h; decide⟩) (iv1 (P := mowP) rfl ⟨by decide, by decide, by decide +kernel, fun h => by revert h; decide⟩)) (ivj (m := 36) (iv1 (P := mowP) rfl ⟨by decide, by decide, by decide +kernel, fun h => by revert h; decide⟩) (iv1 (P := mowP) rfl ⟨by decide, by decide, by decide +kernel, fun h => by revert h; decide⟩)))) (ivj (m := 41) (ivj (m := 39) (ivj (m := 38) (iv1 (P := mowP) rfl ⟨by decide, by decide, by decide +kernel, fun h => by revert h; decide⟩) (iv1 (P := mowP) rfl ⟨by decide, by decide, by decide +kernel, fun h => by revert h; decide⟩)) (ivj (m := 40) (iv1 (P := mowP) rfl ⟨by decide, by decide, by decide +kernel, fun h => by revert h; decide⟩) (iv1 (P := mowP) rfl ⟨by decide, by decide, by decide +kernel, fun h => by revert h; decide⟩))) (ivj (m := 43) (ivj (m := 42) (iv1 (P := mowP) rfl ⟨by decide, by decide, by decide +kernel, fun h => by revert h; decide⟩) (iv1 (P := mowP) rfl ⟨by decide, by decide, by decide +kernel, fun h => by revert h; decide⟩)) (ivj (m := 44) (iv1 (P := mowP) rfl ⟨by decide, by decide, by decide +kernel, fun h => by revert h; decide⟩) (iv1 (P := mowP) rfl ⟨by decide, by decide, by decide +kernel, fun h => by revert h; decide⟩))))) (ivj (m := 52) (ivj (m := 48) (ivj (m := 46) (iv1 (P := mowP) rfl ⟨by decide, by decide, by decide +kernel, fun h => by revert h; decide⟩) (ivj (m := 47) (iv1 (P := mowP) rfl ⟨by decide, by decide, by decide +kernel, fun h => by revert h; decide⟩) (iv1 (P := mowP) rfl ⟨by decide, by decide, by decide +kernel, fun h => by revert h; decide⟩))) (ivj (m := 50) (ivj (m := 49) (iv1 (P := mowP) rfl ⟨by decide, by decide, by decide +kernel, fun h => by revert h; decide⟩) (iv1 (P := mowP) rfl ⟨by decide, by decide, by decide +kernel, fun _ => ⟨rfl, rfl, rfl⟩⟩)) (ivj (m := 51) (iv1 (P := mowP) rfl ⟨by decide, by decide, by decide +kernel, fun h => by revert h; decide⟩) (iv1 (P := mowP) rfl ⟨by decide, by decide, by decide +kernel, fun h => by revert h; decide⟩)))) (ivj (m := 56) (ivj (m := 54) (ivj (m := 53) (iv1 (P := mowP) rfl ⟨by decide, by decide, by decide +kernel, fun h => by revert h; decide⟩) (iv1 (P := mowP) rfl ⟨by decide, by decide, by decide +kernel, fun h => by revert h; decide⟩)) (ivj (m := 55) (iv1 (P := mowP) rfl ⟨by decide, by decide, by decide +kernel, fun h => by revert h; decide⟩) (iv1 (P := mowP) rfl ⟨by decide, by decide, by decide +kernel, fun h => by revert h; decide⟩))) (ivj (m := 58) (ivj (m := 57) (iv1 (P := mowP) rfl ⟨by decide, by decide, by decide +kernel, fun h => by revert h; decide⟩) (iv1 (P := mowP) rfl ⟨by decide, by decide, by decide +kernel, fun h => by revert h; decide⟩)) (ivj (m := 59) (iv1 (P := mowP) rfl ⟨by decide, by decide, by decide +kernel, fun _ => ⟨rfl, rfl, rfl⟩⟩) (iv1 (P := mowP) rfl ⟨by decide, by decide, by decide +kernel, fun h => by revert h; decide⟩))))))
theorem mowl_60 : ∀ n, 60 ≤ n → n < 120 → mowP n := ivj (m := 90) (ivj (m := 75) (ivj (m := 67) (ivj (m := 63) (ivj (m := 61) (iv1 (P := mowP) rfl ⟨by decide, by decide, by decide +kernel, fun _ => ⟨rfl, rfl, rfl⟩⟩) (ivj (m := 62) (iv1 (P := mowP) rfl ⟨by decide, by decide, by decide +kernel, fun h => by revert h; decide⟩) (iv1 (P := mowP) rfl ⟨by decide, by decide, by decide +kernel, fun h => by revert h; decide⟩))) (ivj (m := 65) (ivj (m := 64) (iv1 (P := mowP) rfl ⟨by decide, by decide, by decide +kernel, fun h => by revert h; decide⟩) (iv1 (P := mowP) rfl ⟨by decide, by decide, by decide +kernel, fun h => by revert h; decide⟩)) (ivj (m := 66) (iv1 (P := mowP) rfl ⟨by decide, by decide, by decide +kernel, fun h => by revert h; decide⟩) (iv1 (P := mowP) rfl ⟨by decide, by decide, by decide +kernel, fun h => by revert h; decide⟩)))) (ivj (m := 71) (ivj (m := 69) (ivj (m := 68) (iv1 (P := mowP) rfl ⟨by decide, by decide, by decide +kernel, fun h => by revert h; decide⟩) (iv1 (P := mowP) rfl ⟨by decide, by decide, by decide +kernel, fun h => by revert h; decide⟩)) (ivj (m := 70) (iv1 (P := mowP) rfl ⟨by decide, by decide, by decide +kernel, fun h => by revert h; decide⟩) (iv1 (P := mowP) rfl ⟨by decide, by decide, by decide +kernel, fun _ => ⟨rfl, rfl, rfl⟩⟩))) (ivj (m := 73) (ivj (m := 72) (iv1 (P := mowP) rfl ⟨by decide, by decide, by decide +kernel, fun h => by revert h; decide⟩) (iv1 (P := mowP) rfl ⟨by decide, by decide, by decide +kernel, fun h => by revert h; decide⟩)) (ivj (m := 74) (iv1 (P := mowP) rfl ⟨by decide, by decide, by decide +kernel, fun h => by revert h; decide⟩) (iv1 (P := mowP) rfl ⟨by decide, by decide, by decide +kernel, fun h => by revert h; decide⟩))))) (ivj (m := 82) (ivj (m := 78) (ivj (m := 76) (iv1 (P := mowP) rfl ⟨by decide, by decide, by decide +kernel, fun h => by revert h; decide⟩) (ivj (m := 77) (iv1 (P := mowP) rfl ⟨by decide, by decide, by decide +kernel, fun h => by revert h; decide⟩) (iv1 (P := mowP) rfl ⟨by decide, by decide, by decide +kernel, fun h => by revert h; decide⟩))) (ivj (m := 80) (ivj (m := 79) (iv1 (P := mowP) rfl ⟨by decide, by decide, by decide +kernel, fun h => by revert h; decide⟩) (iv1 (P := mowP) rfl ⟨by decide, by decide, by decide +kernel, fun h => by revert h; decide⟩)) (ivj (m := 81) (iv1 (P := mowP) rfl ⟨by decide, by decide, by decide +kernel, fun h => by revert h; decide⟩) (iv1 (P := mowP) rfl ⟨by decide, by decide, by decide +kernel, fun h => by revert h; decide⟩)))) (ivj (m := 86) (ivj (m := 84) (ivj (m := 83) (iv1 (P := mowP) rfl ⟨by decide, by decide, by decide +kernel, fun h => by revert h; decide⟩) (iv1 (P := mowP) rfl ⟨by decide, by decide, by decide +kernel, fun h => by revert h; decide⟩)) (ivj (m := 85) (iv1 (P := mowP) rfl ⟨by decide, by decide, by decide +kernel, fun h => by revert h; decide⟩) (iv1 (P := mowP) rfl ⟨by decide, by decide, by decide +kernel, fun h => by revert h; decide⟩))) (ivj (m := 88) (ivj (m := 87) (iv1 (P := mowP) rfl ⟨by decide, by decide, by decide +kernel, fun h => by revert h; decide⟩) (iv1 (P := mowP) rfl ⟨by decide, by decide, by decide +kernel, fun h => by revert h; decide⟩)) (ivj (m := 89) (iv1 (P := mowP) rfl ⟨by decide, by decide, by decide +kernel, fun h => by revert h; decide⟩) (iv1 (P := mowP) rfl ⟨by decide, by decide, by decide +kernel, fun h => by revert h; decide⟩)))))) (ivj (m := 105) (ivj (m := 97) (ivj (m := 93) (ivj (m := 91) (iv1 (P := mowP) rfl ⟨by decide, by decide, by decide +kernel, fun h => by revert h; decide⟩) (ivj (m := 92) (iv1 (P := mowP) rfl ⟨by decide, by decide, by decide +kernel, fun h => by revert h; decide⟩) (iv1 (P := mowP) rfl ⟨by decide, by decide, by decide +kernel, fun h => by revert h; decide⟩))) (ivj (m := 95) (ivj (m := 94) (iv1 (P := mowP) rfl ⟨by decide, by decide, by decide +kernel, fun h => by revert h; decide⟩) (iv1 (P := mowP) rfl ⟨by decide, by decide, by decide +kernel, fun h => by revert h; decide⟩)) (ivj (m := 96) (iv1 (P := mowP) rfl ⟨by decide, by decide, by decide +kernel, fun _ => ⟨rfl, rfl, rfl⟩⟩) (iv1 (P := mowP) rfl ⟨by decide, by decide, by decide +kernel, fun h => by revert h; decide⟩)))) (ivj (m := 101) (ivj (m := 99) (ivj (m := 98) (iv1 (P := mowP) rfl ⟨by decide, by decide, by decide +kernel, fun h => by revert h; decide⟩) (iv1 (P := mowP) rfl ⟨by decide, by decide, by decide +kernel, fun h => by revert h; decide⟩)) (ivj (m := 100) (iv1 (P := mowP) rfl ⟨by decide, by decide, by decide +kernel, fun h => by revert h; decide⟩) (iv1 (P := mowP) rfl ⟨by decide, by decide, by decide +kernel, fun h => by revert h; decide⟩))) (ivj (m := 103) (ivj (m := 102) (iv1 (P := mowP) rfl ⟨by decide, by decide, by decide +kernel, fun h => by revert h; decide⟩) (iv1 (P := mowP) rfl ⟨by decide, by decide, by decide +kernel, fun h => by revert h; decide⟩)) (ivj (m := 104) (iv1 (P := mowP) rfl ⟨by decide, by decide, by decide +kernel, fun h => by revert h; decide⟩) (iv1 (P := mowP) rfl ⟨by decide, by decide, by decide +kernel, fun h => by revert h; decide⟩))))) (ivj (m := 112) (ivj (m := 108) (ivj (m := 106) (iv1 (P := mowP) rfl ⟨by decide, by decide, by decide +kernel, fun _ => ⟨rfl, rfl, rfl⟩⟩) (ivj (m := 107) (iv1 (P := mowP) rfl ⟨by decide, by decide, by decide +kernel, fun h => by revert h; decide⟩) (iv1 (P := mowP) rfl ⟨by decide, by decide, by decide +kernel, fun h => by revert h; decide⟩))) (ivj (m := 110) (ivj (m := 109) (iv1 (P := mowP) rfl ⟨by decide, by decide, by decide +kernel, fun h => by revert h; decide⟩) (iv1 (P := mowP) rfl ⟨by decide, by decide, by decide +kernel, fun h => by revert h; decide⟩)) (ivj (m := 111) (iv1 (P := mowP) rfl ⟨by decide, by decide, by decide +kernel, fun h => by revert h; decide⟩) (iv1 (P := mowP) rfl ⟨by decide, by decide, by decide +kernel, fun h => by revert h; decide⟩)))) (ivj (m := 116) (ivj (m := 114) (ivj (m := 113) (iv1 (P := mowP) rfl ⟨by decide, by decide, by decide +kernel, fun h => by revert h; decide⟩) (iv1 (P := mowP) rfl ⟨by decide, by decide, by decide +kernel, fun h => by revert h; decide⟩)) (ivj (m := 115) (iv1 (P := mowP) rfl ⟨by decide, by decide, by decide +kernel, fun h => by revert h; decide⟩) (iv1 (P := mowP) rfl ⟨by decide, by decide, by decide +kernel, fun h => by revert h; decide⟩))) (ivj (m := 118) (ivj (m := 117) (iv1 (P := mowP) rfl ⟨by decide, by decide, by decide +kernel, fun h => by revert h; decide⟩) (iv1 (P := mowP) rfl ⟨by decide, by decide, by decide +kernel, fun h => by revert h; decide⟩)) (ivj (m := 119) (iv1 (P := mowP) rfl ⟨by decide, by decide, by decide +kernel, fun _ => ⟨rfl, rfl, rfl⟩⟩) (iv1 (P := mowP) rfl ⟨by decide, by decide, by decide +kernel, fun h => by revert h; decide⟩))))))
theorem mowl_120 : ∀ n, 120 ≤ n → n < 180 → mowP n := ivj (m := 150) (ivj (m := 135) (ivj (m := 127) (ivj (m := 123) (ivj (m := 121) (iv1 (P := mowP) rfl ⟨by decide, by decide, by decide +kernel, fun h => by revert h; decide⟩) (ivj (m := 122) (iv1 (P := mowP) rfl ⟨by decide, by decide, by decide +kernel, fun h => by revert h; decide⟩) (iv1 (P := mowP) rfl ⟨by decide, by decide, by decide +kernel, fun h => by revert h; decide⟩))) (ivj (m := 125) (ivj (m := 124) (iv1 (P := mowP) rfl ⟨by decide, by decide, by decide +kernel, fun h => by revert h; decide⟩) (iv1 (P := mowP) rfl ⟨by decide, by decide, by decide +kernel, fun h => by revert h; decide⟩)) (ivj (m := 126) (iv1 (P := mowP) rfl ⟨by decide, by decide, by decide +kernel, fun h => by revert h; decide⟩) (iv1 (P := mowP) rfl ⟨by decide, by decide, by decide +kernel, fun h => by revert h; decide⟩)))) (ivj (m := 131) (ivj (m := 129) (ivj (m := 128) (iv1 (P := mowP) rfl ⟨by decide, by decide, by decide +kernel, fun _ => ⟨rfl, rfl, rfl⟩⟩) (iv1 (P := mowP) rfl ⟨by decide, by decide, by decide +kernel, fun h => by revert h; decide⟩)) (ivj (m := 130) (iv1 (P := mowP) rfl ⟨by decide, by decide, by decide +kernel, fun _ => ⟨rfl, rfl, rfl⟩⟩) (iv1 (P := mowP) rfl ⟨by decide, by decide, by decide +kernel, fun h => by revert h; decide⟩))) (ivj (m := 133) (ivj (m := 132) (iv1 (P := mowP) rfl ⟨by decide, by decide, by decide +kernel, fun h => by revert h; decide⟩) (iv1 (P := mowP) rfl ⟨by decide, by decide, by decide +kernel, fun h => by revert h; decide⟩)) (ivj (m := 134) (iv1 (P := mowP) rfl ⟨by decide, by decide, by decide +kernel, fun h => by revert h; decide⟩) (iv1 (P := mowP) rfl ⟨by decide, by decide, by decide +kernel, fun h => by revert h; decide⟩))))) (ivj (m := 142) (ivj (m := 138) (ivj (m := 136) (iv1 (P := mowP) rfl ⟨by decide, by decide, by decide +kernel, fun h => by revert h; decide⟩) (ivj (m := 137) (iv1 (P := mowP) rfl ⟨by decide, by decide, by decide +kernel, fun h => by revert h; decide⟩) (iv1 (P := mowP) rfl ⟨by decide, by decide, by decide +kernel, fun h => by revert h; decide⟩))) (ivj (m := 140) (ivj (m := 139) (iv1 (P := mowP) rfl ⟨by decide, by decide, by decide +kernel, fun h => by revert h; decide⟩) (iv1 (P := mowP) rfl ⟨by decide, by decide, by decide +kernel, fun h => by revert h; decide⟩)) (ivj (m := 141) (iv1 (P := mowP) rfl ⟨by decide, by decide, by decide +kernel, fun h => by revert h; decide⟩) (iv1 (P := mowP) rfl ⟨by decide, by decide, by decide +kernel, fun h => by revert h; decide⟩)))) (ivj (m := 146) (ivj (m := 144) (ivj (m := 143) (iv1 (P := mowP) rfl ⟨by decide, by decide, by decide +kernel, fun h => by revert h; decide⟩) (iv1 (P := mowP) rfl ⟨by decide, by decide, by decide +kernel, fun h => by revert h; decide⟩)) (ivj (m := 145) (iv1 (P := mowP) rfl ⟨by decide, by decide, by decide +kernel, fun _ => ⟨rfl, rfl, rfl⟩⟩) (iv1 (P := mowP) rfl ⟨by decide, by decide, by decide +kernel, fun h => by revert h; decide⟩))) (ivj (m := 148) (ivj (m := 147) (iv1 (P := mowP) rfl ⟨by decide, by decide, by decide +kernel, fun h => by revert h; decide⟩) (iv1 (P := mowP) rfl ⟨by decide, by decide, by decide +kernel, fun h => by revert h; decide⟩)) (ivj (m := 149) (iv1 (P := mowP) rfl ⟨by decide, by decide, by decide +kernel, fun h => by revert h; decide⟩) (iv1 (P := mowP) rfl ⟨by decide, by decide, by decide +kernel, fun h => by revert h; decide⟩)))))) (ivj (m := 165) (ivj (m := 157) (ivj (m := 153) (ivj (m := 151) (iv1 (P := mowP) rfl ⟨by decide, by decide, by decide +kernel, fun h => by revert h; decide⟩) (ivj (m := 152) (iv1 (P := mowP) rfl ⟨by decide, by decide, by decide +kernel, fun h => by revert h; decide⟩) (iv1 (P := mowP) rfl ⟨by decide, by decide, by decide +kernel, fun h => by revert h; decide⟩))) (ivj (m := 155) (ivj (m := 154) (iv1 (P := mowP) rfl ⟨by decide, by decide, by decide +kernel, fun h => by revert h; decide⟩) (iv1 (P := mowP) rfl ⟨by decide, by decide, by decide +kernel, fun h => by revert h; decide⟩)) (ivj (m := 156) (iv1 (P := mowP) rfl ⟨by decide, by decide, by decide +kernel, fun h => by revert h; decide⟩) (iv1 (P := mowP) rfl ⟨by decide, by decide, by decide +kernel, fun h => by revert h; decide⟩)))) (ivj (m := 161) (ivj (m := 159) (ivj (m := 158) (iv1 (P := mowP) rfl ⟨by decide, by decide, by decide +kernel, fun _ => ⟨rfl, rfl, rfl⟩⟩) (iv1 (P := mowP) rfl ⟨by decide, by decide, by decide +kernel, fun h => by revert h; decide⟩)) (ivj (m := 160) (iv1 (P := mowP) rfl ⟨by decide, by decide, by decide +kernel, fun h => by revert h; decide⟩) (iv1 (P := mowP) rfl ⟨by decide, by decide, by decide +kernel, fun h => by revert h; decide⟩))) (ivj (m := 163) (ivj (m := 162) (iv1 (P := mowP) rfl ⟨by decide, by decide, by decide +kernel, fun h => by revert h; decide⟩) (iv1 (P := mowP) rfl ⟨by decide, by decide, by decide +kernel, fun h => by revert h; decide⟩)) (ivj (m := 164) (iv1 (P := mowP) rfl ⟨by decide, by decide, by decide +kernel, fun h => by revert h; decide⟩) (iv1 (P := mowP) rfl ⟨by decide, by decide, by decide +kernel, fun h => by revert h; decide⟩))))) (ivj (m := 172) (ivj (m := 168) (ivj (m := 166) (iv1 (P := mowP) rfl ⟨by decide, by decide, by decide +kernel, fun h => by revert h; decide⟩) (ivj (m := 167) (iv1 (P := mowP) rfl ⟨by decide, by decide, by decide +kernel, fun h => by revert h; decide⟩) (iv1 (P := mowP) rfl ⟨by decide, by decide, by decide +kernel, fun h => by revert h; decide⟩))) (ivj (m := 170) (ivj (m := 169) (iv1 (P := mowP) rfl ⟨by decide, by decide, by decide +kernel, fun h => by revert h; decide⟩) (iv1 (P := mowP) rfl ⟨by decide, by decide, by decide +kernel, fun h => by revert h; decide⟩)) (ivj (m := 171) (iv1 (P := mowP) rfl ⟨by decide, by decide, by decide +kernel, fun h => by revert h; decide⟩) (iv1 (P := mowP) rfl ⟨by decide, by decide, by decide +kernel, fun _ => ⟨rfl, rfl, rfl⟩⟩)))) (ivj (m := 176) (ivj (m := 174) (ivj (m := 173) (iv1 (P := mowP) rfl ⟨by decide, by decide, by decide +kernel, fun h => by revert h; decide⟩) (iv1 (P := mowP) rfl ⟨by decide, by decide, by decide +kernel, fun h => by revert h; decide⟩)) (ivj (m := 175) (iv1 (P := mowP) rfl ⟨by decide, by decide, by decide +kernel, fun h => by revert h; decide⟩) (iv1 (P := mowP) rfl ⟨by decide, by decide, by decide +kernel, fun h => by revert h; decide⟩))) (ivj (m := 178) (ivj (m := 177) (iv1 (P := mowP) rfl ⟨by decide, by decide, by decide +kernel, fun h => by revert h; decide⟩) (iv1 (P := mowP) rfl ⟨by decide, by decide, by decide +kernel, fun h => by revert h; decide⟩)) (ivj (m := 179) (iv1 (P := mowP) rfl ⟨by decide, by decide, by decide +kernel, fun h => by revert h; decide⟩) (iv1 (P := mowP) rfl ⟨by decide, by decide, by decide +kernel, fun h => by revert h; decide⟩))))))
theorem mowl_180 : ∀ n, 180 ≤ n → n < 240 → mowP n := ivj (m := 210) (ivj (m := 195) (ivj (m := 187) (ivj (m := 183) (ivj (m := 181) (iv1 (P := mowP) rfl ⟨by decide, by decide, by decide +kernel, fun h => by revert h; decide⟩) (ivj (m := 182) (iv1 (P := mowP) rfl ⟨by decide, by decide, by decide +kernel, fun h => by revert h; decide⟩) (iv1 (P := mowP) rfl ⟨by decide, by decide, by decide +kernel, fun h => by revert h; decide⟩))) (ivj (m := 185) (ivj (m := 184) (iv1 (P := mowP) rfl ⟨by decide, by decide, by decide +kernel, fun h => by revert h; decide⟩) (iv1 (P := mowP) rfl ⟨by decide, by decide, by decide +kernel, fun h => by revert h; decide⟩)) (ivj (m := 186) (iv1 (P := mowP) rfl ⟨by decide, by decide, by decide +kernel, fun h => by revert h; decide⟩) (iv1 (P := mowP) rfl ⟨by decide, by decide, by decide +kernel, fun h => by revert h; decide⟩)))) (ivj (m := 191) (ivj (m := 189) (ivj (m := 188) (iv1 (P := mowP) rfl ⟨by decide, by decide, by decide +kernel, fun h => by revert h; decide⟩) (iv1 (P := mowP) rfl ⟨by decide, by decide, by decide +kernel, fun h => by revert h; decide⟩)) (ivj (m := 190) (iv1 (P := mowP) rfl ⟨by decide, by decide, by decide +kernel, fun h => by revert h; decide⟩) (iv1 (P := mowP) rfl ⟨by decide, by decide, by decide +kernel, fun h => by revert h; decide⟩))) (ivj (m := 193) (ivj (m := 192) (iv1 (P := mowP) rfl ⟨by decide, by decide, by decide +kernel, fun h => by revert h; decide⟩) (iv1 (P := mowP) rfl ⟨by decide, by decide, by decide +kernel, fun h => by revert h; decide⟩)) (ivj (m := 194) (iv1 (P := mowP) rfl ⟨by decide, by decide, by decide +kernel, fun h => by revert h; decide⟩) (iv1 (P := mowP) rfl ⟨by decide, by decide, by decide +kernel, fun h => by revert h; decide⟩))))) (ivj (m := 202) (ivj (m := 198) (ivj (m := 196) (iv1 (P := mowP) rfl ⟨by decide, by decide, by decide +kernel, fun h => by revert h; decide⟩) (ivj (m := 197) (iv1 (P := mowP) rfl ⟨by decide, by decide, by decide +kernel, fun h => by revert h; decide⟩) (iv1 (P := mowP) rfl ⟨by decide, by decide, by decide +kernel, fun h => by revert h; decide⟩))) (ivj (m := 200) (ivj (m := 199) (iv1 (P := mowP) rfl ⟨by decide, by decide, by decide +kernel, fun h => by revert h; decide⟩) (iv1 (P := mowP) rfl ⟨by decide, by decide, by decide +kernel, fun h => by revert h; decide⟩)) (ivj (m := 201) (iv1 (P := mowP) rfl ⟨by decide, by decide, by decide +kernel, fun h => by revert h; decide⟩) (iv1 (P := mowP) rfl ⟨by decide, by decide, by decide +kernel, fun h => by revert h; decide⟩)))) (ivj (m := 206) (ivj (m := 204) (ivj (m := 203) (iv1 (P := mowP) rfl ⟨by decide, by decide, by decide +kernel, fun h => by revert h; decide⟩) (iv1 (P := mowP) rfl ⟨by decide, by decide, by decide +kernel, fun h => by revert h; decide⟩)) (ivj (m := 205) (iv1 (P := mowP) rfl ⟨by decide, by decide, by decide +kernel, fun h => by revert h; decide⟩) (iv1 (P := mowP) rfl ⟨by decide, by decide, by decide +kernel, fun h => by revert h; decide⟩))) (ivj (m := 208) (ivj (m := 207) (iv1 (P := mowP) rfl ⟨by decide, by decide, by decide +kernel, fun h => by revert h; decide⟩) (iv1 (P := mowP) rfl ⟨by decide, by decide, by decide +kernel, fun h => by revert h; decide⟩)) (ivj (m := 209) (iv1 (P := mowP) rfl ⟨by decide, by decide, by decide +kernel, fun h => by revert h; decide⟩) (iv1 (P := mowP) rfl ⟨by decide, by decide, by decide +kernel, fun h => by revert h; decide⟩)))))) (ivj (m := 225) (ivj (m := 217) (ivj (m := 213) (ivj (m := 211) (iv1 (P := mowP) rfl ⟨by decide, by decide, by decide +kernel, fun h => by revert h; decide⟩) (ivj (m := 212) (iv1 (P := mowP) rfl ⟨by decide, by decide, by decide +kernel, fun h => by revert h; decide⟩) (iv1 (P := mowP) rfl ⟨by decide, by decide, by decide +kernel, fun h => by revert h; decide⟩))) (ivj (m := 215) (ivj (m := 214) (iv1 (P := mowP) rfl ⟨by decide, by decide, by decide +kernel, fun h => by revert h; decide⟩) (iv1 (P := mowP) rfl ⟨by decide, by decide, by decide +kernel, fun h => by revert h; decide⟩)) (ivj (m := 216) (iv1 (P := mowP) rfl ⟨by decide, by decide, by decide +kernel, fun h => by revert h; decide⟩) (iv1 (P := mowP) rfl ⟨by decide, by decide, by decide +kernel, fun h => by revert h; decide⟩)))) (ivj (m := 221) (ivj (m := 219) (ivj (m := 218) (iv1 (P := mowP) rfl ⟨by decide, by decide, by decide +kernel, fun h => by revert h; decide⟩) (iv1 (P := mowP) rfl ⟨by decide, by decide, by decide +kernel, fun h => by revert h; decide⟩)) (ivj (m := 220) (iv1 (P := mowP) rfl ⟨by decide, by decide, by decide +kernel, fun h => by revert h; decide⟩) (iv1 (P := mowP) rfl ⟨by decide, by decide, by decide +kernel, fun h => by revert h; decide⟩))) (ivj (m := 223) (ivj (m := 222) (iv1 (P := mowP) rfl ⟨by decide, by decide, by decide +kernel, fun h => by revert h; decide⟩) (iv1 (P := mowP) rfl ⟨by decide, by decide, by decide +kernel, fun h => by revert h; decide⟩)) (ivj (m := 224) (iv1 (P := mowP) rfl ⟨by decide, by decide, by decide +kernel, fun h => by revert h; decide⟩) (iv1 (P := mowP) rfl ⟨by decide, by decide, by decide +kernel, fun h => by revert h; decide⟩))))) (ivj (m := 232) (ivj (m := 228) (ivj (m := 226) (iv1 (P := mowP) rfl ⟨by decide, by decide, by decide +kernel, fun h => by revert h; decide⟩) (ivj (m := 227) (iv1 (P := mowP) rfl ⟨by decide, by decide, by decide +kernel, fun h => by revert h; decide⟩) (iv1 (P := mowP) rfl ⟨by decide, by decide, by decide +kernel, fun h => by revert h; decide⟩))) (ivj (m := 230) (ivj (m := 229) (iv1 (P := mowP) rfl ⟨by decide, by decide, by decide +kernel, fun h => by revert h; decide⟩) (iv1 (P := mowP) rfl ⟨by decide, by decide, by decide +kernel, fun h => by revert h; decide⟩)) (ivj (m := 231) (iv1 (P := mowP) rfl ⟨by decide, by decide, by decide +kernel, fun h => by revert h; decide⟩) (iv1 (P := mowP) rfl ⟨by decide, by decide, by decide +kernel, fun h => by revert h; decide⟩)))) (ivj (m := 236) (ivj (m := 234) (ivj (m := 233) (iv1 (P := mowP) rfl ⟨by decide, by decide, by decide +kernel, fun h => by revert h; decide⟩) (iv1 (P := mowP) rfl ⟨by decide, by decide, by decide +kernel, fun h => by revert h; decide⟩)) (ivj (m := 235) (iv1 (P := mowP) rfl ⟨by decide, by decide, by decide +kernel, fun h => by revert h; decide⟩) (iv1 (P := mowP) rfl ⟨by decide, by decide, by decide +kernel, fun h => by revert h; decide⟩))) (ivj (m := 238) (ivj (m := 237) (iv1 (P := mowP) rfl ⟨by decide, by decide, by decide +kernel, fun h => by revert h; decide⟩) (iv1 (P := mowP) rfl ⟨by decide, by decide, by decide +kernel, fun h => by revert h; decide⟩)) (ivj (m := 239) (iv1 (P := mowP) rfl ⟨by decide, by decide, by decide +kernel, fun h => by revert h; decide⟩) (iv1 (P := mowP) rfl ⟨by decide, by decide, by decide +kernel, fun h => by revert h; decide⟩))))))
theorem mowl_240 : ∀ n, 240 ≤ n → n < 300 → mowP n := ivj (m := 270) (ivj (m := 255) (ivj (m := 247) (ivj (m := 243) (ivj (m := 241) (iv1 (P := mowP) rfl ⟨by decide, by decide, by decide +kernel, fun h => by revert h; decide⟩) (ivj (m := 242) (iv1 (P := mowP) rfl ⟨by decide, by decide, by decide +kernel, fun h => by revert h; decide⟩) (iv1 (P := mowP) rfl ⟨by decide, by decide, by decide +kernel, fun h => by revert h; decide⟩))) (ivj (m := 245) (ivj (m := 244) (iv1 (P := mowP) rfl ⟨by decide, by decide, by decide +kernel, fun h => by revert h; decide⟩) (iv1 (P := mowP) rfl ⟨by decide, by decide, by decide +kernel, fun h => by revert h; decide⟩)) (ivj (m := 246) (iv1 (P := mowP) rfl ⟨by decide, by decide, by decide +kernel, fun h => by revert h; decide⟩) (iv1 (P := mowP) rfl ⟨by decide, by decide, by decide +kernel, fun h => by revert h; decide⟩)))) (ivj (m := 251) (ivj (m := 249) (ivj (m := 248) (iv1 (P := mowP) rfl ⟨by decide, by decide, by decide +kernel, fun h => by revert h; decide⟩) (iv1 (P := mowP) rfl ⟨by decide, by decide, by decide +kernel, fun h => by revert h; decide⟩)) (ivj (m := 250) (iv1 (P := mowP) rfl ⟨by decide, by decide, by decide +kernel, fun h => by revert h; decide⟩) (iv1 (P := mowP) rfl ⟨by decide, by decide, by decide +kernel, fun h => by revert h; decide⟩))) (ivj (m := 253) (ivj (m := 252) (iv1 (P := mowP) rfl ⟨by decide, by decide, by decide +kernel, fun h => by revert h; decide⟩) (iv1 (P := mowP) rfl ⟨by decide, by decide, by decide +kernel, fun h => by revert h; decide⟩)) (ivj (m := 254) (iv1 (P := mowP) rfl ⟨by decide, by decide, by decide +kernel, fun h => by revert h; decide⟩) (iv1 (P := mowP) rfl ⟨by decide, by decide, by decide +kernel, fun h => by revert h; decide⟩))))) (ivj (m := 262) (ivj (m := 258) (ivj (m := 256) (iv1 (P := mowP) rfl ⟨by decide, by decide, by decide +kernel, fun h => by revert h; decide⟩) (ivj (m := 257) (iv1 (P := mowP) rfl ⟨by decide, by decide, by decide +kernel, fun h => by revert h; decide⟩) (iv1 (P := mowP) rfl ⟨by decide, by decide, by decide +kernel, fun h => by revert h; decide⟩))) (ivj (m := 260) (ivj (m := 259) (iv1 (P := mowP) rfl ⟨by decide, by decide, by decide +kernel, fun h => by revert h; decide⟩) (iv1 (P := mowP) rfl ⟨by decide, by decide, by decide +kernel, fun h => by revert h; decide⟩)) (ivj (m := 261) (iv1 (P := mowP) rfl ⟨by decide, by decide, by decide +kernel, fun h => by revert h; decide⟩) (iv1 (P := mowP) rfl ⟨by decide, by decide, by decide +kernel, fun h => by revert h; decide⟩)))) (ivj (m := 266) (ivj (m := 264) (ivj (m := 263) (iv1 (P := mowP) rfl ⟨by decide, by decide, by decide +kernel, fun h => by revert h; decide⟩) (iv1 (P := mowP) rfl ⟨by decide, by decide, by decide +kernel, fun h => by revert h; decide⟩)) (ivj (m := 265) (iv1 (P := mowP) rfl ⟨by decide, by decide, by decide +kernel, fun h => by revert h; decide⟩) (iv1 (P := mowP) rfl ⟨by decide, by decide, by decide +kernel, fun h => by revert h; decide⟩))) (ivj (m := 268) (ivj (m := 267) (iv1 (P := mowP) rfl ⟨by decide, by decide, by decide +kernel, fun h => by revert h; decide⟩) (iv1 (P := mowP) rfl ⟨by decide, by decide, by decide +kernel, fun h => by revert h; decide⟩)) (ivj (m := 269) (iv1 (P := mowP) rfl ⟨by decide, by decide, by decide +kernel, fun h => by revert h; decide⟩) (iv1 (P := mowP) rfl ⟨by decide, by decide, by decide +kernel, fun h => by revert h; decide⟩)))))) (ivj (m := 285) (ivj (m := 277) (ivj (m := 273) (ivj (m := 271) (iv1 (P := mowP) rfl ⟨by decide, by decide, by decide +kernel, fun h => by revert h; decide⟩) (ivj (m := 272) (iv1 (P := mowP) rfl ⟨by decide, by decide, by decide +kernel, fun h => by revert h; decide⟩) (iv1 (P := mowP) rfl ⟨by decide, by decide, by decide +kernel, fun h => by revert h; decide⟩))) (ivj (m := 275) (ivj (m := 274) (iv1 (P := mowP) rfl ⟨by decide, by decide, by decide +kernel, fun h => by revert h; decide⟩) (iv1 (P := mowP) rfl ⟨by decide, by decide, by decide +kernel, fun h => by revert h; decide⟩)) (ivj (m := 276) (iv1 (P := mowP) rfl ⟨by decide, by decide, by decide +kernel, fun h => by revert h; decide⟩) (iv1 (P := mowP) rfl ⟨by decide, by decide, by decide +kernel, fun h => by revert h; decide⟩)))) (ivj (m := 281) (ivj (m := 279) (ivj (m := 278) (iv1 (P := mowP) rfl ⟨by decide, by decide, by decide +kernel, fun h => by revert h; decide⟩) (iv1 (P := mowP) rfl ⟨by decide, by decide, by decide +kernel, fun h => by revert h; decide⟩)) (ivj (m := 280) (iv1 (P := mowP) rfl ⟨by decide, by decide, by decide +kernel, fun h => by revert h; decide⟩) (iv1 (P := mowP) rfl ⟨by decide, by decide, by decide +kernel, fun h => by revert h; decide⟩))) (ivj (m := 283) (ivj (m := 282) (iv1 (P := mowP) rfl ⟨by decide, by decide, by decide +kernel, fun h => by revert h; decide⟩) (iv1 (P := mowP) rfl ⟨by decide, by decide, by decide +kernel, fun h => by revert h; decide⟩)) (ivj (m := 284) (iv1 (P := mowP) rfl ⟨by decide, by decide, by decide +kernel, fun h => by revert h; decide⟩) (iv1 (P := mowP) rfl ⟨by decide, by decide, by decide +kernel, fun h => by revert h; decide⟩))))) (ivj (m := 292) (ivj (m := 288) (ivj (m := 286) (iv1 (P := mowP) rfl ⟨by decide, by decide, by decide +kernel, fun h => by revert h; decide⟩) (ivj (m := 287) (iv1 (P := mowP) rfl ⟨by decide, by decide, by decide +kernel, fun h => by revert h; decide⟩) (iv1 (P := mowP) rfl ⟨by decide, by decide, by decide +kernel, fun h => by revert h; decide⟩))) (ivj (m := 290) (ivj (m := 289) (iv1 (P := mowP) rfl ⟨by decide, by decide, by decide +kernel, fun h => by revert h; decide⟩) (iv1 (P := mowP) rfl ⟨by decide, by decide, by decide +kernel, fun h => by revert h; decide⟩)) (ivj (m := 291) (iv1 (P := mowP) rfl ⟨by decide, by decide, by decide +kernel, fun h => by revert h; decide⟩) (iv1 (P := mowP) rfl ⟨by decide, by decide, by decide +kernel, fun h => by revert h; decide⟩)))) (ivj (m := 296) (ivj (m := 294) (ivj (m := 293) (iv1 (P := mowP) rfl ⟨by decide, by decide, by decide +kernel, fun h => by revert h; decide⟩) (iv1 (P := mowP) rfl ⟨by decide, by decide, by decide +kernel, fun h => by revert h; decide⟩)) (ivj (m := 295) (iv1 (P := mowP) rfl ⟨by decide, by decide, by decide +kernel, fun h => by revert h; decide⟩) (iv1 (P := mowP) rfl ⟨by decide, by decide, by decide +kernel, fun h => by revert h; decide⟩))) (ivj (m := 298) (ivj (m := 297) (iv1 (P := mowP) rfl ⟨by decide, by decide, by decide +kernel, fun h => by revert h; decide⟩) (iv1 (P := mowP) rfl ⟨by decide, by decide, by decide +kernel, fun h => by revert h; decide⟩)) (ivj (m := 299) (iv1 (P := mowP) rfl ⟨by decide, by decide, by decide +kernel, fun h => by revert h; decide⟩) (iv1 (P := mowP) rfl ⟨by decide, by decide, by decide +kernel, fun h => by revert h; decide⟩))))))
theorem mowl_300 : ∀ n, 300 ≤ n → n < 360 → mowP n := ivj (m := 330) (ivj (m := 315) (ivj (m := 307) (ivj (m := 303) (ivj (m := 301) (iv1 (P := mowP) rfl ⟨by decide, by decide, by decide +kernel, fun h => by revert h; decide⟩) (ivj (m := 302) (iv1 (P := mowP) rfl ⟨by decide, by decide, by decide +kernel, fun h => by revert h; decide⟩) (iv1 (P := mowP) rfl ⟨by decide, by decide, by decide +kernel, fun h => by revert h; decide⟩))) (ivj (m := 305) (ivj (m := 304) (iv1 (P := mowP) rfl ⟨by decide, by decide, by decide +kernel, fun h => by revert h; decide⟩) (iv1 (P := mowP) rfl ⟨by decide, by decide, by decide +kernel, fun h => by revert h; decide⟩)) (ivj (m := 306) (iv1 (P := mowP) rfl ⟨by decide, by decide, by decide +kernel, fun h => by revert h; decide⟩) (iv1 (P := mowP) rfl ⟨by decide, by decide, by decide +kernel, fun h => by revert h; decide⟩)))) (ivj (m := 311) (ivj (m := 309) (ivj (m := 308) (iv1 (P := mowP) rfl ⟨by decide, by decide, by decide +kernel, fun h => by revert h; decide⟩) (iv1 (P := mowP) rfl ⟨by decide, by decide, by decide +kernel, fun h => by revert h; decide⟩)) (ivj (m := 310) (iv1 (P := mowP) rfl ⟨by decide, by decide, by decide +kernel, fun h => by revert h; decide⟩) (iv1 (P := mowP) rfl ⟨by decide, by decide, by decide +kernel, fun h => by revert h; decide⟩))) (ivj (m := 313) (ivj (m := 312) (iv1 (P := mowP) rfl ⟨by decide, by decide, by decide +kernel, fun h => by revert h; decide⟩) (iv1 (P := mowP) rfl ⟨by decide, by decide, by decide +kernel, fun h => by revert h; decide⟩)) (ivj (m := 314) (iv1 (P := mowP) rfl ⟨by decide, by decide, by decide +kernel, fun h => by revert h; decide⟩) (iv1 (P := mowP) rfl ⟨by decide, by decide, by decide +kernel, fun h => by revert h; decide⟩))))) (ivj (m := 322) (ivj (m := 318) (ivj (m := 316) (iv1 (P := mowP) rfl ⟨by decide, by decide, by decide +kernel, fun h => by revert h; decide⟩) (ivj (m := 317) (iv1 (P := mowP) rfl ⟨by decide, by decide, by decide +kernel, fun h => by revert h; decide⟩) (iv1 (P := mowP) rfl ⟨by decide, by decide, by decide +kernel, fun h => by revert h; decide⟩))) (ivj (m := 320) (ivj (m := 319) (iv1 (P := mowP) rfl ⟨by decide, by decide, by decide +kernel, fun h => by revert h; decide⟩) (iv1 (P := mowP) rfl ⟨by decide, by decide, by decide +kernel, fun h => by revert h; decide⟩)) (ivj (m := 321) (iv1 (P := mowP) rfl ⟨by decide, by decide, by decide +kernel, fun h => by revert h; decide⟩) (iv1 (P := mowP) rfl ⟨by decide, by decide, by decide +kernel, fun h => by revert h; decide⟩)))) (ivj (m := 326) (ivj (m := 324) (ivj (m := 323) (iv1 (P := mowP) rfl ⟨by decide, by decide, by decide +kernel, fun h => by revert h; decide⟩) (iv1 (P := mowP) rfl ⟨by decide, by decide, by decide +kernel, fun h => by revert h; decide⟩)) (ivj (m := 325) (iv1 (P := mowP) rfl ⟨by decide, by decide, by decide +kernel, fun h => by revert h; decide⟩) (iv1 (P := mowP) rfl ⟨by decide, by decide, by decide +kernel, fun h => by revert h; decide⟩))) (ivj (m := 328) (ivj (m := 327) (iv1 (P := mowP) rfl ⟨by decide, by decide, by decide +kernel, fun h => by revert h; decide⟩) (iv1 (P := mowP) rfl ⟨by decide, by decide, by decide +kernel, fun h => by revert h; decide⟩)) (ivj (m := 329) (iv1 (P := mowP) rfl ⟨by decide, by decide, by decide +kernel, fun h => by revert h; decide⟩) (iv1 (P := mowP) rfl ⟨by decide, by decide, by decide +kernel, fun h => by revert h; decide⟩)))))) (ivj (m := 345) (ivj (m := 337) (ivj (m := 333) (ivj (m := 331) (iv1 (P := mowP) rfl ⟨by decide, by decide, by decide +kernel, fun h => by revert h; decide⟩) (ivj (m := 332) (iv1 (P := mowP) rfl ⟨by decide, by decide, by decide +kernel, fun h => by revert h; decide⟩) (iv1 (P := mowP) rfl ⟨by decide, by decide, by decide +kernel, fun h => by revert h; decide⟩))) (ivj (m := 335) (ivj (m := 334) (iv1 (P := mowP) rfl ⟨by decide, by decide, by decide +kernel, fun h => by revert h; decide⟩) (iv1 (P := mowP) rfl ⟨by decide, by decide, by decide +kernel, fun h => by revert h; decide⟩)) (ivj (m := 336) (iv1 (P := mowP) rfl ⟨by decide, by decide, by decide +kernel, fun h => by revert h; decide⟩) (iv1 (P := mowP) rfl ⟨by decide, by decide, by decide +kernel, fun h => by revert h; decide⟩)))) (ivj (m := 341) (ivj (m := 339) (ivj (m := 338) (iv1 (P := mowP) rfl ⟨by decide, by decide, by decide +kernel, fun h => by revert h; decide⟩) (iv1 (P := mowP) rfl ⟨by decide, by decide, by decide +kernel, fun h => by revert h; decide⟩)) (ivj (m := 340) (iv1 (P := mowP) rfl ⟨by decide, by decide, by decide +kernel, fun h => by revert h; decide⟩) (iv1 (P := mowP) rfl ⟨by decide, by decide, by decide +kernel, fun h => by revert h; decide⟩))) (ivj (m := 343) (ivj (m := 342) (iv1 (P := mowP) rfl ⟨by decide, by decide, by decide +kernel, fun h => by revert h; decide⟩) (iv1 (P := mowP) rfl ⟨by decide, by decide, by decide +kernel, fun h => by revert h; decide⟩)) (ivj (m := 344) (iv1 (P := mowP) rfl ⟨by decide, by decide, by decide +kernel, fun h => by revert h; decide⟩) (iv1 (P := mowP) rfl ⟨by decide, by decide, by decide +kernel, fun h => by revert h; decide⟩))))) (ivj (m := 352) (ivj (m := 348) (ivj (m := 346) (iv1 (P := mowP) rfl ⟨by decide, by decide, by decide +kernel, fun h => by revert h; decide⟩) (ivj (m := 347) (iv1 (P := mowP) rfl ⟨by decide, by decide, by decide +kernel, fun h => by revert h; decide⟩) (iv1 (P := mowP) rfl ⟨by decide, by decide, by decide +kernel, fun h => by revert h; decide⟩))) (ivj (m := 350) (ivj (m := 349) (iv1 (P := mowP) rfl ⟨by decide, by decide, by decide +kernel, fun h => by revert h; decide⟩) (iv1 (P := mowP) rfl ⟨by decide, by decide, by decide +kernel, fun h => by revert h; decide⟩)) (ivj (m := 351) (iv1 (P := mowP) rfl ⟨by decide, by decide, by decide +kernel, fun h => by revert h; decide⟩) (iv1 (P := mowP) rfl ⟨by decide, by decide, by decide +kernel, fun h => by revert h; decide⟩)))) (ivj (m := 356) (ivj (m := 354) (ivj (m := 353) (iv1 (P := mowP) rfl ⟨by decide, by decide, by decide +kernel, fun h => by revert h; decide⟩) (iv1 (P := mowP) rfl ⟨by decide, by decide, by decide +kernel, fun h => by revert h; decide⟩)) (ivj (m := 355) (iv1 (P := mowP) rfl ⟨by decide, by decide, by decide +kernel, fun h => by revert h; decide⟩) (iv1 (P := mowP) rfl ⟨by decide, by decide, by decide +kernel, fun h => by revert h; decide⟩))) (ivj (m := 358) (ivj (m := 357) (iv1 (P := mowP) rfl ⟨by decide, by decide, by decide +kernel, fun h => by revert h; decide⟩) (iv1 (P := mowP) rfl ⟨by decide, by decide, by decide +kernel, fun h => by revert h; decide⟩)) (ivj (m := 359) (iv1 (P := mowP) rfl ⟨by decide, by decide, by decide +kernel, fun h => by revert h; decide⟩) (iv1 (P := mowP) rfl ⟨by decide, by decide, by decide +kernel, fun h => by revert h; decide⟩))))))
theorem mowl_360 : ∀ n, 360 ≤ n → n < 420 → mowP n := ivj (m := 390) (ivj (m := 375) (ivj (m := 367) (ivj (m := 363) (ivj (m := 361) (iv1 (P := mowP) rfl ⟨by decide, by decide, by decide +kernel, fun h => by revert h; decide⟩) (ivj (m := 362) (iv1 (P := mowP) rfl ⟨by decide, by decide, by decide +kernel, fun h => by revert h; decide⟩) (iv1 (P := mowP) rfl ⟨by decide, by decide, by decide +kernel, fun h => by revert h; decide⟩))) (ivj (m := 365) (ivj (m := 364) (iv1 (P := mowP) rfl ⟨by decide, by decide, by decide +kernel, fun h => by revert h; decide⟩) (iv1 (P := mowP) rfl ⟨by decide, by decide, by decide +kernel, fun h => by revert h; decide⟩)) (ivj (m := 366) (iv1 (P := mowP) rfl ⟨by decide, by decide, by decide +kernel, fun h => by revert h; decide⟩) (iv1 (P := mowP) rfl ⟨by decide, by decide, by decide +kernel, fun h => by revert h; decide⟩)))) (ivj (m := 371) (ivj (m := 369) (ivj (m := 368) (iv1 (P := mowP) rfl ⟨by decide, by decide, by decide +kernel, fun h => by revert h; decide⟩) (iv1 (P := mowP) rfl ⟨by decide, by decide, by decide +kernel, fun h => by revert h; decide⟩)) (ivj (m := 370) (iv1 (P := mowP) rfl ⟨by decide, by decide, by decide +kernel, fun h => by revert h; decide⟩) (iv1 (P := mowP) rfl ⟨by decide, by decide, by decide +kernel, fun h => by revert h; decide⟩))) (ivj (m := 373) (ivj (m := 372) (iv1 (P := mowP) rfl ⟨by decide, by decide, by decide +kernel, fun h => by revert h; decide⟩) (iv1 (P := mowP) rfl ⟨by decide, by decide, by decide +kernel, fun h => by revert h; decide⟩)) (ivj (m := 374) (iv1 (P := mowP) rfl ⟨by decide, by decide, by decide +kernel, fun h => by revert h; decide⟩) (iv1 (P := mowP) rfl ⟨by decide, by decide, by decide +kernel, fun h => by revert h; decide⟩))))) (ivj (m := 382) (ivj (m := 378) (ivj (m := 376) (iv1 (P := mowP) rfl ⟨by decide, by decide, by decide +kernel, fun h => by revert h; decide⟩) (ivj (m := 377) (iv1 (P := mowP) rfl ⟨by decide, by decide, by decide +kernel, fun h => by revert h; decide⟩) (iv1 (P := mowP) rfl ⟨by decide, by decide, by decide +kernel, fun h => by revert h; decide⟩))) (ivj (m := 380) (ivj (m := 379) (iv1 (P := mowP) rfl ⟨by decide, by decide, by decide +kernel, fun h => by revert h; decide⟩) (iv1 (P := mowP) rfl ⟨by decide, by decide, by decide +kernel, fun h => by revert h; decide⟩)) (ivj (m := 381) (iv1 (P := mowP) rfl ⟨by decide, by decide, by decide +kernel, fun h => by revert h; decide⟩) (iv1 (P := mowP) rfl ⟨by decide, by decide, by decide +kernel, fun h => by revert h; decide⟩)))) (ivj (m := 386) (ivj (m := 384) (ivj (m := 383) (iv1 (P := mowP) rfl ⟨by decide, by decide, by decide +kernel, fun h => by revert h; decide⟩) (iv1 (P := mowP) rfl ⟨by decide, by decide, by decide +kernel, fun h => by revert h; decide⟩)) (ivj (m := 385) (iv1 (P := mowP) rfl ⟨by decide, by decide, by decide +kernel, fun h => by revert h; decide⟩) (iv1 (P := mowP) rfl ⟨by decide, by decide, by decide +kernel, fun h => by revert h; decide⟩))) (ivj (m := 388) (ivj (m := 387) (iv1 (P := mowP) rfl ⟨by decide, by decide, by decide +kernel, fun h => by revert h; decide⟩) (iv1 (P := mowP) rfl ⟨by decide, by decide, by decide +kernel, fun h => by revert h; decide⟩)) (ivj (m := 389) (iv1 (P := mowP) rfl ⟨by decide, by decide, by decide +kernel, fun h => by revert h; decide⟩) (iv1 (P := mowP) rfl ⟨by decide, by decide, by decide +kernel, fun h => by revert h; decide⟩)))))) (ivj (m := 405) (ivj (m := 397) (ivj (m := 393) (ivj (m := 391) (iv1 (P := mowP) rfl ⟨by decide, by decide, by decide +kernel, fun h => by revert h; decide⟩) (ivj (m := 392) (iv1 (P := mowP) rfl ⟨by decide, by decide, by decide +kernel, fun h => by revert h; decide⟩) (iv1 (P := mowP) rfl ⟨by decide, by decide, by decide +kernel, fun h => by revert h; decide⟩))) (ivj (m := 395) (ivj (m := 394) (iv1 (P := mowP) rfl ⟨by decide, by decide, by decide +kernel, fun h => by revert h; decide⟩) (iv1 (P := mowP) rfl ⟨by decide, by decide, by decide +kernel, fun h => by revert h; decide⟩)) (ivj (m := 396) (iv1 (P := mowP) rfl ⟨by decide, by decide, by decide +kernel, fun h => by revert h; decide⟩) (iv1 (P := mowP) rfl ⟨by decide, by decide, by decide +kernel, fun h => by revert h; decide⟩)))) (ivj (m := 401) (ivj (m := 399) (ivj (m := 398) (iv1 (P := mowP) rfl ⟨by decide, by decide, by decide +kernel, fun h => by revert h; decide⟩) (iv1 (P := mowP) rfl ⟨by decide, by decide, by decide +kernel, fun h => by revert h; decide⟩)) (ivj (m := 400) (iv1 (P := mowP) rfl ⟨by decide, by decide, by decide +kernel, fun h => by revert h; decide⟩) (iv1 (P := mowP) rfl ⟨by decide, by decide, by decide +kernel, fun h => by revert h; decide⟩))) (ivj (m := 403) (ivj (m := 402) (iv1 (P := mowP) rfl ⟨by decide, by decide, by decide +kernel, fun h => by revert h; decide⟩) (iv1 (P := mowP) rfl ⟨by decide, by decide, by decide +kernel, fun h => by revert h; decide⟩)) (ivj (m := 404) (iv1 (P := mowP) rfl ⟨by decide, by decide, by decide +kernel, fun h => by revert h; decide⟩) (iv1 (P := mowP) rfl ⟨by decide, by decide, by decide +kernel, fun h => by revert h; decide⟩))))) (ivj (m := 412) (ivj (m := 408) (ivj (m := 406) (iv1 (P := mowP) rfl ⟨by decide, by decide, by decide +kernel, fun h => by revert h; decide⟩) (ivj (m := 407) (iv1 (P := mowP) rfl ⟨by decide, by decide, by decide +kernel, fun h => by revert h; decide⟩) (iv1 (P := mowP) rfl ⟨by decide, by decide, by decide +kernel, fun h => by revert h; decide⟩))) (ivj (m := 410) (ivj (m := 409) (iv1 (P := mowP) rfl ⟨by decide, by decide, by decide +kernel, fun h => by revert h; decide⟩) (iv1 (P := mowP) rfl ⟨by decide, by decide, by decide +kernel, fun h => by revert h; decide⟩)) (ivj (m := 411) (iv1 (P := mowP) rfl ⟨by decide, by decide, by decide +kernel, fun h => by revert h; decide⟩) (iv1 (P := mowP) rfl ⟨by decide, by decide, by decide +kernel, fun h => by revert h; decide⟩)))) (ivj (m := 416) (ivj (m := 414) (ivj (m := 413) (iv1 (P := mowP) rfl ⟨by decide, by decide, by decide +kernel, fun h => by revert h; decide⟩) (iv1 (P := mowP) rfl ⟨by decide, by decide, by decide +kernel, fun h => by revert h; decide⟩)) (ivj (m := 415) (iv1 (P := mowP) rfl ⟨by decide, by decide, by decide +kernel, fun h => by revert h; decide⟩) (iv1 (P := mowP) rfl ⟨by decide, by decide, by decide +kernel, fun h => by revert h; decide⟩))) (ivj (m := 418) (ivj (m := 417) (iv1 (P := mowP) rfl ⟨by decide, by decide, by decide +kernel, fun h => by revert h; decide⟩) (iv1 (P := mowP) rfl ⟨by decide, by decide, by decide +kernel, fun h => by revert h; decide⟩)) (ivj (m := 419) (iv1 (P := mowP) rfl ⟨by decide, by decide, by decide +kernel, fun h => by revert h; decide⟩) (iv1 (P := mowP) rfl ⟨by decide, by decide, by decide +kernel, fun h => by revert h; decide⟩))))))
theorem mowl_420 : ∀ n, 420 ≤ n → n < 480 → mowP n := ivj (m := 450) (ivj (m := 435) (ivj (m := 427) (ivj (m := 423) (ivj (m := 421) (iv1 (P := mowP) rfl ⟨by decide, by decide, by decide +kernel, fun h => by revert h; decide⟩) (ivj (m := 422) (iv1 (P := mowP) rfl ⟨by decide, by decide, by decide +kernel, fun h => by revert h; decide⟩) (iv1 (P := mowP) rfl ⟨by decide, by decide, by decide +kernel, fun h => by revert h; decide⟩))) (ivj (m := 425) (ivj (m := 424) (iv1 (P := mowP) rfl ⟨by decide, by decide, by decide +kernel, fun h => by revert h; decide⟩) (iv1 (P := mowP) rfl ⟨by decide, by decide, by decide +kernel, fun h => by revert h; decide⟩)) (ivj (m := 426) (iv1 (P := mowP) rfl ⟨by decide, by decide, by decide +kernel, fun h => by revert h; decide⟩) (iv1 (P := mowP) rfl ⟨by decide, by decide, by decide +kernel, fun h => by revert h; decide⟩)))) (ivj (m := 431) (ivj (m := 429) (ivj (m := 428) (iv1 (P := mowP) rfl ⟨by decide, by decide, by decide +kernel, fun h => by revert h; decide⟩) (iv1 (P := mowP) rfl ⟨by decide, by decide, by decide +kernel, fun h => by revert h; decide⟩)) (ivj (m := 430) (iv1 (P := mowP) rfl ⟨by decide, by decide, by decide +kernel, fun h => by revert h; decide⟩) (iv1 (P := mowP) rfl ⟨by decide, by decide, by decide +kernel, fun h => by revert h; decide⟩))) (ivj (m := 433) (ivj (m := 432) (iv1 (P := mowP) rfl ⟨by decide, by decide, by decide +kernel, fun h => by revert h; decide⟩) (iv1 (P := mowP) rfl ⟨by decide, by decide, by decide +kernel, fun h => by revert h; decide⟩)) (ivj (m := 434) (iv1 (P := mowP) rfl ⟨by decide, by decide, by decide +kernel, fun h => by revert h; decide⟩) (iv1 (P := mowP) rfl ⟨by decide, by decide, by decide +kernel, fun h => by revert h; decide⟩))))) (ivj (m := 442) (ivj (m := 438) (ivj (m := 436) (iv1 (P := mowP) rfl ⟨by decide, by decide, by decide +kernel, fun h => by revert h; decide⟩) (ivj (m := 437) (iv1 (P := mowP) rfl ⟨by decide, by decide, by decide +kernel, fun h => by revert h; decide⟩) (iv1 (P := mowP) rfl ⟨by decide, by decide, by decide +kernel, fun h => by revert h; decide⟩))) (ivj (m := 440) (ivj (m := 439) (iv1 (P := mowP) rfl ⟨by decide, by decide, by decide +kernel, fun h => by revert h; decide⟩) (iv1 (P := mowP) rfl ⟨by decide, by decide, by decide +kernel, fun h => by revert h; decide⟩)) (ivj (m := 441) (iv1 (P := mowP) rfl ⟨by decide, by decide, by decide +kernel, fun h => by revert h; decide⟩) (iv1 (P := mowP) rfl ⟨by decide, by decide, by decide +kernel, fun h => by revert h; decide⟩)))) (ivj (m := 446) (ivj (m := 444) (ivj (m := 443) (iv1 (P := mowP) rfl ⟨by decide, by decide, by decide +kernel, fun h => by revert h; decide⟩) (iv1 (P := mowP) rfl ⟨by decide, by decide, by decide +kernel, fun h => by revert h; decide⟩)) (ivj (m := 445) (iv1 (P := mowP) rfl ⟨by decide, by decide, by decide +kernel, fun h => by revert h; decide⟩) (iv1 (P := mowP) rfl ⟨by decide, by decide, by decide +kernel, fun h => by revert h; decide⟩))) (ivj (m := 448) (ivj (m := 447) (iv1 (P := mowP) rfl ⟨by decide, by decide, by decide +kernel, fun h => by revert h; decide⟩) (iv1 (P := mowP) rfl ⟨by decide, by decide, by decide +kernel, fun h => by revert h; decide⟩)) (ivj (m := 449) (iv1 (P := mowP) rfl ⟨by decide, by decide, by decide +kernel, fun h => by revert h; decide⟩) (iv1 (P := mowP) rfl ⟨by decide, by decide, by decide +kernel, fun h => by revert h; decide⟩)))))) (ivj (m := 465) (ivj (m := 457) (ivj (m := 453) (ivj (m := 451) (iv1 (P := mowP) rfl ⟨by decide, by decide, by decide +kernel, fun h => by revert h; decide⟩) (ivj (m := 452) (iv1 (P := mowP) rfl ⟨by decide, by decide, by decide +kernel, fun h => by revert h; decide⟩) (iv1 (P := mowP) rfl ⟨by decide, by decide, by decide +kernel, fun h => by revert h; decide⟩))) (ivj (m := 455) (ivj (m := 454) (iv1 (P := mowP) rfl ⟨by decide, by decide, by decide +kernel, fun h => by revert h; decide⟩) (iv1 (P := mowP) rfl ⟨by decide, by decide, by decide +kernel, fun h => by revert h; decide⟩)) (ivj (m := 456) (iv1 (P := mowP) rfl ⟨by decide, by decide, by decide +kernel, fun h => by revert h; decide⟩) (iv1 (P := mowP) rfl ⟨by decide, by decide, by decide +kernel, fun h => by revert h; decide⟩)))) (ivj (m := 461) (ivj (m := 459) (ivj (m := 458) (iv1 (P := mowP) rfl ⟨by decide, by decide, by decide +kernel, fun h => by revert h; decide⟩) (iv1 (P := mowP) rfl ⟨by decide, by decide, by decide +kernel, fun h => by revert h; decide⟩)) (ivj (m := 460) (iv1 (P := mowP) rfl ⟨by decide, by decide, by decide +kernel, fun h => by revert h; decide⟩) (iv1 (P := mowP) rfl ⟨by decide, by decide, by decide +kernel, fun h => by revert h; decide⟩))) (ivj (m := 463) (ivj (m := 462) (iv1 (P := mowP) rfl ⟨by decide, by decide, by decide +kernel, fun h => by revert h; decide⟩) (iv1 (P := mowP) rfl ⟨by decide, by decide, by decide +kernel, fun h => by revert h; decide⟩)) (ivj (m := 464) (iv1 (P := mowP) rfl ⟨by decide, by decide, by decide +kernel, fun h => by revert h; decide⟩) (iv1 (P := mowP) rfl ⟨by decide, by decide, by decide +kernel, fun h => by revert h; decide⟩))))) (ivj (m := 472) (ivj (m := 468) (ivj (m := 466) (iv1 (P := mowP) rfl ⟨by decide, by decide, by decide +kernel, fun h => by revert h; decide⟩) (ivj (m := 467) (iv1 (P := mowP) rfl ⟨by decide, by decide, by decide +kernel, fun h => by revert h; decide⟩) (iv1 (P := mowP) rfl ⟨by decide, by decide, by decide +kernel, fun h => by revert h; decide⟩))) (ivj (m := 470) (ivj (m := 469) (iv1 (P := mowP) rfl ⟨by decide, by decide, by decide +kernel, fun h => by revert h; decide⟩) (iv1 (P := mowP) rfl ⟨by decide, by decide, by decide +kernel, fun h => by revert h; decide⟩)) (ivj (m := 471) (iv1 (P := mowP) rfl ⟨by decide, by decide, by decide +kernel, fun h => by revert h; decide⟩) (iv1 (P := mowP) rfl ⟨by decide, by decide, by decide +kernel, fun h => by revert h; decide⟩)))) (ivj (m := 476) (ivj (m := 474) (ivj (m := 473) (iv1 (P := mowP) rfl ⟨by decide, by decide, by decide +kernel, fun h => by revert h; decide⟩) (iv1 (P := mowP) rfl ⟨by decide, by decide, by decide +kernel, fun h => by revert h; decide⟩)) (ivj (m := 475) (iv1 (P := mowP) rfl ⟨by decide, by decide, by decide +kernel, fun h => by revert h; decide⟩) (iv1 (P := mowP) rfl ⟨by decide, by decide, by decide +kernel, fun h => by revert h; decide⟩))) (ivj (m := 478) (ivj (m := 477) (iv1 (P := mowP) rfl ⟨by decide, by decide, by decide +kernel, fun h => by revert h; decide⟩) (iv1 (P := mowP) rfl ⟨by decide, by decide, by decide +kernel, fun h => by revert h; decide⟩)) (ivj (m := 479) (iv1 (P := mowP) rfl ⟨by decide, by decide, by decide +kernel, fun h => by revert h; decide⟩) (iv1 (P := mowP) rfl ⟨by decide, by decide, by decide +kernel, fun h => by revert h; decide⟩))))))
theorem mowl_480 : ∀ n, 480 ≤ n → n < 540 → mowP n := ivj (m := 510) (ivj (m := 495) (ivj (m := 487) (ivj (m := 483) (ivj (m := 481) (iv1 (P := mowP) rfl ⟨by decide, by decide, by decide +kernel, fun h => by revert h; decide⟩) (ivj (m := 482) (iv1 (P := mowP) rfl ⟨by decide, by decide, by decide +kernel, fun h => by revert h; decide⟩) (iv1 (P := mowP) rfl ⟨by decide, by decide, by decide +kernel, fun h => by revert h; decide⟩))) (ivj (m := 485) (ivj (m := 484) (iv1 (P := mowP) rfl ⟨by decide, by decide, by decide +kernel, fun h => by revert h; decide⟩) (iv1 (P := mowP) rfl ⟨by decide, by decide, by decide +kernel, fun h => by revert h; decide⟩)) (ivj (m := 486) (iv1 (P := mowP) rfl ⟨by decide, by decide, by decide +kernel, fun h => by revert h; decide⟩) (iv1 (P := mowP) rfl ⟨by decide, by decide, by decide +kernel, fun h => by revert h; decide⟩)))) (ivj (m := 491) (ivj (m := 489) (ivj (m := 488) (iv1 (P := mowP) rfl ⟨by decide, by decide, by decide +kernel, fun h => by revert h; decide⟩) (iv1 (P := mowP) rfl ⟨by decide, by decide, by decide +kernel, fun h => by revert h; decide⟩)) (ivj (m := 490) (iv1 (P := mowP) rfl ⟨by decide, by decide, by decide +kernel, fun h => by revert h; decide⟩) (iv1 (P := mowP) rfl ⟨by decide, by decide, by decide +kernel, fun h => by revert h; decide⟩))) (ivj (m := 493) (ivj (m := 492) (iv1 (P := mowP) rfl ⟨by decide, by decide, by decide +kernel, fun h => by revert h; decide⟩) (iv1 (P := mowP) rfl ⟨by decide, by decide, by decide +kernel, fun h => by revert h; decide⟩)) (ivj (m := 494) (iv1 (P := mowP) rfl ⟨by decide, by decide, by decide +kernel, fun h => by revert h; decide⟩) (iv1 (P := mowP) rfl ⟨by decide, by decide, by decide +kernel, fun h => by revert h; decide⟩))))) (ivj (m := 502) (ivj (m := 498) (ivj (m := 496) (iv1 (P := mowP) rfl ⟨by decide, by decide, by decide +kernel, fun h => by revert h; decide⟩) (ivj (m := 497) (iv1 (P := mowP) rfl ⟨by decide, by decide, by decide +kernel, fun h => by revert h; decide⟩) (iv1 (P := mowP) rfl ⟨by decide, by decide, by decide +kernel, fun h => by revert h; decide⟩))) (ivj (m := 500) (ivj (m := 499) (iv1 (P := mowP) rfl ⟨by decide, by decide, by decide +kernel, fun h => by revert h; decide⟩) (iv1 (P := mowP) rfl ⟨by decide, by decide, by decide +kernel, fun h => by revert h; decide⟩)) (ivj (m := 501) (iv1 (P := mowP) rfl ⟨by decide, by decide, by decide +kernel, fun h => by revert h; decide⟩) (iv1 (P := mowP) rfl ⟨by decide, by decide, by decide +kernel, fun h => by revert h; decide⟩)))) (ivj (m := 506) (ivj (m := 504) (ivj (m := 503) (iv1 (P := mowP) rfl ⟨by decide, by decide, by decide +kernel, fun h => by revert h; decide⟩) (iv1 (P := mowP) rfl ⟨by decide, by decide, by decide +kernel, fun h => by revert h; decide⟩)) (ivj (m := 505) (iv1 (P := mowP) rfl ⟨by decide, by decide, by decide +kernel, fun h => by revert h; decide⟩) (iv1 (P := mowP) rfl ⟨by decide, by decide, by decide +kernel, fun h => by revert h; decide⟩))) (ivj (m := 508) (ivj (m := 507) (iv1 (P := mowP) rfl ⟨by decide, by decide, by decide +kernel, fun h => by revert h; decide⟩) (iv1 (P := mowP) rfl ⟨by decide, by decide, by decide +kernel, fun h => by revert h; decide⟩)) (ivj (m := 509) (iv1 (P := mowP) rfl ⟨by decide, by decide, by decide +kernel, fun h => by revert h; decide⟩) (iv1 (P := mowP) rfl ⟨by decide, by decide, by decide +kernel, fun h => by revert h; decide⟩)))))) (ivj (m := 525) (ivj (m := 517) (ivj (m := 513) (ivj (m := 511) (iv1 (P := mowP) rfl ⟨by decide, by decide, by decide +kernel, fun h => by revert h; decide⟩) (ivj (m := 512) (iv1 (P := mowP) rfl ⟨by decide, by decide, by decide +kernel, fun h => by revert h; decide⟩) (iv1 (P := mowP) rfl ⟨by decide, by decide, by decide +kernel, fun h => by revert h; decide⟩))) (ivj (m := 515) (ivj (m := 514) (iv1 (P := mowP) rfl ⟨by decide, by decide, by decide +kernel, fun h => by revert h; decide⟩) (iv1 (P := mowP) rfl ⟨by decide, by decide, by decide +kernel, fun h => by revert h; decide⟩)) (ivj (m := 516) (iv1 (P := mowP) rfl ⟨by decide, by decide, by decide +kernel, fun h => by revert h; decide⟩) (iv1 (P := mowP) rfl ⟨by decide, by decide, by decide +kernel, fun h => by revert h; decide⟩)))) (ivj (m := 521) (ivj (m := 519) (ivj (m := 518) (iv1 (P := mowP) rfl ⟨by decide, by decide, by decide +kernel, fun h => by revert h; decide⟩) (iv1 (P := mowP) rfl ⟨by decide, by decide, by decide +kernel, fun h => by revert h; decide⟩)) (ivj (m := 520) (iv1 (P := mowP) rfl ⟨by decide, by decide, by decide +kernel, fun h => by revert h; decide⟩) (iv1 (P := mowP) rfl ⟨by decide, by decide, by decide +kernel, fun h => by revert h; decide⟩))) (ivj (m := 523) (ivj (m := 522) (iv1 (P := mowP) rfl ⟨by decide, by decide, by decide +kernel, fun h => by revert h; decide⟩) (iv1 (P := mowP) rfl ⟨by decide, by decide, by decide +kernel, fun h => by revert h; decide⟩)) (ivj (m := 524) (iv1 (P := mowP) rfl ⟨by decide, by decide, by decide +kernel, fun h => by revert h; decide⟩) (iv1 (P := mowP) rfl ⟨by decide, by decide, by decide +kernel, fun h => by revert h; decide⟩))))) (ivj (m := 532) (ivj (m := 528) (ivj (m := 526) (iv1 (P := mowP) rfl ⟨by decide, by decide, by decide +kernel, fun h => by revert h; decide⟩) (ivj (m := 527) (iv1 (P := mowP) rfl ⟨by decide, by decide, by decide +kernel, fun h => by revert h; decide⟩) (iv1 (P := mowP) rfl ⟨by decide, by decide, by decide +kernel, fun h => by revert h; decide⟩))) (ivj (m := 530) (ivj (m := 529) (iv1 (P := mowP) rfl ⟨by decide, by decide, by decide +kernel, fun h => by revert h; decide⟩) (iv1 (P := mowP) rfl ⟨by decide, by decide, by decide +kernel, fun h => by revert h; decide⟩)) (ivj (m := 531) (iv1 (P := mowP) rfl ⟨by decide, by decide, by decide +kernel, fun h => by revert h; decide⟩) (iv1 (P := mowP) rfl ⟨by decide, by decide, by decide +kernel, fun h => by revert h; decide⟩)))) (ivj (m := 536) (ivj (m := 534) (ivj (m := 533) (iv1 (P := mowP) rfl ⟨by decide, by decide, by decide +kernel, fun h => by revert h; decide⟩) (iv1 (P := mowP) rfl ⟨by decide, by decide, by decide +kernel, fun h => by revert h; decide⟩)) (ivj (m := 535) (iv1 (P := mowP) rfl ⟨by decide, by decide, by decide +kernel, fun h => by revert h; decide⟩) (iv1 (P := mowP) rfl ⟨by decide, by decide, by decide +kernel, fun h => by revert h; decide⟩))) (ivj (m := 538) (ivj (m := 537) (iv1 (P := mowP) rfl ⟨by decide, by decide, by decide +kernel, fun h => by revert h; decide⟩) (iv1 (P := mowP) rfl ⟨by decide, by decide, by decide +kernel, fun h => by revert h; decide⟩)) (ivj (m := 539) (iv1 (P := mowP) rfl ⟨by decide, by decide, by decide +kernel, fun h => by revert h; decide⟩) (iv1 (P := mowP) rfl ⟨by decide, by decide, by decide +kernel, fun h => by revert h; decide⟩))))))
theorem mowl_540 : ∀ n, 540 ≤ n → n < 600 → mowP n := ivj (m := 570) (ivj (m := 555) (ivj (m := 547) (ivj (m := 543) (ivj (m := 541) (iv1 (P := mowP) rfl ⟨by decide, by decide, by decide +kernel, fun h => by revert h; decide⟩) (ivj (m := 542) (iv1 (P := mowP) rfl ⟨by decide, by decide, by decide +kernel, fun h => by revert h; decide⟩) (iv1 (P := mowP) rfl ⟨by decide, by decide, by decide +kernel, fun h => by revert h; decide⟩))) (ivj (m := 545) (ivj (m := 544) (iv1 (P := mowP) rfl ⟨by decide, by decide, by decide +kernel, fun h => by revert h; decide⟩) (iv1 (P := mowP) rfl ⟨by decide, by decide, by decide +kernel, fun h => by revert h; decide⟩)) (ivj (m := 546) (iv1 (P := mowP) rfl ⟨by decide, by decide, by decide +kernel, fun h => by revert h; decide⟩) (iv1 (P := mowP) rfl ⟨by decide, by decide, by decide +kernel, fun h => by revert h; decide⟩)))) (ivj (m := 551) (ivj (m := 549) (ivj (m := 548) (iv1 (P := mowP) rfl ⟨by decide, by decide, by decide +kernel, fun h => by revert h; decide⟩) (iv1 (P := mowP) rfl ⟨by decide, by decide, by decide +kernel, fun h => by revert h; decide⟩)) (ivj (m := 550) (iv1 (P := mowP) rfl ⟨by decide, by decide, by decide +kernel, fun h => by revert h; decide⟩) (iv1 (P := mowP) rfl ⟨by decide, by decide, by decide +kernel, fun h => by revert h; decide⟩))) (ivj (m := 553) (ivj (m := 552) (iv1 (P := mowP) rfl ⟨by decide, by decide, by decide +kernel, fun h => by revert h; decide⟩) (iv1 (P := mowP) rfl ⟨by decide, by decide, by decide +kernel, fun h => by revert h; decide⟩)) (ivj (m := 554) (iv1 (P := mowP) rfl ⟨by decide, by decide, by decide +kernel, fun h => by revert h; decide⟩) (iv1 (P := mowP) rfl ⟨by decide, by decide, by decide +kernel, fun h => by revert h; decide⟩))))) (ivj (m := 562) (ivj (m := 558) (ivj (m := 556) (iv1 (P := mowP) rfl ⟨by decide, by decide, by decide +kernel, fun h => by revert h; decide⟩) (ivj (m := 557) (iv1 (P := mowP) rfl ⟨by decide, by decide, by decide +kernel, fun h => by revert h; decide⟩) (iv1 (P := mowP) rfl ⟨by decide, by decide, by decide +kernel, fun h => by revert h; decide⟩))) (ivj (m := 560) (ivj (m := 559) (iv1 (P := mowP) rfl ⟨by decide, by decide, by decide +kernel, fun h => by revert h; decide⟩) (iv1 (P := mowP) rfl ⟨by decide, by decide, by decide +kernel, fun h => by revert h; decide⟩)) (ivj (m := 561) (iv1 (P := mowP) rfl ⟨by decide, by decide, by decide +kernel, fun h => by revert h; decide⟩) (iv1 (P := mowP) rfl ⟨by decide, by decide, by decide +kernel, fun h => by revert h; decide⟩)))) (ivj (m := 566) (ivj (m := 564) (ivj (m := 563) (iv1 (P := mowP) rfl ⟨by decide, by decide, by decide +kernel, fun h => by revert h; decide⟩) (iv1 (P := mowP) rfl ⟨by decide, by decide, by decide +kernel, fun h => by revert h; decide⟩)) (ivj (m := 565) (iv1 (P := mowP) rfl ⟨by decide, by decide, by decide +kernel, fun h => by revert h; decide⟩) (iv1 (P := mowP) rfl ⟨by decide, by decide, by decide +kernel, fun h => by revert h; decide⟩))) (ivj (m := 568) (ivj (m := 567) (iv1 (P := mowP) rfl ⟨by decide, by decide, by decide +kernel, fun h => by revert h; decide⟩) (iv1 (P := mowP) rfl ⟨by decide, by decide, by decide +kernel, fun h => by revert h; decide⟩)) (ivj (m := 569) (iv1 (P := mowP) rfl ⟨by decide, by decide, by decide +kernel, fun h => by revert h; decide⟩) (iv1 (P := mowP) rfl ⟨by decide, by decide, by decide +kernel, fun h => by revert h; decide⟩)))))) (ivj (m := 585) (ivj (m := 577) (ivj (m := 573) (ivj (m := 571) (iv1 (P := mowP) rfl ⟨by decide, by decide, by decide +kernel, fun h => by revert h; decide⟩) (ivj (m := 572) (iv1 (P := mowP) rfl ⟨by decide, by decide, by decide +kernel, fun h => by revert h; decide⟩) (iv1 (P := mowP) rfl ⟨by decide, by decide, by decide +kernel, fun h => by revert h; decide⟩))) (ivj (m := 575) (ivj (m := 574) (iv1 (P := mowP) rfl ⟨by decide, by decide, by decide +kernel, fun h => by revert h; decide⟩) (iv1 (P := mowP) rfl ⟨by decide, by decide, by decide +kernel, fun h => by revert h; decide⟩)) (ivj (m := 576) (iv1 (P := mowP) rfl ⟨by decide, by decide, by decide +kernel, fun h => by revert h; decide⟩) (iv1 (P := mowP) rfl ⟨by decide, by decide, by decide +kernel, fun h => by revert h; decide⟩)))) (ivj (m := 581) (ivj (m := 579) (ivj (m := 578) (iv1 (P := mowP) rfl ⟨by decide, by decide, by decide +kernel, fun h => by revert h; decide⟩) (iv1 (P := mowP) rfl ⟨by decide, by decide, by decide +kernel, fun h => by revert h; decide⟩)) (ivj (m := 580) (iv1 (P := mowP) rfl ⟨by decide, by decide, by decide +kernel, fun h => by revert h; decide⟩) (iv1 (P := mowP) rfl ⟨by decide, by decide, by decide +kernel, fun h => by revert h; decide⟩))) (ivj (m := 583) (ivj (m := 582) (iv1 (P := mowP) rfl ⟨by decide, by decide, by decide +kernel, fun h => by revert h; decide⟩) (iv1 (P := mowP) rfl ⟨by decide, by decide, by decide +kernel, fun h => by revert h; decide⟩)) (ivj (m := 584) (iv1 (P := mowP) rfl ⟨by decide, by decide, by decide +kernel, fun h => by revert h; decide⟩) (iv1 (P := mowP) rfl ⟨by decide, by decide, by decide +kernel, fun h => by revert h; decide⟩))))) (ivj (m := 592) (ivj (m := 588) (ivj (m := 586) (iv1 (P := mowP) rfl ⟨by decide, by decide, by decide +kernel, fun h => by revert h; decide⟩) (ivj (m := 587) (iv1 (P := mowP) rfl ⟨by decide, by decide, by decide +kernel, fun h => by revert h; decide⟩) (iv1 (P := mowP) rfl ⟨by decide, by decide, by decide +kernel, fun h => by revert h; decide⟩))) (ivj (m := 590) (ivj (m := 589) (iv1 (P := mowP) rfl ⟨by decide, by decide, by decide +kernel, fun h => by revert h; decide⟩) (iv1 (P := mowP) rfl ⟨by decide, by decide, by decide +kernel, fun h => by revert h; decide⟩)) (ivj (m := 591) (iv1 (P := mowP) rfl ⟨by decide, by decide, by decide +kernel, fun h => by revert h; decide⟩) (iv1 (P := mowP) rfl ⟨by decide, by decide, by decide +kernel, fun h => by revert h; decide⟩)))) (ivj (m := 596) (ivj (m := 594) (ivj (m := 593) (iv1 (P := mowP) rfl ⟨by decide, by decide, by decide +kernel, fun h => by revert h; decide⟩) (iv1 (P := mowP) rfl ⟨by decide, by decide, by decide +kernel, fun h => by revert h; decide⟩)) (ivj (m := 595) (iv1 (P := mowP) rfl ⟨by decide, by decide, by decide +kernel, fun h => by revert h; decide⟩) (iv1 (P := mowP) rfl ⟨by decide, by decide, by decide +kernel, fun h => by revert h; decide⟩))) (ivj (m := 598) (ivj (m := 597) (iv1 (P := mowP) rfl ⟨by decide, by decide, by decide +kernel, fun h => by revert h; decide⟩) (iv1 (P := mowP) rfl ⟨by decide, by decide, by decide +kernel, fun h => by revert h; decide⟩)) (ivj (m := 599) (iv1 (P := mowP) rfl ⟨by decide, by decide, by decide +kernel, fun h => by revert h; decide⟩) (iv1 (P := mowP) rfl ⟨by decide, by decide, by decide +kernel, fun h => by revert h; decide⟩))))))
theorem mowl_600 : ∀ n, 600 ≤ n → n < 629 → mowP n := ivj (m := 614) (ivj (m := 607) (ivj (m := 603) (ivj (m := 601) (iv1 (P := mowP) rfl ⟨by decide, by decide, by decide +kernel, fun h => by revert h; decide⟩) (ivj (m := 602) (iv1 (P := mowP) rfl ⟨by decide, by decide, by decide +kernel, fun h => by revert h; decide⟩) (iv1 (P := mowP) rfl ⟨by decide, by decide, by decide +kernel, fun h => by revert h; decide⟩))) (ivj (m := 605) (ivj (m := 604) (iv1 (P := mowP) rfl ⟨by decide, by decide, by decide +kernel, fun h => by revert h; decide⟩) (iv1 (P := mowP) rfl ⟨by decide, by decide, by decide +kernel, fun h => by revert h; decide⟩)) (ivj (m := 606) (iv1 (P := mowP) rfl ⟨by decide, by decide, by decide +kernel, fun h => by revert h; decide⟩) (iv1 (P := mowP) rfl ⟨by decide, by decide, by decide +kernel, fun h => by revert h; decide⟩)))) (ivj (m := 610) (ivj (m := 608) (iv1 (P := mowP) rfl ⟨by decide, by decide, by decide +kernel, fun h => by revert h; decide⟩) (ivj (m := 609) (iv1 (P := mowP) rfl ⟨by decide, by decide, by decide +kernel, fun h => by revert h; decide⟩) (iv1 (P := mowP) rfl ⟨by decide, by decide, by decide +kernel, fun h => by revert h; decide⟩))) (ivj (m := 612) (ivj (m := 611) (iv1 (P := mowP) rfl ⟨by decide, by decide, by decide +kernel, fun h => by revert h; decide⟩) (iv1 (P := mowP) rfl ⟨by decide, by decide, by decide +kernel, fun h => by revert h; decide⟩)) (ivj (m := 613) (iv1 (P := mowP) rfl ⟨by decide, by decide, by decide +kernel, fun h => by revert h; decide⟩) (iv1 (P := mowP) rfl ⟨by decide, by decide, by decide +kernel, fun h => by revert h; decide⟩))))) (ivj (m := 621) (ivj (m := 617) (ivj (m := 615) (iv1 (P := mowP) rfl ⟨by decide, by decide, by decide +kernel, fun h => by revert h; decide⟩) (ivj (m := 616) (iv1 (P := mowP) rfl ⟨by decide, by decide, by decide +kernel, fun h => by revert h; decide⟩) (iv1 (P := mowP) rfl ⟨by decide, by decide, by decide +kernel, fun h => by revert h; decide⟩))) (ivj (m := 619) (ivj (m := 618) (iv1 (P := mowP) rfl ⟨by decide, by decide, by decide +kernel, fun h => by revert h; decide⟩) (iv1 (P := mowP) rfl ⟨by decide, by decide, by decide +kernel, fun h => by revert h; decide⟩)) (ivj (m := 620) (iv1 (P := mowP) rfl ⟨by decide, by decide, by decide +kernel, fun h => by revert h; decide⟩) (iv1 (P := mowP) rfl ⟨by decide, by decide, by decide +kernel, fun h => by revert h; decide⟩)))) (ivj (m := 625) (ivj (m := 623) (ivj (m := 622) (iv1 (P := mowP) rfl ⟨by decide, by decide, by decide +kernel, fun h => by revert h; decide⟩) (iv1 (P := mowP) rfl ⟨by decide, by decide, by decide +kernel, fun h => by revert h; decide⟩)) (ivj (m := 624) (iv1 (P := mowP) rfl ⟨by decide, by decide, by decide +kernel, fun h => by revert h; decide⟩) (iv1 (P := mowP) rfl ⟨by decide, by decide, by decide +kernel, fun h => by revert h; decide⟩))) (ivj (m := 627) (ivj (m := 626) (iv1 (P := mowP) rfl ⟨by decide, by decide, by decide +kernel, fun h => by revert h; decide⟩) (iv1 (P := mowP) rfl ⟨by decide, by decide, by decide +kernel, fun h => by revert h; decide⟩)) (ivj (m := 628) (iv1 (P := mowP) rfl ⟨by decide, by decide, by decide +kernel, fun h => by revert h; decide⟩) (iv1 (P := mowP) rfl ⟨by decide, by decide, by decide +kernel, fun h => by revert h; decide⟩)))))
theorem mowl_ok : ∀ n, 0 ≤ n → n < 629 → mowP n := ivj (m := 60) mowl_0 (ivj (m := 120) mowl_60 (ivj (m := 180) mowl_120 (ivj (m := 240) mowl_180 (ivj (m := 300) mowl_240 (ivj (m := 360) mowl_300 (ivj (m := 420) mowl_360 (ivj (m := 480) mowl_420 (ivj (m := 540) mowl_480 (ivj (m := 600) mowl_540 (mowl_600))))))))))
