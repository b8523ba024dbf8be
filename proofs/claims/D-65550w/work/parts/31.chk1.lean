set_option maxRecDepth 1000000
theorem ckM_66 : ckM 66 = true := by decide +kernel
theorem ckM_67 : ckM 67 = true := by decide +kernel
theorem ckM_68 : ckM 68 = true := by decide +kernel
theorem ckM_69 : ckM 69 = true := by decide +kernel
theorem ckM_70 : ckM 70 = true := by decide +kernel
theorem ckM_71 : ckM 71 = true := by decide +kernel
theorem ckM_72 : ckM 72 = true := by decide +kernel
theorem ckM_73 : ckM 73 = true := by decide +kernel
def dw74 (n : Nat) : Except DecodeError (Instr × Nat) := bif Nat.blt n 192 then bif Nat.blt n 64 then dwl prog_1_method_10_code 0 120 n else bif Nat.blt n 128 then dwl prog_1_method_10_code 64 88 n else dwl prog_1_method_10_code 128 88 n else bif Nat.blt n 256 then dwl prog_1_method_10_code 192 88 n else bif Nat.blt n 320 then dwl prog_1_method_10_code 256 88 n else dwl prog_1_method_10_code 320 88 n
theorem dwo74 : ∀ pc z, dw74 pc = .ok z → decode (mby (imt 74)) pc = .ok z := by
  intro pc z h
  show decode prog_1_method_10_code pc = .ok z
  unfold dw74 at h
  repeat' (first | exact dwl_ok rfl h | (replace h := bif_or h; rcases h with h | h))
theorem ckM_74_0 : am_l74_0.all (ckP 74) = true := ckPD_ok dwo74 (by decide +kernel)
theorem ckM_74_1 : am_l74_1.all (ckP 74) = true := ckPD_ok dwo74 (by decide +kernel)
theorem ckM_74 : ckM 74 = true := ckM_of rfl (by decide +kernel) (all_ap ckM_74_0 ckM_74_1)
theorem ckM_75 : ckM 75 = true := by decide +kernel
theorem ckM_76 : ckM 76 = true := by decide +kernel
theorem ckM_77 : ckM 77 = true := by decide +kernel
theorem ckM_78 : ckM 78 = true := by decide +kernel
theorem ckM_79 : ckM 79 = true := by decide +kernel
theorem ckM_80 : ckM 80 = true := by decide +kernel
theorem ckM_81 : ckM 81 = true := by decide +kernel
theorem ckM_82 : ckM 82 = true := by decide +kernel
theorem ckM_83 : ckM 83 = true := by decide +kernel
theorem ckM_84 : ckM 84 = true := by decide +kernel
theorem ckM_85 : ckM 85 = true := by decide +kernel
theorem ckM_86 : ckM 86 = true := by decide +kernel
theorem ckM_87 : ckM 87 = true := by decide +kernel
theorem ckM_88 : ckM 88 = true := by decide +kernel
theorem ckM_89 : ckM 89 = true := by decide +kernel
theorem ckM_90 : ckM 90 = true := by decide +kernel
theorem ckM_91 : ckM 91 = true := by decide +kernel
theorem ckM_92 : ckM 92 = true := by decide +kernel
theorem ckM_93 : ckM 93 = true := by decide +kernel
theorem ckM_94 : ckM 94 = true := by decide +kernel
theorem ckM_95 : ckM 95 = true := by decide +kernel
theorem ckM_96 : ckM 96 = true := by decide +kernel
theorem ckM_97 : ckM 97 = true := by decide +kernel
theorem ckM_98 : ckM 98 = true := by decide +kernel
theorem ckM_99 : ckM 99 = true := by decide +kernel
theorem ckM_100 : ckM 100 = true := by decide +kernel
theorem ckM_101 : ckM 101 = true := by decide +kernel
theorem ckM_102 : ckM 102 = true := by decide +kernel
theorem ckM_103 : ckM 103 = true := by decide +kernel
theorem ckM_104 : ckM 104 = true := by decide +kernel
theorem ckM_105 : ckM 105 = true := by decide +kernel
theorem ckM_106 : ckM 106 = true := by decide +kernel
theorem ckM_107 : ckM 107 = true := by decide +kernel
theorem ckM_108 : ckM 108 = true := by decide +kernel
theorem ckM_109 : ckM 109 = true := by decide +kernel
theorem ckM_110 : ckM 110 = true := by decide +kernel
theorem ckM_111 : ckM 111 = true := by decide +kernel
theorem ckM_112 : ckM 112 = true := by decide +kernel
theorem ckM_113 : ckM 113 = true := by decide +kernel
theorem ckM_114 : ckM 114 = true := by decide +kernel
theorem ckM_115 : ckM 115 = true := by decide +kernel
theorem ckM_116 : ckM 116 = true := by decide +kernel
theorem ckM_117 : ckM 117 = true := by decide +kernel
theorem ckM_118 : ckM 118 = true := by decide +kernel
theorem ckM_119 : ckM 119 = true := by decide +kernel
theorem ckM_120 : ckM 120 = true := by decide +kernel
theorem ckM_121 : ckM 121 = true := by decide +kernel
theorem ckM_122 : ckM 122 = true := by decide +kernel
theorem ckM_123 : ckM 123 = true := by decide +kernel
theorem ckM_124 : ckM 124 = true := by decide +kernel
theorem ckM_125 : ckM 125 = true := by decide +kernel
theorem ckM_126 : ckM 126 = true := by decide +kernel
theorem ckM_127 : ckM 127 = true := by decide +kernel
theorem ckM_128 : ckM 128 = true := by decide +kernel
theorem ckM_129 : ckM 129 = true := by decide +kernel
theorem ckM_130 : ckM 130 = true := by decide +kernel
theorem ckM_131 : ckM 131 = true := by decide +kernel
theorem ckM_132 : ckM 132 = true := by decide +kernel
theorem ckM_133 : ckM 133 = true := by decide +kernel
theorem ckM_134 : ckM 134 = true := by decide +kernel
theorem ckM_135 : ckM 135 = true := by decide +kernel
theorem ckM_136 : ckM 136 = true := by decide +kernel
theorem ckM_137 : ckM 137 = true := by decide +kernel
theorem ckM_138 : ckM 138 = true := by decide +kernel
theorem ckM_139 : ckM 139 = true := by decide +kernel
theorem ckM_140 : ckM 140 = true := by decide +kernel
theorem ckM_141 : ckM 141 = true := by decide +kernel
def dw142 (n : Nat) : Except DecodeError (Instr × Nat) := bif Nat.blt n 128 then bif Nat.blt n 64 then dwl prog_13_method_10_code 0 88 n else dwl prog_13_method_10_code 64 88 n else bif Nat.blt n 192 then dwl prog_13_method_10_code 128 88 n else bif Nat.blt n 256 then dwl prog_13_method_10_code 192 88 n else dwl prog_13_method_10_code 256 88 n
theorem dwo142 : ∀ pc z, dw142 pc = .ok z → decode (mby (imt 142)) pc = .ok z := by
  intro pc z h
  show decode prog_13_method_10_code pc = .ok z
  unfold dw142 at h
  repeat' (first | exact dwl_ok rfl h | (replace h := bif_or h; rcases h with h | h))
theorem ckM_142_0 : am_l142_0.all (ckP 142) = true := ckPD_ok dwo142 (by decide +kernel)
theorem ckM_142_1 : am_l142_1.all (ckP 142) = true := ckPD_ok dwo142 (by decide +kernel)
theorem ckM_142 : ckM 142 = true := ckM_of rfl (by decide +kernel) (all_ap ckM_142_0 ckM_142_1)
theorem ckM_143 : ckM 143 = true := by decide +kernel
theorem ckM_144 : ckM 144 = true := by decide +kernel
theorem ckM_145 : ckM 145 = true := by decide +kernel
theorem ckM_146 : ckM 146 = true := by decide +kernel
theorem ckM_147 : ckM 147 = true := by decide +kernel
theorem ckM_148 : ckM 148 = true := by decide +kernel
theorem ckM_149 : ckM 149 = true := by decide +kernel
theorem ckM_150 : ckM 150 = true := by decide +kernel
theorem ckM_151 : ckM 151 = true := by decide +kernel
theorem ckM_152 : ckM 152 = true := by decide +kernel
theorem ckM_153 : ckM 153 = true := by decide +kernel
theorem ckM_154 : ckM 154 = true := by decide +kernel
theorem ckM_155 : ckM 155 = true := by decide +kernel
theorem ckM_156 : ckM 156 = true := by decide +kernel
theorem ckM_157 : ckM 157 = true := by decide +kernel
theorem ckM_158 : ckM 158 = true := by decide +kernel
theorem ckM_159 : ckM 159 = true := by decide +kernel
theorem ckM_160 : ckM 160 = true := by decide +kernel
theorem ckM_161 : ckM 161 = true := by decide +kernel
theorem ckM_162 : ckM 162 = true := by decide +kernel
theorem ckM_163 : ckM 163 = true := by decide +kernel
theorem ckM_164 : ckM 164 = true := by decide +kernel
theorem ckM_165 : ckM 165 = true := by decide +kernel
theorem ckM_166 : ckM 166 = true := by decide +kernel
theorem ckM_167 : ckM 167 = true := by decide +kernel
theorem ckM_168 : ckM 168 = true := by decide +kernel
theorem ckM_169 : ckM 169 = true := by decide +kernel
theorem ckM_170 : ckM 170 = true := by decide +kernel
theorem ckM_171 : ckM 171 = true := by decide +kernel
theorem ckM_172 : ckM 172 = true := by decide +kernel
theorem ckM_173 : ckM 173 = true := by decide +kernel
theorem ckM_174 : ckM 174 = true := by decide +kernel
theorem ckM_175 : ckM 175 = true := by decide +kernel
theorem ckM_176 : ckM 176 = true := by decide +kernel
theorem ckM_177 : ckM 177 = true := by decide +kernel
