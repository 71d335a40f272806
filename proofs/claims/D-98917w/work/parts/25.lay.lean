set_option maxRecDepth 100000
/-! ===== what the two constructors lay: cells 64 .. 178 ===== -/
def ab_sTl : List (Nat × Nat) := [(0, 28), (1, 14), (64, 6), (64, 5), (64, 5), (64, 5), (64, 5), (64, 6), (69, 7), (2, 3), (2, 3), (2, 3), (3, 2), (4, 2), (5, 3), (5, 3), (6, 7), (64, 6), (64, 5), (64, 5), (6, 7), (64, 6), (64, 5), (64, 5), (65, 900), (70, 10), (6, 7), (64, 6), (64, 5), (64, 5), (6, 7), (64, 6), (64, 5), (64, 5), (6, 7), (64, 6), (64, 5), (64, 5), (6, 7), (64, 6), (64, 5), (64, 5), (6, 7), (64, 6), (64, 5), (64, 5), (6, 7), (64, 6), (64, 5), (64, 5), (6, 7), (64, 6), (64, 5), (64, 5), (6, 7), (64, 6), (64, 5), (64, 5), (6, 7), (64, 6), (64, 5), (64, 5), (6, 7), (64, 6), (64, 5), (64, 5), (64, 48), (64, 96), (64, 6), (64, 61), (64, 60), (68, 9), (68, 9), (64, 6), (68, 90), (71, 4), (7, 1), (7, 1), (7, 1), (7, 1), (72, 2), (70, 2), (6, 7), (64, 6), (64, 5), (64, 5), (6, 7), (64, 6), (64, 5), (64, 5), (8, 41), (64, 3411), (67, 2), (64, 900), (64, 1137), (64, 900), (64, 6), (64, 19), (64, 12), (64, 12), (64, 12), (64, 61), (64, 60), (68, 9), (68, 9), (64, 6), (64, 6), (64, 60), (64, 60), (64, 60), (68, 9), (68, 9), (64, 4), (64, 4), (68, 160)]
def ab_sT (a : Nat) : Option (Nat × Nat) := ab_sTl[a - 64]?
def ab_rT : List (Nat × Nat × Nat) := [(64, 1, 72), (64, 2, 80), (64, 3, 84), (64, 4, 88), (64, 8, 89), (64, 12, 130), (64, 13, 131), (64, 14, 132), (64, 15, 133), (64, 16, 134), (64, 17, 135), (64, 18, 136), (64, 20, 137), (64, 24, 138), (64, 25, 139), (64, 26, 144), (64, 27, 145), (72, 0, 73), (72, 1, 74), (72, 2, 75), (72, 3, 76), (72, 4, 77), (72, 5, 78), (72, 6, 79), (73, 2, 64), (74, 2, 64), (75, 2, 64), (76, 1, 64), (77, 1, 64), (78, 2, 64), (79, 2, 64), (80, 6, 64), (80, 0, 81), (80, 1, 82), (80, 2, 83), (84, 6, 64), (84, 0, 85), (84, 1, 86), (84, 2, 87), (89, 0, 90), (89, 1, 94), (89, 2, 98), (89, 3, 102), (89, 4, 106), (89, 5, 110), (89, 6, 114), (89, 7, 118), (89, 8, 122), (89, 9, 126), (90, 6, 64), (90, 0, 91), (90, 1, 92), (90, 2, 93), (94, 6, 64), (94, 0, 95), (94, 1, 96), (94, 2, 97), (98, 6, 64), (98, 0, 99), (98, 1, 100), (98, 2, 101), (102, 6, 64), (102, 0, 103), (102, 1, 104), (102, 2, 105), (106, 6, 64), (106, 0, 107), (106, 1, 108), (106, 2, 109), (110, 6, 64), (110, 0, 111), (110, 1, 112), (110, 2, 113), (114, 6, 64), (114, 0, 115), (114, 1, 116), (114, 2, 117), (118, 6, 64), (118, 0, 119), (118, 1, 120), (118, 2, 121), (122, 6, 64), (122, 0, 123), (122, 1, 124), (122, 2, 125), (126, 6, 64), (126, 0, 127), (126, 1, 128), (126, 2, 129), (139, 0, 140), (139, 1, 141), (139, 2, 142), (139, 3, 143), (145, 0, 146), (145, 1, 150), (146, 6, 64), (146, 0, 147), (146, 1, 148), (146, 2, 149), (150, 6, 64), (150, 0, 151), (150, 1, 152), (150, 2, 153), (154, 1, 155), (154, 2, 156), (154, 3, 157), (154, 4, 158), (154, 16, 159), (154, 17, 160), (154, 18, 161), (154, 21, 162), (154, 22, 163), (154, 23, 164), (154, 24, 165), (154, 25, 166), (154, 26, 167), (154, 27, 168), (154, 28, 169), (154, 29, 170), (154, 30, 171), (154, 31, 172), (154, 32, 173), (154, 36, 174), (154, 37, 175), (154, 38, 176), (154, 39, 177), (154, 40, 178)]
/-- the static part of the memory stands: shapes, and references that never change -/
def ab_SI (M : ab_M) : Prop := 179 ≤ ab_z M ∧ (∀ a, 64 ≤ a → a < 179 → ab_h M a = ab_sT a) ∧ (∀ e ∈ ab_rT, ab_R M e.1 e.2.1 = some e.2.2)
section LAY
variable {M : ab_M} {a b k j n c : Nat} {v : Int32} {w : Int64} {f : Nat → Int32} {fl : Nat → Int64}
theorem si_h (h : ab_SI M) (h1 : 64 ≤ a) (h2 : a < 179) : ab_h M a = ab_sT a := h.2.1 a h1 h2
theorem si_wI : ab_SI (ab_wI M a k v) = ab_SI M := rfl
theorem si_wL : ab_SI (ab_wL M a k w) = ab_SI M := rfl
theorem si_rI : ab_SI (ab_rI M a f) = ab_SI M := rfl
theorem si_rL : ab_SI (ab_rL M a fl) = ab_SI M := rfl
theorem si_nw (h : ab_SI M) : ab_SI (ab_nw M c n) := by
  obtain ⟨h1, h2, h3⟩ := h
  refine ⟨by rw [z_nw]; omega, fun a a1 a2 => ?_, fun e he => ?_⟩
  · rw [h_nw, if_neg (by omega)]; exact h2 a a1 a2
  · have : e.1 < 179 := by
      have hh : ∀ e ∈ ab_rT, e.1 < 179 := by decide +kernel
      exact hh e he
    rw [R_nw, if_neg (by omega)]; exact h3 e he
theorem si_wR {q : Option Nat} (h : ab_SI M) (hn : ∀ e ∈ ab_rT, ¬ (e.1 = a ∧ e.2.1 = k)) : ab_SI (ab_wR M a k q) := ⟨h.1, h.2.1, fun e he => by rw [R_wR, if_neg (hn e he)]; exact h.2.2 e he⟩
theorem sT_64 : ab_sT 64 = some (0, 28) := rfl
theorem sT_65 : ab_sT 65 = some (1, 14) := rfl
theorem sT_66 : ab_sT 66 = some (64, 6) := rfl
theorem sT_67 : ab_sT 67 = some (64, 5) := rfl
theorem sT_68 : ab_sT 68 = some (64, 5) := rfl
theorem sT_69 : ab_sT 69 = some (64, 5) := rfl
theorem sT_70 : ab_sT 70 = some (64, 5) := rfl
theorem sT_71 : ab_sT 71 = some (64, 6) := rfl
theorem sT_72 : ab_sT 72 = some (69, 7) := rfl
theorem sT_73 : ab_sT 73 = some (2, 3) := rfl
theorem sT_74 : ab_sT 74 = some (2, 3) := rfl
theorem sT_75 : ab_sT 75 = some (2, 3) := rfl
theorem sT_76 : ab_sT 76 = some (3, 2) := rfl
theorem sT_77 : ab_sT 77 = some (4, 2) := rfl
theorem sT_78 : ab_sT 78 = some (5, 3) := rfl
theorem sT_79 : ab_sT 79 = some (5, 3) := rfl
theorem sT_80 : ab_sT 80 = some (6, 7) := rfl
theorem sT_81 : ab_sT 81 = some (64, 6) := rfl
theorem sT_82 : ab_sT 82 = some (64, 5) := rfl
theorem sT_83 : ab_sT 83 = some (64, 5) := rfl
theorem sT_84 : ab_sT 84 = some (6, 7) := rfl
theorem sT_85 : ab_sT 85 = some (64, 6) := rfl
theorem sT_86 : ab_sT 86 = some (64, 5) := rfl
theorem sT_87 : ab_sT 87 = some (64, 5) := rfl
theorem sT_88 : ab_sT 88 = some (65, 900) := rfl
theorem sT_89 : ab_sT 89 = some (70, 10) := rfl
theorem sT_90 : ab_sT 90 = some (6, 7) := rfl
theorem sT_91 : ab_sT 91 = some (64, 6) := rfl
theorem sT_92 : ab_sT 92 = some (64, 5) := rfl
theorem sT_93 : ab_sT 93 = some (64, 5) := rfl
theorem sT_94 : ab_sT 94 = some (6, 7) := rfl
theorem sT_95 : ab_sT 95 = some (64, 6) := rfl
theorem sT_96 : ab_sT 96 = some (64, 5) := rfl
theorem sT_97 : ab_sT 97 = some (64, 5) := rfl
theorem sT_98 : ab_sT 98 = some (6, 7) := rfl
theorem sT_99 : ab_sT 99 = some (64, 6) := rfl
theorem sT_100 : ab_sT 100 = some (64, 5) := rfl
theorem sT_101 : ab_sT 101 = some (64, 5) := rfl
theorem sT_102 : ab_sT 102 = some (6, 7) := rfl
theorem sT_103 : ab_sT 103 = some (64, 6) := rfl
theorem sT_104 : ab_sT 104 = some (64, 5) := rfl
theorem sT_105 : ab_sT 105 = some (64, 5) := rfl
theorem sT_106 : ab_sT 106 = some (6, 7) := rfl
theorem sT_107 : ab_sT 107 = some (64, 6) := rfl
theorem sT_108 : ab_sT 108 = some (64, 5) := rfl
theorem sT_109 : ab_sT 109 = some (64, 5) := rfl
theorem sT_110 : ab_sT 110 = some (6, 7) := rfl
theorem sT_111 : ab_sT 111 = some (64, 6) := rfl
theorem sT_112 : ab_sT 112 = some (64, 5) := rfl
theorem sT_113 : ab_sT 113 = some (64, 5) := rfl
theorem sT_114 : ab_sT 114 = some (6, 7) := rfl
theorem sT_115 : ab_sT 115 = some (64, 6) := rfl
theorem sT_116 : ab_sT 116 = some (64, 5) := rfl
theorem sT_117 : ab_sT 117 = some (64, 5) := rfl
theorem sT_118 : ab_sT 118 = some (6, 7) := rfl
theorem sT_119 : ab_sT 119 = some (64, 6) := rfl
theorem sT_120 : ab_sT 120 = some (64, 5) := rfl
theorem sT_121 : ab_sT 121 = some (64, 5) := rfl
theorem sT_122 : ab_sT 122 = some (6, 7) := rfl
theorem sT_123 : ab_sT 123 = some (64, 6) := rfl
theorem sT_124 : ab_sT 124 = some (64, 5) := rfl
theorem sT_125 : ab_sT 125 = some (64, 5) := rfl
theorem sT_126 : ab_sT 126 = some (6, 7) := rfl
theorem sT_127 : ab_sT 127 = some (64, 6) := rfl
theorem sT_128 : ab_sT 128 = some (64, 5) := rfl
theorem sT_129 : ab_sT 129 = some (64, 5) := rfl
theorem sT_130 : ab_sT 130 = some (64, 48) := rfl
theorem sT_131 : ab_sT 131 = some (64, 96) := rfl
theorem sT_132 : ab_sT 132 = some (64, 6) := rfl
theorem sT_133 : ab_sT 133 = some (64, 61) := rfl
theorem sT_134 : ab_sT 134 = some (64, 60) := rfl
theorem sT_135 : ab_sT 135 = some (68, 9) := rfl
theorem sT_136 : ab_sT 136 = some (68, 9) := rfl
theorem sT_137 : ab_sT 137 = some (64, 6) := rfl
theorem sT_138 : ab_sT 138 = some (68, 90) := rfl
theorem sT_139 : ab_sT 139 = some (71, 4) := rfl
theorem sT_140 : ab_sT 140 = some (7, 1) := rfl
theorem sT_141 : ab_sT 141 = some (7, 1) := rfl
theorem sT_142 : ab_sT 142 = some (7, 1) := rfl
theorem sT_143 : ab_sT 143 = some (7, 1) := rfl
theorem sT_144 : ab_sT 144 = some (72, 2) := rfl
theorem sT_145 : ab_sT 145 = some (70, 2) := rfl
theorem sT_146 : ab_sT 146 = some (6, 7) := rfl
theorem sT_147 : ab_sT 147 = some (64, 6) := rfl
theorem sT_148 : ab_sT 148 = some (64, 5) := rfl
theorem sT_149 : ab_sT 149 = some (64, 5) := rfl
theorem sT_150 : ab_sT 150 = some (6, 7) := rfl
theorem sT_151 : ab_sT 151 = some (64, 6) := rfl
theorem sT_152 : ab_sT 152 = some (64, 5) := rfl
theorem sT_153 : ab_sT 153 = some (64, 5) := rfl
theorem sT_154 : ab_sT 154 = some (8, 41) := rfl
theorem sT_155 : ab_sT 155 = some (64, 3411) := rfl
theorem sT_156 : ab_sT 156 = some (67, 2) := rfl
theorem sT_157 : ab_sT 157 = some (64, 900) := rfl
theorem sT_158 : ab_sT 158 = some (64, 1137) := rfl
theorem sT_159 : ab_sT 159 = some (64, 900) := rfl
theorem sT_160 : ab_sT 160 = some (64, 6) := rfl
theorem sT_161 : ab_sT 161 = some (64, 19) := rfl
theorem sT_162 : ab_sT 162 = some (64, 12) := rfl
theorem sT_163 : ab_sT 163 = some (64, 12) := rfl
theorem sT_164 : ab_sT 164 = some (64, 12) := rfl
theorem sT_165 : ab_sT 165 = some (64, 61) := rfl
theorem sT_166 : ab_sT 166 = some (64, 60) := rfl
theorem sT_167 : ab_sT 167 = some (68, 9) := rfl
theorem sT_168 : ab_sT 168 = some (68, 9) := rfl
theorem sT_169 : ab_sT 169 = some (64, 6) := rfl
theorem sT_170 : ab_sT 170 = some (64, 6) := rfl
theorem sT_171 : ab_sT 171 = some (64, 60) := rfl
theorem sT_172 : ab_sT 172 = some (64, 60) := rfl
theorem sT_173 : ab_sT 173 = some (64, 60) := rfl
theorem sT_174 : ab_sT 174 = some (68, 9) := rfl
theorem sT_175 : ab_sT 175 = some (68, 9) := rfl
theorem sT_176 : ab_sT 176 = some (64, 4) := rfl
theorem sT_177 : ab_sT 177 = some (64, 4) := rfl
theorem sT_178 : ab_sT 178 = some (68, 160) := rfl
theorem sr_64_1 (h : ab_SI M) : ab_R M 64 1 = some 72 := h.2.2 (64, 1, 72) (List.mem_of_getElem? (i := 0) rfl)
theorem sr_64_2 (h : ab_SI M) : ab_R M 64 2 = some 80 := h.2.2 (64, 2, 80) (List.mem_of_getElem? (i := 1) rfl)
theorem sr_64_3 (h : ab_SI M) : ab_R M 64 3 = some 84 := h.2.2 (64, 3, 84) (List.mem_of_getElem? (i := 2) rfl)
theorem sr_64_4 (h : ab_SI M) : ab_R M 64 4 = some 88 := h.2.2 (64, 4, 88) (List.mem_of_getElem? (i := 3) rfl)
theorem sr_64_8 (h : ab_SI M) : ab_R M 64 8 = some 89 := h.2.2 (64, 8, 89) (List.mem_of_getElem? (i := 4) rfl)
theorem sr_64_12 (h : ab_SI M) : ab_R M 64 12 = some 130 := h.2.2 (64, 12, 130) (List.mem_of_getElem? (i := 5) rfl)
theorem sr_64_13 (h : ab_SI M) : ab_R M 64 13 = some 131 := h.2.2 (64, 13, 131) (List.mem_of_getElem? (i := 6) rfl)
theorem sr_64_14 (h : ab_SI M) : ab_R M 64 14 = some 132 := h.2.2 (64, 14, 132) (List.mem_of_getElem? (i := 7) rfl)
theorem sr_64_15 (h : ab_SI M) : ab_R M 64 15 = some 133 := h.2.2 (64, 15, 133) (List.mem_of_getElem? (i := 8) rfl)
theorem sr_64_16 (h : ab_SI M) : ab_R M 64 16 = some 134 := h.2.2 (64, 16, 134) (List.mem_of_getElem? (i := 9) rfl)
theorem sr_64_17 (h : ab_SI M) : ab_R M 64 17 = some 135 := h.2.2 (64, 17, 135) (List.mem_of_getElem? (i := 10) rfl)
theorem sr_64_18 (h : ab_SI M) : ab_R M 64 18 = some 136 := h.2.2 (64, 18, 136) (List.mem_of_getElem? (i := 11) rfl)
theorem sr_64_20 (h : ab_SI M) : ab_R M 64 20 = some 137 := h.2.2 (64, 20, 137) (List.mem_of_getElem? (i := 12) rfl)
theorem sr_64_24 (h : ab_SI M) : ab_R M 64 24 = some 138 := h.2.2 (64, 24, 138) (List.mem_of_getElem? (i := 13) rfl)
theorem sr_64_25 (h : ab_SI M) : ab_R M 64 25 = some 139 := h.2.2 (64, 25, 139) (List.mem_of_getElem? (i := 14) rfl)
theorem sr_64_26 (h : ab_SI M) : ab_R M 64 26 = some 144 := h.2.2 (64, 26, 144) (List.mem_of_getElem? (i := 15) rfl)
theorem sr_64_27 (h : ab_SI M) : ab_R M 64 27 = some 145 := h.2.2 (64, 27, 145) (List.mem_of_getElem? (i := 16) rfl)
theorem sr_72_0 (h : ab_SI M) : ab_R M 72 0 = some 73 := h.2.2 (72, 0, 73) (List.mem_of_getElem? (i := 17) rfl)
theorem sr_72_1 (h : ab_SI M) : ab_R M 72 1 = some 74 := h.2.2 (72, 1, 74) (List.mem_of_getElem? (i := 18) rfl)
theorem sr_72_2 (h : ab_SI M) : ab_R M 72 2 = some 75 := h.2.2 (72, 2, 75) (List.mem_of_getElem? (i := 19) rfl)
theorem sr_72_3 (h : ab_SI M) : ab_R M 72 3 = some 76 := h.2.2 (72, 3, 76) (List.mem_of_getElem? (i := 20) rfl)
theorem sr_72_4 (h : ab_SI M) : ab_R M 72 4 = some 77 := h.2.2 (72, 4, 77) (List.mem_of_getElem? (i := 21) rfl)
theorem sr_72_5 (h : ab_SI M) : ab_R M 72 5 = some 78 := h.2.2 (72, 5, 78) (List.mem_of_getElem? (i := 22) rfl)
theorem sr_72_6 (h : ab_SI M) : ab_R M 72 6 = some 79 := h.2.2 (72, 6, 79) (List.mem_of_getElem? (i := 23) rfl)
theorem sr_73_2 (h : ab_SI M) : ab_R M 73 2 = some 64 := h.2.2 (73, 2, 64) (List.mem_of_getElem? (i := 24) rfl)
theorem sr_74_2 (h : ab_SI M) : ab_R M 74 2 = some 64 := h.2.2 (74, 2, 64) (List.mem_of_getElem? (i := 25) rfl)
theorem sr_75_2 (h : ab_SI M) : ab_R M 75 2 = some 64 := h.2.2 (75, 2, 64) (List.mem_of_getElem? (i := 26) rfl)
theorem sr_76_1 (h : ab_SI M) : ab_R M 76 1 = some 64 := h.2.2 (76, 1, 64) (List.mem_of_getElem? (i := 27) rfl)
theorem sr_77_1 (h : ab_SI M) : ab_R M 77 1 = some 64 := h.2.2 (77, 1, 64) (List.mem_of_getElem? (i := 28) rfl)
theorem sr_78_2 (h : ab_SI M) : ab_R M 78 2 = some 64 := h.2.2 (78, 2, 64) (List.mem_of_getElem? (i := 29) rfl)
theorem sr_79_2 (h : ab_SI M) : ab_R M 79 2 = some 64 := h.2.2 (79, 2, 64) (List.mem_of_getElem? (i := 30) rfl)
theorem sr_80_6 (h : ab_SI M) : ab_R M 80 6 = some 64 := h.2.2 (80, 6, 64) (List.mem_of_getElem? (i := 31) rfl)
theorem sr_80_0 (h : ab_SI M) : ab_R M 80 0 = some 81 := h.2.2 (80, 0, 81) (List.mem_of_getElem? (i := 32) rfl)
theorem sr_80_1 (h : ab_SI M) : ab_R M 80 1 = some 82 := h.2.2 (80, 1, 82) (List.mem_of_getElem? (i := 33) rfl)
theorem sr_80_2 (h : ab_SI M) : ab_R M 80 2 = some 83 := h.2.2 (80, 2, 83) (List.mem_of_getElem? (i := 34) rfl)
theorem sr_84_6 (h : ab_SI M) : ab_R M 84 6 = some 64 := h.2.2 (84, 6, 64) (List.mem_of_getElem? (i := 35) rfl)
theorem sr_84_0 (h : ab_SI M) : ab_R M 84 0 = some 85 := h.2.2 (84, 0, 85) (List.mem_of_getElem? (i := 36) rfl)
theorem sr_84_1 (h : ab_SI M) : ab_R M 84 1 = some 86 := h.2.2 (84, 1, 86) (List.mem_of_getElem? (i := 37) rfl)
theorem sr_84_2 (h : ab_SI M) : ab_R M 84 2 = some 87 := h.2.2 (84, 2, 87) (List.mem_of_getElem? (i := 38) rfl)
theorem sr_89_0 (h : ab_SI M) : ab_R M 89 0 = some 90 := h.2.2 (89, 0, 90) (List.mem_of_getElem? (i := 39) rfl)
theorem sr_89_1 (h : ab_SI M) : ab_R M 89 1 = some 94 := h.2.2 (89, 1, 94) (List.mem_of_getElem? (i := 40) rfl)
theorem sr_89_2 (h : ab_SI M) : ab_R M 89 2 = some 98 := h.2.2 (89, 2, 98) (List.mem_of_getElem? (i := 41) rfl)
theorem sr_89_3 (h : ab_SI M) : ab_R M 89 3 = some 102 := h.2.2 (89, 3, 102) (List.mem_of_getElem? (i := 42) rfl)
theorem sr_89_4 (h : ab_SI M) : ab_R M 89 4 = some 106 := h.2.2 (89, 4, 106) (List.mem_of_getElem? (i := 43) rfl)
theorem sr_89_5 (h : ab_SI M) : ab_R M 89 5 = some 110 := h.2.2 (89, 5, 110) (List.mem_of_getElem? (i := 44) rfl)
theorem sr_89_6 (h : ab_SI M) : ab_R M 89 6 = some 114 := h.2.2 (89, 6, 114) (List.mem_of_getElem? (i := 45) rfl)
theorem sr_89_7 (h : ab_SI M) : ab_R M 89 7 = some 118 := h.2.2 (89, 7, 118) (List.mem_of_getElem? (i := 46) rfl)
theorem sr_89_8 (h : ab_SI M) : ab_R M 89 8 = some 122 := h.2.2 (89, 8, 122) (List.mem_of_getElem? (i := 47) rfl)
theorem sr_89_9 (h : ab_SI M) : ab_R M 89 9 = some 126 := h.2.2 (89, 9, 126) (List.mem_of_getElem? (i := 48) rfl)
theorem sr_90_6 (h : ab_SI M) : ab_R M 90 6 = some 64 := h.2.2 (90, 6, 64) (List.mem_of_getElem? (i := 49) rfl)
theorem sr_90_0 (h : ab_SI M) : ab_R M 90 0 = some 91 := h.2.2 (90, 0, 91) (List.mem_of_getElem? (i := 50) rfl)
theorem sr_90_1 (h : ab_SI M) : ab_R M 90 1 = some 92 := h.2.2 (90, 1, 92) (List.mem_of_getElem? (i := 51) rfl)
theorem sr_90_2 (h : ab_SI M) : ab_R M 90 2 = some 93 := h.2.2 (90, 2, 93) (List.mem_of_getElem? (i := 52) rfl)
theorem sr_94_6 (h : ab_SI M) : ab_R M 94 6 = some 64 := h.2.2 (94, 6, 64) (List.mem_of_getElem? (i := 53) rfl)
theorem sr_94_0 (h : ab_SI M) : ab_R M 94 0 = some 95 := h.2.2 (94, 0, 95) (List.mem_of_getElem? (i := 54) rfl)
theorem sr_94_1 (h : ab_SI M) : ab_R M 94 1 = some 96 := h.2.2 (94, 1, 96) (List.mem_of_getElem? (i := 55) rfl)
theorem sr_94_2 (h : ab_SI M) : ab_R M 94 2 = some 97 := h.2.2 (94, 2, 97) (List.mem_of_getElem? (i := 56) rfl)
theorem sr_98_6 (h : ab_SI M) : ab_R M 98 6 = some 64 := h.2.2 (98, 6, 64) (List.mem_of_getElem? (i := 57) rfl)
theorem sr_98_0 (h : ab_SI M) : ab_R M 98 0 = some 99 := h.2.2 (98, 0, 99) (List.mem_of_getElem? (i := 58) rfl)
theorem sr_98_1 (h : ab_SI M) : ab_R M 98 1 = some 100 := h.2.2 (98, 1, 100) (List.mem_of_getElem? (i := 59) rfl)
theorem sr_98_2 (h : ab_SI M) : ab_R M 98 2 = some 101 := h.2.2 (98, 2, 101) (List.mem_of_getElem? (i := 60) rfl)
theorem sr_102_6 (h : ab_SI M) : ab_R M 102 6 = some 64 := h.2.2 (102, 6, 64) (List.mem_of_getElem? (i := 61) rfl)
theorem sr_102_0 (h : ab_SI M) : ab_R M 102 0 = some 103 := h.2.2 (102, 0, 103) (List.mem_of_getElem? (i := 62) rfl)
theorem sr_102_1 (h : ab_SI M) : ab_R M 102 1 = some 104 := h.2.2 (102, 1, 104) (List.mem_of_getElem? (i := 63) rfl)
theorem sr_102_2 (h : ab_SI M) : ab_R M 102 2 = some 105 := h.2.2 (102, 2, 105) (List.mem_of_getElem? (i := 64) rfl)
theorem sr_106_6 (h : ab_SI M) : ab_R M 106 6 = some 64 := h.2.2 (106, 6, 64) (List.mem_of_getElem? (i := 65) rfl)
theorem sr_106_0 (h : ab_SI M) : ab_R M 106 0 = some 107 := h.2.2 (106, 0, 107) (List.mem_of_getElem? (i := 66) rfl)
theorem sr_106_1 (h : ab_SI M) : ab_R M 106 1 = some 108 := h.2.2 (106, 1, 108) (List.mem_of_getElem? (i := 67) rfl)
theorem sr_106_2 (h : ab_SI M) : ab_R M 106 2 = some 109 := h.2.2 (106, 2, 109) (List.mem_of_getElem? (i := 68) rfl)
theorem sr_110_6 (h : ab_SI M) : ab_R M 110 6 = some 64 := h.2.2 (110, 6, 64) (List.mem_of_getElem? (i := 69) rfl)
theorem sr_110_0 (h : ab_SI M) : ab_R M 110 0 = some 111 := h.2.2 (110, 0, 111) (List.mem_of_getElem? (i := 70) rfl)
theorem sr_110_1 (h : ab_SI M) : ab_R M 110 1 = some 112 := h.2.2 (110, 1, 112) (List.mem_of_getElem? (i := 71) rfl)
theorem sr_110_2 (h : ab_SI M) : ab_R M 110 2 = some 113 := h.2.2 (110, 2, 113) (List.mem_of_getElem? (i := 72) rfl)
theorem sr_114_6 (h : ab_SI M) : ab_R M 114 6 = some 64 := h.2.2 (114, 6, 64) (List.mem_of_getElem? (i := 73) rfl)
theorem sr_114_0 (h : ab_SI M) : ab_R M 114 0 = some 115 := h.2.2 (114, 0, 115) (List.mem_of_getElem? (i := 74) rfl)
theorem sr_114_1 (h : ab_SI M) : ab_R M 114 1 = some 116 := h.2.2 (114, 1, 116) (List.mem_of_getElem? (i := 75) rfl)
theorem sr_114_2 (h : ab_SI M) : ab_R M 114 2 = some 117 := h.2.2 (114, 2, 117) (List.mem_of_getElem? (i := 76) rfl)
theorem sr_118_6 (h : ab_SI M) : ab_R M 118 6 = some 64 := h.2.2 (118, 6, 64) (List.mem_of_getElem? (i := 77) rfl)
theorem sr_118_0 (h : ab_SI M) : ab_R M 118 0 = some 119 := h.2.2 (118, 0, 119) (List.mem_of_getElem? (i := 78) rfl)
theorem sr_118_1 (h : ab_SI M) : ab_R M 118 1 = some 120 := h.2.2 (118, 1, 120) (List.mem_of_getElem? (i := 79) rfl)
theorem sr_118_2 (h : ab_SI M) : ab_R M 118 2 = some 121 := h.2.2 (118, 2, 121) (List.mem_of_getElem? (i := 80) rfl)
theorem sr_122_6 (h : ab_SI M) : ab_R M 122 6 = some 64 := h.2.2 (122, 6, 64) (List.mem_of_getElem? (i := 81) rfl)
theorem sr_122_0 (h : ab_SI M) : ab_R M 122 0 = some 123 := h.2.2 (122, 0, 123) (List.mem_of_getElem? (i := 82) rfl)
theorem sr_122_1 (h : ab_SI M) : ab_R M 122 1 = some 124 := h.2.2 (122, 1, 124) (List.mem_of_getElem? (i := 83) rfl)
theorem sr_122_2 (h : ab_SI M) : ab_R M 122 2 = some 125 := h.2.2 (122, 2, 125) (List.mem_of_getElem? (i := 84) rfl)
theorem sr_126_6 (h : ab_SI M) : ab_R M 126 6 = some 64 := h.2.2 (126, 6, 64) (List.mem_of_getElem? (i := 85) rfl)
theorem sr_126_0 (h : ab_SI M) : ab_R M 126 0 = some 127 := h.2.2 (126, 0, 127) (List.mem_of_getElem? (i := 86) rfl)
theorem sr_126_1 (h : ab_SI M) : ab_R M 126 1 = some 128 := h.2.2 (126, 1, 128) (List.mem_of_getElem? (i := 87) rfl)
theorem sr_126_2 (h : ab_SI M) : ab_R M 126 2 = some 129 := h.2.2 (126, 2, 129) (List.mem_of_getElem? (i := 88) rfl)
theorem sr_139_0 (h : ab_SI M) : ab_R M 139 0 = some 140 := h.2.2 (139, 0, 140) (List.mem_of_getElem? (i := 89) rfl)
theorem sr_139_1 (h : ab_SI M) : ab_R M 139 1 = some 141 := h.2.2 (139, 1, 141) (List.mem_of_getElem? (i := 90) rfl)
theorem sr_139_2 (h : ab_SI M) : ab_R M 139 2 = some 142 := h.2.2 (139, 2, 142) (List.mem_of_getElem? (i := 91) rfl)
theorem sr_139_3 (h : ab_SI M) : ab_R M 139 3 = some 143 := h.2.2 (139, 3, 143) (List.mem_of_getElem? (i := 92) rfl)
theorem sr_145_0 (h : ab_SI M) : ab_R M 145 0 = some 146 := h.2.2 (145, 0, 146) (List.mem_of_getElem? (i := 93) rfl)
theorem sr_145_1 (h : ab_SI M) : ab_R M 145 1 = some 150 := h.2.2 (145, 1, 150) (List.mem_of_getElem? (i := 94) rfl)
theorem sr_146_6 (h : ab_SI M) : ab_R M 146 6 = some 64 := h.2.2 (146, 6, 64) (List.mem_of_getElem? (i := 95) rfl)
theorem sr_146_0 (h : ab_SI M) : ab_R M 146 0 = some 147 := h.2.2 (146, 0, 147) (List.mem_of_getElem? (i := 96) rfl)
theorem sr_146_1 (h : ab_SI M) : ab_R M 146 1 = some 148 := h.2.2 (146, 1, 148) (List.mem_of_getElem? (i := 97) rfl)
theorem sr_146_2 (h : ab_SI M) : ab_R M 146 2 = some 149 := h.2.2 (146, 2, 149) (List.mem_of_getElem? (i := 98) rfl)
theorem sr_150_6 (h : ab_SI M) : ab_R M 150 6 = some 64 := h.2.2 (150, 6, 64) (List.mem_of_getElem? (i := 99) rfl)
theorem sr_150_0 (h : ab_SI M) : ab_R M 150 0 = some 151 := h.2.2 (150, 0, 151) (List.mem_of_getElem? (i := 100) rfl)
theorem sr_150_1 (h : ab_SI M) : ab_R M 150 1 = some 152 := h.2.2 (150, 1, 152) (List.mem_of_getElem? (i := 101) rfl)
theorem sr_150_2 (h : ab_SI M) : ab_R M 150 2 = some 153 := h.2.2 (150, 2, 153) (List.mem_of_getElem? (i := 102) rfl)
theorem sr_154_1 (h : ab_SI M) : ab_R M 154 1 = some 155 := h.2.2 (154, 1, 155) (List.mem_of_getElem? (i := 103) rfl)
theorem sr_154_2 (h : ab_SI M) : ab_R M 154 2 = some 156 := h.2.2 (154, 2, 156) (List.mem_of_getElem? (i := 104) rfl)
theorem sr_154_3 (h : ab_SI M) : ab_R M 154 3 = some 157 := h.2.2 (154, 3, 157) (List.mem_of_getElem? (i := 105) rfl)
theorem sr_154_4 (h : ab_SI M) : ab_R M 154 4 = some 158 := h.2.2 (154, 4, 158) (List.mem_of_getElem? (i := 106) rfl)
theorem sr_154_16 (h : ab_SI M) : ab_R M 154 16 = some 159 := h.2.2 (154, 16, 159) (List.mem_of_getElem? (i := 107) rfl)
theorem sr_154_17 (h : ab_SI M) : ab_R M 154 17 = some 160 := h.2.2 (154, 17, 160) (List.mem_of_getElem? (i := 108) rfl)
theorem sr_154_18 (h : ab_SI M) : ab_R M 154 18 = some 161 := h.2.2 (154, 18, 161) (List.mem_of_getElem? (i := 109) rfl)
theorem sr_154_21 (h : ab_SI M) : ab_R M 154 21 = some 162 := h.2.2 (154, 21, 162) (List.mem_of_getElem? (i := 110) rfl)
theorem sr_154_22 (h : ab_SI M) : ab_R M 154 22 = some 163 := h.2.2 (154, 22, 163) (List.mem_of_getElem? (i := 111) rfl)
theorem sr_154_23 (h : ab_SI M) : ab_R M 154 23 = some 164 := h.2.2 (154, 23, 164) (List.mem_of_getElem? (i := 112) rfl)
theorem sr_154_24 (h : ab_SI M) : ab_R M 154 24 = some 165 := h.2.2 (154, 24, 165) (List.mem_of_getElem? (i := 113) rfl)
theorem sr_154_25 (h : ab_SI M) : ab_R M 154 25 = some 166 := h.2.2 (154, 25, 166) (List.mem_of_getElem? (i := 114) rfl)
theorem sr_154_26 (h : ab_SI M) : ab_R M 154 26 = some 167 := h.2.2 (154, 26, 167) (List.mem_of_getElem? (i := 115) rfl)
theorem sr_154_27 (h : ab_SI M) : ab_R M 154 27 = some 168 := h.2.2 (154, 27, 168) (List.mem_of_getElem? (i := 116) rfl)
theorem sr_154_28 (h : ab_SI M) : ab_R M 154 28 = some 169 := h.2.2 (154, 28, 169) (List.mem_of_getElem? (i := 117) rfl)
theorem sr_154_29 (h : ab_SI M) : ab_R M 154 29 = some 170 := h.2.2 (154, 29, 170) (List.mem_of_getElem? (i := 118) rfl)
theorem sr_154_30 (h : ab_SI M) : ab_R M 154 30 = some 171 := h.2.2 (154, 30, 171) (List.mem_of_getElem? (i := 119) rfl)
theorem sr_154_31 (h : ab_SI M) : ab_R M 154 31 = some 172 := h.2.2 (154, 31, 172) (List.mem_of_getElem? (i := 120) rfl)
theorem sr_154_32 (h : ab_SI M) : ab_R M 154 32 = some 173 := h.2.2 (154, 32, 173) (List.mem_of_getElem? (i := 121) rfl)
theorem sr_154_36 (h : ab_SI M) : ab_R M 154 36 = some 174 := h.2.2 (154, 36, 174) (List.mem_of_getElem? (i := 122) rfl)
theorem sr_154_37 (h : ab_SI M) : ab_R M 154 37 = some 175 := h.2.2 (154, 37, 175) (List.mem_of_getElem? (i := 123) rfl)
theorem sr_154_38 (h : ab_SI M) : ab_R M 154 38 = some 176 := h.2.2 (154, 38, 176) (List.mem_of_getElem? (i := 124) rfl)
theorem sr_154_39 (h : ab_SI M) : ab_R M 154 39 = some 177 := h.2.2 (154, 39, 177) (List.mem_of_getElem? (i := 125) rfl)
theorem sr_154_40 (h : ab_SI M) : ab_R M 154 40 = some 178 := h.2.2 (154, 40, 178) (List.mem_of_getElem? (i := 126) rfl)
end LAY
theorem fd_0_17_0 {K : Nat → Nat → Prop} : ab_fd 0 17 0 K = K 0 2 := by unfold ab_fd; rw [ab_fl_0_17_0]; rfl
theorem fin_0_0 : ab_fin 0 0 = false := rfl
theorem fd_0_1_0 {K : Nat → Nat → Prop} : ab_fd 0 1 0 K = K 1 2 := by unfold ab_fd; rw [ab_fl_0_1_0]; rfl
theorem fin_0_1 : ab_fin 0 1 = true := rfl
theorem fd_0_60_0 {K : Nat → Nat → Prop} : ab_fd 0 60 0 K = K 2 2 := by unfold ab_fd; rw [ab_fl_0_60_0]; rfl
theorem fin_0_2 : ab_fin 0 2 = true := rfl
theorem fd_0_64_0 {K : Nat → Nat → Prop} : ab_fd 0 64 0 K = K 3 2 := by unfold ab_fd; rw [ab_fl_0_64_0]; rfl
theorem fin_0_3 : ab_fin 0 3 = true := rfl
theorem fd_0_67_0 {K : Nat → Nat → Prop} : ab_fd 0 67 0 K = K 4 2 := by unfold ab_fd; rw [ab_fl_0_67_0]; rfl
theorem fin_0_4 : ab_fin 0 4 = true := rfl
theorem fd_0_125_0 {K : Nat → Nat → Prop} : ab_fd 0 125 0 K = K 5 0 := by unfold ab_fd; rw [ab_fl_0_125_0]; rfl
theorem fin_0_5 : ab_fin 0 5 = false := rfl
theorem fd_0_145_0 {K : Nat → Nat → Prop} : ab_fd 0 145 0 K = K 6 0 := by unfold ab_fd; rw [ab_fl_0_145_0]; rfl
theorem fin_0_6 : ab_fin 0 6 = false := rfl
theorem fd_0_71_0 {K : Nat → Nat → Prop} : ab_fd 0 71 0 K = K 7 0 := by unfold ab_fd; rw [ab_fl_0_71_0]; rfl
theorem fin_0_7 : ab_fin 0 7 = false := rfl
theorem fd_0_75_0 {K : Nat → Nat → Prop} : ab_fd 0 75 0 K = K 8 2 := by unfold ab_fd; rw [ab_fl_0_75_0]; rfl
theorem fin_0_8 : ab_fin 0 8 = true := rfl
theorem fd_0_154_0 {K : Nat → Nat → Prop} : ab_fd 0 154 0 K = K 9 0 := by unfold ab_fd; rw [ab_fl_0_154_0]; rfl
theorem fin_0_9 : ab_fin 0 9 = false := rfl
theorem fd_0_199_0 {K : Nat → Nat → Prop} : ab_fd 0 199 0 K = K 10 0 := by unfold ab_fd; rw [ab_fl_0_199_0]; rfl
theorem fin_0_10 : ab_fin 0 10 = false := rfl
theorem fd_0_264_0 {K : Nat → Nat → Prop} : ab_fd 0 264 0 K = K 11 0 := by unfold ab_fd; rw [ab_fl_0_264_0]; rfl
theorem fin_0_11 : ab_fin 0 11 = false := rfl
theorem fd_0_79_0 {K : Nat → Nat → Prop} : ab_fd 0 79 0 K = K 12 2 := by unfold ab_fd; rw [ab_fl_0_79_0]; rfl
theorem fin_0_12 : ab_fin 0 12 = true := rfl
theorem fd_0_83_0 {K : Nat → Nat → Prop} : ab_fd 0 83 0 K = K 13 2 := by unfold ab_fd; rw [ab_fl_0_83_0]; rfl
theorem fin_0_13 : ab_fin 0 13 = true := rfl
theorem fd_0_86_0 {K : Nat → Nat → Prop} : ab_fd 0 86 0 K = K 14 2 := by unfold ab_fd; rw [ab_fl_0_86_0]; rfl
theorem fin_0_14 : ab_fin 0 14 = true := rfl
theorem fd_0_89_0 {K : Nat → Nat → Prop} : ab_fd 0 89 0 K = K 15 2 := by unfold ab_fd; rw [ab_fl_0_89_0]; rfl
theorem fin_0_15 : ab_fin 0 15 = true := rfl
theorem fd_0_92_0 {K : Nat → Nat → Prop} : ab_fd 0 92 0 K = K 16 2 := by unfold ab_fd; rw [ab_fl_0_92_0]; rfl
theorem fin_0_16 : ab_fin 0 16 = true := rfl
theorem fd_0_95_0 {K : Nat → Nat → Prop} : ab_fd 0 95 0 K = K 17 2 := by unfold ab_fd; rw [ab_fl_0_95_0]; rfl
theorem fin_0_17 : ab_fin 0 17 = true := rfl
theorem fd_0_99_0 {K : Nat → Nat → Prop} : ab_fd 0 99 0 K = K 18 2 := by unfold ab_fd; rw [ab_fl_0_99_0]; rfl
theorem fin_0_18 : ab_fin 0 18 = true := rfl
theorem fd_0_334_0 {K : Nat → Nat → Prop} : ab_fd 0 334 0 K = K 19 0 := by unfold ab_fd; rw [ab_fl_0_334_0]; rfl
theorem fin_0_19 : ab_fin 0 19 = false := rfl
theorem fd_0_102_0 {K : Nat → Nat → Prop} : ab_fd 0 102 0 K = K 20 2 := by unfold ab_fd; rw [ab_fl_0_102_0]; rfl
theorem fin_0_20 : ab_fin 0 20 = true := rfl
theorem fd_0_372_0 {K : Nat → Nat → Prop} : ab_fd 0 372 0 K = K 21 0 := by unfold ab_fd; rw [ab_fl_0_372_0]; rfl
theorem fin_0_21 : ab_fin 0 21 = false := rfl
theorem fd_0_375_0 {K : Nat → Nat → Prop} : ab_fd 0 375 0 K = K 22 0 := by unfold ab_fd; rw [ab_fl_0_375_0]; rfl
theorem fin_0_22 : ab_fin 0 22 = false := rfl
theorem fd_0_366_0 {K : Nat → Nat → Prop} : ab_fd 0 366 0 K = K 23 0 := by unfold ab_fd; rw [ab_fl_0_366_0]; rfl
theorem fin_0_23 : ab_fin 0 23 = false := rfl
theorem fd_0_105_0 {K : Nat → Nat → Prop} : ab_fd 0 105 0 K = K 24 2 := by unfold ab_fd; rw [ab_fl_0_105_0]; rfl
theorem fin_0_24 : ab_fin 0 24 = true := rfl
theorem fd_0_111_0 {K : Nat → Nat → Prop} : ab_fd 0 111 0 K = K 25 2 := by unfold ab_fd; rw [ab_fl_0_111_0]; rfl
theorem fin_0_25 : ab_fin 0 25 = true := rfl
theorem fd_0_115_0 {K : Nat → Nat → Prop} : ab_fd 0 115 0 K = K 26 2 := by unfold ab_fd; rw [ab_fl_0_115_0]; rfl
theorem fin_0_26 : ab_fin 0 26 = true := rfl
theorem fd_0_119_0 {K : Nat → Nat → Prop} : ab_fd 0 119 0 K = K 27 2 := by unfold ab_fd; rw [ab_fl_0_119_0]; rfl
theorem fin_0_27 : ab_fin 0 27 = true := rfl
theorem fd_1_9_1 {K : Nat → Nat → Prop} : ab_fd 1 9 1 K = K 0 2 := by unfold ab_fd; rw [ab_fl_1_9_1]; rfl
theorem fin_1_0 : ab_fin 1 0 = true := rfl
theorem fd_1_15_1 {K : Nat → Nat → Prop} : ab_fd 1 15 1 K = K 1 2 := by unfold ab_fd; rw [ab_fl_1_15_1]; rfl
theorem fin_1_1 : ab_fin 1 1 = true := rfl
theorem fd_1_18_1 {K : Nat → Nat → Prop} : ab_fd 1 18 1 K = K 2 2 := by unfold ab_fd; rw [ab_fl_1_18_1]; rfl
theorem fin_1_2 : ab_fin 1 2 = true := rfl
theorem fd_1_21_1 {K : Nat → Nat → Prop} : ab_fd 1 21 1 K = K 3 2 := by unfold ab_fd; rw [ab_fl_1_21_1]; rfl
theorem fin_1_3 : ab_fin 1 3 = true := rfl
theorem fd_1_24_1 {K : Nat → Nat → Prop} : ab_fd 1 24 1 K = K 4 2 := by unfold ab_fd; rw [ab_fl_1_24_1]; rfl
theorem fin_1_4 : ab_fin 1 4 = true := rfl
theorem fd_1_27_1 {K : Nat → Nat → Prop} : ab_fd 1 27 1 K = K 5 2 := by unfold ab_fd; rw [ab_fl_1_27_1]; rfl
theorem fin_1_5 : ab_fin 1 5 = true := rfl
theorem fd_1_30_1 {K : Nat → Nat → Prop} : ab_fd 1 30 1 K = K 6 0 := by unfold ab_fd; rw [ab_fl_1_30_1]; rfl
theorem fin_1_6 : ab_fin 1 6 = false := rfl
theorem fd_1_34_1 {K : Nat → Nat → Prop} : ab_fd 1 34 1 K = K 7 0 := by unfold ab_fd; rw [ab_fl_1_34_1]; rfl
theorem fin_1_7 : ab_fin 1 7 = false := rfl
theorem fd_1_60_1 {K : Nat → Nat → Prop} : ab_fd 1 60 1 K = K 8 0 := by unfold ab_fd; rw [ab_fl_1_60_1]; rfl
theorem fin_1_8 : ab_fin 1 8 = false := rfl
theorem fd_1_37_1 {K : Nat → Nat → Prop} : ab_fd 1 37 1 K = K 12 2 := by unfold ab_fd; rw [ab_fl_1_37_1]; rfl
theorem fin_1_12 : ab_fin 1 12 = false := rfl
theorem fd_1_51_1 {K : Nat → Nat → Prop} : ab_fd 1 51 1 K = K 13 2 := by unfold ab_fd; rw [ab_fl_1_51_1]; rfl
theorem fin_1_13 : ab_fin 1 13 = false := rfl
theorem fd_16_3_2 {K : Nat → Nat → Prop} : ab_fd 16 3 2 K = K 0 2 := by unfold ab_fd; rw [ab_fl_16_3_2]; rfl
theorem fin_2_0 : ab_fin 2 0 = true := rfl
theorem fd_16_3_3 {K : Nat → Nat → Prop} : ab_fd 16 3 3 K = K 0 2 := by unfold ab_fd; rw [ab_fl_16_3_3]; rfl
theorem fin_3_0 : ab_fin 3 0 = true := rfl
theorem fd_16_3_4 {K : Nat → Nat → Prop} : ab_fd 16 3 4 K = K 0 2 := by unfold ab_fd; rw [ab_fl_16_3_4]; rfl
theorem fin_4_0 : ab_fin 4 0 = true := rfl
theorem fd_16_3_5 {K : Nat → Nat → Prop} : ab_fd 16 3 5 K = K 0 2 := by unfold ab_fd; rw [ab_fl_16_3_5]; rfl
theorem fin_5_0 : ab_fin 5 0 = true := rfl
theorem fd_2_15_2 {K : Nat → Nat → Prop} : ab_fd 2 15 2 K = K 1 0 := by unfold ab_fd; rw [ab_fl_2_15_2]; rfl
theorem fin_2_1 : ab_fin 2 1 = true := rfl
theorem fd_2_3_2 {K : Nat → Nat → Prop} : ab_fd 2 3 2 K = K 2 2 := by unfold ab_fd; rw [ab_fl_2_3_2]; rfl
theorem fin_2_2 : ab_fin 2 2 = true := rfl
theorem fd_3_3_3 {K : Nat → Nat → Prop} : ab_fd 3 3 3 K = K 1 2 := by unfold ab_fd; rw [ab_fl_3_3_3]; rfl
theorem fin_3_1 : ab_fin 3 1 = true := rfl
theorem fd_4_3_4 {K : Nat → Nat → Prop} : ab_fd 4 3 4 K = K 1 2 := by unfold ab_fd; rw [ab_fl_4_3_4]; rfl
theorem fin_4_1 : ab_fin 4 1 = true := rfl
theorem fd_5_15_5 {K : Nat → Nat → Prop} : ab_fd 5 15 5 K = K 1 0 := by unfold ab_fd; rw [ab_fl_5_15_5]; rfl
theorem fin_5_1 : ab_fin 5 1 = true := rfl
theorem fd_5_3_5 {K : Nat → Nat → Prop} : ab_fd 5 3 5 K = K 2 2 := by unfold ab_fd; rw [ab_fl_5_3_5]; rfl
theorem fin_5_2 : ab_fin 5 2 = true := rfl
theorem fd_6_15_6 {K : Nat → Nat → Prop} : ab_fd 6 15 6 K = K 0 2 := by unfold ab_fd; rw [ab_fl_6_15_6]; rfl
theorem fin_6_0 : ab_fin 6 0 = true := rfl
theorem fd_6_19_6 {K : Nat → Nat → Prop} : ab_fd 6 19 6 K = K 1 2 := by unfold ab_fd; rw [ab_fl_6_19_6]; rfl
theorem fin_6_1 : ab_fin 6 1 = true := rfl
theorem fd_6_22_6 {K : Nat → Nat → Prop} : ab_fd 6 22 6 K = K 2 2 := by unfold ab_fd; rw [ab_fl_6_22_6]; rfl
theorem fin_6_2 : ab_fin 6 2 = true := rfl
theorem fd_6_31_6 {K : Nat → Nat → Prop} : ab_fd 6 31 6 K = K 3 0 := by unfold ab_fd; rw [ab_fl_6_31_6]; rfl
theorem fin_6_3 : ab_fin 6 3 = false := rfl
theorem fd_6_35_6 {K : Nat → Nat → Prop} : ab_fd 6 35 6 K = K 4 0 := by unfold ab_fd; rw [ab_fl_6_35_6]; rfl
theorem fin_6_4 : ab_fin 6 4 = false := rfl
theorem fd_6_38_6 {K : Nat → Nat → Prop} : ab_fd 6 38 6 K = K 5 0 := by unfold ab_fd; rw [ab_fl_6_38_6]; rfl
theorem fin_6_5 : ab_fin 6 5 = false := rfl
theorem fd_6_3_6 {K : Nat → Nat → Prop} : ab_fd 6 3 6 K = K 6 2 := by unfold ab_fd; rw [ab_fl_6_3_6]; rfl
theorem fin_6_6 : ab_fin 6 6 = true := rfl
theorem fd_7_7_7 {K : Nat → Nat → Prop} : ab_fd 7 7 7 K = K 0 2 := by unfold ab_fd; rw [ab_fl_7_7_7]; rfl
theorem fin_7_0 : ab_fin 7 0 = false := rfl
theorem fd_8_1_8 {K : Nat → Nat → Prop} : ab_fd 8 1 8 K = K 0 0 := by unfold ab_fd; rw [ab_fl_8_1_8]; rfl
theorem fin_8_0 : ab_fin 8 0 = false := rfl
theorem fd_8_13_8 {K : Nat → Nat → Prop} : ab_fd 8 13 8 K = K 1 2 := by unfold ab_fd; rw [ab_fl_8_13_8]; rfl
theorem fin_8_1 : ab_fin 8 1 = true := rfl
theorem fd_8_17_8 {K : Nat → Nat → Prop} : ab_fd 8 17 8 K = K 2 2 := by unfold ab_fd; rw [ab_fl_8_17_8]; rfl
theorem fin_8_2 : ab_fin 8 2 = true := rfl
theorem fd_8_21_8 {K : Nat → Nat → Prop} : ab_fd 8 21 8 K = K 3 2 := by unfold ab_fd; rw [ab_fl_8_21_8]; rfl
theorem fin_8_3 : ab_fin 8 3 = true := rfl
theorem fd_8_24_8 {K : Nat → Nat → Prop} : ab_fd 8 24 8 K = K 4 2 := by unfold ab_fd; rw [ab_fl_8_24_8]; rfl
theorem fin_8_4 : ab_fin 8 4 = true := rfl
theorem fd_8_95_8 {K : Nat → Nat → Prop} : ab_fd 8 95 8 K = K 5 0 := by unfold ab_fd; rw [ab_fl_8_95_8]; rfl
theorem fin_8_5 : ab_fin 8 5 = false := rfl
theorem fd_8_113_8 {K : Nat → Nat → Prop} : ab_fd 8 113 8 K = K 6 0 := by unfold ab_fd; rw [ab_fl_8_113_8]; rfl
theorem fin_8_6 : ab_fin 8 6 = false := rfl
theorem fd_8_116_8 {K : Nat → Nat → Prop} : ab_fd 8 116 8 K = K 7 0 := by unfold ab_fd; rw [ab_fl_8_116_8]; rfl
theorem fin_8_7 : ab_fin 8 7 = false := rfl
theorem fd_8_98_8 {K : Nat → Nat → Prop} : ab_fd 8 98 8 K = K 8 0 := by unfold ab_fd; rw [ab_fl_8_98_8]; rfl
theorem fin_8_8 : ab_fin 8 8 = false := rfl
theorem fd_8_123_8 {K : Nat → Nat → Prop} : ab_fd 8 123 8 K = K 9 0 := by unfold ab_fd; rw [ab_fl_8_123_8]; rfl
theorem fin_8_9 : ab_fin 8 9 = false := rfl
theorem fd_8_136_8 {K : Nat → Nat → Prop} : ab_fd 8 136 8 K = K 10 0 := by unfold ab_fd; rw [ab_fl_8_136_8]; rfl
theorem fin_8_10 : ab_fin 8 10 = false := rfl
theorem fd_8_141_8 {K : Nat → Nat → Prop} : ab_fd 8 141 8 K = K 11 0 := by unfold ab_fd; rw [ab_fl_8_141_8]; rfl
theorem fin_8_11 : ab_fin 8 11 = false := rfl
theorem fd_8_144_8 {K : Nat → Nat → Prop} : ab_fd 8 144 8 K = K 12 0 := by unfold ab_fd; rw [ab_fl_8_144_8]; rfl
theorem fin_8_12 : ab_fin 8 12 = false := rfl
theorem fd_8_219_8 {K : Nat → Nat → Prop} : ab_fd 8 219 8 K = K 13 0 := by unfold ab_fd; rw [ab_fl_8_219_8]; rfl
theorem fin_8_13 : ab_fin 8 13 = false := rfl
theorem fd_8_27_8 {K : Nat → Nat → Prop} : ab_fd 8 27 8 K = K 14 0 := by unfold ab_fd; rw [ab_fl_8_27_8]; rfl
theorem fin_8_14 : ab_fin 8 14 = false := rfl
theorem fd_8_161_8 {K : Nat → Nat → Prop} : ab_fd 8 161 8 K = K 15 0 := by unfold ab_fd; rw [ab_fl_8_161_8]; rfl
theorem fin_8_15 : ab_fin 8 15 = false := rfl
theorem fd_8_30_8 {K : Nat → Nat → Prop} : ab_fd 8 30 8 K = K 16 2 := by unfold ab_fd; rw [ab_fl_8_30_8]; rfl
theorem fin_8_16 : ab_fin 8 16 = true := rfl
theorem fd_8_33_8 {K : Nat → Nat → Prop} : ab_fd 8 33 8 K = K 17 2 := by unfold ab_fd; rw [ab_fl_8_33_8]; rfl
theorem fin_8_17 : ab_fin 8 17 = true := rfl
theorem fd_8_36_8 {K : Nat → Nat → Prop} : ab_fd 8 36 8 K = K 18 2 := by unfold ab_fd; rw [ab_fl_8_36_8]; rfl
theorem fin_8_18 : ab_fin 8 18 = true := rfl
theorem fd_8_297_8 {K : Nat → Nat → Prop} : ab_fd 8 297 8 K = K 19 0 := by unfold ab_fd; rw [ab_fl_8_297_8]; rfl
theorem fin_8_19 : ab_fin 8 19 = false := rfl
theorem fd_8_319_8 {K : Nat → Nat → Prop} : ab_fd 8 319 8 K = K 20 0 := by unfold ab_fd; rw [ab_fl_8_319_8]; rfl
theorem fin_8_20 : ab_fin 8 20 = false := rfl
theorem fd_8_39_8 {K : Nat → Nat → Prop} : ab_fd 8 39 8 K = K 21 2 := by unfold ab_fd; rw [ab_fl_8_39_8]; rfl
theorem fin_8_21 : ab_fin 8 21 = true := rfl
theorem fd_8_42_8 {K : Nat → Nat → Prop} : ab_fd 8 42 8 K = K 22 2 := by unfold ab_fd; rw [ab_fl_8_42_8]; rfl
theorem fin_8_22 : ab_fin 8 22 = true := rfl
theorem fd_8_45_8 {K : Nat → Nat → Prop} : ab_fd 8 45 8 K = K 23 2 := by unfold ab_fd; rw [ab_fl_8_45_8]; rfl
theorem fin_8_23 : ab_fin 8 23 = true := rfl
theorem fd_8_48_8 {K : Nat → Nat → Prop} : ab_fd 8 48 8 K = K 24 2 := by unfold ab_fd; rw [ab_fl_8_48_8]; rfl
theorem fin_8_24 : ab_fin 8 24 = true := rfl
theorem fd_8_51_8 {K : Nat → Nat → Prop} : ab_fd 8 51 8 K = K 25 2 := by unfold ab_fd; rw [ab_fl_8_51_8]; rfl
theorem fin_8_25 : ab_fin 8 25 = true := rfl
theorem fd_8_54_8 {K : Nat → Nat → Prop} : ab_fd 8 54 8 K = K 26 2 := by unfold ab_fd; rw [ab_fl_8_54_8]; rfl
theorem fin_8_26 : ab_fin 8 26 = true := rfl
theorem fd_8_58_8 {K : Nat → Nat → Prop} : ab_fd 8 58 8 K = K 27 2 := by unfold ab_fd; rw [ab_fl_8_58_8]; rfl
theorem fin_8_27 : ab_fin 8 27 = true := rfl
theorem fd_8_61_8 {K : Nat → Nat → Prop} : ab_fd 8 61 8 K = K 28 2 := by unfold ab_fd; rw [ab_fl_8_61_8]; rfl
theorem fin_8_28 : ab_fin 8 28 = true := rfl
theorem fd_8_64_8 {K : Nat → Nat → Prop} : ab_fd 8 64 8 K = K 29 2 := by unfold ab_fd; rw [ab_fl_8_64_8]; rfl
theorem fin_8_29 : ab_fin 8 29 = true := rfl
theorem fd_8_67_8 {K : Nat → Nat → Prop} : ab_fd 8 67 8 K = K 30 2 := by unfold ab_fd; rw [ab_fl_8_67_8]; rfl
theorem fin_8_30 : ab_fin 8 30 = true := rfl
theorem fd_8_70_8 {K : Nat → Nat → Prop} : ab_fd 8 70 8 K = K 31 2 := by unfold ab_fd; rw [ab_fl_8_70_8]; rfl
theorem fin_8_31 : ab_fin 8 31 = true := rfl
theorem fd_8_73_8 {K : Nat → Nat → Prop} : ab_fd 8 73 8 K = K 32 2 := by unfold ab_fd; rw [ab_fl_8_73_8]; rfl
theorem fin_8_32 : ab_fin 8 32 = true := rfl
theorem fd_8_393_8 {K : Nat → Nat → Prop} : ab_fd 8 393 8 K = K 33 0 := by unfold ab_fd; rw [ab_fl_8_393_8]; rfl
theorem fin_8_33 : ab_fin 8 33 = false := rfl
theorem fd_8_396_8 {K : Nat → Nat → Prop} : ab_fd 8 396 8 K = K 34 0 := by unfold ab_fd; rw [ab_fl_8_396_8]; rfl
theorem fin_8_34 : ab_fin 8 34 = false := rfl
theorem fd_8_387_8 {K : Nat → Nat → Prop} : ab_fd 8 387 8 K = K 35 0 := by unfold ab_fd; rw [ab_fl_8_387_8]; rfl
theorem fin_8_35 : ab_fin 8 35 = false := rfl
theorem fd_8_76_8 {K : Nat → Nat → Prop} : ab_fd 8 76 8 K = K 36 2 := by unfold ab_fd; rw [ab_fl_8_76_8]; rfl
theorem fin_8_36 : ab_fin 8 36 = true := rfl
theorem fd_8_79_8 {K : Nat → Nat → Prop} : ab_fd 8 79 8 K = K 37 2 := by unfold ab_fd; rw [ab_fl_8_79_8]; rfl
theorem fin_8_37 : ab_fin 8 37 = true := rfl
theorem fd_8_82_8 {K : Nat → Nat → Prop} : ab_fd 8 82 8 K = K 38 2 := by unfold ab_fd; rw [ab_fl_8_82_8]; rfl
theorem fin_8_38 : ab_fin 8 38 = true := rfl
theorem fd_8_85_8 {K : Nat → Nat → Prop} : ab_fd 8 85 8 K = K 39 2 := by unfold ab_fd; rw [ab_fl_8_85_8]; rfl
theorem fin_8_39 : ab_fin 8 39 = true := rfl
theorem fd_8_88_8 {K : Nat → Nat → Prop} : ab_fd 8 88 8 K = K 40 2 := by unfold ab_fd; rw [ab_fl_8_88_8]; rfl
theorem fin_8_40 : ab_fin 8 40 = true := rfl
theorem fd_9_26_9 {K : Nat → Nat → Prop} : ab_fd 9 26 9 K = K 0 0 := by unfold ab_fd; rw [ab_fl_9_26_9]; rfl
theorem fin_9_0 : ab_fin 9 0 = true := rfl
theorem fd_9_18_9 {K : Nat → Nat → Prop} : ab_fd 9 18 9 K = K 1 2 := by unfold ab_fd; rw [ab_fl_9_18_9]; rfl
theorem fin_9_1 : ab_fin 9 1 = true := rfl
theorem fd_9_49_9 {K : Nat → Nat → Prop} : ab_fd 9 49 9 K = K 2 0 := by unfold ab_fd; rw [ab_fl_9_49_9]; rfl
theorem fin_9_2 : ab_fin 9 2 = false := rfl
theorem fd_9_52_9 {K : Nat → Nat → Prop} : ab_fd 9 52 9 K = K 3 0 := by unfold ab_fd; rw [ab_fl_9_52_9]; rfl
theorem fin_9_3 : ab_fin 9 3 = false := rfl
theorem fd_9_55_9 {K : Nat → Nat → Prop} : ab_fd 9 55 9 K = K 4 0 := by unfold ab_fd; rw [ab_fl_9_55_9]; rfl
theorem fin_9_4 : ab_fin 9 4 = false := rfl
theorem fd_9_65_9 {K : Nat → Nat → Prop} : ab_fd 9 65 9 K = K 5 0 := by unfold ab_fd; rw [ab_fl_9_65_9]; rfl
theorem fin_9_5 : ab_fin 9 5 = false := rfl
theorem fd_9_75_9 {K : Nat → Nat → Prop} : ab_fd 9 75 9 K = K 6 0 := by unfold ab_fd; rw [ab_fl_9_75_9]; rfl
theorem fin_9_6 : ab_fin 9 6 = false := rfl
theorem fd_9_204_9 {K : Nat → Nat → Prop} : ab_fd 9 204 9 K = K 7 0 := by unfold ab_fd; rw [ab_fl_9_204_9]; rfl
theorem fin_9_7 : ab_fin 9 7 = false := rfl
theorem fd_9_22_9 {K : Nat → Nat → Prop} : ab_fd 9 22 9 K = K 8 0 := by unfold ab_fd; rw [ab_fl_9_22_9]; rfl
theorem fin_9_8 : ab_fin 9 8 = false := rfl
theorem fd_9_191_9 {K : Nat → Nat → Prop} : ab_fd 9 191 9 K = K 9 3 := by unfold ab_fd; rw [ab_fl_9_191_9]; rfl
theorem fin_9_9 : ab_fin 9 9 = false := rfl
theorem fd_9_3_9 {K : Nat → Nat → Prop} : ab_fd 9 3 9 K = K 10 2 := by unfold ab_fd; rw [ab_fl_9_3_9]; rfl
theorem fin_9_10 : ab_fin 9 10 = true := rfl
theorem fd_10_7_10 {K : Nat → Nat → Prop} : ab_fd 10 7 10 K = K 0 2 := by unfold ab_fd; rw [ab_fl_10_7_10]; rfl
theorem fin_10_0 : ab_fin 10 0 = true := rfl
theorem fd_11_7_11 {K : Nat → Nat → Prop} : ab_fd 11 7 11 K = K 0 0 := by unfold ab_fd; rw [ab_fl_11_7_11]; rfl
theorem fin_11_0 : ab_fin 11 0 = true := rfl
theorem fd_12_7_12 {K : Nat → Nat → Prop} : ab_fd 12 7 12 K = K 0 0 := by unfold ab_fd; rw [ab_fl_12_7_12]; rfl
theorem fin_12_0 : ab_fin 12 0 = true := rfl
theorem fd_13_9_13 {K : Nat → Nat → Prop} : ab_fd 13 9 13 K = K 0 2 := by unfold ab_fd; rw [ab_fl_13_9_13]; rfl
theorem fin_13_0 : ab_fin 13 0 = true := rfl
theorem fd_13_19_13 {K : Nat → Nat → Prop} : ab_fd 13 19 13 K = K 1 2 := by unfold ab_fd; rw [ab_fl_13_19_13]; rfl
theorem fin_13_1 : ab_fin 13 1 = true := rfl
theorem fd_13_15_13 {K : Nat → Nat → Prop} : ab_fd 13 15 13 K = K 2 0 := by unfold ab_fd; rw [ab_fl_13_15_13]; rfl
theorem fin_13_2 : ab_fin 13 2 = true := rfl
theorem fd_14_7_14 {K : Nat → Nat → Prop} : ab_fd 14 7 14 K = K 0 2 := by unfold ab_fd; rw [ab_fl_14_7_14]; rfl
theorem fin_14_0 : ab_fin 14 0 = true := rfl
theorem fd_14_17_14 {K : Nat → Nat → Prop} : ab_fd 14 17 14 K = K 1 2 := by unfold ab_fd; rw [ab_fl_14_17_14]; rfl
theorem fin_14_1 : ab_fin 14 1 = true := rfl
theorem fd_14_13_14 {K : Nat → Nat → Prop} : ab_fd 14 13 14 K = K 2 0 := by unfold ab_fd; rw [ab_fl_14_13_14]; rfl
theorem fin_14_2 : ab_fin 14 2 = true := rfl
theorem fd_15_7_15 {K : Nat → Nat → Prop} : ab_fd 15 7 15 K = K 0 2 := by unfold ab_fd; rw [ab_fl_15_7_15]; rfl
theorem fin_15_0 : ab_fin 15 0 = true := rfl
theorem fd_15_17_15 {K : Nat → Nat → Prop} : ab_fd 15 17 15 K = K 1 2 := by unfold ab_fd; rw [ab_fl_15_17_15]; rfl
theorem fin_15_1 : ab_fin 15 1 = true := rfl
theorem fd_15_13_15 {K : Nat → Nat → Prop} : ab_fd 15 13 15 K = K 2 3 := by unfold ab_fd; rw [ab_fl_15_13_15]; rfl
theorem fin_15_2 : ab_fin 15 2 = true := rfl
theorem fd_0_176_1 {K : Nat → Nat → Prop} : ab_fd 0 176 1 K = K 2 2 := by unfold ab_fd; rw [ab_fl_0_176_1]; rfl
theorem fd_0_179_1 {K : Nat → Nat → Prop} : ab_fd 0 179 1 K = K 3 2 := by unfold ab_fd; rw [ab_fl_0_179_1]; rfl
theorem fd_0_182_1 {K : Nat → Nat → Prop} : ab_fd 0 182 1 K = K 4 2 := by unfold ab_fd; rw [ab_fl_0_182_1]; rfl
theorem fd_0_222_1 {K : Nat → Nat → Prop} : ab_fd 0 222 1 K = K 6 0 := by unfold ab_fd; rw [ab_fl_0_222_1]; rfl
theorem fd_0_217_1 {K : Nat → Nat → Prop} : ab_fd 0 217 1 K = K 7 0 := by unfold ab_fd; rw [ab_fl_0_217_1]; rfl
theorem fd_0_160_1 {K : Nat → Nat → Prop} : ab_fd 0 160 1 K = K 8 0 := by unfold ab_fd; rw [ab_fl_0_160_1]; rfl
theorem fd_0_404_1 {K : Nat → Nat → Prop} : ab_fd 0 404 1 K = K 9 0 := by unfold ab_fd; rw [ab_fl_0_404_1]; rfl
theorem fin_1_9 : ab_fin 1 9 = false := rfl
theorem fd_0_157_1 {K : Nat → Nat → Prop} : ab_fd 0 157 1 K = K 11 0 := by unfold ab_fd; rw [ab_fl_0_157_1]; rfl
theorem fin_1_11 : ab_fin 1 11 = false := rfl
theorem fd_0_225_6 {K : Nat → Nat → Prop} : ab_fd 0 225 6 K = K 0 2 := by unfold ab_fd; rw [ab_fl_0_225_6]; rfl
theorem fd_0_173_6 {K : Nat → Nat → Prop} : ab_fd 0 173 6 K = K 1 2 := by unfold ab_fd; rw [ab_fl_0_173_6]; rfl
theorem fd_0_192_6 {K : Nat → Nat → Prop} : ab_fd 0 192 6 K = K 2 2 := by unfold ab_fd; rw [ab_fl_0_192_6]; rfl
theorem fd_0_185_6 {K : Nat → Nat → Prop} : ab_fd 0 185 6 K = K 3 0 := by unfold ab_fd; rw [ab_fl_0_185_6]; rfl
theorem fd_0_230_6 {K : Nat → Nat → Prop} : ab_fd 0 230 6 K = K 4 0 := by unfold ab_fd; rw [ab_fl_0_230_6]; rfl
theorem fd_0_260_6 {K : Nat → Nat → Prop} : ab_fd 0 260 6 K = K 5 0 := by unfold ab_fd; rw [ab_fl_0_260_6]; rfl
theorem fd_0_425_7 {K : Nat → Nat → Prop} : ab_fd 0 425 7 K = K 0 2 := by unfold ab_fd; rw [ab_fl_0_425_7]; rfl
theorem fd_0_151_9 {K : Nat → Nat → Prop} : ab_fd 0 151 9 K = K 1 2 := by unfold ab_fd; rw [ab_fl_0_151_9]; rfl
theorem fd_0_142_9 {K : Nat → Nat → Prop} : ab_fd 0 142 9 K = K 6 0 := by unfold ab_fd; rw [ab_fl_0_142_9]; rfl
theorem fd_0_148_9 {K : Nat → Nat → Prop} : ab_fd 0 148 9 K = K 8 0 := by unfold ab_fd; rw [ab_fl_0_148_9]; rfl
theorem fd_2_23_1 {K : Nat → Nat → Prop} : ab_fd 2 23 1 K = K 6 0 := by unfold ab_fd; rw [ab_fl_2_23_1]; rfl
theorem fd_2_19_0 {K : Nat → Nat → Prop} : ab_fd 2 19 0 K = K 0 2 := by unfold ab_fd; rw [ab_fl_2_19_0]; rfl
theorem fd_6_45_1 {K : Nat → Nat → Prop} : ab_fd 6 45 1 K = K 0 2 := by unfold ab_fd; rw [ab_fl_6_45_1]; rfl
theorem fd_6_48_1 {K : Nat → Nat → Prop} : ab_fd 6 48 1 K = K 1 2 := by unfold ab_fd; rw [ab_fl_6_48_1]; rfl
theorem fd_6_56_1 {K : Nat → Nat → Prop} : ab_fd 6 56 1 K = K 3 2 := by unfold ab_fd; rw [ab_fl_6_56_1]; rfl
theorem fd_6_59_1 {K : Nat → Nat → Prop} : ab_fd 6 59 1 K = K 4 2 := by unfold ab_fd; rw [ab_fl_6_59_1]; rfl
theorem fd_6_112_1 {K : Nat → Nat → Prop} : ab_fd 6 112 1 K = K 6 0 := by unfold ab_fd; rw [ab_fl_6_112_1]; rfl
theorem fd_6_62_1 {K : Nat → Nat → Prop} : ab_fd 6 62 1 K = K 7 0 := by unfold ab_fd; rw [ab_fl_6_62_1]; rfl
theorem fd_6_53_1 {K : Nat → Nat → Prop} : ab_fd 6 53 1 K = K 8 0 := by unfold ab_fd; rw [ab_fl_6_53_1]; rfl
theorem fd_6_49_1 {K : Nat → Nat → Prop} : ab_fd 6 49 1 K = K 10 0 := by unfold ab_fd; rw [ab_fl_6_49_1]; rfl
theorem fin_1_10 : ab_fin 1 10 = false := rfl
theorem fd_6_41_0 {K : Nat → Nat → Prop} : ab_fd 6 41 0 K = K 0 2 := by unfold ab_fd; rw [ab_fl_6_41_0]; rfl
theorem fd_9_156_1 {K : Nat → Nat → Prop} : ab_fd 9 156 1 K = K 0 2 := by unfold ab_fd; rw [ab_fl_9_156_1]; rfl
theorem fd_9_167_1 {K : Nat → Nat → Prop} : ab_fd 9 167 1 K = K 1 2 := by unfold ab_fd; rw [ab_fl_9_167_1]; rfl
theorem fd_9_183_1 {K : Nat → Nat → Prop} : ab_fd 9 183 1 K = K 2 2 := by unfold ab_fd; rw [ab_fl_9_183_1]; rfl
theorem fd_9_172_1 {K : Nat → Nat → Prop} : ab_fd 9 172 1 K = K 3 2 := by unfold ab_fd; rw [ab_fl_9_172_1]; rfl
theorem fd_9_175_1 {K : Nat → Nat → Prop} : ab_fd 9 175 1 K = K 4 2 := by unfold ab_fd; rw [ab_fl_9_175_1]; rfl
theorem fd_9_110_1 {K : Nat → Nat → Prop} : ab_fd 9 110 1 K = K 6 0 := by unfold ab_fd; rw [ab_fl_9_110_1]; rfl
theorem fd_9_115_1 {K : Nat → Nat → Prop} : ab_fd 9 115 1 K = K 7 0 := by unfold ab_fd; rw [ab_fl_9_115_1]; rfl
theorem fd_9_164_1 {K : Nat → Nat → Prop} : ab_fd 9 164 1 K = K 8 0 := by unfold ab_fd; rw [ab_fl_9_164_1]; rfl
theorem fd_9_147_1 {K : Nat → Nat → Prop} : ab_fd 9 147 1 K = K 9 0 := by unfold ab_fd; rw [ab_fl_9_147_1]; rfl
theorem fd_9_151_1 {K : Nat → Nat → Prop} : ab_fd 9 151 1 K = K 10 0 := by unfold ab_fd; rw [ab_fl_9_151_1]; rfl
theorem fd_9_126_1 {K : Nat → Nat → Prop} : ab_fd 9 126 1 K = K 11 0 := by unfold ab_fd; rw [ab_fl_9_126_1]; rfl
theorem fd_9_199_1 {K : Nat → Nat → Prop} : ab_fd 9 199 1 K = K 12 2 := by unfold ab_fd; rw [ab_fl_9_199_1]; rfl
theorem fd_9_202_1 {K : Nat → Nat → Prop} : ab_fd 9 202 1 K = K 13 2 := by unfold ab_fd; rw [ab_fl_9_202_1]; rfl
theorem fd_9_29_0 {K : Nat → Nat → Prop} : ab_fd 9 29 0 K = K 4 2 := by unfold ab_fd; rw [ab_fl_9_29_0]; rfl
theorem bp_m30 : (Int8.ofInt (-30)).toInt32 = zi (-30) := by decide +kernel
theorem bp_m10 : (Int8.ofInt (-10)).toInt32 = zi (-10) := by decide +kernel
theorem bp_m9 : (Int8.ofInt (-9)).toInt32 = zi (-9) := by decide +kernel
theorem bp_m6 : (Int8.ofInt (-6)).toInt32 = zi (-6) := by decide +kernel
theorem bp_m5 : (Int8.ofInt (-5)).toInt32 = zi (-5) := by decide +kernel
theorem bp_m4 : (Int8.ofInt (-4)).toInt32 = zi (-4) := by decide +kernel
theorem bp_m3 : (Int8.ofInt (-3)).toInt32 = zi (-3) := by decide +kernel
theorem bp_m2 : (Int8.ofInt (-2)).toInt32 = zi (-2) := by decide +kernel
theorem bp_6 : (Int8.ofInt 6).toInt32 = zi 6 := by decide +kernel
theorem bp_7 : (Int8.ofInt 7).toInt32 = zi 7 := by decide +kernel
theorem bp_8 : (Int8.ofInt 8).toInt32 = zi 8 := by decide +kernel
theorem bp_9 : (Int8.ofInt 9).toInt32 = zi 9 := by decide +kernel
theorem bp_10 : (Int8.ofInt 10).toInt32 = zi 10 := by decide +kernel
theorem bp_11 : (Int8.ofInt 11).toInt32 = zi 11 := by decide +kernel
theorem bp_12 : (Int8.ofInt 12).toInt32 = zi 12 := by decide +kernel
theorem bp_13 : (Int8.ofInt 13).toInt32 = zi 13 := by decide +kernel
theorem bp_14 : (Int8.ofInt 14).toInt32 = zi 14 := by decide +kernel
theorem bp_16 : (Int8.ofInt 16).toInt32 = zi 16 := by decide +kernel
theorem bp_17 : (Int8.ofInt 17).toInt32 = zi 17 := by decide +kernel
theorem bp_19 : (Int8.ofInt 19).toInt32 = zi 19 := by decide +kernel
theorem bp_20 : (Int8.ofInt 20).toInt32 = zi 20 := by decide +kernel
theorem bp_21 : (Int8.ofInt 21).toInt32 = zi 21 := by decide +kernel
theorem bp_22 : (Int8.ofInt 22).toInt32 = zi 22 := by decide +kernel
theorem bp_23 : (Int8.ofInt 23).toInt32 = zi 23 := by decide +kernel
theorem bp_24 : (Int8.ofInt 24).toInt32 = zi 24 := by decide +kernel
theorem bp_25 : (Int8.ofInt 25).toInt32 = zi 25 := by decide +kernel
theorem bp_26 : (Int8.ofInt 26).toInt32 = zi 26 := by decide +kernel
theorem bp_27 : (Int8.ofInt 27).toInt32 = zi 27 := by decide +kernel
theorem bp_28 : (Int8.ofInt 28).toInt32 = zi 28 := by decide +kernel
theorem bp_29 : (Int8.ofInt 29).toInt32 = zi 29 := by decide +kernel
theorem bp_30 : (Int8.ofInt 30).toInt32 = zi 30 := by decide +kernel
theorem bp_31 : (Int8.ofInt 31).toInt32 = zi 31 := by decide +kernel
theorem bp_32 : (Int8.ofInt 32).toInt32 = zi 32 := by decide +kernel
theorem bp_33 : (Int8.ofInt 33).toInt32 = zi 33 := by decide +kernel
theorem bp_34 : (Int8.ofInt 34).toInt32 = zi 34 := by decide +kernel
theorem bp_35 : (Int8.ofInt 35).toInt32 = zi 35 := by decide +kernel
theorem bp_36 : (Int8.ofInt 36).toInt32 = zi 36 := by decide +kernel
theorem bp_37 : (Int8.ofInt 37).toInt32 = zi 37 := by decide +kernel
theorem bp_38 : (Int8.ofInt 38).toInt32 = zi 38 := by decide +kernel
theorem bp_39 : (Int8.ofInt 39).toInt32 = zi 39 := by decide +kernel
theorem bp_40 : (Int8.ofInt 40).toInt32 = zi 40 := by decide +kernel
theorem bp_41 : (Int8.ofInt 41).toInt32 = zi 41 := by decide +kernel
theorem bp_42 : (Int8.ofInt 42).toInt32 = zi 42 := by decide +kernel
theorem bp_43 : (Int8.ofInt 43).toInt32 = zi 43 := by decide +kernel
theorem bp_45 : (Int8.ofInt 45).toInt32 = zi 45 := by decide +kernel
theorem bp_46 : (Int8.ofInt 46).toInt32 = zi 46 := by decide +kernel
theorem bp_48 : (Int8.ofInt 48).toInt32 = zi 48 := by decide +kernel
theorem bp_50 : (Int8.ofInt 50).toInt32 = zi 50 := by decide +kernel
theorem bp_57 : (Int8.ofInt 57).toInt32 = zi 57 := by decide +kernel
theorem bp_58 : (Int8.ofInt 58).toInt32 = zi 58 := by decide +kernel
theorem bp_59 : (Int8.ofInt 59).toInt32 = zi 59 := by decide +kernel
theorem bp_60 : (Int8.ofInt 60).toInt32 = zi 60 := by decide +kernel
theorem bp_61 : (Int8.ofInt 61).toInt32 = zi 61 := by decide +kernel
theorem bp_62 : (Int8.ofInt 62).toInt32 = zi 62 := by decide +kernel
theorem bp_63 : (Int8.ofInt 63).toInt32 = zi 63 := by decide +kernel
theorem bp_65 : (Int8.ofInt 65).toInt32 = zi 65 := by decide +kernel
theorem bp_90 : (Int8.ofInt 90).toInt32 = zi 90 := by decide +kernel
theorem bp_91 : (Int8.ofInt 91).toInt32 = zi 91 := by decide +kernel
theorem bp_93 : (Int8.ofInt 93).toInt32 = zi 93 := by decide +kernel
theorem bp_96 : (Int8.ofInt 96).toInt32 = zi 96 := by decide +kernel
theorem bp_97 : (Int8.ofInt 97).toInt32 = zi 97 := by decide +kernel
theorem bp_99 : (Int8.ofInt 99).toInt32 = zi 99 := by decide +kernel
theorem bp_100 : (Int8.ofInt 100).toInt32 = zi 100 := by decide +kernel
theorem bp_122 : (Int8.ofInt 122).toInt32 = zi 122 := by decide +kernel
theorem sp_160 : (Int16.ofInt 160).toInt32 = zi 160 := by decide +kernel
theorem sp_171 : (Int16.ofInt 171).toInt32 = zi 171 := by decide +kernel
theorem sp_200 : (Int16.ofInt 200).toInt32 = zi 200 := by decide +kernel
theorem sp_236 : (Int16.ofInt 236).toInt32 = zi 236 := by decide +kernel
theorem sp_237 : (Int16.ofInt 237).toInt32 = zi 237 := by decide +kernel
theorem sp_255 : (Int16.ofInt 255).toInt32 = zi 255 := by decide +kernel
theorem sp_256 : (Int16.ofInt 256).toInt32 = zi 256 := by decide +kernel
theorem sp_900 : (Int16.ofInt 900).toInt32 = zi 900 := by decide +kernel
theorem sp_999 : (Int16.ofInt 999).toInt32 = zi 999 := by decide +kernel
theorem sp_1000 : (Int16.ofInt 1000).toInt32 = zi 1000 := by decide +kernel
theorem sp_1023 : (Int16.ofInt 1023).toInt32 = zi 1023 := by decide +kernel
theorem sp_1137 : (Int16.ofInt 1137).toInt32 = zi 1137 := by decide +kernel
theorem sp_3000 : (Int16.ofInt 3000).toInt32 = zi 3000 := by decide +kernel
theorem sp_3001 : (Int16.ofInt 3001).toInt32 = zi 3001 := by decide +kernel
theorem sp_3002 : (Int16.ofInt 3002).toInt32 = zi 3002 := by decide +kernel
theorem sp_3003 : (Int16.ofInt 3003).toInt32 = zi 3003 := by decide +kernel
theorem sp_3004 : (Int16.ofInt 3004).toInt32 = zi 3004 := by decide +kernel
theorem sp_3005 : (Int16.ofInt 3005).toInt32 = zi 3005 := by decide +kernel
theorem sp_3006 : (Int16.ofInt 3006).toInt32 = zi 3006 := by decide +kernel
theorem sp_3007 : (Int16.ofInt 3007).toInt32 = zi 3007 := by decide +kernel
theorem sp_3008 : (Int16.ofInt 3008).toInt32 = zi 3008 := by decide +kernel
theorem sp_3411 : (Int16.ofInt 3411).toInt32 = zi 3411 := by decide +kernel
theorem sp_12345 : (Int16.ofInt 12345).toInt32 = zi 12345 := by decide +kernel
theorem ofi (n : Int) : Int32.ofInt n = zi n := rfl
theorem z0 : (0 : Int32) = zi 0 := rfl
theorem z1 : (1 : Int32) = zi 1 := rfl
theorem w0 : (0 : Int64) = zl 0 := rfl
theorem w1 : (1 : Int64) = zl 1 := rfl
theorem ki_65536 : (65536 : Int32) = zi 65536 := by decide +kernel
theorem ki_252645135 : (252645135 : Int32) = zi 252645135 := by decide +kernel
theorem ki_858993459 : (858993459 : Int32) = zi 858993459 := by decide +kernel
theorem ki_1103515245 : (1103515245 : Int32) = zi 1103515245 := by decide +kernel
theorem ki_1431655765 : (1431655765 : Int32) = zi 1431655765 := by decide +kernel
theorem kl_m1000000 : (-1000000 : Int64) = zl (-1000000) := by decide +kernel
theorem kl_m7 : (-7 : Int64) = zl (-7) := by decide +kernel
theorem kl_m6 : (-6 : Int64) = zl (-6) := by decide +kernel
theorem kl_m3 : (-3 : Int64) = zl (-3) := by decide +kernel
theorem kl_m2 : (-2 : Int64) = zl (-2) := by decide +kernel
theorem kl_m1 : (-1 : Int64) = zl (-1) := by decide +kernel
theorem kl_0 : (0 : Int64) = zl 0 := by decide +kernel
theorem kl_1 : (1 : Int64) = zl 1 := by decide +kernel
theorem kl_3 : (3 : Int64) = zl 3 := by decide +kernel
theorem kl_6 : (6 : Int64) = zl 6 := by decide +kernel
theorem kl_8 : (8 : Int64) = zl 8 := by decide +kernel
theorem kl_9 : (9 : Int64) = zl 9 := by decide +kernel
theorem kl_10 : (10 : Int64) = zl 10 := by decide +kernel
theorem kl_12 : (12 : Int64) = zl 12 := by decide +kernel
theorem kl_40 : (40 : Int64) = zl 40 := by decide +kernel
theorem kl_48 : (48 : Int64) = zl 48 := by decide +kernel
theorem kl_49 : (49 : Int64) = zl 49 := by decide +kernel
theorem kl_57 : (57 : Int64) = zl 57 := by decide +kernel
theorem kl_60 : (60 : Int64) = zl 60 := by decide +kernel
theorem kl_97 : (97 : Int64) = zl 97 := by decide +kernel
theorem kl_99 : (99 : Int64) = zl 99 := by decide +kernel
theorem kl_100 : (100 : Int64) = zl 100 := by decide +kernel
theorem kl_122 : (122 : Int64) = zl 122 := by decide +kernel
theorem kl_159 : (159 : Int64) = zl 159 := by decide +kernel
theorem kl_200 : (200 : Int64) = zl 200 := by decide +kernel
theorem kl_209 : (209 : Int64) = zl 209 := by decide +kernel
theorem kl_999 : (999 : Int64) = zl 999 := by decide +kernel
theorem kl_1000000 : (1000000 : Int64) = zl 1000000 := by decide +kernel
theorem kl_4294967295 : (4294967295 : Int64) = zl 4294967295 := by decide +kernel
