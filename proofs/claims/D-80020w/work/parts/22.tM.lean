-- IdealProverModel make (IIZ)V
theorem d_M_make_0 : decode prog_12_method_37_code 0 = .ok (.aload_n 0, 1) := by decide +kernel
theorem d_M_make_1 : decode prog_12_method_37_code 1 = .ok (.iload_n 1, 1) := by decide +kernel
theorem d_M_make_2 : decode prog_12_method_37_code 2 = .ok (.putfield 139, 3) := by decide +kernel
theorem d_M_make_5 : decode prog_12_method_37_code 5 = .ok (.aload_n 0, 1) := by decide +kernel
theorem d_M_make_6 : decode prog_12_method_37_code 6 = .ok (.iconst 0, 1) := by decide +kernel
theorem d_M_make_7 : decode prog_12_method_37_code 7 = .ok (.putfield 133, 3) := by decide +kernel
theorem d_M_make_10 : decode prog_12_method_37_code 10 = .ok (.aload_n 0, 1) := by decide +kernel
theorem d_M_make_11 : decode prog_12_method_37_code 11 = .ok (.iconst (-1), 1) := by decide +kernel
theorem d_M_make_12 : decode prog_12_method_37_code 12 = .ok (.putfield 136, 3) := by decide +kernel
theorem d_M_make_15 : decode prog_12_method_37_code 15 = .ok (.aload_n 0, 1) := by decide +kernel
theorem d_M_make_16 : decode prog_12_method_37_code 16 = .ok (.iload_n 3, 1) := by decide +kernel
theorem d_M_make_17 : decode prog_12_method_37_code 17 = .ok (.putfield 151, 3) := by decide +kernel
theorem d_M_make_20 : decode prog_12_method_37_code 20 = .ok (.aload_n 0, 1) := by decide +kernel
theorem d_M_make_21 : decode prog_12_method_37_code 21 = .ok (.iconst 0, 1) := by decide +kernel
theorem d_M_make_22 : decode prog_12_method_37_code 22 = .ok (.putfield 157, 3) := by decide +kernel
theorem d_M_make_25 : decode prog_12_method_37_code 25 = .ok (.aload_n 0, 1) := by decide +kernel
theorem d_M_make_26 : decode prog_12_method_37_code 26 = .ok (.iconst 0, 1) := by decide +kernel
theorem d_M_make_27 : decode prog_12_method_37_code 27 = .ok (.putfield 160, 3) := by decide +kernel
theorem d_M_make_30 : decode prog_12_method_37_code 30 = .ok (.iconst 0, 1) := by decide +kernel
theorem d_M_make_31 : decode prog_12_method_37_code 31 = .ok (.istore 4, 2) := by decide +kernel
theorem d_M_make_33 : decode prog_12_method_37_code 33 = .ok (.iload 4, 2) := by decide +kernel
theorem d_M_make_35 : decode prog_12_method_37_code 35 = .ok (.sipush 625, 3) := by decide +kernel
theorem d_M_make_38 : decode prog_12_method_37_code 38 = .ok (.if_icmp .ge 17, 3) := by decide +kernel
theorem d_M_make_41 : decode prog_12_method_37_code 41 = .ok (.aload_n 0, 1) := by decide +kernel
theorem d_M_make_42 : decode prog_12_method_37_code 42 = .ok (.getfield 29, 3) := by decide +kernel
theorem d_M_make_45 : decode prog_12_method_37_code 45 = .ok (.iload 4, 2) := by decide +kernel
theorem d_M_make_47 : decode prog_12_method_37_code 47 = .ok (.iconst 0, 1) := by decide +kernel
theorem d_M_make_48 : decode prog_12_method_37_code 48 = .ok (.bastore, 1) := by decide +kernel
theorem d_M_make_49 : decode prog_12_method_37_code 49 = .ok (.iinc 4 1, 3) := by decide +kernel
theorem d_M_make_52 : decode prog_12_method_37_code 52 = .ok (.goto (-19), 3) := by decide +kernel
theorem d_M_make_55 : decode prog_12_method_37_code 55 = .ok (.iconst 0, 1) := by decide +kernel
theorem d_M_make_56 : decode prog_12_method_37_code 56 = .ok (.istore 4, 2) := by decide +kernel
theorem d_M_make_58 : decode prog_12_method_37_code 58 = .ok (.iload 4, 2) := by decide +kernel
theorem d_M_make_60 : decode prog_12_method_37_code 60 = .ok (.iload_n 2, 1) := by decide +kernel
theorem d_M_make_61 : decode prog_12_method_37_code 61 = .ok (.if_icmp .ge 142, 3) := by decide +kernel
theorem d_M_make_64 : decode prog_12_method_37_code 64 = .ok (.aload_n 0, 1) := by decide +kernel
theorem d_M_make_65 : decode prog_12_method_37_code 65 = .ok (.getfield 54, 3) := by decide +kernel
theorem d_M_make_68 : decode prog_12_method_37_code 68 = .ok (.ifCond .ne 135, 3) := by decide +kernel
theorem d_M_make_71 : decode prog_12_method_37_code 71 = .ok (.aload_n 0, 1) := by decide +kernel
theorem d_M_make_72 : decode prog_12_method_37_code 72 = .ok (.getfield 20, 3) := by decide +kernel
theorem d_M_make_75 : decode prog_12_method_37_code 75 = .ok (.bipush 40, 2) := by decide +kernel
theorem d_M_make_77 : decode prog_12_method_37_code 77 = .ok (.iload 4, 2) := by decide +kernel
theorem d_M_make_79 : decode prog_12_method_37_code 79 = .ok (.iadd, 1) := by decide +kernel
theorem d_M_make_80 : decode prog_12_method_37_code 80 = .ok (.iaload, 1) := by decide +kernel
theorem d_M_make_81 : decode prog_12_method_37_code 81 = .ok (.ifCond .ne 6, 3) := by decide +kernel
theorem d_M_make_84 : decode prog_12_method_37_code 84 = .ok (.goto 113, 3) := by decide +kernel
theorem d_M_make_87 : decode prog_12_method_37_code 87 = .ok (.aload_n 0, 1) := by decide +kernel
theorem d_M_make_88 : decode prog_12_method_37_code 88 = .ok (.bipush 40, 2) := by decide +kernel
theorem d_M_make_90 : decode prog_12_method_37_code 90 = .ok (.iload 4, 2) := by decide +kernel
theorem d_M_make_92 : decode prog_12_method_37_code 92 = .ok (.iadd, 1) := by decide +kernel
theorem d_M_make_93 : decode prog_12_method_37_code 93 = .ok (.iload_n 1, 1) := by decide +kernel
theorem d_M_make_94 : decode prog_12_method_37_code 94 = .ok (.aload_n 0, 1) := by decide +kernel
theorem d_M_make_95 : decode prog_12_method_37_code 95 = .ok (.getfield 133, 3) := by decide +kernel
theorem d_M_make_98 : decode prog_12_method_37_code 98 = .ok (.iadd, 1) := by decide +kernel
theorem d_M_make_99 : decode prog_12_method_37_code 99 = .ok (.invokevirtual 106, 3) := by decide +kernel
theorem d_M_make_102 : decode prog_12_method_37_code 102 = .ok (.iconst 0, 1) := by decide +kernel
theorem d_M_make_103 : decode prog_12_method_37_code 103 = .ok (.istore 5, 2) := by decide +kernel
theorem d_M_make_105 : decode prog_12_method_37_code 105 = .ok (.iload 5, 2) := by decide +kernel
theorem d_M_make_107 : decode prog_12_method_37_code 107 = .ok (.aload_n 0, 1) := by decide +kernel
theorem d_M_make_108 : decode prog_12_method_37_code 108 = .ok (.getfield 90, 3) := by decide +kernel
theorem d_M_make_111 : decode prog_12_method_37_code 111 = .ok (.if_icmp .ge 53, 3) := by decide +kernel
theorem d_M_make_114 : decode prog_12_method_37_code 114 = .ok (.iload_n 3, 1) := by decide +kernel
theorem d_M_make_115 : decode prog_12_method_37_code 115 = .ok (.ifCond .eq 49, 3) := by decide +kernel
theorem d_M_make_118 : decode prog_12_method_37_code 118 = .ok (.aload_n 0, 1) := by decide +kernel
theorem d_M_make_119 : decode prog_12_method_37_code 119 = .ok (.getfield 20, 3) := by decide +kernel
theorem d_M_make_122 : decode prog_12_method_37_code 122 = .ok (.aload_n 0, 1) := by decide +kernel
theorem d_M_make_123 : decode prog_12_method_37_code 123 = .ok (.aload_n 0, 1) := by decide +kernel
theorem d_M_make_124 : decode prog_12_method_37_code 124 = .ok (.getfield 133, 3) := by decide +kernel
theorem d_M_make_127 : decode prog_12_method_37_code 127 = .ok (.iload 5, 2) := by decide +kernel
theorem d_M_make_129 : decode prog_12_method_37_code 129 = .ok (.invokevirtual 145, 3) := by decide +kernel
theorem d_M_make_132 : decode prog_12_method_37_code 132 = .ok (.iconst 0, 1) := by decide +kernel
theorem d_M_make_133 : decode prog_12_method_37_code 133 = .ok (.iastore, 1) := by decide +kernel
theorem d_M_make_134 : decode prog_12_method_37_code 134 = .ok (.iload 5, 2) := by decide +kernel
theorem d_M_make_136 : decode prog_12_method_37_code 136 = .ok (.iload 4, 2) := by decide +kernel
theorem d_M_make_138 : decode prog_12_method_37_code 138 = .ok (.if_icmp .ne 20, 3) := by decide +kernel
theorem d_M_make_141 : decode prog_12_method_37_code 141 = .ok (.aload_n 0, 1) := by decide +kernel
theorem d_M_make_142 : decode prog_12_method_37_code 142 = .ok (.aload_n 0, 1) := by decide +kernel
theorem d_M_make_143 : decode prog_12_method_37_code 143 = .ok (.aload_n 0, 1) := by decide +kernel
theorem d_M_make_144 : decode prog_12_method_37_code 144 = .ok (.getfield 133, 3) := by decide +kernel
theorem d_M_make_147 : decode prog_12_method_37_code 147 = .ok (.iload 5, 2) := by decide +kernel
theorem d_M_make_149 : decode prog_12_method_37_code 149 = .ok (.invokevirtual 145, 3) := by decide +kernel
theorem d_M_make_152 : decode prog_12_method_37_code 152 = .ok (.iconst 1, 1) := by decide +kernel
theorem d_M_make_153 : decode prog_12_method_37_code 153 = .ok (.iconst 1, 1) := by decide +kernel
theorem d_M_make_154 : decode prog_12_method_37_code 154 = .ok (.iconst 0, 1) := by decide +kernel
theorem d_M_make_155 : decode prog_12_method_37_code 155 = .ok (.invokevirtual 82, 3) := by decide +kernel
theorem d_M_make_158 : decode prog_12_method_37_code 158 = .ok (.iinc 5 1, 3) := by decide +kernel
theorem d_M_make_161 : decode prog_12_method_37_code 161 = .ok (.goto (-56), 3) := by decide +kernel
theorem d_M_make_164 : decode prog_12_method_37_code 164 = .ok (.aload_n 0, 1) := by decide +kernel
theorem d_M_make_165 : decode prog_12_method_37_code 165 = .ok (.aload_n 0, 1) := by decide +kernel
theorem d_M_make_166 : decode prog_12_method_37_code 166 = .ok (.getfield 133, 3) := by decide +kernel
theorem d_M_make_169 : decode prog_12_method_37_code 169 = .ok (.invokevirtual 163, 3) := by decide +kernel
theorem d_M_make_172 : decode prog_12_method_37_code 172 = .ok (.aload_n 0, 1) := by decide +kernel
theorem d_M_make_173 : decode prog_12_method_37_code 173 = .ok (.getfield 54, 3) := by decide +kernel
theorem d_M_make_176 : decode prog_12_method_37_code 176 = .ok (.ifCond .ne 21, 3) := by decide +kernel
theorem d_M_make_179 : decode prog_12_method_37_code 179 = .ok (.aload_n 0, 1) := by decide +kernel
theorem d_M_make_180 : decode prog_12_method_37_code 180 = .ok (.aload_n 0, 1) := by decide +kernel
theorem d_M_make_181 : decode prog_12_method_37_code 181 = .ok (.getfield 133, 3) := by decide +kernel
theorem d_M_make_184 : decode prog_12_method_37_code 184 = .ok (.invokevirtual 166, 3) := by decide +kernel
theorem d_M_make_187 : decode prog_12_method_37_code 187 = .ok (.aload_n 0, 1) := by decide +kernel
theorem d_M_make_188 : decode prog_12_method_37_code 188 = .ok (.dup, 1) := by decide +kernel
theorem d_M_make_189 : decode prog_12_method_37_code 189 = .ok (.getfield 133, 3) := by decide +kernel
theorem d_M_make_192 : decode prog_12_method_37_code 192 = .ok (.iconst 1, 1) := by decide +kernel
theorem d_M_make_193 : decode prog_12_method_37_code 193 = .ok (.iadd, 1) := by decide +kernel
theorem d_M_make_194 : decode prog_12_method_37_code 194 = .ok (.putfield 133, 3) := by decide +kernel
theorem d_M_make_197 : decode prog_12_method_37_code 197 = .ok (.iinc 4 1, 3) := by decide +kernel
theorem d_M_make_200 : decode prog_12_method_37_code 200 = .ok (.goto (-142), 3) := by decide +kernel
theorem d_M_make_203 : decode prog_12_method_37_code 203 = .ok (.aload_n 0, 1) := by decide +kernel
theorem d_M_make_204 : decode prog_12_method_37_code 204 = .ok (.getfield 54, 3) := by decide +kernel
theorem d_M_make_207 : decode prog_12_method_37_code 207 = .ok (.ifCond .ne 30, 3) := by decide +kernel
theorem d_M_make_210 : decode prog_12_method_37_code 210 = .ok (.aload_n 0, 1) := by decide +kernel
theorem d_M_make_211 : decode prog_12_method_37_code 211 = .ok (.getfield 127, 3) := by decide +kernel
theorem d_M_make_214 : decode prog_12_method_37_code 214 = .ok (.ifCond .ne 23, 3) := by decide +kernel
theorem d_M_make_217 : decode prog_12_method_37_code 217 = .ok (.aload_n 0, 1) := by decide +kernel
theorem d_M_make_218 : decode prog_12_method_37_code 218 = .ok (.invokevirtual 169, 3) := by decide +kernel
theorem d_M_make_221 : decode prog_12_method_37_code 221 = .ok (.ifCond .eq 16, 3) := by decide +kernel
theorem d_M_make_224 : decode prog_12_method_37_code 224 = .ok (.aload_n 0, 1) := by decide +kernel
theorem d_M_make_225 : decode prog_12_method_37_code 225 = .ok (.dup, 1) := by decide +kernel
theorem d_M_make_226 : decode prog_12_method_37_code 226 = .ok (.getfield 157, 3) := by decide +kernel
theorem d_M_make_229 : decode prog_12_method_37_code 229 = .ok (.iconst 0, 1) := by decide +kernel
theorem d_M_make_230 : decode prog_12_method_37_code 230 = .ok (.iadd, 1) := by decide +kernel
theorem d_M_make_231 : decode prog_12_method_37_code 231 = .ok (.putfield 157, 3) := by decide +kernel
theorem d_M_make_234 : decode prog_12_method_37_code 234 = .ok (.goto (-31), 3) := by decide +kernel
theorem d_M_make_237 : decode prog_12_method_37_code 237 = .ok (.aload_n 0, 1) := by decide +kernel
theorem d_M_make_238 : decode prog_12_method_37_code 238 = .ok (.aload_n 0, 1) := by decide +kernel
theorem d_M_make_239 : decode prog_12_method_37_code 239 = .ok (.getfield 133, 3) := by decide +kernel
theorem d_M_make_242 : decode prog_12_method_37_code 242 = .ok (.putfield 173, 3) := by decide +kernel
theorem d_M_make_245 : decode prog_12_method_37_code 245 = .ok (.aload_n 0, 1) := by decide +kernel
theorem d_M_make_246 : decode prog_12_method_37_code 246 = .ok (.getfield 54, 3) := by decide +kernel
theorem d_M_make_249 : decode prog_12_method_37_code 249 = .ok (.ifCond .ne 14, 3) := by decide +kernel
theorem d_M_make_252 : decode prog_12_method_37_code 252 = .ok (.aload_n 0, 1) := by decide +kernel
theorem d_M_make_253 : decode prog_12_method_37_code 253 = .ok (.getfield 127, 3) := by decide +kernel
theorem d_M_make_256 : decode prog_12_method_37_code 256 = .ok (.ifCond .ne 7, 3) := by decide +kernel
theorem d_M_make_259 : decode prog_12_method_37_code 259 = .ok (.aload_n 0, 1) := by decide +kernel
theorem d_M_make_260 : decode prog_12_method_37_code 260 = .ok (.invokevirtual 176, 3) := by decide +kernel
theorem d_M_make_263 : decode prog_12_method_37_code 263 = .ok (.iconst 0, 1) := by decide +kernel
theorem d_M_make_264 : decode prog_12_method_37_code 264 = .ok (.istore 4, 2) := by decide +kernel
theorem d_M_make_266 : decode prog_12_method_37_code 266 = .ok (.iload 4, 2) := by decide +kernel
theorem d_M_make_268 : decode prog_12_method_37_code 268 = .ok (.aload_n 0, 1) := by decide +kernel
theorem d_M_make_269 : decode prog_12_method_37_code 269 = .ok (.getfield 133, 3) := by decide +kernel
theorem d_M_make_272 : decode prog_12_method_37_code 272 = .ok (.if_icmp .ge 29, 3) := by decide +kernel
theorem d_M_make_275 : decode prog_12_method_37_code 275 = .ok (.aload_n 0, 1) := by decide +kernel
theorem d_M_make_276 : decode prog_12_method_37_code 276 = .ok (.getfield 54, 3) := by decide +kernel
theorem d_M_make_279 : decode prog_12_method_37_code 279 = .ok (.ifCond .ne 22, 3) := by decide +kernel
theorem d_M_make_282 : decode prog_12_method_37_code 282 = .ok (.aload_n 0, 1) := by decide +kernel
theorem d_M_make_283 : decode prog_12_method_37_code 283 = .ok (.getfield 127, 3) := by decide +kernel
theorem d_M_make_286 : decode prog_12_method_37_code 286 = .ok (.ifCond .ne 15, 3) := by decide +kernel
theorem d_M_make_289 : decode prog_12_method_37_code 289 = .ok (.aload_n 0, 1) := by decide +kernel
theorem d_M_make_290 : decode prog_12_method_37_code 290 = .ok (.iload 4, 2) := by decide +kernel
theorem d_M_make_292 : decode prog_12_method_37_code 292 = .ok (.invokevirtual 179, 3) := by decide +kernel
theorem d_M_make_295 : decode prog_12_method_37_code 295 = .ok (.iinc 4 1, 3) := by decide +kernel
theorem d_M_make_298 : decode prog_12_method_37_code 298 = .ok (.goto (-32), 3) := by decide +kernel
theorem d_M_make_301 : decode prog_12_method_37_code 301 = .ok (.return_, 1) := by decide +kernel
def tb_M_make_0 : List (Nat × jm_Op) := [(0, oAl 0 1), (1, oIl 1 2), (2, oPi 6 19 5), (5, oAl 0 6), (6, oC 0 7), (7, oPi 6 20 10), (10, oAl 0 11), (11, oC (-1) 12), (12, oPi 6 21 15), (15, oAl 0 16), (16, oIl 3 17), (17, oPz 6 22 20), (20, oAl 0 21), (21, oC 0 22), (22, oPi 6 24 25), (25, oAl 0 26), (26, oC 0 27), (27, oPi 6 25 30), (30, oC 0 31), (31, oIs 4 33), (33, oIl 4 35), (35, oC 625 38), (38, oIcGe 55 41), (41, oAl 0 42), (42, oGr 6 23 9 45), (45, oIl 4 47), (47, oC 0 48), (48, oZw 49), (49, oInc 4 1 52), (52, oGo 33), (55, oC 0 56), (56, oIs 4 58), (58, oIl 4 60), (60, oIl 2 61), (61, oIcGe 203 64), (64, oAl 0 65), (65, oGi 6 11 68), (68, oIfNe 203 71), (71, oAl 0 72), (72, oGr 6 6 8 75), (75, oC 40 77), (77, oIl 4 79), (79, oAdd 80), (80, oIa 81), (81, oIfNe 87 84), (84, oGo 197), (87, oAl 0 88), (88, oC 40 90), (90, oIl 4 92), (92, oAdd 93)]
theorem ok_M_make_0 : jm_all 103 tb_M_make_0 := ⟨s_aload_n d_M_make_0 rfl, s_iload_n d_M_make_1 rfl, s_puti d_M_make_2 ci_M rfl rfl rfl wd_670, s_aload_n d_M_make_5 rfl, s_iconst d_M_make_6 (by decide), s_puti d_M_make_7 ci_M rfl rfl rfl wd_671, s_aload_n d_M_make_10 rfl, s_iconst d_M_make_11 (by decide), s_puti d_M_make_12 ci_M rfl rfl rfl wd_672, s_aload_n d_M_make_15 rfl, s_iload_n d_M_make_16 rfl, s_putz d_M_make_17 ci_M rfl rfl rfl wd_673, s_aload_n d_M_make_20 rfl, s_iconst d_M_make_21 (by decide), s_puti d_M_make_22 ci_M rfl rfl rfl wd_675, s_aload_n d_M_make_25 rfl, s_iconst d_M_make_26 (by decide), s_puti d_M_make_27 ci_M rfl rfl rfl wd_676, s_iconst d_M_make_30 (by decide), s_istore d_M_make_31 (by decide), s_iload d_M_make_33, s_sipush d_M_make_35 (by decide), s_icmp_ge d_M_make_38 (by decide), s_aload_n d_M_make_41 rfl, s_getr d_M_make_42 ci_M rfl wd_674, s_iload d_M_make_45, s_iconst d_M_make_47 (by decide), s_bastore d_M_make_48, s_iinc d_M_make_49 (by decide) (by decide), s_goto d_M_make_52 (by decide), s_iconst d_M_make_55 (by decide), s_istore d_M_make_56 (by decide), s_iload d_M_make_58, s_iload_n d_M_make_60 rfl, s_icmp_ge d_M_make_61 (by decide), s_aload_n d_M_make_64 rfl, s_geti d_M_make_65 ci_M rfl wd_662, s_if_ne d_M_make_68 (by decide), s_aload_n d_M_make_71 rfl, s_getr d_M_make_72 ci_M rfl wd_657, s_bipush d_M_make_75 (by decide), s_iload d_M_make_77, s_iadd d_M_make_79, s_iaload d_M_make_80, s_if_ne d_M_make_81 (by decide), s_goto d_M_make_84 (by decide), s_aload_n d_M_make_87 rfl, s_bipush d_M_make_88 (by decide), s_iload d_M_make_90, s_iadd d_M_make_92, trivial⟩
def tb_M_make_1 : List (Nat × jm_Op) := [(93, oIl 1 94), (94, oAl 0 95), (95, oGi 6 20 98), (98, oAdd 99), (102, oC 0 103), (103, oIs 5 105), (105, oIl 5 107), (107, oAl 0 108), (108, oGi 6 7 111), (111, oIcGe 164 114), (114, oIl 3 115), (115, oIfEq 164 118), (118, oAl 0 119), (119, oGr 6 6 8 122), (122, oAl 0 123), (123, oAl 0 124), (124, oGi 6 20 127), (127, oIl 5 129), (132, oC 0 133), (133, oIw 134), (134, oIl 5 136), (136, oIl 4 138), (138, oIcNe 158 141), (141, oAl 0 142), (142, oAl 0 143), (143, oAl 0 144), (144, oGi 6 20 147), (147, oIl 5 149), (152, oC 1 153), (153, oC 1 154), (154, oC 0 155), (158, oInc 5 1 161), (161, oGo 105), (164, oAl 0 165), (165, oAl 0 166), (166, oGi 6 20 169), (172, oAl 0 173), (173, oGi 6 11 176), (176, oIfNe 197 179), (179, oAl 0 180), (180, oAl 0 181), (181, oGi 6 20 184), (187, oAl 0 188), (188, oDup 189), (189, oGi 6 20 192), (192, oC 1 193), (193, oAdd 194), (194, oPi 6 20 197), (197, oInc 4 1 200), (200, oGo 58)]
theorem ok_M_make_1 : jm_all 103 tb_M_make_1 := ⟨s_iload_n d_M_make_93 rfl, s_aload_n d_M_make_94 rfl, s_geti d_M_make_95 ci_M rfl wd_671, s_iadd d_M_make_98, s_iconst d_M_make_102 (by decide), s_istore d_M_make_103 (by decide), s_iload d_M_make_105, s_aload_n d_M_make_107 rfl, s_geti d_M_make_108 ci_M rfl wd_658, s_icmp_ge d_M_make_111 (by decide), s_iload_n d_M_make_114 rfl, s_if_eq d_M_make_115 (by decide), s_aload_n d_M_make_118 rfl, s_getr d_M_make_119 ci_M rfl wd_657, s_aload_n d_M_make_122 rfl, s_aload_n d_M_make_123 rfl, s_geti d_M_make_124 ci_M rfl wd_671, s_iload d_M_make_127, s_iconst d_M_make_132 (by decide), s_iastore d_M_make_133, s_iload d_M_make_134, s_iload d_M_make_136, s_icmp_ne d_M_make_138 (by decide), s_aload_n d_M_make_141 rfl, s_aload_n d_M_make_142 rfl, s_aload_n d_M_make_143 rfl, s_geti d_M_make_144 ci_M rfl wd_671, s_iload d_M_make_147, s_iconst d_M_make_152 (by decide), s_iconst d_M_make_153 (by decide), s_iconst d_M_make_154 (by decide), s_iinc d_M_make_158 (by decide) (by decide), s_goto d_M_make_161 (by decide), s_aload_n d_M_make_164 rfl, s_aload_n d_M_make_165 rfl, s_geti d_M_make_166 ci_M rfl wd_671, s_aload_n d_M_make_172 rfl, s_geti d_M_make_173 ci_M rfl wd_662, s_if_ne d_M_make_176 (by decide), s_aload_n d_M_make_179 rfl, s_aload_n d_M_make_180 rfl, s_geti d_M_make_181 ci_M rfl wd_671, s_aload_n d_M_make_187 rfl, s_dup d_M_make_188, s_geti d_M_make_189 ci_M rfl wd_671, s_iconst d_M_make_192 (by decide), s_iadd d_M_make_193, s_puti d_M_make_194 ci_M rfl rfl rfl wd_671, s_iinc d_M_make_197 (by decide) (by decide), s_goto d_M_make_200 (by decide), trivial⟩
def tb_M_make_2 : List (Nat × jm_Op) := [(203, oAl 0 204), (204, oGi 6 11 207), (207, oIfNe 237 210), (210, oAl 0 211), (211, oGi 6 12 214), (214, oIfNe 237 217), (217, oAl 0 218), (221, oIfEq 237 224), (224, oAl 0 225), (225, oDup 226), (226, oGi 6 24 229), (229, oC 0 230), (230, oAdd 231), (231, oPi 6 24 234), (234, oGo 203), (237, oAl 0 238), (238, oAl 0 239), (239, oGi 6 20 242), (242, oPi 6 26 245), (245, oAl 0 246), (246, oGi 6 11 249), (249, oIfNe 263 252), (252, oAl 0 253), (253, oGi 6 12 256), (256, oIfNe 263 259), (259, oAl 0 260), (263, oC 0 264), (264, oIs 4 266), (266, oIl 4 268), (268, oAl 0 269), (269, oGi 6 20 272), (272, oIcGe 301 275), (275, oAl 0 276), (276, oGi 6 11 279), (279, oIfNe 301 282), (282, oAl 0 283), (283, oGi 6 12 286), (286, oIfNe 301 289), (289, oAl 0 290), (290, oIl 4 292), (295, oInc 4 1 298), (298, oGo 266)]
theorem ok_M_make_2 : jm_all 103 tb_M_make_2 := ⟨s_aload_n d_M_make_203 rfl, s_geti d_M_make_204 ci_M rfl wd_662, s_if_ne d_M_make_207 (by decide), s_aload_n d_M_make_210 rfl, s_geti d_M_make_211 ci_M rfl wd_663, s_if_ne d_M_make_214 (by decide), s_aload_n d_M_make_217 rfl, s_if_eq d_M_make_221 (by decide), s_aload_n d_M_make_224 rfl, s_dup d_M_make_225, s_geti d_M_make_226 ci_M rfl wd_675, s_iconst d_M_make_229 (by decide), s_iadd d_M_make_230, s_puti d_M_make_231 ci_M rfl rfl rfl wd_675, s_goto d_M_make_234 (by decide), s_aload_n d_M_make_237 rfl, s_aload_n d_M_make_238 rfl, s_geti d_M_make_239 ci_M rfl wd_671, s_puti d_M_make_242 ci_M rfl rfl rfl wd_677, s_aload_n d_M_make_245 rfl, s_geti d_M_make_246 ci_M rfl wd_662, s_if_ne d_M_make_249 (by decide), s_aload_n d_M_make_252 rfl, s_geti d_M_make_253 ci_M rfl wd_663, s_if_ne d_M_make_256 (by decide), s_aload_n d_M_make_259 rfl, s_iconst d_M_make_263 (by decide), s_istore d_M_make_264 (by decide), s_iload d_M_make_266, s_aload_n d_M_make_268 rfl, s_geti d_M_make_269 ci_M rfl wd_671, s_icmp_ge d_M_make_272 (by decide), s_aload_n d_M_make_275 rfl, s_geti d_M_make_276 ci_M rfl wd_662, s_if_ne d_M_make_279 (by decide), s_aload_n d_M_make_282 rfl, s_geti d_M_make_283 ci_M rfl wd_663, s_if_ne d_M_make_286 (by decide), s_aload_n d_M_make_289 rfl, s_iload d_M_make_290, s_iinc d_M_make_295 (by decide) (by decide), s_goto d_M_make_298 (by decide), trivial⟩
def tb_M_make : List (Nat × jm_Op) := tb_M_make_0 ++ (tb_M_make_1 ++ tb_M_make_2)
theorem ok_M_make : jm_all 103 tb_M_make := jm_all_app ok_M_make_0 (jm_all_app ok_M_make_1 ok_M_make_2)
theorem k_M_make_99 {g : jm_G} {d : Nat} {L : List (Option jm_V)} {r : List jm_V} {σ : jm_S} {K K' : jm_O → Prop} {q0 : Nat} {x0 : Int32} {x1 : Int32} (hr : Nat.ble (jm_cs r) 8 = true) (hcal : J g d 84 0 [some (aR 6 q0), some (aI x0), some (aI x1), none] [] σ K') (hk : ∀ u, K' u → jm_aft g (d + 1) 103 99 L r u K) : J g (d + 1) 103 99 L (aI x1 :: aI x0 :: aR 6 q0 :: r) σ K :=
  J_call' (id' := 84) jm_sk (vs := [aR 6 q0, aI x0, aI x1]) (inv_V (id' := 84) d_M_make_99 ci_M wd_768 wd_770 wd_26 cw_M_copy (by decide) pn_M_copy) cw_M_copy (by decide) (by decide) (Nat.le_of_ble_eq_true rfl) rfl hr rfl hcal hk
theorem k_M_make_129 {g : jm_G} {d : Nat} {L : List (Option jm_V)} {r : List jm_V} {σ : jm_S} {K K' : jm_O → Prop} {q0 : Nat} {x0 : Int32} {x1 : Int32} (hr : Nat.ble (jm_cs r) 8 = true) (hcal : J g d 104 0 [some (aR 6 q0), some (aI x0), some (aI x1)] [] σ K') (hk : ∀ u, K' u → jm_aft g (d + 1) 103 129 L r u K) : J g (d + 1) 103 129 L (aI x1 :: aI x0 :: aR 6 q0 :: r) σ K :=
  J_call' (id' := 104) jm_sk (vs := [aR 6 q0, aI x0, aI x1]) (inv_V (id' := 104) d_M_make_129 ci_M wd_850 wd_852 wd_36 cw_M_cofactor (by decide) pn_M_cofactor) cw_M_cofactor (by decide) (by decide) (Nat.le_of_ble_eq_true rfl) rfl hr rfl hcal hk
theorem k_M_make_149 {g : jm_G} {d : Nat} {L : List (Option jm_V)} {r : List jm_V} {σ : jm_S} {K K' : jm_O → Prop} {q0 : Nat} {x0 : Int32} {x1 : Int32} (hr : Nat.ble (jm_cs r) 8 = true) (hcal : J g d 104 0 [some (aR 6 q0), some (aI x0), some (aI x1)] [] σ K') (hk : ∀ u, K' u → jm_aft g (d + 1) 103 149 L r u K) : J g (d + 1) 103 149 L (aI x1 :: aI x0 :: aR 6 q0 :: r) σ K :=
  J_call' (id' := 104) jm_sk (vs := [aR 6 q0, aI x0, aI x1]) (inv_V (id' := 104) d_M_make_149 ci_M wd_850 wd_852 wd_36 cw_M_cofactor (by decide) pn_M_cofactor) cw_M_cofactor (by decide) (by decide) (Nat.le_of_ble_eq_true rfl) rfl hr rfl hcal hk
theorem k_M_make_155 {g : jm_G} {d : Nat} {L : List (Option jm_V)} {r : List jm_V} {σ : jm_S} {K K' : jm_O → Prop} {q0 : Nat} {x0 : Int32} {x1 : Int32} {x2 : Int32} {x3 : Int32} (hr : Nat.ble (jm_cs r) 8 = true) (hcal : J g d 86 0 [some (aR 6 q0), some (aI x0), some (aI x1), some (aI x2), some (aI x3), none, none, none] [] σ K') (hk : ∀ u, K' u → jm_aft g (d + 1) 103 155 L r u K) : J g (d + 1) 103 155 L (aI x3 :: aI x2 :: aI x1 :: aI x0 :: aR 6 q0 :: r) σ K :=
  J_call' (id' := 86) jm_sk (vs := [aR 6 q0, aI x0, aI x1, aI x2, aI x3]) (inv_V (id' := 86) d_M_make_155 ci_M wd_778 wd_780 wd_28 cw_M_comes (by decide) pn_M_comes) cw_M_comes (by decide) (by decide) (Nat.le_of_ble_eq_true rfl) rfl hr rfl hcal hk
theorem k_M_make_169 {g : jm_G} {d : Nat} {L : List (Option jm_V)} {r : List jm_V} {σ : jm_S} {K K' : jm_O → Prop} {q0 : Nat} {x0 : Int32} (hr : Nat.ble (jm_cs r) 8 = true) (hcal : J g d 105 0 [some (aR 6 q0), some (aI x0), none, none, none, none, none, none] [] σ K') (hk : ∀ u, K' u → jm_aft g (d + 1) 103 169 L r u K) : J g (d + 1) 103 169 L (aI x0 :: aR 6 q0 :: r) σ K :=
  J_call' (id' := 105) jm_sk (vs := [aR 6 q0, aI x0]) (inv_V (id' := 105) d_M_make_169 ci_M wd_854 wd_856 wd_37 cw_M_monic (by decide) pn_M_monic) cw_M_monic (by decide) (by decide) (Nat.le_of_ble_eq_true rfl) rfl hr rfl hcal hk
theorem k_M_make_184 {g : jm_G} {d : Nat} {L : List (Option jm_V)} {r : List jm_V} {σ : jm_S} {K K' : jm_O → Prop} {q0 : Nat} {x0 : Int32} (hr : Nat.ble (jm_cs r) 8 = true) (hcal : J g d 107 0 [some (aR 6 q0), some (aI x0), none] [] σ K') (hk : ∀ u, K' u → jm_aft g (d + 1) 103 184 L r u K) : J g (d + 1) 103 184 L (aI x0 :: aR 6 q0 :: r) σ K :=
  J_call' (id' := 107) jm_sk (vs := [aR 6 q0, aI x0]) (inv_V (id' := 107) d_M_make_184 ci_M wd_862 wd_864 wd_39 cw_M_addPairs (by decide) pn_M_addPairs) cw_M_addPairs (by decide) (by decide) (Nat.le_of_ble_eq_true rfl) rfl hr rfl hcal hk
theorem k_M_make_218 {g : jm_G} {d : Nat} {L : List (Option jm_V)} {r : List jm_V} {σ : jm_S} {K K' : jm_O → Prop} {q0 : Nat} (hr : Nat.ble (jm_cs r) 8 = true) (hcal : J g d 108 0 [some (aR 6 q0), none, none, none, none, none, none, none] [] σ K') (hk : ∀ u, K' u → jm_aft g (d + 1) 103 218 L r u K) : J g (d + 1) 103 218 L (aR 6 q0 :: r) σ K :=
  J_call' (id' := 108) jm_sk (vs := [aR 6 q0]) (inv_V (id' := 108) d_M_make_218 ci_M wd_866 wd_868 wd_40 cw_M_onePair (by decide) pn_M_onePair) cw_M_onePair (by decide) (by decide) (Nat.le_of_ble_eq_true rfl) rfl hr rfl hcal hk
theorem k_M_make_260 {g : jm_G} {d : Nat} {L : List (Option jm_V)} {r : List jm_V} {σ : jm_S} {K K' : jm_O → Prop} {q0 : Nat} (hr : Nat.ble (jm_cs r) 8 = true) (hcal : J g d 116 0 [some (aR 6 q0), none, none, none, none] [] σ K') (hk : ∀ u, K' u → jm_aft g (d + 1) 103 260 L r u K) : J g (d + 1) 103 260 L (aR 6 q0 :: r) σ K :=
  J_call' (id' := 116) jm_sk (vs := [aR 6 q0]) (inv_V (id' := 116) d_M_make_260 ci_M wd_898 wd_900 wd_48 cw_M_clean (by decide) pn_M_clean) cw_M_clean (by decide) (by decide) (Nat.le_of_ble_eq_true rfl) rfl hr rfl hcal hk
theorem k_M_make_292 {g : jm_G} {d : Nat} {L : List (Option jm_V)} {r : List jm_V} {σ : jm_S} {K K' : jm_O → Prop} {q0 : Nat} {x0 : Int32} (hr : Nat.ble (jm_cs r) 8 = true) (hcal : J g d 118 0 [some (aR 6 q0), some (aI x0), none, none, none, none, none, none] [] σ K') (hk : ∀ u, K' u → jm_aft g (d + 1) 103 292 L r u K) : J g (d + 1) 103 292 L (aI x0 :: aR 6 q0 :: r) σ K :=
  J_call' (id' := 118) jm_sk (vs := [aR 6 q0, aI x0]) (inv_V (id' := 118) d_M_make_292 ci_M wd_906 wd_908 wd_50 cw_M_reduce (by decide) pn_M_reduce) cw_M_reduce (by decide) (by decide) (Nat.le_of_ble_eq_true rfl) rfl hr rfl hcal hk
theorem r_M_make_301 {g : jm_G} {d : Nat} {L : List (Option jm_V)} {σ : jm_S} {K : jm_O → Prop} (hK : K (σ, .inl none)) : J g d 103 301 L [] σ K := J_vret d_M_make_301 rfl hK
-- IdealProverModel cofactor (II)I
theorem d_M_cofactor_0 : decode prog_12_method_30_code 0 = .ok (.sipush 170, 3) := by decide +kernel
theorem d_M_cofactor_3 : decode prog_12_method_30_code 3 = .ok (.bipush 8, 2) := by decide +kernel
theorem d_M_cofactor_5 : decode prog_12_method_30_code 5 = .ok (.iload_n 1, 1) := by decide +kernel
theorem d_M_cofactor_6 : decode prog_12_method_30_code 6 = .ok (.imul, 1) := by decide +kernel
theorem d_M_cofactor_7 : decode prog_12_method_30_code 7 = .ok (.iadd, 1) := by decide +kernel
theorem d_M_cofactor_8 : decode prog_12_method_30_code 8 = .ok (.iload_n 2, 1) := by decide +kernel
theorem d_M_cofactor_9 : decode prog_12_method_30_code 9 = .ok (.iadd, 1) := by decide +kernel
theorem d_M_cofactor_10 : decode prog_12_method_30_code 10 = .ok (.ireturn, 1) := by decide +kernel
def tb_M_cofactor : List (Nat × jm_Op) := [(0, oC 170 3), (3, oC 8 5), (5, oIl 1 6), (6, oMul 7), (7, oAdd 8), (8, oIl 2 9), (9, oAdd 10)]
theorem ok_M_cofactor : jm_all 104 tb_M_cofactor := ⟨s_sipush d_M_cofactor_0 (by decide), s_bipush d_M_cofactor_3 (by decide), s_iload_n d_M_cofactor_5 rfl, s_imul d_M_cofactor_6, s_iadd d_M_cofactor_7, s_iload_n d_M_cofactor_8 rfl, s_iadd d_M_cofactor_9, trivial⟩
theorem r_M_cofactor_10 {g : jm_G} {d : Nat} {L : List (Option jm_V)} {σ : jm_S} {K : jm_O → Prop} {v : Int32} (hK : K (σ, .inl (some (aI v)))) : J g d 104 10 L [aI v] σ K := J_iret d_M_cofactor_10 rfl hK
-- IdealProverModel monic (I)V
theorem d_M_monic_0 : decode prog_12_method_33_code 0 = .ok (.aload_n 0, 1) := by decide +kernel
theorem d_M_monic_1 : decode prog_12_method_33_code 1 = .ok (.getfield 139, 3) := by decide +kernel
theorem d_M_monic_4 : decode prog_12_method_33_code 4 = .ok (.iload_n 1, 1) := by decide +kernel
theorem d_M_monic_5 : decode prog_12_method_33_code 5 = .ok (.iadd, 1) := by decide +kernel
theorem d_M_monic_6 : decode prog_12_method_33_code 6 = .ok (.istore_n 2, 1) := by decide +kernel
theorem d_M_monic_7 : decode prog_12_method_33_code 7 = .ok (.aload_n 0, 1) := by decide +kernel
theorem d_M_monic_8 : decode prog_12_method_33_code 8 = .ok (.getfield 8, 3) := by decide +kernel
theorem d_M_monic_11 : decode prog_12_method_33_code 11 = .ok (.bipush 100, 2) := by decide +kernel
theorem d_M_monic_13 : decode prog_12_method_33_code 13 = .ok (.iload_n 2, 1) := by decide +kernel
theorem d_M_monic_14 : decode prog_12_method_33_code 14 = .ok (.imul, 1) := by decide +kernel
theorem d_M_monic_15 : decode prog_12_method_33_code 15 = .ok (.iaload, 1) := by decide +kernel
theorem d_M_monic_16 : decode prog_12_method_33_code 16 = .ok (.istore_n 3, 1) := by decide +kernel
theorem d_M_monic_17 : decode prog_12_method_33_code 17 = .ok (.aload_n 0, 1) := by decide +kernel
theorem d_M_monic_18 : decode prog_12_method_33_code 18 = .ok (.getfield 14, 3) := by decide +kernel
theorem d_M_monic_21 : decode prog_12_method_33_code 21 = .ok (.bipush 100, 2) := by decide +kernel
theorem d_M_monic_23 : decode prog_12_method_33_code 23 = .ok (.iload_n 2, 1) := by decide +kernel
theorem d_M_monic_24 : decode prog_12_method_33_code 24 = .ok (.imul, 1) := by decide +kernel
theorem d_M_monic_25 : decode prog_12_method_33_code 25 = .ok (.iaload, 1) := by decide +kernel
theorem d_M_monic_26 : decode prog_12_method_33_code 26 = .ok (.istore 4, 2) := by decide +kernel
theorem d_M_monic_28 : decode prog_12_method_33_code 28 = .ok (.iload_n 3, 1) := by decide +kernel
theorem d_M_monic_29 : decode prog_12_method_33_code 29 = .ok (.ifCond .ge 9, 3) := by decide +kernel
theorem d_M_monic_32 : decode prog_12_method_33_code 32 = .ok (.iload 4, 2) := by decide +kernel
theorem d_M_monic_34 : decode prog_12_method_33_code 34 = .ok (.ineg, 1) := by decide +kernel
theorem d_M_monic_35 : decode prog_12_method_33_code 35 = .ok (.goto 5, 3) := by decide +kernel
theorem d_M_monic_38 : decode prog_12_method_33_code 38 = .ok (.iload 4, 2) := by decide +kernel
theorem d_M_monic_40 : decode prog_12_method_33_code 40 = .ok (.istore 5, 2) := by decide +kernel
theorem d_M_monic_42 : decode prog_12_method_33_code 42 = .ok (.iload_n 3, 1) := by decide +kernel
theorem d_M_monic_43 : decode prog_12_method_33_code 43 = .ok (.ifCond .ge 8, 3) := by decide +kernel
theorem d_M_monic_46 : decode prog_12_method_33_code 46 = .ok (.iload_n 3, 1) := by decide +kernel
theorem d_M_monic_47 : decode prog_12_method_33_code 47 = .ok (.ineg, 1) := by decide +kernel
theorem d_M_monic_48 : decode prog_12_method_33_code 48 = .ok (.goto 4, 3) := by decide +kernel
theorem d_M_monic_51 : decode prog_12_method_33_code 51 = .ok (.iload_n 3, 1) := by decide +kernel
theorem d_M_monic_52 : decode prog_12_method_33_code 52 = .ok (.istore 6, 2) := by decide +kernel
theorem d_M_monic_54 : decode prog_12_method_33_code 54 = .ok (.aload_n 0, 1) := by decide +kernel
theorem d_M_monic_55 : decode prog_12_method_33_code 55 = .ok (.iload_n 2, 1) := by decide +kernel
theorem d_M_monic_56 : decode prog_12_method_33_code 56 = .ok (.iload 5, 2) := by decide +kernel
theorem d_M_monic_58 : decode prog_12_method_33_code 58 = .ok (.iload 6, 2) := by decide +kernel
theorem d_M_monic_60 : decode prog_12_method_33_code 60 = .ok (.invokevirtual 148, 3) := by decide +kernel
theorem d_M_monic_63 : decode prog_12_method_33_code 63 = .ok (.iconst 0, 1) := by decide +kernel
theorem d_M_monic_64 : decode prog_12_method_33_code 64 = .ok (.istore 7, 2) := by decide +kernel
theorem d_M_monic_66 : decode prog_12_method_33_code 66 = .ok (.iload 7, 2) := by decide +kernel
theorem d_M_monic_68 : decode prog_12_method_33_code 68 = .ok (.aload_n 0, 1) := by decide +kernel
theorem d_M_monic_69 : decode prog_12_method_33_code 69 = .ok (.getfield 90, 3) := by decide +kernel
theorem d_M_monic_72 : decode prog_12_method_33_code 72 = .ok (.if_icmp .ge 38, 3) := by decide +kernel
theorem d_M_monic_75 : decode prog_12_method_33_code 75 = .ok (.aload_n 0, 1) := by decide +kernel
theorem d_M_monic_76 : decode prog_12_method_33_code 76 = .ok (.getfield 151, 3) := by decide +kernel
theorem d_M_monic_79 : decode prog_12_method_33_code 79 = .ok (.ifCond .eq 31, 3) := by decide +kernel
theorem d_M_monic_82 : decode prog_12_method_33_code 82 = .ok (.aload_n 0, 1) := by decide +kernel
theorem d_M_monic_83 : decode prog_12_method_33_code 83 = .ok (.getfield 54, 3) := by decide +kernel
theorem d_M_monic_86 : decode prog_12_method_33_code 86 = .ok (.ifCond .ne 24, 3) := by decide +kernel
theorem d_M_monic_89 : decode prog_12_method_33_code 89 = .ok (.aload_n 0, 1) := by decide +kernel
theorem d_M_monic_90 : decode prog_12_method_33_code 90 = .ok (.aload_n 0, 1) := by decide +kernel
theorem d_M_monic_91 : decode prog_12_method_33_code 91 = .ok (.iload_n 1, 1) := by decide +kernel
theorem d_M_monic_92 : decode prog_12_method_33_code 92 = .ok (.iload 7, 2) := by decide +kernel
theorem d_M_monic_94 : decode prog_12_method_33_code 94 = .ok (.invokevirtual 145, 3) := by decide +kernel
theorem d_M_monic_97 : decode prog_12_method_33_code 97 = .ok (.iload 5, 2) := by decide +kernel
theorem d_M_monic_99 : decode prog_12_method_33_code 99 = .ok (.iload 6, 2) := by decide +kernel
theorem d_M_monic_101 : decode prog_12_method_33_code 101 = .ok (.invokevirtual 148, 3) := by decide +kernel
theorem d_M_monic_104 : decode prog_12_method_33_code 104 = .ok (.iinc 7 1, 3) := by decide +kernel
theorem d_M_monic_107 : decode prog_12_method_33_code 107 = .ok (.goto (-41), 3) := by decide +kernel
theorem d_M_monic_110 : decode prog_12_method_33_code 110 = .ok (.return_, 1) := by decide +kernel
def tb_M_monic_0 : List (Nat × jm_Op) := [(0, oAl 0 1), (1, oGi 6 19 4), (4, oIl 1 5), (5, oAdd 6), (6, oIs 2 7), (7, oAl 0 8), (8, oGr 6 3 8 11), (11, oC 100 13), (13, oIl 2 14), (14, oMul 15), (15, oIa 16), (16, oIs 3 17), (17, oAl 0 18), (18, oGr 6 4 8 21), (21, oC 100 23), (23, oIl 2 24), (24, oMul 25), (25, oIa 26), (26, oIs 4 28), (28, oIl 3 29), (29, oIfGe 38 32), (32, oIl 4 34), (34, oNeg 35), (35, oGo 40), (38, oIl 4 40), (40, oIs 5 42), (42, oIl 3 43), (43, oIfGe 51 46), (46, oIl 3 47), (47, oNeg 48), (48, oGo 52), (51, oIl 3 52), (52, oIs 6 54), (54, oAl 0 55), (55, oIl 2 56), (56, oIl 5 58), (58, oIl 6 60), (63, oC 0 64), (64, oIs 7 66), (66, oIl 7 68), (68, oAl 0 69), (69, oGi 6 7 72), (72, oIcGe 110 75), (75, oAl 0 76), (76, oGi 6 22 79), (79, oIfEq 110 82), (82, oAl 0 83), (83, oGi 6 11 86), (86, oIfNe 110 89), (89, oAl 0 90)]
theorem ok_M_monic_0 : jm_all 105 tb_M_monic_0 := ⟨s_aload_n d_M_monic_0 rfl, s_geti d_M_monic_1 ci_M rfl wd_670, s_iload_n d_M_monic_4 rfl, s_iadd d_M_monic_5, s_istore_n d_M_monic_6 rfl (by decide), s_aload_n d_M_monic_7 rfl, s_getr d_M_monic_8 ci_M rfl wd_654, s_bipush d_M_monic_11 (by decide), s_iload_n d_M_monic_13 rfl, s_imul d_M_monic_14, s_iaload d_M_monic_15, s_istore_n d_M_monic_16 rfl (by decide), s_aload_n d_M_monic_17 rfl, s_getr d_M_monic_18 ci_M rfl wd_655, s_bipush d_M_monic_21 (by decide), s_iload_n d_M_monic_23 rfl, s_imul d_M_monic_24, s_iaload d_M_monic_25, s_istore d_M_monic_26 (by decide), s_iload_n d_M_monic_28 rfl, s_if_ge d_M_monic_29 (by decide), s_iload d_M_monic_32, s_ineg d_M_monic_34, s_goto d_M_monic_35 (by decide), s_iload d_M_monic_38, s_istore d_M_monic_40 (by decide), s_iload_n d_M_monic_42 rfl, s_if_ge d_M_monic_43 (by decide), s_iload_n d_M_monic_46 rfl, s_ineg d_M_monic_47, s_goto d_M_monic_48 (by decide), s_iload_n d_M_monic_51 rfl, s_istore d_M_monic_52 (by decide), s_aload_n d_M_monic_54 rfl, s_iload_n d_M_monic_55 rfl, s_iload d_M_monic_56, s_iload d_M_monic_58, s_iconst d_M_monic_63 (by decide), s_istore d_M_monic_64 (by decide), s_iload d_M_monic_66, s_aload_n d_M_monic_68 rfl, s_geti d_M_monic_69 ci_M rfl wd_658, s_icmp_ge d_M_monic_72 (by decide), s_aload_n d_M_monic_75 rfl, s_geti d_M_monic_76 ci_M rfl wd_673, s_if_eq d_M_monic_79 (by decide), s_aload_n d_M_monic_82 rfl, s_geti d_M_monic_83 ci_M rfl wd_662, s_if_ne d_M_monic_86 (by decide), s_aload_n d_M_monic_89 rfl, trivial⟩
def tb_M_monic_1 : List (Nat × jm_Op) := [(90, oAl 0 91), (91, oIl 1 92), (92, oIl 7 94), (97, oIl 5 99), (99, oIl 6 101), (104, oInc 7 1 107), (107, oGo 66)]
theorem ok_M_monic_1 : jm_all 105 tb_M_monic_1 := ⟨s_aload_n d_M_monic_90 rfl, s_iload_n d_M_monic_91 rfl, s_iload d_M_monic_92, s_iload d_M_monic_97, s_iload d_M_monic_99, s_iinc d_M_monic_104 (by decide) (by decide), s_goto d_M_monic_107 (by decide), trivial⟩
def tb_M_monic : List (Nat × jm_Op) := tb_M_monic_0 ++ tb_M_monic_1
theorem ok_M_monic : jm_all 105 tb_M_monic := jm_all_app ok_M_monic_0 ok_M_monic_1
theorem k_M_monic_60 {g : jm_G} {d : Nat} {L : List (Option jm_V)} {r : List jm_V} {σ : jm_S} {K K' : jm_O → Prop} {q0 : Nat} {x0 : Int32} {x1 : Int32} {x2 : Int32} (hr : Nat.ble (jm_cs r) 8 = true) (hcal : J g d 106 0 [some (aR 6 q0), some (aI x0), some (aI x1), some (aI x2), none] [] σ K') (hk : ∀ u, K' u → jm_aft g (d + 1) 105 60 L r u K) : J g (d + 1) 105 60 L (aI x2 :: aI x1 :: aI x0 :: aR 6 q0 :: r) σ K :=
  J_call' (id' := 106) jm_sk (vs := [aR 6 q0, aI x0, aI x1, aI x2]) (inv_V (id' := 106) d_M_monic_60 ci_M wd_858 wd_860 wd_38 cw_M_scaled (by decide) pn_M_scaled) cw_M_scaled (by decide) (by decide) (Nat.le_of_ble_eq_true rfl) rfl hr rfl hcal hk
theorem k_M_monic_94 {g : jm_G} {d : Nat} {L : List (Option jm_V)} {r : List jm_V} {σ : jm_S} {K K' : jm_O → Prop} {q0 : Nat} {x0 : Int32} {x1 : Int32} (hr : Nat.ble (jm_cs r) 8 = true) (hcal : J g d 104 0 [some (aR 6 q0), some (aI x0), some (aI x1)] [] σ K') (hk : ∀ u, K' u → jm_aft g (d + 1) 105 94 L r u K) : J g (d + 1) 105 94 L (aI x1 :: aI x0 :: aR 6 q0 :: r) σ K :=
  J_call' (id' := 104) jm_sk (vs := [aR 6 q0, aI x0, aI x1]) (inv_V (id' := 104) d_M_monic_94 ci_M wd_850 wd_852 wd_36 cw_M_cofactor (by decide) pn_M_cofactor) cw_M_cofactor (by decide) (by decide) (Nat.le_of_ble_eq_true rfl) rfl hr rfl hcal hk
theorem k_M_monic_101 {g : jm_G} {d : Nat} {L : List (Option jm_V)} {r : List jm_V} {σ : jm_S} {K K' : jm_O → Prop} {q0 : Nat} {x0 : Int32} {x1 : Int32} {x2 : Int32} (hr : Nat.ble (jm_cs r) 8 = true) (hcal : J g d 106 0 [some (aR 6 q0), some (aI x0), some (aI x1), some (aI x2), none] [] σ K') (hk : ∀ u, K' u → jm_aft g (d + 1) 105 101 L r u K) : J g (d + 1) 105 101 L (aI x2 :: aI x1 :: aI x0 :: aR 6 q0 :: r) σ K :=
  J_call' (id' := 106) jm_sk (vs := [aR 6 q0, aI x0, aI x1, aI x2]) (inv_V (id' := 106) d_M_monic_101 ci_M wd_858 wd_860 wd_38 cw_M_scaled (by decide) pn_M_scaled) cw_M_scaled (by decide) (by decide) (Nat.le_of_ble_eq_true rfl) rfl hr rfl hcal hk
theorem r_M_monic_110 {g : jm_G} {d : Nat} {L : List (Option jm_V)} {σ : jm_S} {K : jm_O → Prop} (hK : K (σ, .inl none)) : J g d 105 110 L [] σ K := J_vret d_M_monic_110 rfl hK
-- IdealProverModel scaled (III)V
theorem d_M_scaled_0 : decode prog_12_method_32_code 0 = .ok (.iconst 0, 1) := by decide +kernel
theorem d_M_scaled_1 : decode prog_12_method_32_code 1 = .ok (.istore 4, 2) := by decide +kernel
theorem d_M_scaled_3 : decode prog_12_method_32_code 3 = .ok (.iload 4, 2) := by decide +kernel
theorem d_M_scaled_5 : decode prog_12_method_32_code 5 = .ok (.aload_n 0, 1) := by decide +kernel
theorem d_M_scaled_6 : decode prog_12_method_32_code 6 = .ok (.getfield 20, 3) := by decide +kernel
theorem d_M_scaled_9 : decode prog_12_method_32_code 9 = .ok (.iload_n 1, 1) := by decide +kernel
theorem d_M_scaled_10 : decode prog_12_method_32_code 10 = .ok (.iaload, 1) := by decide +kernel
theorem d_M_scaled_11 : decode prog_12_method_32_code 11 = .ok (.if_icmp .ge 82, 3) := by decide +kernel
theorem d_M_scaled_14 : decode prog_12_method_32_code 14 = .ok (.aload_n 0, 1) := by decide +kernel
theorem d_M_scaled_15 : decode prog_12_method_32_code 15 = .ok (.getfield 54, 3) := by decide +kernel
theorem d_M_scaled_18 : decode prog_12_method_32_code 18 = .ok (.ifCond .ne 75, 3) := by decide +kernel
theorem d_M_scaled_21 : decode prog_12_method_32_code 21 = .ok (.aload_n 0, 1) := by decide +kernel
theorem d_M_scaled_22 : decode prog_12_method_32_code 22 = .ok (.aload_n 0, 1) := by decide +kernel
theorem d_M_scaled_23 : decode prog_12_method_32_code 23 = .ok (.getfield 8, 3) := by decide +kernel
theorem d_M_scaled_26 : decode prog_12_method_32_code 26 = .ok (.bipush 100, 2) := by decide +kernel
theorem d_M_scaled_28 : decode prog_12_method_32_code 28 = .ok (.iload_n 1, 1) := by decide +kernel
theorem d_M_scaled_29 : decode prog_12_method_32_code 29 = .ok (.imul, 1) := by decide +kernel
theorem d_M_scaled_30 : decode prog_12_method_32_code 30 = .ok (.iload 4, 2) := by decide +kernel
theorem d_M_scaled_32 : decode prog_12_method_32_code 32 = .ok (.iadd, 1) := by decide +kernel
theorem d_M_scaled_33 : decode prog_12_method_32_code 33 = .ok (.iaload, 1) := by decide +kernel
theorem d_M_scaled_34 : decode prog_12_method_32_code 34 = .ok (.i2l, 1) := by decide +kernel
theorem d_M_scaled_35 : decode prog_12_method_32_code 35 = .ok (.aload_n 0, 1) := by decide +kernel
theorem d_M_scaled_36 : decode prog_12_method_32_code 36 = .ok (.getfield 14, 3) := by decide +kernel
theorem d_M_scaled_39 : decode prog_12_method_32_code 39 = .ok (.bipush 100, 2) := by decide +kernel
theorem d_M_scaled_41 : decode prog_12_method_32_code 41 = .ok (.iload_n 1, 1) := by decide +kernel
theorem d_M_scaled_42 : decode prog_12_method_32_code 42 = .ok (.imul, 1) := by decide +kernel
theorem d_M_scaled_43 : decode prog_12_method_32_code 43 = .ok (.iload 4, 2) := by decide +kernel
theorem d_M_scaled_45 : decode prog_12_method_32_code 45 = .ok (.iadd, 1) := by decide +kernel
theorem d_M_scaled_46 : decode prog_12_method_32_code 46 = .ok (.iaload, 1) := by decide +kernel
theorem d_M_scaled_47 : decode prog_12_method_32_code 47 = .ok (.i2l, 1) := by decide +kernel
theorem d_M_scaled_48 : decode prog_12_method_32_code 48 = .ok (.iload_n 2, 1) := by decide +kernel
theorem d_M_scaled_49 : decode prog_12_method_32_code 49 = .ok (.i2l, 1) := by decide +kernel
theorem d_M_scaled_50 : decode prog_12_method_32_code 50 = .ok (.iload_n 3, 1) := by decide +kernel
theorem d_M_scaled_51 : decode prog_12_method_32_code 51 = .ok (.i2l, 1) := by decide +kernel
theorem d_M_scaled_52 : decode prog_12_method_32_code 52 = .ok (.invokevirtual 78, 3) := by decide +kernel
theorem d_M_scaled_55 : decode prog_12_method_32_code 55 = .ok (.aload_n 0, 1) := by decide +kernel
theorem d_M_scaled_56 : decode prog_12_method_32_code 56 = .ok (.getfield 8, 3) := by decide +kernel
theorem d_M_scaled_59 : decode prog_12_method_32_code 59 = .ok (.bipush 100, 2) := by decide +kernel
theorem d_M_scaled_61 : decode prog_12_method_32_code 61 = .ok (.iload_n 1, 1) := by decide +kernel
theorem d_M_scaled_62 : decode prog_12_method_32_code 62 = .ok (.imul, 1) := by decide +kernel
theorem d_M_scaled_63 : decode prog_12_method_32_code 63 = .ok (.iload 4, 2) := by decide +kernel
theorem d_M_scaled_65 : decode prog_12_method_32_code 65 = .ok (.iadd, 1) := by decide +kernel
theorem d_M_scaled_66 : decode prog_12_method_32_code 66 = .ok (.aload_n 0, 1) := by decide +kernel
theorem d_M_scaled_67 : decode prog_12_method_32_code 67 = .ok (.getfield 62, 3) := by decide +kernel
theorem d_M_scaled_70 : decode prog_12_method_32_code 70 = .ok (.iastore, 1) := by decide +kernel
theorem d_M_scaled_71 : decode prog_12_method_32_code 71 = .ok (.aload_n 0, 1) := by decide +kernel
theorem d_M_scaled_72 : decode prog_12_method_32_code 72 = .ok (.getfield 14, 3) := by decide +kernel
theorem d_M_scaled_75 : decode prog_12_method_32_code 75 = .ok (.bipush 100, 2) := by decide +kernel
theorem d_M_scaled_77 : decode prog_12_method_32_code 77 = .ok (.iload_n 1, 1) := by decide +kernel
theorem d_M_scaled_78 : decode prog_12_method_32_code 78 = .ok (.imul, 1) := by decide +kernel
theorem d_M_scaled_79 : decode prog_12_method_32_code 79 = .ok (.iload 4, 2) := by decide +kernel
theorem d_M_scaled_81 : decode prog_12_method_32_code 81 = .ok (.iadd, 1) := by decide +kernel
theorem d_M_scaled_82 : decode prog_12_method_32_code 82 = .ok (.aload_n 0, 1) := by decide +kernel
theorem d_M_scaled_83 : decode prog_12_method_32_code 83 = .ok (.getfield 65, 3) := by decide +kernel
theorem d_M_scaled_86 : decode prog_12_method_32_code 86 = .ok (.iastore, 1) := by decide +kernel
theorem d_M_scaled_87 : decode prog_12_method_32_code 87 = .ok (.iinc 4 1, 3) := by decide +kernel
theorem d_M_scaled_90 : decode prog_12_method_32_code 90 = .ok (.goto (-87), 3) := by decide +kernel
theorem d_M_scaled_93 : decode prog_12_method_32_code 93 = .ok (.return_, 1) := by decide +kernel
def tb_M_scaled_0 : List (Nat × jm_Op) := [(0, oC 0 1), (1, oIs 4 3), (3, oIl 4 5), (5, oAl 0 6), (6, oGr 6 6 8 9), (9, oIl 1 10), (10, oIa 11), (11, oIcGe 93 14), (14, oAl 0 15), (15, oGi 6 11 18), (18, oIfNe 93 21), (21, oAl 0 22), (22, oAl 0 23), (23, oGr 6 3 8 26), (26, oC 100 28), (28, oIl 1 29), (29, oMul 30), (30, oIl 4 32), (32, oAdd 33), (33, oIa 34), (34, oI2L 35), (35, oAl 0 36), (36, oGr 6 4 8 39), (39, oC 100 41), (41, oIl 1 42), (42, oMul 43), (43, oIl 4 45), (45, oAdd 46), (46, oIa 47), (47, oI2L 48), (48, oIl 2 49), (49, oI2L 50), (50, oIl 3 51), (51, oI2L 52), (55, oAl 0 56), (56, oGr 6 3 8 59), (59, oC 100 61), (61, oIl 1 62), (62, oMul 63), (63, oIl 4 65), (65, oAdd 66), (66, oAl 0 67), (67, oGi 6 16 70), (70, oIw 71), (71, oAl 0 72), (72, oGr 6 4 8 75), (75, oC 100 77), (77, oIl 1 78), (78, oMul 79), (79, oIl 4 81)]
theorem ok_M_scaled_0 : jm_all 106 tb_M_scaled_0 := ⟨s_iconst d_M_scaled_0 (by decide), s_istore d_M_scaled_1 (by decide), s_iload d_M_scaled_3, s_aload_n d_M_scaled_5 rfl, s_getr d_M_scaled_6 ci_M rfl wd_657, s_iload_n d_M_scaled_9 rfl, s_iaload d_M_scaled_10, s_icmp_ge d_M_scaled_11 (by decide), s_aload_n d_M_scaled_14 rfl, s_geti d_M_scaled_15 ci_M rfl wd_662, s_if_ne d_M_scaled_18 (by decide), s_aload_n d_M_scaled_21 rfl, s_aload_n d_M_scaled_22 rfl, s_getr d_M_scaled_23 ci_M rfl wd_654, s_bipush d_M_scaled_26 (by decide), s_iload_n d_M_scaled_28 rfl, s_imul d_M_scaled_29, s_iload d_M_scaled_30, s_iadd d_M_scaled_32, s_iaload d_M_scaled_33, s_i2l d_M_scaled_34, s_aload_n d_M_scaled_35 rfl, s_getr d_M_scaled_36 ci_M rfl wd_655, s_bipush d_M_scaled_39 (by decide), s_iload_n d_M_scaled_41 rfl, s_imul d_M_scaled_42, s_iload d_M_scaled_43, s_iadd d_M_scaled_45, s_iaload d_M_scaled_46, s_i2l d_M_scaled_47, s_iload_n d_M_scaled_48 rfl, s_i2l d_M_scaled_49, s_iload_n d_M_scaled_50 rfl, s_i2l d_M_scaled_51, s_aload_n d_M_scaled_55 rfl, s_getr d_M_scaled_56 ci_M rfl wd_654, s_bipush d_M_scaled_59 (by decide), s_iload_n d_M_scaled_61 rfl, s_imul d_M_scaled_62, s_iload d_M_scaled_63, s_iadd d_M_scaled_65, s_aload_n d_M_scaled_66 rfl, s_geti d_M_scaled_67 ci_M rfl wd_667, s_iastore d_M_scaled_70, s_aload_n d_M_scaled_71 rfl, s_getr d_M_scaled_72 ci_M rfl wd_655, s_bipush d_M_scaled_75 (by decide), s_iload_n d_M_scaled_77 rfl, s_imul d_M_scaled_78, s_iload d_M_scaled_79, trivial⟩
def tb_M_scaled_1 : List (Nat × jm_Op) := [(81, oAdd 82), (82, oAl 0 83), (83, oGi 6 17 86), (86, oIw 87), (87, oInc 4 1 90), (90, oGo 3)]
theorem ok_M_scaled_1 : jm_all 106 tb_M_scaled_1 := ⟨s_iadd d_M_scaled_81, s_aload_n d_M_scaled_82 rfl, s_geti d_M_scaled_83 ci_M rfl wd_668, s_iastore d_M_scaled_86, s_iinc d_M_scaled_87 (by decide) (by decide), s_goto d_M_scaled_90 (by decide), trivial⟩
def tb_M_scaled : List (Nat × jm_Op) := tb_M_scaled_0 ++ tb_M_scaled_1
theorem ok_M_scaled : jm_all 106 tb_M_scaled := jm_all_app ok_M_scaled_0 ok_M_scaled_1
theorem k_M_scaled_52 {g : jm_G} {d : Nat} {L : List (Option jm_V)} {r : List jm_V} {σ : jm_S} {K K' : jm_O → Prop} {q0 : Nat} {x0 : Int64} {x1 : Int64} {x2 : Int64} {x3 : Int64} (hr : Nat.ble (jm_cs r) 8 = true) (hcal : J g d 94 0 [some (aR 6 q0), some (aL x0), none, some (aL x1), none, some (aL x2), none, some (aL x3), none] [] σ K') (hk : ∀ u, K' u → jm_aft g (d + 1) 106 52 L r u K) : J g (d + 1) 106 52 L (aL x3 :: aL x2 :: aL x1 :: aL x0 :: aR 6 q0 :: r) σ K :=
  J_call' (id' := 94) jm_sk (vs := [aR 6 q0, aL x0, aL x1, aL x2, aL x3]) (inv_V (id' := 94) d_M_scaled_52 ci_M wd_810 wd_812 wd_32 cw_M_multiplied (by decide) pn_M_multiplied) cw_M_multiplied (by decide) (by decide) (Nat.le_of_ble_eq_true rfl) rfl hr rfl hcal hk
theorem r_M_scaled_93 {g : jm_G} {d : Nat} {L : List (Option jm_V)} {σ : jm_S} {K : jm_O → Prop} (hK : K (σ, .inl none)) : J g d 106 93 L [] σ K := J_vret d_M_scaled_93 rfl hK
-- IdealProverModel addPairs (I)V
theorem d_M_addPairs_0 : decode prog_12_method_35_code 0 = .ok (.iconst 0, 1) := by decide +kernel
theorem d_M_addPairs_1 : decode prog_12_method_35_code 1 = .ok (.istore_n 2, 1) := by decide +kernel
theorem d_M_addPairs_2 : decode prog_12_method_35_code 2 = .ok (.iload_n 2, 1) := by decide +kernel
theorem d_M_addPairs_3 : decode prog_12_method_35_code 3 = .ok (.iload_n 1, 1) := by decide +kernel
theorem d_M_addPairs_4 : decode prog_12_method_35_code 4 = .ok (.if_icmp .ge 21, 3) := by decide +kernel
theorem d_M_addPairs_7 : decode prog_12_method_35_code 7 = .ok (.aload_n 0, 1) := by decide +kernel
theorem d_M_addPairs_8 : decode prog_12_method_35_code 8 = .ok (.getfield 29, 3) := by decide +kernel
theorem d_M_addPairs_11 : decode prog_12_method_35_code 11 = .ok (.bipush 25, 2) := by decide +kernel
theorem d_M_addPairs_13 : decode prog_12_method_35_code 13 = .ok (.iload_n 2, 1) := by decide +kernel
theorem d_M_addPairs_14 : decode prog_12_method_35_code 14 = .ok (.imul, 1) := by decide +kernel
theorem d_M_addPairs_15 : decode prog_12_method_35_code 15 = .ok (.iload_n 1, 1) := by decide +kernel
theorem d_M_addPairs_16 : decode prog_12_method_35_code 16 = .ok (.iadd, 1) := by decide +kernel
theorem d_M_addPairs_17 : decode prog_12_method_35_code 17 = .ok (.iconst 1, 1) := by decide +kernel
theorem d_M_addPairs_18 : decode prog_12_method_35_code 18 = .ok (.bastore, 1) := by decide +kernel
theorem d_M_addPairs_19 : decode prog_12_method_35_code 19 = .ok (.iinc 2 1, 3) := by decide +kernel
theorem d_M_addPairs_22 : decode prog_12_method_35_code 22 = .ok (.goto (-20), 3) := by decide +kernel
theorem d_M_addPairs_25 : decode prog_12_method_35_code 25 = .ok (.return_, 1) := by decide +kernel
def tb_M_addPairs : List (Nat × jm_Op) := [(0, oC 0 1), (1, oIs 2 2), (2, oIl 2 3), (3, oIl 1 4), (4, oIcGe 25 7), (7, oAl 0 8), (8, oGr 6 23 9 11), (11, oC 25 13), (13, oIl 2 14), (14, oMul 15), (15, oIl 1 16), (16, oAdd 17), (17, oC 1 18), (18, oZw 19), (19, oInc 2 1 22), (22, oGo 2)]
theorem ok_M_addPairs : jm_all 107 tb_M_addPairs := ⟨s_iconst d_M_addPairs_0 (by decide), s_istore_n d_M_addPairs_1 rfl (by decide), s_iload_n d_M_addPairs_2 rfl, s_iload_n d_M_addPairs_3 rfl, s_icmp_ge d_M_addPairs_4 (by decide), s_aload_n d_M_addPairs_7 rfl, s_getr d_M_addPairs_8 ci_M rfl wd_674, s_bipush d_M_addPairs_11 (by decide), s_iload_n d_M_addPairs_13 rfl, s_imul d_M_addPairs_14, s_iload_n d_M_addPairs_15 rfl, s_iadd d_M_addPairs_16, s_iconst d_M_addPairs_17 (by decide), s_bastore d_M_addPairs_18, s_iinc d_M_addPairs_19 (by decide) (by decide), s_goto d_M_addPairs_22 (by decide), trivial⟩
theorem r_M_addPairs_25 {g : jm_G} {d : Nat} {L : List (Option jm_V)} {σ : jm_S} {K : jm_O → Prop} (hK : K (σ, .inl none)) : J g d 107 25 L [] σ K := J_vret d_M_addPairs_25 rfl hK
-- IdealProverModel onePair ()Z
theorem d_M_onePair_0 : decode prog_12_method_38_code 0 = .ok (.iconst (-1), 1) := by decide +kernel
theorem d_M_onePair_1 : decode prog_12_method_38_code 1 = .ok (.istore_n 1, 1) := by decide +kernel
theorem d_M_onePair_2 : decode prog_12_method_38_code 2 = .ok (.iconst (-1), 1) := by decide +kernel
theorem d_M_onePair_3 : decode prog_12_method_38_code 3 = .ok (.istore_n 2, 1) := by decide +kernel
theorem d_M_onePair_4 : decode prog_12_method_38_code 4 = .ok (.iconst 0, 1) := by decide +kernel
theorem d_M_onePair_5 : decode prog_12_method_38_code 5 = .ok (.istore_n 3, 1) := by decide +kernel
theorem d_M_onePair_6 : decode prog_12_method_38_code 6 = .ok (.iconst 0, 1) := by decide +kernel
theorem d_M_onePair_7 : decode prog_12_method_38_code 7 = .ok (.istore 4, 2) := by decide +kernel
theorem d_M_onePair_9 : decode prog_12_method_38_code 9 = .ok (.iload 4, 2) := by decide +kernel
theorem d_M_onePair_11 : decode prog_12_method_38_code 11 = .ok (.aload_n 0, 1) := by decide +kernel
theorem d_M_onePair_12 : decode prog_12_method_38_code 12 = .ok (.getfield 133, 3) := by decide +kernel
theorem d_M_onePair_15 : decode prog_12_method_38_code 15 = .ok (.if_icmp .ge 92, 3) := by decide +kernel
theorem d_M_onePair_18 : decode prog_12_method_38_code 18 = .ok (.iconst 0, 1) := by decide +kernel
theorem d_M_onePair_19 : decode prog_12_method_38_code 19 = .ok (.istore 5, 2) := by decide +kernel
theorem d_M_onePair_21 : decode prog_12_method_38_code 21 = .ok (.iload 5, 2) := by decide +kernel
theorem d_M_onePair_23 : decode prog_12_method_38_code 23 = .ok (.iload 4, 2) := by decide +kernel
theorem d_M_onePair_25 : decode prog_12_method_38_code 25 = .ok (.if_icmp .ge 76, 3) := by decide +kernel
theorem d_M_onePair_28 : decode prog_12_method_38_code 28 = .ok (.aload_n 0, 1) := by decide +kernel
theorem d_M_onePair_29 : decode prog_12_method_38_code 29 = .ok (.getfield 29, 3) := by decide +kernel
theorem d_M_onePair_32 : decode prog_12_method_38_code 32 = .ok (.bipush 25, 2) := by decide +kernel
theorem d_M_onePair_34 : decode prog_12_method_38_code 34 = .ok (.iload 5, 2) := by decide +kernel
theorem d_M_onePair_36 : decode prog_12_method_38_code 36 = .ok (.imul, 1) := by decide +kernel
theorem d_M_onePair_37 : decode prog_12_method_38_code 37 = .ok (.iload 4, 2) := by decide +kernel
theorem d_M_onePair_39 : decode prog_12_method_38_code 39 = .ok (.iadd, 1) := by decide +kernel
theorem d_M_onePair_40 : decode prog_12_method_38_code 40 = .ok (.baload, 1) := by decide +kernel
theorem d_M_onePair_41 : decode prog_12_method_38_code 41 = .ok (.ifCond .eq 54, 3) := by decide +kernel
theorem d_M_onePair_44 : decode prog_12_method_38_code 44 = .ok (.aload_n 0, 1) := by decide +kernel
theorem d_M_onePair_45 : decode prog_12_method_38_code 45 = .ok (.aload_n 0, 1) := by decide +kernel
theorem d_M_onePair_46 : decode prog_12_method_38_code 46 = .ok (.aload_n 0, 1) := by decide +kernel
theorem d_M_onePair_47 : decode prog_12_method_38_code 47 = .ok (.getfield 139, 3) := by decide +kernel
theorem d_M_onePair_50 : decode prog_12_method_38_code 50 = .ok (.iload 5, 2) := by decide +kernel
theorem d_M_onePair_52 : decode prog_12_method_38_code 52 = .ok (.iadd, 1) := by decide +kernel
theorem d_M_onePair_53 : decode prog_12_method_38_code 53 = .ok (.invokevirtual 130, 3) := by decide +kernel
theorem d_M_onePair_56 : decode prog_12_method_38_code 56 = .ok (.aload_n 0, 1) := by decide +kernel
theorem d_M_onePair_57 : decode prog_12_method_38_code 57 = .ok (.aload_n 0, 1) := by decide +kernel
theorem d_M_onePair_58 : decode prog_12_method_38_code 58 = .ok (.getfield 139, 3) := by decide +kernel
theorem d_M_onePair_61 : decode prog_12_method_38_code 61 = .ok (.iload 4, 2) := by decide +kernel
theorem d_M_onePair_63 : decode prog_12_method_38_code 63 = .ok (.iadd, 1) := by decide +kernel
theorem d_M_onePair_64 : decode prog_12_method_38_code 64 = .ok (.invokevirtual 130, 3) := by decide +kernel
theorem d_M_onePair_67 : decode prog_12_method_38_code 67 = .ok (.invokevirtual 182, 3) := by decide +kernel
theorem d_M_onePair_70 : decode prog_12_method_38_code 70 = .ok (.istore 6, 2) := by decide +kernel
theorem d_M_onePair_72 : decode prog_12_method_38_code 72 = .ok (.iload_n 1, 1) := by decide +kernel
theorem d_M_onePair_73 : decode prog_12_method_38_code 73 = .ok (.ifCond .lt 13, 3) := by decide +kernel
theorem d_M_onePair_76 : decode prog_12_method_38_code 76 = .ok (.aload_n 0, 1) := by decide +kernel
theorem d_M_onePair_77 : decode prog_12_method_38_code 77 = .ok (.iload 6, 2) := by decide +kernel
theorem d_M_onePair_79 : decode prog_12_method_38_code 79 = .ok (.iload_n 3, 1) := by decide +kernel
theorem d_M_onePair_80 : decode prog_12_method_38_code 80 = .ok (.invokevirtual 72, 3) := by decide +kernel
theorem d_M_onePair_83 : decode prog_12_method_38_code 83 = .ok (.ifCond .ge 12, 3) := by decide +kernel
theorem d_M_onePair_86 : decode prog_12_method_38_code 86 = .ok (.iload 5, 2) := by decide +kernel
theorem d_M_onePair_88 : decode prog_12_method_38_code 88 = .ok (.istore_n 1, 1) := by decide +kernel
theorem d_M_onePair_89 : decode prog_12_method_38_code 89 = .ok (.iload 4, 2) := by decide +kernel
theorem d_M_onePair_91 : decode prog_12_method_38_code 91 = .ok (.istore_n 2, 1) := by decide +kernel
theorem d_M_onePair_92 : decode prog_12_method_38_code 92 = .ok (.iload 6, 2) := by decide +kernel
theorem d_M_onePair_94 : decode prog_12_method_38_code 94 = .ok (.istore_n 3, 1) := by decide +kernel
theorem d_M_onePair_95 : decode prog_12_method_38_code 95 = .ok (.iinc 5 1, 3) := by decide +kernel
theorem d_M_onePair_98 : decode prog_12_method_38_code 98 = .ok (.goto (-77), 3) := by decide +kernel
theorem d_M_onePair_101 : decode prog_12_method_38_code 101 = .ok (.iinc 4 1, 3) := by decide +kernel
theorem d_M_onePair_104 : decode prog_12_method_38_code 104 = .ok (.goto (-95), 3) := by decide +kernel
theorem d_M_onePair_107 : decode prog_12_method_38_code 107 = .ok (.iload_n 1, 1) := by decide +kernel
theorem d_M_onePair_108 : decode prog_12_method_38_code 108 = .ok (.ifCond .ge 5, 3) := by decide +kernel
theorem d_M_onePair_111 : decode prog_12_method_38_code 111 = .ok (.iconst 0, 1) := by decide +kernel
theorem d_M_onePair_112 : decode prog_12_method_38_code 112 = .ok (.ireturn, 1) := by decide +kernel
theorem d_M_onePair_113 : decode prog_12_method_38_code 113 = .ok (.aload_n 0, 1) := by decide +kernel
theorem d_M_onePair_114 : decode prog_12_method_38_code 114 = .ok (.getfield 29, 3) := by decide +kernel
theorem d_M_onePair_117 : decode prog_12_method_38_code 117 = .ok (.bipush 25, 2) := by decide +kernel
theorem d_M_onePair_119 : decode prog_12_method_38_code 119 = .ok (.iload_n 1, 1) := by decide +kernel
theorem d_M_onePair_120 : decode prog_12_method_38_code 120 = .ok (.imul, 1) := by decide +kernel
theorem d_M_onePair_121 : decode prog_12_method_38_code 121 = .ok (.iload_n 2, 1) := by decide +kernel
theorem d_M_onePair_122 : decode prog_12_method_38_code 122 = .ok (.iadd, 1) := by decide +kernel
theorem d_M_onePair_123 : decode prog_12_method_38_code 123 = .ok (.iconst 0, 1) := by decide +kernel
theorem d_M_onePair_124 : decode prog_12_method_38_code 124 = .ok (.bastore, 1) := by decide +kernel
theorem d_M_onePair_125 : decode prog_12_method_38_code 125 = .ok (.aload_n 0, 1) := by decide +kernel
theorem d_M_onePair_126 : decode prog_12_method_38_code 126 = .ok (.dup, 1) := by decide +kernel
theorem d_M_onePair_127 : decode prog_12_method_38_code 127 = .ok (.getfield 157, 3) := by decide +kernel
theorem d_M_onePair_130 : decode prog_12_method_38_code 130 = .ok (.iconst 1, 1) := by decide +kernel
theorem d_M_onePair_131 : decode prog_12_method_38_code 131 = .ok (.iadd, 1) := by decide +kernel
theorem d_M_onePair_132 : decode prog_12_method_38_code 132 = .ok (.putfield 157, 3) := by decide +kernel
theorem d_M_onePair_135 : decode prog_12_method_38_code 135 = .ok (.aload_n 0, 1) := by decide +kernel
theorem d_M_onePair_136 : decode prog_12_method_38_code 136 = .ok (.iload_n 1, 1) := by decide +kernel
theorem d_M_onePair_137 : decode prog_12_method_38_code 137 = .ok (.iload_n 2, 1) := by decide +kernel
theorem d_M_onePair_138 : decode prog_12_method_38_code 138 = .ok (.iload_n 3, 1) := by decide +kernel
theorem d_M_onePair_139 : decode prog_12_method_38_code 139 = .ok (.invokevirtual 185, 3) := by decide +kernel
theorem d_M_onePair_142 : decode prog_12_method_38_code 142 = .ok (.ifCond .eq 15, 3) := by decide +kernel
theorem d_M_onePair_145 : decode prog_12_method_38_code 145 = .ok (.aload_n 0, 1) := by decide +kernel
theorem d_M_onePair_146 : decode prog_12_method_38_code 146 = .ok (.dup, 1) := by decide +kernel
theorem d_M_onePair_147 : decode prog_12_method_38_code 147 = .ok (.getfield 160, 3) := by decide +kernel
theorem d_M_onePair_150 : decode prog_12_method_38_code 150 = .ok (.iconst 1, 1) := by decide +kernel
theorem d_M_onePair_151 : decode prog_12_method_38_code 151 = .ok (.iadd, 1) := by decide +kernel
theorem d_M_onePair_152 : decode prog_12_method_38_code 152 = .ok (.putfield 160, 3) := by decide +kernel
theorem d_M_onePair_155 : decode prog_12_method_38_code 155 = .ok (.iconst 1, 1) := by decide +kernel
theorem d_M_onePair_156 : decode prog_12_method_38_code 156 = .ok (.ireturn, 1) := by decide +kernel
theorem d_M_onePair_157 : decode prog_12_method_38_code 157 = .ok (.iload_n 3, 1) := by decide +kernel
theorem d_M_onePair_158 : decode prog_12_method_38_code 158 = .ok (.aload_n 0, 1) := by decide +kernel
theorem d_M_onePair_159 : decode prog_12_method_38_code 159 = .ok (.aload_n 0, 1) := by decide +kernel
theorem d_M_onePair_160 : decode prog_12_method_38_code 160 = .ok (.getfield 139, 3) := by decide +kernel
theorem d_M_onePair_163 : decode prog_12_method_38_code 163 = .ok (.iload_n 1, 1) := by decide +kernel
theorem d_M_onePair_164 : decode prog_12_method_38_code 164 = .ok (.iadd, 1) := by decide +kernel
theorem d_M_onePair_165 : decode prog_12_method_38_code 165 = .ok (.invokevirtual 130, 3) := by decide +kernel
theorem d_M_onePair_168 : decode prog_12_method_38_code 168 = .ok (.isub, 1) := by decide +kernel
theorem d_M_onePair_169 : decode prog_12_method_38_code 169 = .ok (.istore 4, 2) := by decide +kernel
theorem d_M_onePair_171 : decode prog_12_method_38_code 171 = .ok (.iload_n 3, 1) := by decide +kernel
theorem d_M_onePair_172 : decode prog_12_method_38_code 172 = .ok (.aload_n 0, 1) := by decide +kernel
theorem d_M_onePair_173 : decode prog_12_method_38_code 173 = .ok (.aload_n 0, 1) := by decide +kernel
theorem d_M_onePair_174 : decode prog_12_method_38_code 174 = .ok (.getfield 139, 3) := by decide +kernel
theorem d_M_onePair_177 : decode prog_12_method_38_code 177 = .ok (.iload_n 2, 1) := by decide +kernel
theorem d_M_onePair_178 : decode prog_12_method_38_code 178 = .ok (.iadd, 1) := by decide +kernel
theorem d_M_onePair_179 : decode prog_12_method_38_code 179 = .ok (.invokevirtual 130, 3) := by decide +kernel
theorem d_M_onePair_182 : decode prog_12_method_38_code 182 = .ok (.isub, 1) := by decide +kernel
theorem d_M_onePair_183 : decode prog_12_method_38_code 183 = .ok (.istore 5, 2) := by decide +kernel
theorem d_M_onePair_185 : decode prog_12_method_38_code 185 = .ok (.sipush 151, 3) := by decide +kernel
theorem d_M_onePair_188 : decode prog_12_method_38_code 188 = .ok (.istore 6, 2) := by decide +kernel
theorem d_M_onePair_190 : decode prog_12_method_38_code 190 = .ok (.aload_n 0, 1) := by decide +kernel
theorem d_M_onePair_191 : decode prog_12_method_38_code 191 = .ok (.getfield 20, 3) := by decide +kernel
theorem d_M_onePair_194 : decode prog_12_method_38_code 194 = .ok (.iload 6, 2) := by decide +kernel
theorem d_M_onePair_196 : decode prog_12_method_38_code 196 = .ok (.iconst 0, 1) := by decide +kernel
theorem d_M_onePair_197 : decode prog_12_method_38_code 197 = .ok (.iastore, 1) := by decide +kernel
theorem d_M_onePair_198 : decode prog_12_method_38_code 198 = .ok (.aload_n 0, 1) := by decide +kernel
theorem d_M_onePair_199 : decode prog_12_method_38_code 199 = .ok (.iload 6, 2) := by decide +kernel
theorem d_M_onePair_201 : decode prog_12_method_38_code 201 = .ok (.iconst 1, 1) := by decide +kernel
theorem d_M_onePair_202 : decode prog_12_method_38_code 202 = .ok (.iconst 1, 1) := by decide +kernel
theorem d_M_onePair_203 : decode prog_12_method_38_code 203 = .ok (.iload 4, 2) := by decide +kernel
theorem d_M_onePair_205 : decode prog_12_method_38_code 205 = .ok (.aload_n 0, 1) := by decide +kernel
theorem d_M_onePair_206 : decode prog_12_method_38_code 206 = .ok (.getfield 139, 3) := by decide +kernel
theorem d_M_onePair_209 : decode prog_12_method_38_code 209 = .ok (.iload_n 1, 1) := by decide +kernel
theorem d_M_onePair_210 : decode prog_12_method_38_code 210 = .ok (.iadd, 1) := by decide +kernel
theorem d_M_onePair_211 : decode prog_12_method_38_code 211 = .ok (.invokevirtual 86, 3) := by decide +kernel
theorem d_M_onePair_214 : decode prog_12_method_38_code 214 = .ok (.aload_n 0, 1) := by decide +kernel
theorem d_M_onePair_215 : decode prog_12_method_38_code 215 = .ok (.iload 6, 2) := by decide +kernel
theorem d_M_onePair_217 : decode prog_12_method_38_code 217 = .ok (.iconst (-1), 1) := by decide +kernel
theorem d_M_onePair_218 : decode prog_12_method_38_code 218 = .ok (.iconst 1, 1) := by decide +kernel
theorem d_M_onePair_219 : decode prog_12_method_38_code 219 = .ok (.iload 5, 2) := by decide +kernel
theorem d_M_onePair_221 : decode prog_12_method_38_code 221 = .ok (.aload_n 0, 1) := by decide +kernel
theorem d_M_onePair_222 : decode prog_12_method_38_code 222 = .ok (.getfield 139, 3) := by decide +kernel
theorem d_M_onePair_225 : decode prog_12_method_38_code 225 = .ok (.iload_n 2, 1) := by decide +kernel
theorem d_M_onePair_226 : decode prog_12_method_38_code 226 = .ok (.iadd, 1) := by decide +kernel
theorem d_M_onePair_227 : decode prog_12_method_38_code 227 = .ok (.invokevirtual 86, 3) := by decide +kernel
theorem d_M_onePair_230 : decode prog_12_method_38_code 230 = .ok (.iconst 0, 1) := by decide +kernel
theorem d_M_onePair_231 : decode prog_12_method_38_code 231 = .ok (.istore 7, 2) := by decide +kernel
theorem d_M_onePair_233 : decode prog_12_method_38_code 233 = .ok (.iload 7, 2) := by decide +kernel
theorem d_M_onePair_235 : decode prog_12_method_38_code 235 = .ok (.aload_n 0, 1) := by decide +kernel
theorem d_M_onePair_236 : decode prog_12_method_38_code 236 = .ok (.getfield 90, 3) := by decide +kernel
theorem d_M_onePair_239 : decode prog_12_method_38_code 239 = .ok (.if_icmp .ge 77, 3) := by decide +kernel
theorem d_M_onePair_242 : decode prog_12_method_38_code 242 = .ok (.aload_n 0, 1) := by decide +kernel
theorem d_M_onePair_243 : decode prog_12_method_38_code 243 = .ok (.getfield 151, 3) := by decide +kernel
theorem d_M_onePair_246 : decode prog_12_method_38_code 246 = .ok (.ifCond .eq 70, 3) := by decide +kernel
theorem d_M_onePair_249 : decode prog_12_method_38_code 249 = .ok (.aload_n 0, 1) := by decide +kernel
theorem d_M_onePair_250 : decode prog_12_method_38_code 250 = .ok (.getfield 54, 3) := by decide +kernel
theorem d_M_onePair_253 : decode prog_12_method_38_code 253 = .ok (.ifCond .ne 63, 3) := by decide +kernel
theorem d_M_onePair_256 : decode prog_12_method_38_code 256 = .ok (.aload_n 0, 1) := by decide +kernel
theorem d_M_onePair_257 : decode prog_12_method_38_code 257 = .ok (.getfield 20, 3) := by decide +kernel
theorem d_M_onePair_260 : decode prog_12_method_38_code 260 = .ok (.sipush 154, 3) := by decide +kernel
theorem d_M_onePair_263 : decode prog_12_method_38_code 263 = .ok (.iload 7, 2) := by decide +kernel
theorem d_M_onePair_265 : decode prog_12_method_38_code 265 = .ok (.iadd, 1) := by decide +kernel
theorem d_M_onePair_266 : decode prog_12_method_38_code 266 = .ok (.iconst 0, 1) := by decide +kernel
theorem d_M_onePair_267 : decode prog_12_method_38_code 267 = .ok (.iastore, 1) := by decide +kernel
theorem d_M_onePair_268 : decode prog_12_method_38_code 268 = .ok (.aload_n 0, 1) := by decide +kernel
theorem d_M_onePair_269 : decode prog_12_method_38_code 269 = .ok (.sipush 154, 3) := by decide +kernel
theorem d_M_onePair_272 : decode prog_12_method_38_code 272 = .ok (.iload 7, 2) := by decide +kernel
theorem d_M_onePair_274 : decode prog_12_method_38_code 274 = .ok (.iadd, 1) := by decide +kernel
theorem d_M_onePair_275 : decode prog_12_method_38_code 275 = .ok (.iconst 1, 1) := by decide +kernel
theorem d_M_onePair_276 : decode prog_12_method_38_code 276 = .ok (.iconst 1, 1) := by decide +kernel
theorem d_M_onePair_277 : decode prog_12_method_38_code 277 = .ok (.iload 4, 2) := by decide +kernel
theorem d_M_onePair_279 : decode prog_12_method_38_code 279 = .ok (.aload_n 0, 1) := by decide +kernel
theorem d_M_onePair_280 : decode prog_12_method_38_code 280 = .ok (.iload_n 1, 1) := by decide +kernel
theorem d_M_onePair_281 : decode prog_12_method_38_code 281 = .ok (.iload 7, 2) := by decide +kernel
theorem d_M_onePair_283 : decode prog_12_method_38_code 283 = .ok (.invokevirtual 145, 3) := by decide +kernel
theorem d_M_onePair_286 : decode prog_12_method_38_code 286 = .ok (.invokevirtual 86, 3) := by decide +kernel
theorem d_M_onePair_289 : decode prog_12_method_38_code 289 = .ok (.aload_n 0, 1) := by decide +kernel
theorem d_M_onePair_290 : decode prog_12_method_38_code 290 = .ok (.sipush 154, 3) := by decide +kernel
theorem d_M_onePair_293 : decode prog_12_method_38_code 293 = .ok (.iload 7, 2) := by decide +kernel
theorem d_M_onePair_295 : decode prog_12_method_38_code 295 = .ok (.iadd, 1) := by decide +kernel
theorem d_M_onePair_296 : decode prog_12_method_38_code 296 = .ok (.iconst (-1), 1) := by decide +kernel
theorem d_M_onePair_297 : decode prog_12_method_38_code 297 = .ok (.iconst 1, 1) := by decide +kernel
theorem d_M_onePair_298 : decode prog_12_method_38_code 298 = .ok (.iload 5, 2) := by decide +kernel
theorem d_M_onePair_300 : decode prog_12_method_38_code 300 = .ok (.aload_n 0, 1) := by decide +kernel
theorem d_M_onePair_301 : decode prog_12_method_38_code 301 = .ok (.iload_n 2, 1) := by decide +kernel
theorem d_M_onePair_302 : decode prog_12_method_38_code 302 = .ok (.iload 7, 2) := by decide +kernel
theorem d_M_onePair_304 : decode prog_12_method_38_code 304 = .ok (.invokevirtual 145, 3) := by decide +kernel
theorem d_M_onePair_307 : decode prog_12_method_38_code 307 = .ok (.invokevirtual 86, 3) := by decide +kernel
theorem d_M_onePair_310 : decode prog_12_method_38_code 310 = .ok (.iinc 7 1, 3) := by decide +kernel
theorem d_M_onePair_313 : decode prog_12_method_38_code 313 = .ok (.goto (-80), 3) := by decide +kernel
theorem d_M_onePair_316 : decode prog_12_method_38_code 316 = .ok (.aload_n 0, 1) := by decide +kernel
theorem d_M_onePair_317 : decode prog_12_method_38_code 317 = .ok (.getfield 54, 3) := by decide +kernel
theorem d_M_onePair_320 : decode prog_12_method_38_code 320 = .ok (.ifCond .eq 5, 3) := by decide +kernel
theorem d_M_onePair_323 : decode prog_12_method_38_code 323 = .ok (.iconst 1, 1) := by decide +kernel
theorem d_M_onePair_324 : decode prog_12_method_38_code 324 = .ok (.ireturn, 1) := by decide +kernel
theorem d_M_onePair_325 : decode prog_12_method_38_code 325 = .ok (.aload_n 0, 1) := by decide +kernel
theorem d_M_onePair_326 : decode prog_12_method_38_code 326 = .ok (.iload 6, 2) := by decide +kernel
theorem d_M_onePair_328 : decode prog_12_method_38_code 328 = .ok (.sipush 152, 3) := by decide +kernel
theorem d_M_onePair_331 : decode prog_12_method_38_code 331 = .ok (.invokevirtual 189, 3) := by decide +kernel
theorem d_M_onePair_334 : decode prog_12_method_38_code 334 = .ok (.aload_n 0, 1) := by decide +kernel
theorem d_M_onePair_335 : decode prog_12_method_38_code 335 = .ok (.getfield 54, 3) := by decide +kernel
theorem d_M_onePair_338 : decode prog_12_method_38_code 338 = .ok (.ifCond .ne 21, 3) := by decide +kernel
theorem d_M_onePair_341 : decode prog_12_method_38_code 341 = .ok (.aload_n 0, 1) := by decide +kernel
theorem d_M_onePair_342 : decode prog_12_method_38_code 342 = .ok (.getfield 127, 3) := by decide +kernel
theorem d_M_onePair_345 : decode prog_12_method_38_code 345 = .ok (.ifCond .ne 14, 3) := by decide +kernel
theorem d_M_onePair_348 : decode prog_12_method_38_code 348 = .ok (.aload_n 0, 1) := by decide +kernel
theorem d_M_onePair_349 : decode prog_12_method_38_code 349 = .ok (.getfield 20, 3) := by decide +kernel
theorem d_M_onePair_352 : decode prog_12_method_38_code 352 = .ok (.sipush 152, 3) := by decide +kernel
theorem d_M_onePair_355 : decode prog_12_method_38_code 355 = .ok (.iaload, 1) := by decide +kernel
theorem d_M_onePair_356 : decode prog_12_method_38_code 356 = .ok (.ifCond .ne 5, 3) := by decide +kernel
theorem d_M_onePair_359 : decode prog_12_method_38_code 359 = .ok (.iconst 1, 1) := by decide +kernel
theorem d_M_onePair_360 : decode prog_12_method_38_code 360 = .ok (.ireturn, 1) := by decide +kernel
theorem d_M_onePair_361 : decode prog_12_method_38_code 361 = .ok (.aload_n 0, 1) := by decide +kernel
theorem d_M_onePair_362 : decode prog_12_method_38_code 362 = .ok (.getfield 133, 3) := by decide +kernel
theorem d_M_onePair_365 : decode prog_12_method_38_code 365 = .ok (.bipush 24, 2) := by decide +kernel
theorem d_M_onePair_367 : decode prog_12_method_38_code 367 = .ok (.if_icmp .ne 10, 3) := by decide +kernel
theorem d_M_onePair_370 : decode prog_12_method_38_code 370 = .ok (.aload_n 0, 1) := by decide +kernel
theorem d_M_onePair_371 : decode prog_12_method_38_code 371 = .ok (.iconst 1, 1) := by decide +kernel
theorem d_M_onePair_372 : decode prog_12_method_38_code 372 = .ok (.putfield 54, 3) := by decide +kernel
theorem d_M_onePair_375 : decode prog_12_method_38_code 375 = .ok (.iconst 1, 1) := by decide +kernel
theorem d_M_onePair_376 : decode prog_12_method_38_code 376 = .ok (.ireturn, 1) := by decide +kernel
theorem d_M_onePair_377 : decode prog_12_method_38_code 377 = .ok (.iconst 0, 1) := by decide +kernel
theorem d_M_onePair_378 : decode prog_12_method_38_code 378 = .ok (.istore 7, 2) := by decide +kernel
theorem d_M_onePair_380 : decode prog_12_method_38_code 380 = .ok (.iload 7, 2) := by decide +kernel
theorem d_M_onePair_382 : decode prog_12_method_38_code 382 = .ok (.aload_n 0, 1) := by decide +kernel
theorem d_M_onePair_383 : decode prog_12_method_38_code 383 = .ok (.getfield 90, 3) := by decide +kernel
theorem d_M_onePair_386 : decode prog_12_method_38_code 386 = .ok (.if_icmp .ge 36, 3) := by decide +kernel
theorem d_M_onePair_389 : decode prog_12_method_38_code 389 = .ok (.aload_n 0, 1) := by decide +kernel
theorem d_M_onePair_390 : decode prog_12_method_38_code 390 = .ok (.getfield 151, 3) := by decide +kernel
theorem d_M_onePair_393 : decode prog_12_method_38_code 393 = .ok (.ifCond .eq 29, 3) := by decide +kernel
theorem d_M_onePair_396 : decode prog_12_method_38_code 396 = .ok (.aload_n 0, 1) := by decide +kernel
theorem d_M_onePair_397 : decode prog_12_method_38_code 397 = .ok (.getfield 54, 3) := by decide +kernel
theorem d_M_onePair_400 : decode prog_12_method_38_code 400 = .ok (.ifCond .ne 22, 3) := by decide +kernel
theorem d_M_onePair_403 : decode prog_12_method_38_code 403 = .ok (.aload_n 0, 1) := by decide +kernel
theorem d_M_onePair_404 : decode prog_12_method_38_code 404 = .ok (.sipush 154, 3) := by decide +kernel
theorem d_M_onePair_407 : decode prog_12_method_38_code 407 = .ok (.iload 7, 2) := by decide +kernel
theorem d_M_onePair_409 : decode prog_12_method_38_code 409 = .ok (.iadd, 1) := by decide +kernel
theorem d_M_onePair_410 : decode prog_12_method_38_code 410 = .ok (.iload 7, 2) := by decide +kernel
theorem d_M_onePair_412 : decode prog_12_method_38_code 412 = .ok (.iconst (-1), 1) := by decide +kernel
theorem d_M_onePair_413 : decode prog_12_method_38_code 413 = .ok (.invokevirtual 192, 3) := by decide +kernel
theorem d_M_onePair_416 : decode prog_12_method_38_code 416 = .ok (.iinc 7 1, 3) := by decide +kernel
theorem d_M_onePair_419 : decode prog_12_method_38_code 419 = .ok (.goto (-39), 3) := by decide +kernel
theorem d_M_onePair_422 : decode prog_12_method_38_code 422 = .ok (.aload_n 0, 1) := by decide +kernel
theorem d_M_onePair_423 : decode prog_12_method_38_code 423 = .ok (.getfield 54, 3) := by decide +kernel
theorem d_M_onePair_426 : decode prog_12_method_38_code 426 = .ok (.ifCond .eq 5, 3) := by decide +kernel
theorem d_M_onePair_429 : decode prog_12_method_38_code 429 = .ok (.iconst 1, 1) := by decide +kernel
theorem d_M_onePair_430 : decode prog_12_method_38_code 430 = .ok (.ireturn, 1) := by decide +kernel
theorem d_M_onePair_431 : decode prog_12_method_38_code 431 = .ok (.aload_n 0, 1) := by decide +kernel
theorem d_M_onePair_432 : decode prog_12_method_38_code 432 = .ok (.sipush 152, 3) := by decide +kernel
theorem d_M_onePair_435 : decode prog_12_method_38_code 435 = .ok (.aload_n 0, 1) := by decide +kernel
theorem d_M_onePair_436 : decode prog_12_method_38_code 436 = .ok (.getfield 139, 3) := by decide +kernel
theorem d_M_onePair_439 : decode prog_12_method_38_code 439 = .ok (.aload_n 0, 1) := by decide +kernel
theorem d_M_onePair_440 : decode prog_12_method_38_code 440 = .ok (.getfield 133, 3) := by decide +kernel
theorem d_M_onePair_443 : decode prog_12_method_38_code 443 = .ok (.iadd, 1) := by decide +kernel
theorem d_M_onePair_444 : decode prog_12_method_38_code 444 = .ok (.invokevirtual 106, 3) := by decide +kernel
theorem d_M_onePair_447 : decode prog_12_method_38_code 447 = .ok (.iconst 0, 1) := by decide +kernel
theorem d_M_onePair_448 : decode prog_12_method_38_code 448 = .ok (.istore 7, 2) := by decide +kernel
theorem d_M_onePair_450 : decode prog_12_method_38_code 450 = .ok (.iload 7, 2) := by decide +kernel
theorem d_M_onePair_452 : decode prog_12_method_38_code 452 = .ok (.aload_n 0, 1) := by decide +kernel
theorem d_M_onePair_453 : decode prog_12_method_38_code 453 = .ok (.getfield 90, 3) := by decide +kernel
theorem d_M_onePair_456 : decode prog_12_method_38_code 456 = .ok (.if_icmp .ge 36, 3) := by decide +kernel
theorem d_M_onePair_459 : decode prog_12_method_38_code 459 = .ok (.aload_n 0, 1) := by decide +kernel
theorem d_M_onePair_460 : decode prog_12_method_38_code 460 = .ok (.getfield 151, 3) := by decide +kernel
theorem d_M_onePair_463 : decode prog_12_method_38_code 463 = .ok (.ifCond .eq 29, 3) := by decide +kernel
theorem d_M_onePair_466 : decode prog_12_method_38_code 466 = .ok (.aload_n 0, 1) := by decide +kernel
theorem d_M_onePair_467 : decode prog_12_method_38_code 467 = .ok (.sipush 154, 3) := by decide +kernel
theorem d_M_onePair_470 : decode prog_12_method_38_code 470 = .ok (.iload 7, 2) := by decide +kernel
theorem d_M_onePair_472 : decode prog_12_method_38_code 472 = .ok (.iadd, 1) := by decide +kernel
theorem d_M_onePair_473 : decode prog_12_method_38_code 473 = .ok (.aload_n 0, 1) := by decide +kernel
theorem d_M_onePair_474 : decode prog_12_method_38_code 474 = .ok (.aload_n 0, 1) := by decide +kernel
theorem d_M_onePair_475 : decode prog_12_method_38_code 475 = .ok (.getfield 133, 3) := by decide +kernel
theorem d_M_onePair_478 : decode prog_12_method_38_code 478 = .ok (.iload 7, 2) := by decide +kernel
theorem d_M_onePair_480 : decode prog_12_method_38_code 480 = .ok (.invokevirtual 145, 3) := by decide +kernel
theorem d_M_onePair_483 : decode prog_12_method_38_code 483 = .ok (.invokevirtual 106, 3) := by decide +kernel
theorem d_M_onePair_486 : decode prog_12_method_38_code 486 = .ok (.iinc 7 1, 3) := by decide +kernel
theorem d_M_onePair_489 : decode prog_12_method_38_code 489 = .ok (.goto (-39), 3) := by decide +kernel
theorem d_M_onePair_492 : decode prog_12_method_38_code 492 = .ok (.aload_n 0, 1) := by decide +kernel
theorem d_M_onePair_493 : decode prog_12_method_38_code 493 = .ok (.aload_n 0, 1) := by decide +kernel
theorem d_M_onePair_494 : decode prog_12_method_38_code 494 = .ok (.getfield 133, 3) := by decide +kernel
theorem d_M_onePair_497 : decode prog_12_method_38_code 497 = .ok (.invokevirtual 163, 3) := by decide +kernel
theorem d_M_onePair_500 : decode prog_12_method_38_code 500 = .ok (.aload_n 0, 1) := by decide +kernel
theorem d_M_onePair_501 : decode prog_12_method_38_code 501 = .ok (.getfield 54, 3) := by decide +kernel
theorem d_M_onePair_504 : decode prog_12_method_38_code 504 = .ok (.ifCond .eq 5, 3) := by decide +kernel
theorem d_M_onePair_507 : decode prog_12_method_38_code 507 = .ok (.iconst 1, 1) := by decide +kernel
theorem d_M_onePair_508 : decode prog_12_method_38_code 508 = .ok (.ireturn, 1) := by decide +kernel
theorem d_M_onePair_509 : decode prog_12_method_38_code 509 = .ok (.aload_n 0, 1) := by decide +kernel
theorem d_M_onePair_510 : decode prog_12_method_38_code 510 = .ok (.aload_n 0, 1) := by decide +kernel
theorem d_M_onePair_511 : decode prog_12_method_38_code 511 = .ok (.getfield 133, 3) := by decide +kernel
theorem d_M_onePair_514 : decode prog_12_method_38_code 514 = .ok (.invokevirtual 166, 3) := by decide +kernel
theorem d_M_onePair_517 : decode prog_12_method_38_code 517 = .ok (.aload_n 0, 1) := by decide +kernel
theorem d_M_onePair_518 : decode prog_12_method_38_code 518 = .ok (.dup, 1) := by decide +kernel
theorem d_M_onePair_519 : decode prog_12_method_38_code 519 = .ok (.getfield 133, 3) := by decide +kernel
theorem d_M_onePair_522 : decode prog_12_method_38_code 522 = .ok (.iconst 1, 1) := by decide +kernel
theorem d_M_onePair_523 : decode prog_12_method_38_code 523 = .ok (.iadd, 1) := by decide +kernel
theorem d_M_onePair_524 : decode prog_12_method_38_code 524 = .ok (.putfield 133, 3) := by decide +kernel
theorem d_M_onePair_527 : decode prog_12_method_38_code 527 = .ok (.iconst 1, 1) := by decide +kernel
theorem d_M_onePair_528 : decode prog_12_method_38_code 528 = .ok (.ireturn, 1) := by decide +kernel
def tb_M_onePair_0 : List (Nat × jm_Op) := [(0, oC (-1) 1), (1, oIs 1 2), (2, oC (-1) 3), (3, oIs 2 4), (4, oC 0 5), (5, oIs 3 6), (6, oC 0 7), (7, oIs 4 9), (9, oIl 4 11), (11, oAl 0 12), (12, oGi 6 20 15), (15, oIcGe 107 18), (18, oC 0 19), (19, oIs 5 21), (21, oIl 5 23), (23, oIl 4 25), (25, oIcGe 101 28), (28, oAl 0 29), (29, oGr 6 23 9 32), (32, oC 25 34), (34, oIl 5 36), (36, oMul 37), (37, oIl 4 39), (39, oAdd 40), (40, oZa 41), (41, oIfEq 95 44), (44, oAl 0 45), (45, oAl 0 46), (46, oAl 0 47), (47, oGi 6 19 50), (50, oIl 5 52), (52, oAdd 53), (56, oAl 0 57), (57, oAl 0 58), (58, oGi 6 19 61), (61, oIl 4 63), (63, oAdd 64), (70, oIs 6 72), (72, oIl 1 73), (73, oIfLt 86 76), (76, oAl 0 77), (77, oIl 6 79), (79, oIl 3 80), (83, oIfGe 95 86), (86, oIl 5 88), (88, oIs 1 89), (89, oIl 4 91), (91, oIs 2 92), (92, oIl 6 94), (94, oIs 3 95)]
theorem ok_M_onePair_0 : jm_all 108 tb_M_onePair_0 := ⟨s_iconst d_M_onePair_0 (by decide), s_istore_n d_M_onePair_1 rfl (by decide), s_iconst d_M_onePair_2 (by decide), s_istore_n d_M_onePair_3 rfl (by decide), s_iconst d_M_onePair_4 (by decide), s_istore_n d_M_onePair_5 rfl (by decide), s_iconst d_M_onePair_6 (by decide), s_istore d_M_onePair_7 (by decide), s_iload d_M_onePair_9, s_aload_n d_M_onePair_11 rfl, s_geti d_M_onePair_12 ci_M rfl wd_671, s_icmp_ge d_M_onePair_15 (by decide), s_iconst d_M_onePair_18 (by decide), s_istore d_M_onePair_19 (by decide), s_iload d_M_onePair_21, s_iload d_M_onePair_23, s_icmp_ge d_M_onePair_25 (by decide), s_aload_n d_M_onePair_28 rfl, s_getr d_M_onePair_29 ci_M rfl wd_674, s_bipush d_M_onePair_32 (by decide), s_iload d_M_onePair_34, s_imul d_M_onePair_36, s_iload d_M_onePair_37, s_iadd d_M_onePair_39, s_baload d_M_onePair_40, s_if_eq d_M_onePair_41 (by decide), s_aload_n d_M_onePair_44 rfl, s_aload_n d_M_onePair_45 rfl, s_aload_n d_M_onePair_46 rfl, s_geti d_M_onePair_47 ci_M rfl wd_670, s_iload d_M_onePair_50, s_iadd d_M_onePair_52, s_aload_n d_M_onePair_56 rfl, s_aload_n d_M_onePair_57 rfl, s_geti d_M_onePair_58 ci_M rfl wd_670, s_iload d_M_onePair_61, s_iadd d_M_onePair_63, s_istore d_M_onePair_70 (by decide), s_iload_n d_M_onePair_72 rfl, s_if_lt d_M_onePair_73 (by decide), s_aload_n d_M_onePair_76 rfl, s_iload d_M_onePair_77, s_iload_n d_M_onePair_79 rfl, s_if_ge d_M_onePair_83 (by decide), s_iload d_M_onePair_86, s_istore_n d_M_onePair_88 rfl (by decide), s_iload d_M_onePair_89, s_istore_n d_M_onePair_91 rfl (by decide), s_iload d_M_onePair_92, s_istore_n d_M_onePair_94 rfl (by decide), trivial⟩
def tb_M_onePair_1 : List (Nat × jm_Op) := [(95, oInc 5 1 98), (98, oGo 21), (101, oInc 4 1 104), (104, oGo 9), (107, oIl 1 108), (108, oIfGe 113 111), (111, oC 0 112), (113, oAl 0 114), (114, oGr 6 23 9 117), (117, oC 25 119), (119, oIl 1 120), (120, oMul 121), (121, oIl 2 122), (122, oAdd 123), (123, oC 0 124), (124, oZw 125), (125, oAl 0 126), (126, oDup 127), (127, oGi 6 24 130), (130, oC 1 131), (131, oAdd 132), (132, oPi 6 24 135), (135, oAl 0 136), (136, oIl 1 137), (137, oIl 2 138), (138, oIl 3 139), (142, oIfEq 157 145), (145, oAl 0 146), (146, oDup 147), (147, oGi 6 25 150), (150, oC 1 151), (151, oAdd 152), (152, oPi 6 25 155), (155, oC 1 156), (157, oIl 3 158), (158, oAl 0 159), (159, oAl 0 160), (160, oGi 6 19 163), (163, oIl 1 164), (164, oAdd 165), (168, oSub 169), (169, oIs 4 171), (171, oIl 3 172), (172, oAl 0 173), (173, oAl 0 174), (174, oGi 6 19 177), (177, oIl 2 178), (178, oAdd 179), (182, oSub 183), (183, oIs 5 185)]
theorem ok_M_onePair_1 : jm_all 108 tb_M_onePair_1 := ⟨s_iinc d_M_onePair_95 (by decide) (by decide), s_goto d_M_onePair_98 (by decide), s_iinc d_M_onePair_101 (by decide) (by decide), s_goto d_M_onePair_104 (by decide), s_iload_n d_M_onePair_107 rfl, s_if_ge d_M_onePair_108 (by decide), s_iconst d_M_onePair_111 (by decide), s_aload_n d_M_onePair_113 rfl, s_getr d_M_onePair_114 ci_M rfl wd_674, s_bipush d_M_onePair_117 (by decide), s_iload_n d_M_onePair_119 rfl, s_imul d_M_onePair_120, s_iload_n d_M_onePair_121 rfl, s_iadd d_M_onePair_122, s_iconst d_M_onePair_123 (by decide), s_bastore d_M_onePair_124, s_aload_n d_M_onePair_125 rfl, s_dup d_M_onePair_126, s_geti d_M_onePair_127 ci_M rfl wd_675, s_iconst d_M_onePair_130 (by decide), s_iadd d_M_onePair_131, s_puti d_M_onePair_132 ci_M rfl rfl rfl wd_675, s_aload_n d_M_onePair_135 rfl, s_iload_n d_M_onePair_136 rfl, s_iload_n d_M_onePair_137 rfl, s_iload_n d_M_onePair_138 rfl, s_if_eq d_M_onePair_142 (by decide), s_aload_n d_M_onePair_145 rfl, s_dup d_M_onePair_146, s_geti d_M_onePair_147 ci_M rfl wd_676, s_iconst d_M_onePair_150 (by decide), s_iadd d_M_onePair_151, s_puti d_M_onePair_152 ci_M rfl rfl rfl wd_676, s_iconst d_M_onePair_155 (by decide), s_iload_n d_M_onePair_157 rfl, s_aload_n d_M_onePair_158 rfl, s_aload_n d_M_onePair_159 rfl, s_geti d_M_onePair_160 ci_M rfl wd_670, s_iload_n d_M_onePair_163 rfl, s_iadd d_M_onePair_164, s_isub d_M_onePair_168, s_istore d_M_onePair_169 (by decide), s_iload_n d_M_onePair_171 rfl, s_aload_n d_M_onePair_172 rfl, s_aload_n d_M_onePair_173 rfl, s_geti d_M_onePair_174 ci_M rfl wd_670, s_iload_n d_M_onePair_177 rfl, s_iadd d_M_onePair_178, s_isub d_M_onePair_182, s_istore d_M_onePair_183 (by decide), trivial⟩
def tb_M_onePair_2 : List (Nat × jm_Op) := [(185, oC 151 188), (188, oIs 6 190), (190, oAl 0 191), (191, oGr 6 6 8 194), (194, oIl 6 196), (196, oC 0 197), (197, oIw 198), (198, oAl 0 199), (199, oIl 6 201), (201, oC 1 202), (202, oC 1 203), (203, oIl 4 205), (205, oAl 0 206), (206, oGi 6 19 209), (209, oIl 1 210), (210, oAdd 211), (214, oAl 0 215), (215, oIl 6 217), (217, oC (-1) 218), (218, oC 1 219), (219, oIl 5 221), (221, oAl 0 222), (222, oGi 6 19 225), (225, oIl 2 226), (226, oAdd 227), (230, oC 0 231), (231, oIs 7 233), (233, oIl 7 235), (235, oAl 0 236), (236, oGi 6 7 239), (239, oIcGe 316 242), (242, oAl 0 243), (243, oGi 6 22 246), (246, oIfEq 316 249), (249, oAl 0 250), (250, oGi 6 11 253), (253, oIfNe 316 256), (256, oAl 0 257), (257, oGr 6 6 8 260), (260, oC 154 263), (263, oIl 7 265), (265, oAdd 266), (266, oC 0 267), (267, oIw 268), (268, oAl 0 269), (269, oC 154 272), (272, oIl 7 274), (274, oAdd 275), (275, oC 1 276), (276, oC 1 277)]
theorem ok_M_onePair_2 : jm_all 108 tb_M_onePair_2 := ⟨s_sipush d_M_onePair_185 (by decide), s_istore d_M_onePair_188 (by decide), s_aload_n d_M_onePair_190 rfl, s_getr d_M_onePair_191 ci_M rfl wd_657, s_iload d_M_onePair_194, s_iconst d_M_onePair_196 (by decide), s_iastore d_M_onePair_197, s_aload_n d_M_onePair_198 rfl, s_iload d_M_onePair_199, s_iconst d_M_onePair_201 (by decide), s_iconst d_M_onePair_202 (by decide), s_iload d_M_onePair_203, s_aload_n d_M_onePair_205 rfl, s_geti d_M_onePair_206 ci_M rfl wd_670, s_iload_n d_M_onePair_209 rfl, s_iadd d_M_onePair_210, s_aload_n d_M_onePair_214 rfl, s_iload d_M_onePair_215, s_iconst d_M_onePair_217 (by decide), s_iconst d_M_onePair_218 (by decide), s_iload d_M_onePair_219, s_aload_n d_M_onePair_221 rfl, s_geti d_M_onePair_222 ci_M rfl wd_670, s_iload_n d_M_onePair_225 rfl, s_iadd d_M_onePair_226, s_iconst d_M_onePair_230 (by decide), s_istore d_M_onePair_231 (by decide), s_iload d_M_onePair_233, s_aload_n d_M_onePair_235 rfl, s_geti d_M_onePair_236 ci_M rfl wd_658, s_icmp_ge d_M_onePair_239 (by decide), s_aload_n d_M_onePair_242 rfl, s_geti d_M_onePair_243 ci_M rfl wd_673, s_if_eq d_M_onePair_246 (by decide), s_aload_n d_M_onePair_249 rfl, s_geti d_M_onePair_250 ci_M rfl wd_662, s_if_ne d_M_onePair_253 (by decide), s_aload_n d_M_onePair_256 rfl, s_getr d_M_onePair_257 ci_M rfl wd_657, s_sipush d_M_onePair_260 (by decide), s_iload d_M_onePair_263, s_iadd d_M_onePair_265, s_iconst d_M_onePair_266 (by decide), s_iastore d_M_onePair_267, s_aload_n d_M_onePair_268 rfl, s_sipush d_M_onePair_269 (by decide), s_iload d_M_onePair_272, s_iadd d_M_onePair_274, s_iconst d_M_onePair_275 (by decide), s_iconst d_M_onePair_276 (by decide), trivial⟩
def tb_M_onePair_3 : List (Nat × jm_Op) := [(277, oIl 4 279), (279, oAl 0 280), (280, oIl 1 281), (281, oIl 7 283), (289, oAl 0 290), (290, oC 154 293), (293, oIl 7 295), (295, oAdd 296), (296, oC (-1) 297), (297, oC 1 298), (298, oIl 5 300), (300, oAl 0 301), (301, oIl 2 302), (302, oIl 7 304), (310, oInc 7 1 313), (313, oGo 233), (316, oAl 0 317), (317, oGi 6 11 320), (320, oIfEq 325 323), (323, oC 1 324), (325, oAl 0 326), (326, oIl 6 328), (328, oC 152 331), (334, oAl 0 335), (335, oGi 6 11 338), (338, oIfNe 359 341), (341, oAl 0 342), (342, oGi 6 12 345), (345, oIfNe 359 348), (348, oAl 0 349), (349, oGr 6 6 8 352), (352, oC 152 355), (355, oIa 356), (356, oIfNe 361 359), (359, oC 1 360), (361, oAl 0 362), (362, oGi 6 20 365), (365, oC 24 367), (367, oIcNe 377 370), (370, oAl 0 371), (371, oC 1 372), (372, oPz 6 11 375), (375, oC 1 376), (377, oC 0 378), (378, oIs 7 380), (380, oIl 7 382), (382, oAl 0 383), (383, oGi 6 7 386), (386, oIcGe 422 389), (389, oAl 0 390)]
theorem ok_M_onePair_3 : jm_all 108 tb_M_onePair_3 := ⟨s_iload d_M_onePair_277, s_aload_n d_M_onePair_279 rfl, s_iload_n d_M_onePair_280 rfl, s_iload d_M_onePair_281, s_aload_n d_M_onePair_289 rfl, s_sipush d_M_onePair_290 (by decide), s_iload d_M_onePair_293, s_iadd d_M_onePair_295, s_iconst d_M_onePair_296 (by decide), s_iconst d_M_onePair_297 (by decide), s_iload d_M_onePair_298, s_aload_n d_M_onePair_300 rfl, s_iload_n d_M_onePair_301 rfl, s_iload d_M_onePair_302, s_iinc d_M_onePair_310 (by decide) (by decide), s_goto d_M_onePair_313 (by decide), s_aload_n d_M_onePair_316 rfl, s_geti d_M_onePair_317 ci_M rfl wd_662, s_if_eq d_M_onePair_320 (by decide), s_iconst d_M_onePair_323 (by decide), s_aload_n d_M_onePair_325 rfl, s_iload d_M_onePair_326, s_sipush d_M_onePair_328 (by decide), s_aload_n d_M_onePair_334 rfl, s_geti d_M_onePair_335 ci_M rfl wd_662, s_if_ne d_M_onePair_338 (by decide), s_aload_n d_M_onePair_341 rfl, s_geti d_M_onePair_342 ci_M rfl wd_663, s_if_ne d_M_onePair_345 (by decide), s_aload_n d_M_onePair_348 rfl, s_getr d_M_onePair_349 ci_M rfl wd_657, s_sipush d_M_onePair_352 (by decide), s_iaload d_M_onePair_355, s_if_ne d_M_onePair_356 (by decide), s_iconst d_M_onePair_359 (by decide), s_aload_n d_M_onePair_361 rfl, s_geti d_M_onePair_362 ci_M rfl wd_671, s_bipush d_M_onePair_365 (by decide), s_icmp_ne d_M_onePair_367 (by decide), s_aload_n d_M_onePair_370 rfl, s_iconst d_M_onePair_371 (by decide), s_putz d_M_onePair_372 ci_M rfl rfl rfl wd_662, s_iconst d_M_onePair_375 (by decide), s_iconst d_M_onePair_377 (by decide), s_istore d_M_onePair_378 (by decide), s_iload d_M_onePair_380, s_aload_n d_M_onePair_382 rfl, s_geti d_M_onePair_383 ci_M rfl wd_658, s_icmp_ge d_M_onePair_386 (by decide), s_aload_n d_M_onePair_389 rfl, trivial⟩
def tb_M_onePair_4 : List (Nat × jm_Op) := [(390, oGi 6 22 393), (393, oIfEq 422 396), (396, oAl 0 397), (397, oGi 6 11 400), (400, oIfNe 422 403), (403, oAl 0 404), (404, oC 154 407), (407, oIl 7 409), (409, oAdd 410), (410, oIl 7 412), (412, oC (-1) 413), (416, oInc 7 1 419), (419, oGo 380), (422, oAl 0 423), (423, oGi 6 11 426), (426, oIfEq 431 429), (429, oC 1 430), (431, oAl 0 432), (432, oC 152 435), (435, oAl 0 436), (436, oGi 6 19 439), (439, oAl 0 440), (440, oGi 6 20 443), (443, oAdd 444), (447, oC 0 448), (448, oIs 7 450), (450, oIl 7 452), (452, oAl 0 453), (453, oGi 6 7 456), (456, oIcGe 492 459), (459, oAl 0 460), (460, oGi 6 22 463), (463, oIfEq 492 466), (466, oAl 0 467), (467, oC 154 470), (470, oIl 7 472), (472, oAdd 473), (473, oAl 0 474), (474, oAl 0 475), (475, oGi 6 20 478), (478, oIl 7 480), (486, oInc 7 1 489), (489, oGo 450), (492, oAl 0 493), (493, oAl 0 494), (494, oGi 6 20 497), (500, oAl 0 501), (501, oGi 6 11 504), (504, oIfEq 509 507), (507, oC 1 508)]
theorem ok_M_onePair_4 : jm_all 108 tb_M_onePair_4 := ⟨s_geti d_M_onePair_390 ci_M rfl wd_673, s_if_eq d_M_onePair_393 (by decide), s_aload_n d_M_onePair_396 rfl, s_geti d_M_onePair_397 ci_M rfl wd_662, s_if_ne d_M_onePair_400 (by decide), s_aload_n d_M_onePair_403 rfl, s_sipush d_M_onePair_404 (by decide), s_iload d_M_onePair_407, s_iadd d_M_onePair_409, s_iload d_M_onePair_410, s_iconst d_M_onePair_412 (by decide), s_iinc d_M_onePair_416 (by decide) (by decide), s_goto d_M_onePair_419 (by decide), s_aload_n d_M_onePair_422 rfl, s_geti d_M_onePair_423 ci_M rfl wd_662, s_if_eq d_M_onePair_426 (by decide), s_iconst d_M_onePair_429 (by decide), s_aload_n d_M_onePair_431 rfl, s_sipush d_M_onePair_432 (by decide), s_aload_n d_M_onePair_435 rfl, s_geti d_M_onePair_436 ci_M rfl wd_670, s_aload_n d_M_onePair_439 rfl, s_geti d_M_onePair_440 ci_M rfl wd_671, s_iadd d_M_onePair_443, s_iconst d_M_onePair_447 (by decide), s_istore d_M_onePair_448 (by decide), s_iload d_M_onePair_450, s_aload_n d_M_onePair_452 rfl, s_geti d_M_onePair_453 ci_M rfl wd_658, s_icmp_ge d_M_onePair_456 (by decide), s_aload_n d_M_onePair_459 rfl, s_geti d_M_onePair_460 ci_M rfl wd_673, s_if_eq d_M_onePair_463 (by decide), s_aload_n d_M_onePair_466 rfl, s_sipush d_M_onePair_467 (by decide), s_iload d_M_onePair_470, s_iadd d_M_onePair_472, s_aload_n d_M_onePair_473 rfl, s_aload_n d_M_onePair_474 rfl, s_geti d_M_onePair_475 ci_M rfl wd_671, s_iload d_M_onePair_478, s_iinc d_M_onePair_486 (by decide) (by decide), s_goto d_M_onePair_489 (by decide), s_aload_n d_M_onePair_492 rfl, s_aload_n d_M_onePair_493 rfl, s_geti d_M_onePair_494 ci_M rfl wd_671, s_aload_n d_M_onePair_500 rfl, s_geti d_M_onePair_501 ci_M rfl wd_662, s_if_eq d_M_onePair_504 (by decide), s_iconst d_M_onePair_507 (by decide), trivial⟩
def tb_M_onePair_5 : List (Nat × jm_Op) := [(509, oAl 0 510), (510, oAl 0 511), (511, oGi 6 20 514), (517, oAl 0 518), (518, oDup 519), (519, oGi 6 20 522), (522, oC 1 523), (523, oAdd 524), (524, oPi 6 20 527), (527, oC 1 528)]
theorem ok_M_onePair_5 : jm_all 108 tb_M_onePair_5 := ⟨s_aload_n d_M_onePair_509 rfl, s_aload_n d_M_onePair_510 rfl, s_geti d_M_onePair_511 ci_M rfl wd_671, s_aload_n d_M_onePair_517 rfl, s_dup d_M_onePair_518, s_geti d_M_onePair_519 ci_M rfl wd_671, s_iconst d_M_onePair_522 (by decide), s_iadd d_M_onePair_523, s_puti d_M_onePair_524 ci_M rfl rfl rfl wd_671, s_iconst d_M_onePair_527 (by decide), trivial⟩
def tb_M_onePair : List (Nat × jm_Op) := tb_M_onePair_0 ++ (tb_M_onePair_1 ++ (tb_M_onePair_2 ++ (tb_M_onePair_3 ++ (tb_M_onePair_4 ++ tb_M_onePair_5))))
theorem ok_M_onePair : jm_all 108 tb_M_onePair := jm_all_app ok_M_onePair_0 (jm_all_app ok_M_onePair_1 (jm_all_app ok_M_onePair_2 (jm_all_app ok_M_onePair_3 (jm_all_app ok_M_onePair_4 ok_M_onePair_5))))
theorem k_M_onePair_53 {g : jm_G} {d : Nat} {L : List (Option jm_V)} {r : List jm_V} {σ : jm_S} {K K' : jm_O → Prop} {q0 : Nat} {x0 : Int32} (hr : Nat.ble (jm_cs r) 8 = true) (hcal : J g d 109 0 [some (aR 6 q0), some (aI x0)] [] σ K') (hk : ∀ u, K' u → jm_aft g (d + 1) 108 53 L r u K) : J g (d + 1) 108 53 L (aI x0 :: aR 6 q0 :: r) σ K :=
  J_call' (id' := 109) jm_sk (vs := [aR 6 q0, aI x0]) (inv_V (id' := 109) d_M_onePair_53 ci_M wd_870 wd_872 wd_41 cw_M_lead (by decide) pn_M_lead) cw_M_lead (by decide) (by decide) (Nat.le_of_ble_eq_true rfl) rfl hr rfl hcal hk
theorem k_M_onePair_64 {g : jm_G} {d : Nat} {L : List (Option jm_V)} {r : List jm_V} {σ : jm_S} {K K' : jm_O → Prop} {q0 : Nat} {x0 : Int32} (hr : Nat.ble (jm_cs r) 8 = true) (hcal : J g d 109 0 [some (aR 6 q0), some (aI x0)] [] σ K') (hk : ∀ u, K' u → jm_aft g (d + 1) 108 64 L r u K) : J g (d + 1) 108 64 L (aI x0 :: aR 6 q0 :: r) σ K :=
  J_call' (id' := 109) jm_sk (vs := [aR 6 q0, aI x0]) (inv_V (id' := 109) d_M_onePair_64 ci_M wd_870 wd_872 wd_41 cw_M_lead (by decide) pn_M_lead) cw_M_lead (by decide) (by decide) (Nat.le_of_ble_eq_true rfl) rfl hr rfl hcal hk
theorem k_M_onePair_67 {g : jm_G} {d : Nat} {L : List (Option jm_V)} {r : List jm_V} {σ : jm_S} {K K' : jm_O → Prop} {q0 : Nat} {x0 : Int32} {x1 : Int32} (hr : Nat.ble (jm_cs r) 8 = true) (hcal : J g d 110 0 [some (aR 6 q0), some (aI x0), some (aI x1), none, none, none, none] [] σ K') (hk : ∀ u, K' u → jm_aft g (d + 1) 108 67 L r u K) : J g (d + 1) 108 67 L (aI x1 :: aI x0 :: aR 6 q0 :: r) σ K :=
  J_call' (id' := 110) jm_sk (vs := [aR 6 q0, aI x0, aI x1]) (inv_V (id' := 110) d_M_onePair_67 ci_M wd_874 wd_876 wd_42 cw_M_common (by decide) pn_M_common) cw_M_common (by decide) (by decide) (Nat.le_of_ble_eq_true rfl) rfl hr rfl hcal hk
theorem k_M_onePair_80 {g : jm_G} {d : Nat} {L : List (Option jm_V)} {r : List jm_V} {σ : jm_S} {K K' : jm_O → Prop} {q0 : Nat} {x0 : Int32} {x1 : Int32} (hr : Nat.ble (jm_cs r) 8 = true) (hcal : J g d 79 0 [some (aR 6 q0), some (aI x0), some (aI x1), none] [] σ K') (hk : ∀ u, K' u → jm_aft g (d + 1) 108 80 L r u K) : J g (d + 1) 108 80 L (aI x1 :: aI x0 :: aR 6 q0 :: r) σ K :=
  J_call' (id' := 79) jm_sk (vs := [aR 6 q0, aI x0, aI x1]) (inv_V (id' := 79) d_M_onePair_80 ci_M wd_748 wd_750 wd_24 cw_M_compare (by decide) pn_M_compare) cw_M_compare (by decide) (by decide) (Nat.le_of_ble_eq_true rfl) rfl hr rfl hcal hk
theorem r_M_onePair_112 {g : jm_G} {d : Nat} {L : List (Option jm_V)} {σ : jm_S} {K : jm_O → Prop} {v : Int32} (hv : v = 0 ∨ v = 1) (hK : K (σ, .inl (some (aI v)))) : J g d 108 112 L [aI v] σ K := J_zret d_M_onePair_112 rfl hv hK
theorem k_M_onePair_139 {g : jm_G} {d : Nat} {L : List (Option jm_V)} {r : List jm_V} {σ : jm_S} {K K' : jm_O → Prop} {q0 : Nat} {x0 : Int32} {x1 : Int32} {x2 : Int32} (hr : Nat.ble (jm_cs r) 8 = true) (hcal : J g d 111 0 [some (aR 6 q0), some (aI x0), some (aI x1), some (aI x2), none, none, none, none] [] σ K') (hk : ∀ u, K' u → jm_aft g (d + 1) 108 139 L r u K) : J g (d + 1) 108 139 L (aI x2 :: aI x1 :: aI x0 :: aR 6 q0 :: r) σ K :=
  J_call' (id' := 111) jm_sk (vs := [aR 6 q0, aI x0, aI x1, aI x2]) (inv_V (id' := 111) d_M_onePair_139 ci_M wd_878 wd_880 wd_43 cw_M_isPassed (by decide) pn_M_isPassed) cw_M_isPassed (by decide) (by decide) (Nat.le_of_ble_eq_true rfl) rfl hr rfl hcal hk
theorem r_M_onePair_156 {g : jm_G} {d : Nat} {L : List (Option jm_V)} {σ : jm_S} {K : jm_O → Prop} {v : Int32} (hv : v = 0 ∨ v = 1) (hK : K (σ, .inl (some (aI v)))) : J g d 108 156 L [aI v] σ K := J_zret d_M_onePair_156 rfl hv hK
theorem k_M_onePair_165 {g : jm_G} {d : Nat} {L : List (Option jm_V)} {r : List jm_V} {σ : jm_S} {K K' : jm_O → Prop} {q0 : Nat} {x0 : Int32} (hr : Nat.ble (jm_cs r) 8 = true) (hcal : J g d 109 0 [some (aR 6 q0), some (aI x0)] [] σ K') (hk : ∀ u, K' u → jm_aft g (d + 1) 108 165 L r u K) : J g (d + 1) 108 165 L (aI x0 :: aR 6 q0 :: r) σ K :=
  J_call' (id' := 109) jm_sk (vs := [aR 6 q0, aI x0]) (inv_V (id' := 109) d_M_onePair_165 ci_M wd_870 wd_872 wd_41 cw_M_lead (by decide) pn_M_lead) cw_M_lead (by decide) (by decide) (Nat.le_of_ble_eq_true rfl) rfl hr rfl hcal hk
theorem k_M_onePair_179 {g : jm_G} {d : Nat} {L : List (Option jm_V)} {r : List jm_V} {σ : jm_S} {K K' : jm_O → Prop} {q0 : Nat} {x0 : Int32} (hr : Nat.ble (jm_cs r) 8 = true) (hcal : J g d 109 0 [some (aR 6 q0), some (aI x0)] [] σ K') (hk : ∀ u, K' u → jm_aft g (d + 1) 108 179 L r u K) : J g (d + 1) 108 179 L (aI x0 :: aR 6 q0 :: r) σ K :=
  J_call' (id' := 109) jm_sk (vs := [aR 6 q0, aI x0]) (inv_V (id' := 109) d_M_onePair_179 ci_M wd_870 wd_872 wd_41 cw_M_lead (by decide) pn_M_lead) cw_M_lead (by decide) (by decide) (Nat.le_of_ble_eq_true rfl) rfl hr rfl hcal hk
theorem k_M_onePair_211 {g : jm_G} {d : Nat} {L : List (Option jm_V)} {r : List jm_V} {σ : jm_S} {K K' : jm_O → Prop} {q0 : Nat} {x0 : Int32} {x1 : Int32} {x2 : Int32} {x3 : Int32} {x4 : Int32} (hr : Nat.ble (jm_cs r) 8 = true) (hcal : J g d 92 0 [some (aR 6 q0), some (aI x0), some (aI x1), some (aI x2), some (aI x3), some (aI x4), none, none, none] [] σ K') (hk : ∀ u, K' u → jm_aft g (d + 1) 108 211 L r u K) : J g (d + 1) 108 211 L (aI x4 :: aI x3 :: aI x2 :: aI x1 :: aI x0 :: aR 6 q0 :: r) σ K :=
  J_call' (id' := 92) jm_sk (vs := [aR 6 q0, aI x0, aI x1, aI x2, aI x3, aI x4]) (inv_V (id' := 92) d_M_onePair_211 ci_M wd_802 wd_804 wd_30 cw_M_adds (by decide) pn_M_adds) cw_M_adds (by decide) (by decide) (Nat.le_of_ble_eq_true rfl) rfl hr rfl hcal hk
theorem k_M_onePair_227 {g : jm_G} {d : Nat} {L : List (Option jm_V)} {r : List jm_V} {σ : jm_S} {K K' : jm_O → Prop} {q0 : Nat} {x0 : Int32} {x1 : Int32} {x2 : Int32} {x3 : Int32} {x4 : Int32} (hr : Nat.ble (jm_cs r) 8 = true) (hcal : J g d 92 0 [some (aR 6 q0), some (aI x0), some (aI x1), some (aI x2), some (aI x3), some (aI x4), none, none, none] [] σ K') (hk : ∀ u, K' u → jm_aft g (d + 1) 108 227 L r u K) : J g (d + 1) 108 227 L (aI x4 :: aI x3 :: aI x2 :: aI x1 :: aI x0 :: aR 6 q0 :: r) σ K :=
  J_call' (id' := 92) jm_sk (vs := [aR 6 q0, aI x0, aI x1, aI x2, aI x3, aI x4]) (inv_V (id' := 92) d_M_onePair_227 ci_M wd_802 wd_804 wd_30 cw_M_adds (by decide) pn_M_adds) cw_M_adds (by decide) (by decide) (Nat.le_of_ble_eq_true rfl) rfl hr rfl hcal hk
theorem k_M_onePair_283 {g : jm_G} {d : Nat} {L : List (Option jm_V)} {r : List jm_V} {σ : jm_S} {K K' : jm_O → Prop} {q0 : Nat} {x0 : Int32} {x1 : Int32} (hr : Nat.ble (jm_cs r) 8 = true) (hcal : J g d 104 0 [some (aR 6 q0), some (aI x0), some (aI x1)] [] σ K') (hk : ∀ u, K' u → jm_aft g (d + 1) 108 283 L r u K) : J g (d + 1) 108 283 L (aI x1 :: aI x0 :: aR 6 q0 :: r) σ K :=
  J_call' (id' := 104) jm_sk (vs := [aR 6 q0, aI x0, aI x1]) (inv_V (id' := 104) d_M_onePair_283 ci_M wd_850 wd_852 wd_36 cw_M_cofactor (by decide) pn_M_cofactor) cw_M_cofactor (by decide) (by decide) (Nat.le_of_ble_eq_true rfl) rfl hr rfl hcal hk
theorem k_M_onePair_286 {g : jm_G} {d : Nat} {L : List (Option jm_V)} {r : List jm_V} {σ : jm_S} {K K' : jm_O → Prop} {q0 : Nat} {x0 : Int32} {x1 : Int32} {x2 : Int32} {x3 : Int32} {x4 : Int32} (hr : Nat.ble (jm_cs r) 8 = true) (hcal : J g d 92 0 [some (aR 6 q0), some (aI x0), some (aI x1), some (aI x2), some (aI x3), some (aI x4), none, none, none] [] σ K') (hk : ∀ u, K' u → jm_aft g (d + 1) 108 286 L r u K) : J g (d + 1) 108 286 L (aI x4 :: aI x3 :: aI x2 :: aI x1 :: aI x0 :: aR 6 q0 :: r) σ K :=
  J_call' (id' := 92) jm_sk (vs := [aR 6 q0, aI x0, aI x1, aI x2, aI x3, aI x4]) (inv_V (id' := 92) d_M_onePair_286 ci_M wd_802 wd_804 wd_30 cw_M_adds (by decide) pn_M_adds) cw_M_adds (by decide) (by decide) (Nat.le_of_ble_eq_true rfl) rfl hr rfl hcal hk
theorem k_M_onePair_304 {g : jm_G} {d : Nat} {L : List (Option jm_V)} {r : List jm_V} {σ : jm_S} {K K' : jm_O → Prop} {q0 : Nat} {x0 : Int32} {x1 : Int32} (hr : Nat.ble (jm_cs r) 8 = true) (hcal : J g d 104 0 [some (aR 6 q0), some (aI x0), some (aI x1)] [] σ K') (hk : ∀ u, K' u → jm_aft g (d + 1) 108 304 L r u K) : J g (d + 1) 108 304 L (aI x1 :: aI x0 :: aR 6 q0 :: r) σ K :=
  J_call' (id' := 104) jm_sk (vs := [aR 6 q0, aI x0, aI x1]) (inv_V (id' := 104) d_M_onePair_304 ci_M wd_850 wd_852 wd_36 cw_M_cofactor (by decide) pn_M_cofactor) cw_M_cofactor (by decide) (by decide) (Nat.le_of_ble_eq_true rfl) rfl hr rfl hcal hk
theorem k_M_onePair_307 {g : jm_G} {d : Nat} {L : List (Option jm_V)} {r : List jm_V} {σ : jm_S} {K K' : jm_O → Prop} {q0 : Nat} {x0 : Int32} {x1 : Int32} {x2 : Int32} {x3 : Int32} {x4 : Int32} (hr : Nat.ble (jm_cs r) 8 = true) (hcal : J g d 92 0 [some (aR 6 q0), some (aI x0), some (aI x1), some (aI x2), some (aI x3), some (aI x4), none, none, none] [] σ K') (hk : ∀ u, K' u → jm_aft g (d + 1) 108 307 L r u K) : J g (d + 1) 108 307 L (aI x4 :: aI x3 :: aI x2 :: aI x1 :: aI x0 :: aR 6 q0 :: r) σ K :=
  J_call' (id' := 92) jm_sk (vs := [aR 6 q0, aI x0, aI x1, aI x2, aI x3, aI x4]) (inv_V (id' := 92) d_M_onePair_307 ci_M wd_802 wd_804 wd_30 cw_M_adds (by decide) pn_M_adds) cw_M_adds (by decide) (by decide) (Nat.le_of_ble_eq_true rfl) rfl hr rfl hcal hk
theorem r_M_onePair_324 {g : jm_G} {d : Nat} {L : List (Option jm_V)} {σ : jm_S} {K : jm_O → Prop} {v : Int32} (hv : v = 0 ∨ v = 1) (hK : K (σ, .inl (some (aI v)))) : J g d 108 324 L [aI v] σ K := J_zret d_M_onePair_324 rfl hv hK
theorem k_M_onePair_331 {g : jm_G} {d : Nat} {L : List (Option jm_V)} {r : List jm_V} {σ : jm_S} {K K' : jm_O → Prop} {q0 : Nat} {x0 : Int32} {x1 : Int32} (hr : Nat.ble (jm_cs r) 8 = true) (hcal : J g d 114 0 [some (aR 6 q0), some (aI x0), some (aI x1), none, none, none, none, none, none, none, none, none] [] σ K') (hk : ∀ u, K' u → jm_aft g (d + 1) 108 331 L r u K) : J g (d + 1) 108 331 L (aI x1 :: aI x0 :: aR 6 q0 :: r) σ K :=
  J_call' (id' := 114) jm_sk (vs := [aR 6 q0, aI x0, aI x1]) (inv_V (id' := 114) d_M_onePair_331 ci_M wd_890 wd_892 wd_46 cw_M_divided (by decide) pn_M_divided) cw_M_divided (by decide) (by decide) (Nat.le_of_ble_eq_true rfl) rfl hr rfl hcal hk
theorem r_M_onePair_360 {g : jm_G} {d : Nat} {L : List (Option jm_V)} {σ : jm_S} {K : jm_O → Prop} {v : Int32} (hv : v = 0 ∨ v = 1) (hK : K (σ, .inl (some (aI v)))) : J g d 108 360 L [aI v] σ K := J_zret d_M_onePair_360 rfl hv hK
theorem r_M_onePair_376 {g : jm_G} {d : Nat} {L : List (Option jm_V)} {σ : jm_S} {K : jm_O → Prop} {v : Int32} (hv : v = 0 ∨ v = 1) (hK : K (σ, .inl (some (aI v)))) : J g d 108 376 L [aI v] σ K := J_zret d_M_onePair_376 rfl hv hK
theorem k_M_onePair_413 {g : jm_G} {d : Nat} {L : List (Option jm_V)} {r : List jm_V} {σ : jm_S} {K K' : jm_O → Prop} {q0 : Nat} {x0 : Int32} {x1 : Int32} {x2 : Int32} (hr : Nat.ble (jm_cs r) 8 = true) (hcal : J g d 115 0 [some (aR 6 q0), some (aI x0), some (aI x1), some (aI x2), none, none, none] [] σ K') (hk : ∀ u, K' u → jm_aft g (d + 1) 108 413 L r u K) : J g (d + 1) 108 413 L (aI x2 :: aI x1 :: aI x0 :: aR 6 q0 :: r) σ K :=
  J_call' (id' := 115) jm_sk (vs := [aR 6 q0, aI x0, aI x1, aI x2]) (inv_V (id' := 115) d_M_onePair_413 ci_M wd_894 wd_896 wd_47 cw_M_lessShares (by decide) pn_M_lessShares) cw_M_lessShares (by decide) (by decide) (Nat.le_of_ble_eq_true rfl) rfl hr rfl hcal hk
theorem r_M_onePair_430 {g : jm_G} {d : Nat} {L : List (Option jm_V)} {σ : jm_S} {K : jm_O → Prop} {v : Int32} (hv : v = 0 ∨ v = 1) (hK : K (σ, .inl (some (aI v)))) : J g d 108 430 L [aI v] σ K := J_zret d_M_onePair_430 rfl hv hK
theorem k_M_onePair_444 {g : jm_G} {d : Nat} {L : List (Option jm_V)} {r : List jm_V} {σ : jm_S} {K K' : jm_O → Prop} {q0 : Nat} {x0 : Int32} {x1 : Int32} (hr : Nat.ble (jm_cs r) 8 = true) (hcal : J g d 84 0 [some (aR 6 q0), some (aI x0), some (aI x1), none] [] σ K') (hk : ∀ u, K' u → jm_aft g (d + 1) 108 444 L r u K) : J g (d + 1) 108 444 L (aI x1 :: aI x0 :: aR 6 q0 :: r) σ K :=
  J_call' (id' := 84) jm_sk (vs := [aR 6 q0, aI x0, aI x1]) (inv_V (id' := 84) d_M_onePair_444 ci_M wd_768 wd_770 wd_26 cw_M_copy (by decide) pn_M_copy) cw_M_copy (by decide) (by decide) (Nat.le_of_ble_eq_true rfl) rfl hr rfl hcal hk
theorem k_M_onePair_480 {g : jm_G} {d : Nat} {L : List (Option jm_V)} {r : List jm_V} {σ : jm_S} {K K' : jm_O → Prop} {q0 : Nat} {x0 : Int32} {x1 : Int32} (hr : Nat.ble (jm_cs r) 8 = true) (hcal : J g d 104 0 [some (aR 6 q0), some (aI x0), some (aI x1)] [] σ K') (hk : ∀ u, K' u → jm_aft g (d + 1) 108 480 L r u K) : J g (d + 1) 108 480 L (aI x1 :: aI x0 :: aR 6 q0 :: r) σ K :=
  J_call' (id' := 104) jm_sk (vs := [aR 6 q0, aI x0, aI x1]) (inv_V (id' := 104) d_M_onePair_480 ci_M wd_850 wd_852 wd_36 cw_M_cofactor (by decide) pn_M_cofactor) cw_M_cofactor (by decide) (by decide) (Nat.le_of_ble_eq_true rfl) rfl hr rfl hcal hk
theorem k_M_onePair_483 {g : jm_G} {d : Nat} {L : List (Option jm_V)} {r : List jm_V} {σ : jm_S} {K K' : jm_O → Prop} {q0 : Nat} {x0 : Int32} {x1 : Int32} (hr : Nat.ble (jm_cs r) 8 = true) (hcal : J g d 84 0 [some (aR 6 q0), some (aI x0), some (aI x1), none] [] σ K') (hk : ∀ u, K' u → jm_aft g (d + 1) 108 483 L r u K) : J g (d + 1) 108 483 L (aI x1 :: aI x0 :: aR 6 q0 :: r) σ K :=
  J_call' (id' := 84) jm_sk (vs := [aR 6 q0, aI x0, aI x1]) (inv_V (id' := 84) d_M_onePair_483 ci_M wd_768 wd_770 wd_26 cw_M_copy (by decide) pn_M_copy) cw_M_copy (by decide) (by decide) (Nat.le_of_ble_eq_true rfl) rfl hr rfl hcal hk
theorem k_M_onePair_497 {g : jm_G} {d : Nat} {L : List (Option jm_V)} {r : List jm_V} {σ : jm_S} {K K' : jm_O → Prop} {q0 : Nat} {x0 : Int32} (hr : Nat.ble (jm_cs r) 8 = true) (hcal : J g d 105 0 [some (aR 6 q0), some (aI x0), none, none, none, none, none, none] [] σ K') (hk : ∀ u, K' u → jm_aft g (d + 1) 108 497 L r u K) : J g (d + 1) 108 497 L (aI x0 :: aR 6 q0 :: r) σ K :=
  J_call' (id' := 105) jm_sk (vs := [aR 6 q0, aI x0]) (inv_V (id' := 105) d_M_onePair_497 ci_M wd_854 wd_856 wd_37 cw_M_monic (by decide) pn_M_monic) cw_M_monic (by decide) (by decide) (Nat.le_of_ble_eq_true rfl) rfl hr rfl hcal hk
theorem r_M_onePair_508 {g : jm_G} {d : Nat} {L : List (Option jm_V)} {σ : jm_S} {K : jm_O → Prop} {v : Int32} (hv : v = 0 ∨ v = 1) (hK : K (σ, .inl (some (aI v)))) : J g d 108 508 L [aI v] σ K := J_zret d_M_onePair_508 rfl hv hK
theorem k_M_onePair_514 {g : jm_G} {d : Nat} {L : List (Option jm_V)} {r : List jm_V} {σ : jm_S} {K K' : jm_O → Prop} {q0 : Nat} {x0 : Int32} (hr : Nat.ble (jm_cs r) 8 = true) (hcal : J g d 107 0 [some (aR 6 q0), some (aI x0), none] [] σ K') (hk : ∀ u, K' u → jm_aft g (d + 1) 108 514 L r u K) : J g (d + 1) 108 514 L (aI x0 :: aR 6 q0 :: r) σ K :=
  J_call' (id' := 107) jm_sk (vs := [aR 6 q0, aI x0]) (inv_V (id' := 107) d_M_onePair_514 ci_M wd_862 wd_864 wd_39 cw_M_addPairs (by decide) pn_M_addPairs) cw_M_addPairs (by decide) (by decide) (Nat.le_of_ble_eq_true rfl) rfl hr rfl hcal hk
theorem r_M_onePair_528 {g : jm_G} {d : Nat} {L : List (Option jm_V)} {σ : jm_S} {K : jm_O → Prop} {v : Int32} (hv : v = 0 ∨ v = 1) (hK : K (σ, .inl (some (aI v)))) : J g d 108 528 L [aI v] σ K := J_zret d_M_onePair_528 rfl hv hK
-- IdealProverModel lead (I)I
theorem d_M_lead_0 : decode prog_12_method_12_code 0 = .ok (.aload_n 0, 1) := by decide +kernel
theorem d_M_lead_1 : decode prog_12_method_12_code 1 = .ok (.getfield 17, 3) := by decide +kernel
theorem d_M_lead_4 : decode prog_12_method_12_code 4 = .ok (.bipush 100, 2) := by decide +kernel
theorem d_M_lead_6 : decode prog_12_method_12_code 6 = .ok (.iload_n 1, 1) := by decide +kernel
theorem d_M_lead_7 : decode prog_12_method_12_code 7 = .ok (.imul, 1) := by decide +kernel
theorem d_M_lead_8 : decode prog_12_method_12_code 8 = .ok (.iaload, 1) := by decide +kernel
theorem d_M_lead_9 : decode prog_12_method_12_code 9 = .ok (.ireturn, 1) := by decide +kernel
def tb_M_lead : List (Nat × jm_Op) := [(0, oAl 0 1), (1, oGr 6 5 8 4), (4, oC 100 6), (6, oIl 1 7), (7, oMul 8), (8, oIa 9)]
theorem ok_M_lead : jm_all 109 tb_M_lead := ⟨s_aload_n d_M_lead_0 rfl, s_getr d_M_lead_1 ci_M rfl wd_656, s_bipush d_M_lead_4 (by decide), s_iload_n d_M_lead_6 rfl, s_imul d_M_lead_7, s_iaload d_M_lead_8, trivial⟩
theorem r_M_lead_9 {g : jm_G} {d : Nat} {L : List (Option jm_V)} {σ : jm_S} {K : jm_O → Prop} {v : Int32} (hK : K (σ, .inl (some (aI v)))) : J g d 109 9 L [aI v] σ K := J_iret d_M_lead_9 rfl hK
-- IdealProverModel common (II)I
theorem d_M_common_0 : decode prog_12_method_7_code 0 = .ok (.iconst 0, 1) := by decide +kernel
theorem d_M_common_1 : decode prog_12_method_7_code 1 = .ok (.istore_n 3, 1) := by decide +kernel
theorem d_M_common_2 : decode prog_12_method_7_code 2 = .ok (.iconst 0, 1) := by decide +kernel
theorem d_M_common_3 : decode prog_12_method_7_code 3 = .ok (.istore 4, 2) := by decide +kernel
theorem d_M_common_5 : decode prog_12_method_7_code 5 = .ok (.iload 4, 2) := by decide +kernel
theorem d_M_common_7 : decode prog_12_method_7_code 7 = .ok (.aload_n 0, 1) := by decide +kernel
theorem d_M_common_8 : decode prog_12_method_7_code 8 = .ok (.getfield 40, 3) := by decide +kernel
theorem d_M_common_11 : decode prog_12_method_7_code 11 = .ok (.if_icmp .ge 47, 3) := by decide +kernel
theorem d_M_common_14 : decode prog_12_method_7_code 14 = .ok (.iload_n 1, 1) := by decide +kernel
theorem d_M_common_15 : decode prog_12_method_7_code 15 = .ok (.iload 4, 2) := by decide +kernel
theorem d_M_common_17 : decode prog_12_method_7_code 17 = .ok (.invokestatic 43, 3) := by decide +kernel
theorem d_M_common_20 : decode prog_12_method_7_code 20 = .ok (.istore 5, 2) := by decide +kernel
theorem d_M_common_22 : decode prog_12_method_7_code 22 = .ok (.iload_n 2, 1) := by decide +kernel
theorem d_M_common_23 : decode prog_12_method_7_code 23 = .ok (.iload 4, 2) := by decide +kernel
theorem d_M_common_25 : decode prog_12_method_7_code 25 = .ok (.invokestatic 43, 3) := by decide +kernel
theorem d_M_common_28 : decode prog_12_method_7_code 28 = .ok (.istore 6, 2) := by decide +kernel
theorem d_M_common_30 : decode prog_12_method_7_code 30 = .ok (.iload_n 3, 1) := by decide +kernel
theorem d_M_common_31 : decode prog_12_method_7_code 31 = .ok (.iload 5, 2) := by decide +kernel
theorem d_M_common_33 : decode prog_12_method_7_code 33 = .ok (.iload 6, 2) := by decide +kernel
theorem d_M_common_35 : decode prog_12_method_7_code 35 = .ok (.if_icmp .le 8, 3) := by decide +kernel
theorem d_M_common_38 : decode prog_12_method_7_code 38 = .ok (.iload 5, 2) := by decide +kernel
theorem d_M_common_40 : decode prog_12_method_7_code 40 = .ok (.goto 5, 3) := by decide +kernel
theorem d_M_common_43 : decode prog_12_method_7_code 43 = .ok (.iload 6, 2) := by decide +kernel
theorem d_M_common_45 : decode prog_12_method_7_code 45 = .ok (.iconst 5, 1) := by decide +kernel
theorem d_M_common_46 : decode prog_12_method_7_code 46 = .ok (.iload 4, 2) := by decide +kernel
theorem d_M_common_48 : decode prog_12_method_7_code 48 = .ok (.imul, 1) := by decide +kernel
theorem d_M_common_49 : decode prog_12_method_7_code 49 = .ok (.ishl, 1) := by decide +kernel
theorem d_M_common_50 : decode prog_12_method_7_code 50 = .ok (.ior, 1) := by decide +kernel
theorem d_M_common_51 : decode prog_12_method_7_code 51 = .ok (.istore_n 3, 1) := by decide +kernel
theorem d_M_common_52 : decode prog_12_method_7_code 52 = .ok (.iinc 4 1, 3) := by decide +kernel
theorem d_M_common_55 : decode prog_12_method_7_code 55 = .ok (.goto (-50), 3) := by decide +kernel
theorem d_M_common_58 : decode prog_12_method_7_code 58 = .ok (.iload_n 3, 1) := by decide +kernel
theorem d_M_common_59 : decode prog_12_method_7_code 59 = .ok (.ireturn, 1) := by decide +kernel
def tb_M_common : List (Nat × jm_Op) := [(0, oC 0 1), (1, oIs 3 2), (2, oC 0 3), (3, oIs 4 5), (5, oIl 4 7), (7, oAl 0 8), (8, oGi 6 1 11), (11, oIcGe 58 14), (14, oIl 1 15), (15, oIl 4 17), (20, oIs 5 22), (22, oIl 2 23), (23, oIl 4 25), (28, oIs 6 30), (30, oIl 3 31), (31, oIl 5 33), (33, oIl 6 35), (35, oIcLe 43 38), (38, oIl 5 40), (40, oGo 45), (43, oIl 6 45), (45, oC 5 46), (46, oIl 4 48), (48, oMul 49), (49, oShl 50), (50, oOr 51), (51, oIs 3 52), (52, oInc 4 1 55), (55, oGo 5), (58, oIl 3 59)]
theorem ok_M_common : jm_all 110 tb_M_common := ⟨s_iconst d_M_common_0 (by decide), s_istore_n d_M_common_1 rfl (by decide), s_iconst d_M_common_2 (by decide), s_istore d_M_common_3 (by decide), s_iload d_M_common_5, s_aload_n d_M_common_7 rfl, s_geti d_M_common_8 ci_M rfl wd_652, s_icmp_ge d_M_common_11 (by decide), s_iload_n d_M_common_14 rfl, s_iload d_M_common_15, s_istore d_M_common_20 (by decide), s_iload_n d_M_common_22 rfl, s_iload d_M_common_23, s_istore d_M_common_28 (by decide), s_iload_n d_M_common_30 rfl, s_iload d_M_common_31, s_iload d_M_common_33, s_icmp_le d_M_common_35 (by decide), s_iload d_M_common_38, s_goto d_M_common_40 (by decide), s_iload d_M_common_43, s_iconst d_M_common_45 (by decide), s_iload d_M_common_46, s_imul d_M_common_48, s_ishl d_M_common_49, s_ior d_M_common_50, s_istore_n d_M_common_51 rfl (by decide), s_iinc d_M_common_52 (by decide) (by decide), s_goto d_M_common_55 (by decide), s_iload_n d_M_common_58 rfl, trivial⟩
theorem k_M_common_17 {g : jm_G} {d : Nat} {L : List (Option jm_V)} {r : List jm_V} {σ : jm_S} {K K' : jm_O → Prop} {x0 : Int32} {x1 : Int32} (hr : Nat.ble (jm_cs r) 8 = true) (hcal : J g d 80 0 [some (aI x0), some (aI x1)] [] σ K') (hk : ∀ u, K' u → jm_aft g (d + 1) 110 17 L r u K) : J g (d + 1) 110 17 L (aI x1 :: aI x0 :: r) σ K :=
  J_call' (id' := 80) jm_sk (vs := [aI x0, aI x1]) (inv_S (id' := 80) d_M_common_17 wd_752 wd_753 wd_62 cw_M_exponent (by decide) pn_M_exponent) cw_M_exponent (by decide) (by decide) (Nat.le_of_ble_eq_true rfl) rfl hr rfl hcal hk
theorem k_M_common_25 {g : jm_G} {d : Nat} {L : List (Option jm_V)} {r : List jm_V} {σ : jm_S} {K K' : jm_O → Prop} {x0 : Int32} {x1 : Int32} (hr : Nat.ble (jm_cs r) 8 = true) (hcal : J g d 80 0 [some (aI x0), some (aI x1)] [] σ K') (hk : ∀ u, K' u → jm_aft g (d + 1) 110 25 L r u K) : J g (d + 1) 110 25 L (aI x1 :: aI x0 :: r) σ K :=
  J_call' (id' := 80) jm_sk (vs := [aI x0, aI x1]) (inv_S (id' := 80) d_M_common_25 wd_752 wd_753 wd_62 cw_M_exponent (by decide) pn_M_exponent) cw_M_exponent (by decide) (by decide) (Nat.le_of_ble_eq_true rfl) rfl hr rfl hcal hk
theorem r_M_common_59 {g : jm_G} {d : Nat} {L : List (Option jm_V)} {σ : jm_S} {K : jm_O → Prop} {v : Int32} (hK : K (σ, .inl (some (aI v)))) : J g d 110 59 L [aI v] σ K := J_iret d_M_common_59 rfl hK
-- IdealProverModel isPassed (III)Z
theorem d_M_isPassed_0 : decode prog_12_method_36_code 0 = .ok (.aload_n 0, 1) := by decide +kernel
theorem d_M_isPassed_1 : decode prog_12_method_36_code 1 = .ok (.aload_n 0, 1) := by decide +kernel
theorem d_M_isPassed_2 : decode prog_12_method_36_code 2 = .ok (.getfield 139, 3) := by decide +kernel
theorem d_M_isPassed_5 : decode prog_12_method_36_code 5 = .ok (.iload_n 1, 1) := by decide +kernel
theorem d_M_isPassed_6 : decode prog_12_method_36_code 6 = .ok (.iadd, 1) := by decide +kernel
theorem d_M_isPassed_7 : decode prog_12_method_36_code 7 = .ok (.invokevirtual 130, 3) := by decide +kernel
theorem d_M_isPassed_10 : decode prog_12_method_36_code 10 = .ok (.istore 4, 2) := by decide +kernel
theorem d_M_isPassed_12 : decode prog_12_method_36_code 12 = .ok (.aload_n 0, 1) := by decide +kernel
theorem d_M_isPassed_13 : decode prog_12_method_36_code 13 = .ok (.aload_n 0, 1) := by decide +kernel
theorem d_M_isPassed_14 : decode prog_12_method_36_code 14 = .ok (.getfield 139, 3) := by decide +kernel
theorem d_M_isPassed_17 : decode prog_12_method_36_code 17 = .ok (.iload_n 2, 1) := by decide +kernel
theorem d_M_isPassed_18 : decode prog_12_method_36_code 18 = .ok (.iadd, 1) := by decide +kernel
theorem d_M_isPassed_19 : decode prog_12_method_36_code 19 = .ok (.invokevirtual 130, 3) := by decide +kernel
theorem d_M_isPassed_22 : decode prog_12_method_36_code 22 = .ok (.istore 5, 2) := by decide +kernel
theorem d_M_isPassed_24 : decode prog_12_method_36_code 24 = .ok (.iconst 1, 1) := by decide +kernel
theorem d_M_isPassed_25 : decode prog_12_method_36_code 25 = .ok (.istore 6, 2) := by decide +kernel
theorem d_M_isPassed_27 : decode prog_12_method_36_code 27 = .ok (.iconst 0, 1) := by decide +kernel
theorem d_M_isPassed_28 : decode prog_12_method_36_code 28 = .ok (.istore 7, 2) := by decide +kernel
theorem d_M_isPassed_30 : decode prog_12_method_36_code 30 = .ok (.iload 7, 2) := by decide +kernel
theorem d_M_isPassed_32 : decode prog_12_method_36_code 32 = .ok (.aload_n 0, 1) := by decide +kernel
theorem d_M_isPassed_33 : decode prog_12_method_36_code 33 = .ok (.getfield 40, 3) := by decide +kernel
theorem d_M_isPassed_36 : decode prog_12_method_36_code 36 = .ok (.if_icmp .ge 41, 3) := by decide +kernel
theorem d_M_isPassed_39 : decode prog_12_method_36_code 39 = .ok (.iload 6, 2) := by decide +kernel
theorem d_M_isPassed_41 : decode prog_12_method_36_code 41 = .ok (.ifCond .eq 27, 3) := by decide +kernel
theorem d_M_isPassed_44 : decode prog_12_method_36_code 44 = .ok (.iload 4, 2) := by decide +kernel
theorem d_M_isPassed_46 : decode prog_12_method_36_code 46 = .ok (.iload 7, 2) := by decide +kernel
theorem d_M_isPassed_48 : decode prog_12_method_36_code 48 = .ok (.invokestatic 43, 3) := by decide +kernel
theorem d_M_isPassed_51 : decode prog_12_method_36_code 51 = .ok (.ifCond .eq 13, 3) := by decide +kernel
theorem d_M_isPassed_54 : decode prog_12_method_36_code 54 = .ok (.iload 5, 2) := by decide +kernel
theorem d_M_isPassed_56 : decode prog_12_method_36_code 56 = .ok (.iload 7, 2) := by decide +kernel
theorem d_M_isPassed_58 : decode prog_12_method_36_code 58 = .ok (.invokestatic 43, 3) := by decide +kernel
theorem d_M_isPassed_61 : decode prog_12_method_36_code 61 = .ok (.ifCond .ne 7, 3) := by decide +kernel
theorem d_M_isPassed_64 : decode prog_12_method_36_code 64 = .ok (.iconst 1, 1) := by decide +kernel
theorem d_M_isPassed_65 : decode prog_12_method_36_code 65 = .ok (.goto 4, 3) := by decide +kernel
theorem d_M_isPassed_68 : decode prog_12_method_36_code 68 = .ok (.iconst 0, 1) := by decide +kernel
theorem d_M_isPassed_69 : decode prog_12_method_36_code 69 = .ok (.istore 6, 2) := by decide +kernel
theorem d_M_isPassed_71 : decode prog_12_method_36_code 71 = .ok (.iinc 7 1, 3) := by decide +kernel
theorem d_M_isPassed_74 : decode prog_12_method_36_code 74 = .ok (.goto (-44), 3) := by decide +kernel
theorem d_M_isPassed_77 : decode prog_12_method_36_code 77 = .ok (.iconst 0, 1) := by decide +kernel
theorem d_M_isPassed_78 : decode prog_12_method_36_code 78 = .ok (.istore 7, 2) := by decide +kernel
theorem d_M_isPassed_80 : decode prog_12_method_36_code 80 = .ok (.iload 7, 2) := by decide +kernel
theorem d_M_isPassed_82 : decode prog_12_method_36_code 82 = .ok (.aload_n 0, 1) := by decide +kernel
theorem d_M_isPassed_83 : decode prog_12_method_36_code 83 = .ok (.getfield 133, 3) := by decide +kernel
theorem d_M_isPassed_86 : decode prog_12_method_36_code 86 = .ok (.if_icmp .ge 72, 3) := by decide +kernel
theorem d_M_isPassed_89 : decode prog_12_method_36_code 89 = .ok (.iload 6, 2) := by decide +kernel
theorem d_M_isPassed_91 : decode prog_12_method_36_code 91 = .ok (.ifCond .ne 67, 3) := by decide +kernel
theorem d_M_isPassed_94 : decode prog_12_method_36_code 94 = .ok (.iload 7, 2) := by decide +kernel
theorem d_M_isPassed_96 : decode prog_12_method_36_code 96 = .ok (.iload_n 1, 1) := by decide +kernel
theorem d_M_isPassed_97 : decode prog_12_method_36_code 97 = .ok (.if_icmp .eq 52, 3) := by decide +kernel
theorem d_M_isPassed_100 : decode prog_12_method_36_code 100 = .ok (.iload 7, 2) := by decide +kernel
theorem d_M_isPassed_102 : decode prog_12_method_36_code 102 = .ok (.iload_n 2, 1) := by decide +kernel
theorem d_M_isPassed_103 : decode prog_12_method_36_code 103 = .ok (.if_icmp .eq 46, 3) := by decide +kernel
theorem d_M_isPassed_106 : decode prog_12_method_36_code 106 = .ok (.aload_n 0, 1) := by decide +kernel
theorem d_M_isPassed_107 : decode prog_12_method_36_code 107 = .ok (.aload_n 0, 1) := by decide +kernel
theorem d_M_isPassed_108 : decode prog_12_method_36_code 108 = .ok (.aload_n 0, 1) := by decide +kernel
theorem d_M_isPassed_109 : decode prog_12_method_36_code 109 = .ok (.getfield 139, 3) := by decide +kernel
theorem d_M_isPassed_112 : decode prog_12_method_36_code 112 = .ok (.iload 7, 2) := by decide +kernel
theorem d_M_isPassed_114 : decode prog_12_method_36_code 114 = .ok (.iadd, 1) := by decide +kernel
theorem d_M_isPassed_115 : decode prog_12_method_36_code 115 = .ok (.invokevirtual 130, 3) := by decide +kernel
theorem d_M_isPassed_118 : decode prog_12_method_36_code 118 = .ok (.iload_n 3, 1) := by decide +kernel
theorem d_M_isPassed_119 : decode prog_12_method_36_code 119 = .ok (.invokevirtual 142, 3) := by decide +kernel
theorem d_M_isPassed_122 : decode prog_12_method_36_code 122 = .ok (.ifCond .eq 27, 3) := by decide +kernel
theorem d_M_isPassed_125 : decode prog_12_method_36_code 125 = .ok (.aload_n 0, 1) := by decide +kernel
theorem d_M_isPassed_126 : decode prog_12_method_36_code 126 = .ok (.iload 7, 2) := by decide +kernel
theorem d_M_isPassed_128 : decode prog_12_method_36_code 128 = .ok (.iload_n 1, 1) := by decide +kernel
theorem d_M_isPassed_129 : decode prog_12_method_36_code 129 = .ok (.invokevirtual 154, 3) := by decide +kernel
theorem d_M_isPassed_132 : decode prog_12_method_36_code 132 = .ok (.ifCond .ne 17, 3) := by decide +kernel
theorem d_M_isPassed_135 : decode prog_12_method_36_code 135 = .ok (.aload_n 0, 1) := by decide +kernel
theorem d_M_isPassed_136 : decode prog_12_method_36_code 136 = .ok (.iload 7, 2) := by decide +kernel
theorem d_M_isPassed_138 : decode prog_12_method_36_code 138 = .ok (.iload_n 2, 1) := by decide +kernel
theorem d_M_isPassed_139 : decode prog_12_method_36_code 139 = .ok (.invokevirtual 154, 3) := by decide +kernel
theorem d_M_isPassed_142 : decode prog_12_method_36_code 142 = .ok (.ifCond .ne 7, 3) := by decide +kernel
theorem d_M_isPassed_145 : decode prog_12_method_36_code 145 = .ok (.iconst 1, 1) := by decide +kernel
theorem d_M_isPassed_146 : decode prog_12_method_36_code 146 = .ok (.goto 4, 3) := by decide +kernel
theorem d_M_isPassed_149 : decode prog_12_method_36_code 149 = .ok (.iconst 0, 1) := by decide +kernel
theorem d_M_isPassed_150 : decode prog_12_method_36_code 150 = .ok (.istore 6, 2) := by decide +kernel
theorem d_M_isPassed_152 : decode prog_12_method_36_code 152 = .ok (.iinc 7 1, 3) := by decide +kernel
theorem d_M_isPassed_155 : decode prog_12_method_36_code 155 = .ok (.goto (-75), 3) := by decide +kernel
theorem d_M_isPassed_158 : decode prog_12_method_36_code 158 = .ok (.iload 6, 2) := by decide +kernel
theorem d_M_isPassed_160 : decode prog_12_method_36_code 160 = .ok (.ireturn, 1) := by decide +kernel
def tb_M_isPassed_0 : List (Nat × jm_Op) := [(0, oAl 0 1), (1, oAl 0 2), (2, oGi 6 19 5), (5, oIl 1 6), (6, oAdd 7), (10, oIs 4 12), (12, oAl 0 13), (13, oAl 0 14), (14, oGi 6 19 17), (17, oIl 2 18), (18, oAdd 19), (22, oIs 5 24), (24, oC 1 25), (25, oIs 6 27), (27, oC 0 28), (28, oIs 7 30), (30, oIl 7 32), (32, oAl 0 33), (33, oGi 6 1 36), (36, oIcGe 77 39), (39, oIl 6 41), (41, oIfEq 68 44), (44, oIl 4 46), (46, oIl 7 48), (51, oIfEq 64 54), (54, oIl 5 56), (56, oIl 7 58), (61, oIfNe 68 64), (64, oC 1 65), (65, oGo 69), (68, oC 0 69), (69, oIs 6 71), (71, oInc 7 1 74), (74, oGo 30), (77, oC 0 78), (78, oIs 7 80), (80, oIl 7 82), (82, oAl 0 83), (83, oGi 6 20 86), (86, oIcGe 158 89), (89, oIl 6 91), (91, oIfNe 158 94), (94, oIl 7 96), (96, oIl 1 97), (97, oIcEq 149 100), (100, oIl 7 102), (102, oIl 2 103), (103, oIcEq 149 106), (106, oAl 0 107), (107, oAl 0 108)]
theorem ok_M_isPassed_0 : jm_all 111 tb_M_isPassed_0 := ⟨s_aload_n d_M_isPassed_0 rfl, s_aload_n d_M_isPassed_1 rfl, s_geti d_M_isPassed_2 ci_M rfl wd_670, s_iload_n d_M_isPassed_5 rfl, s_iadd d_M_isPassed_6, s_istore d_M_isPassed_10 (by decide), s_aload_n d_M_isPassed_12 rfl, s_aload_n d_M_isPassed_13 rfl, s_geti d_M_isPassed_14 ci_M rfl wd_670, s_iload_n d_M_isPassed_17 rfl, s_iadd d_M_isPassed_18, s_istore d_M_isPassed_22 (by decide), s_iconst d_M_isPassed_24 (by decide), s_istore d_M_isPassed_25 (by decide), s_iconst d_M_isPassed_27 (by decide), s_istore d_M_isPassed_28 (by decide), s_iload d_M_isPassed_30, s_aload_n d_M_isPassed_32 rfl, s_geti d_M_isPassed_33 ci_M rfl wd_652, s_icmp_ge d_M_isPassed_36 (by decide), s_iload d_M_isPassed_39, s_if_eq d_M_isPassed_41 (by decide), s_iload d_M_isPassed_44, s_iload d_M_isPassed_46, s_if_eq d_M_isPassed_51 (by decide), s_iload d_M_isPassed_54, s_iload d_M_isPassed_56, s_if_ne d_M_isPassed_61 (by decide), s_iconst d_M_isPassed_64 (by decide), s_goto d_M_isPassed_65 (by decide), s_iconst d_M_isPassed_68 (by decide), s_istore d_M_isPassed_69 (by decide), s_iinc d_M_isPassed_71 (by decide) (by decide), s_goto d_M_isPassed_74 (by decide), s_iconst d_M_isPassed_77 (by decide), s_istore d_M_isPassed_78 (by decide), s_iload d_M_isPassed_80, s_aload_n d_M_isPassed_82 rfl, s_geti d_M_isPassed_83 ci_M rfl wd_671, s_icmp_ge d_M_isPassed_86 (by decide), s_iload d_M_isPassed_89, s_if_ne d_M_isPassed_91 (by decide), s_iload d_M_isPassed_94, s_iload_n d_M_isPassed_96 rfl, s_icmp_eq d_M_isPassed_97 (by decide), s_iload d_M_isPassed_100, s_iload_n d_M_isPassed_102 rfl, s_icmp_eq d_M_isPassed_103 (by decide), s_aload_n d_M_isPassed_106 rfl, s_aload_n d_M_isPassed_107 rfl, trivial⟩
def tb_M_isPassed_1 : List (Nat × jm_Op) := [(108, oAl 0 109), (109, oGi 6 19 112), (112, oIl 7 114), (114, oAdd 115), (118, oIl 3 119), (122, oIfEq 149 125), (125, oAl 0 126), (126, oIl 7 128), (128, oIl 1 129), (132, oIfNe 149 135), (135, oAl 0 136), (136, oIl 7 138), (138, oIl 2 139), (142, oIfNe 149 145), (145, oC 1 146), (146, oGo 150), (149, oC 0 150), (150, oIs 6 152), (152, oInc 7 1 155), (155, oGo 80), (158, oIl 6 160)]
theorem ok_M_isPassed_1 : jm_all 111 tb_M_isPassed_1 := ⟨s_aload_n d_M_isPassed_108 rfl, s_geti d_M_isPassed_109 ci_M rfl wd_670, s_iload d_M_isPassed_112, s_iadd d_M_isPassed_114, s_iload_n d_M_isPassed_118 rfl, s_if_eq d_M_isPassed_122 (by decide), s_aload_n d_M_isPassed_125 rfl, s_iload d_M_isPassed_126, s_iload_n d_M_isPassed_128 rfl, s_if_ne d_M_isPassed_132 (by decide), s_aload_n d_M_isPassed_135 rfl, s_iload d_M_isPassed_136, s_iload_n d_M_isPassed_138 rfl, s_if_ne d_M_isPassed_142 (by decide), s_iconst d_M_isPassed_145 (by decide), s_goto d_M_isPassed_146 (by decide), s_iconst d_M_isPassed_149 (by decide), s_istore d_M_isPassed_150 (by decide), s_iinc d_M_isPassed_152 (by decide) (by decide), s_goto d_M_isPassed_155 (by decide), s_iload d_M_isPassed_158, trivial⟩
def tb_M_isPassed : List (Nat × jm_Op) := tb_M_isPassed_0 ++ tb_M_isPassed_1
theorem ok_M_isPassed : jm_all 111 tb_M_isPassed := jm_all_app ok_M_isPassed_0 ok_M_isPassed_1
theorem k_M_isPassed_7 {g : jm_G} {d : Nat} {L : List (Option jm_V)} {r : List jm_V} {σ : jm_S} {K K' : jm_O → Prop} {q0 : Nat} {x0 : Int32} (hr : Nat.ble (jm_cs r) 8 = true) (hcal : J g d 109 0 [some (aR 6 q0), some (aI x0)] [] σ K') (hk : ∀ u, K' u → jm_aft g (d + 1) 111 7 L r u K) : J g (d + 1) 111 7 L (aI x0 :: aR 6 q0 :: r) σ K :=
  J_call' (id' := 109) jm_sk (vs := [aR 6 q0, aI x0]) (inv_V (id' := 109) d_M_isPassed_7 ci_M wd_870 wd_872 wd_41 cw_M_lead (by decide) pn_M_lead) cw_M_lead (by decide) (by decide) (Nat.le_of_ble_eq_true rfl) rfl hr rfl hcal hk
theorem k_M_isPassed_19 {g : jm_G} {d : Nat} {L : List (Option jm_V)} {r : List jm_V} {σ : jm_S} {K K' : jm_O → Prop} {q0 : Nat} {x0 : Int32} (hr : Nat.ble (jm_cs r) 8 = true) (hcal : J g d 109 0 [some (aR 6 q0), some (aI x0)] [] σ K') (hk : ∀ u, K' u → jm_aft g (d + 1) 111 19 L r u K) : J g (d + 1) 111 19 L (aI x0 :: aR 6 q0 :: r) σ K :=
  J_call' (id' := 109) jm_sk (vs := [aR 6 q0, aI x0]) (inv_V (id' := 109) d_M_isPassed_19 ci_M wd_870 wd_872 wd_41 cw_M_lead (by decide) pn_M_lead) cw_M_lead (by decide) (by decide) (Nat.le_of_ble_eq_true rfl) rfl hr rfl hcal hk
theorem k_M_isPassed_48 {g : jm_G} {d : Nat} {L : List (Option jm_V)} {r : List jm_V} {σ : jm_S} {K K' : jm_O → Prop} {x0 : Int32} {x1 : Int32} (hr : Nat.ble (jm_cs r) 8 = true) (hcal : J g d 80 0 [some (aI x0), some (aI x1)] [] σ K') (hk : ∀ u, K' u → jm_aft g (d + 1) 111 48 L r u K) : J g (d + 1) 111 48 L (aI x1 :: aI x0 :: r) σ K :=
  J_call' (id' := 80) jm_sk (vs := [aI x0, aI x1]) (inv_S (id' := 80) d_M_isPassed_48 wd_752 wd_753 wd_62 cw_M_exponent (by decide) pn_M_exponent) cw_M_exponent (by decide) (by decide) (Nat.le_of_ble_eq_true rfl) rfl hr rfl hcal hk
theorem k_M_isPassed_58 {g : jm_G} {d : Nat} {L : List (Option jm_V)} {r : List jm_V} {σ : jm_S} {K K' : jm_O → Prop} {x0 : Int32} {x1 : Int32} (hr : Nat.ble (jm_cs r) 8 = true) (hcal : J g d 80 0 [some (aI x0), some (aI x1)] [] σ K') (hk : ∀ u, K' u → jm_aft g (d + 1) 111 58 L r u K) : J g (d + 1) 111 58 L (aI x1 :: aI x0 :: r) σ K :=
  J_call' (id' := 80) jm_sk (vs := [aI x0, aI x1]) (inv_S (id' := 80) d_M_isPassed_58 wd_752 wd_753 wd_62 cw_M_exponent (by decide) pn_M_exponent) cw_M_exponent (by decide) (by decide) (Nat.le_of_ble_eq_true rfl) rfl hr rfl hcal hk
theorem k_M_isPassed_115 {g : jm_G} {d : Nat} {L : List (Option jm_V)} {r : List jm_V} {σ : jm_S} {K K' : jm_O → Prop} {q0 : Nat} {x0 : Int32} (hr : Nat.ble (jm_cs r) 8 = true) (hcal : J g d 109 0 [some (aR 6 q0), some (aI x0)] [] σ K') (hk : ∀ u, K' u → jm_aft g (d + 1) 111 115 L r u K) : J g (d + 1) 111 115 L (aI x0 :: aR 6 q0 :: r) σ K :=
  J_call' (id' := 109) jm_sk (vs := [aR 6 q0, aI x0]) (inv_V (id' := 109) d_M_isPassed_115 ci_M wd_870 wd_872 wd_41 cw_M_lead (by decide) pn_M_lead) cw_M_lead (by decide) (by decide) (Nat.le_of_ble_eq_true rfl) rfl hr rfl hcal hk
theorem k_M_isPassed_119 {g : jm_G} {d : Nat} {L : List (Option jm_V)} {r : List jm_V} {σ : jm_S} {K K' : jm_O → Prop} {q0 : Nat} {x0 : Int32} {x1 : Int32} (hr : Nat.ble (jm_cs r) 8 = true) (hcal : J g d 112 0 [some (aR 6 q0), some (aI x0), some (aI x1), none] [] σ K') (hk : ∀ u, K' u → jm_aft g (d + 1) 111 119 L r u K) : J g (d + 1) 111 119 L (aI x1 :: aI x0 :: aR 6 q0 :: r) σ K :=
  J_call' (id' := 112) jm_sk (vs := [aR 6 q0, aI x0, aI x1]) (inv_V (id' := 112) d_M_isPassed_119 ci_M wd_882 wd_884 wd_44 cw_M_divides (by decide) pn_M_divides) cw_M_divides (by decide) (by decide) (Nat.le_of_ble_eq_true rfl) rfl hr rfl hcal hk
theorem k_M_isPassed_129 {g : jm_G} {d : Nat} {L : List (Option jm_V)} {r : List jm_V} {σ : jm_S} {K K' : jm_O → Prop} {q0 : Nat} {x0 : Int32} {x1 : Int32} (hr : Nat.ble (jm_cs r) 8 = true) (hcal : J g d 113 0 [some (aR 6 q0), some (aI x0), some (aI x1)] [] σ K') (hk : ∀ u, K' u → jm_aft g (d + 1) 111 129 L r u K) : J g (d + 1) 111 129 L (aI x1 :: aI x0 :: aR 6 q0 :: r) σ K :=
  J_call' (id' := 113) jm_sk (vs := [aR 6 q0, aI x0, aI x1]) (inv_V (id' := 113) d_M_isPassed_129 ci_M wd_886 wd_888 wd_45 cw_M_isWaiting (by decide) pn_M_isWaiting) cw_M_isWaiting (by decide) (by decide) (Nat.le_of_ble_eq_true rfl) rfl hr rfl hcal hk
theorem k_M_isPassed_139 {g : jm_G} {d : Nat} {L : List (Option jm_V)} {r : List jm_V} {σ : jm_S} {K K' : jm_O → Prop} {q0 : Nat} {x0 : Int32} {x1 : Int32} (hr : Nat.ble (jm_cs r) 8 = true) (hcal : J g d 113 0 [some (aR 6 q0), some (aI x0), some (aI x1)] [] σ K') (hk : ∀ u, K' u → jm_aft g (d + 1) 111 139 L r u K) : J g (d + 1) 111 139 L (aI x1 :: aI x0 :: aR 6 q0 :: r) σ K :=
  J_call' (id' := 113) jm_sk (vs := [aR 6 q0, aI x0, aI x1]) (inv_V (id' := 113) d_M_isPassed_139 ci_M wd_886 wd_888 wd_45 cw_M_isWaiting (by decide) pn_M_isWaiting) cw_M_isWaiting (by decide) (by decide) (Nat.le_of_ble_eq_true rfl) rfl hr rfl hcal hk
theorem r_M_isPassed_160 {g : jm_G} {d : Nat} {L : List (Option jm_V)} {σ : jm_S} {K : jm_O → Prop} {v : Int32} (hv : v = 0 ∨ v = 1) (hK : K (σ, .inl (some (aI v)))) : J g d 111 160 L [aI v] σ K := J_zret d_M_isPassed_160 rfl hv hK
-- IdealProverModel divides (II)Z
theorem d_M_divides_0 : decode prog_12_method_6_code 0 = .ok (.iconst 0, 1) := by decide +kernel
theorem d_M_divides_1 : decode prog_12_method_6_code 1 = .ok (.istore_n 3, 1) := by decide +kernel
theorem d_M_divides_2 : decode prog_12_method_6_code 2 = .ok (.iload_n 3, 1) := by decide +kernel
theorem d_M_divides_3 : decode prog_12_method_6_code 3 = .ok (.aload_n 0, 1) := by decide +kernel
theorem d_M_divides_4 : decode prog_12_method_6_code 4 = .ok (.getfield 40, 3) := by decide +kernel
theorem d_M_divides_7 : decode prog_12_method_6_code 7 = .ok (.if_icmp .ge 24, 3) := by decide +kernel
theorem d_M_divides_10 : decode prog_12_method_6_code 10 = .ok (.iload_n 1, 1) := by decide +kernel
theorem d_M_divides_11 : decode prog_12_method_6_code 11 = .ok (.iload_n 3, 1) := by decide +kernel
theorem d_M_divides_12 : decode prog_12_method_6_code 12 = .ok (.invokestatic 43, 3) := by decide +kernel
theorem d_M_divides_15 : decode prog_12_method_6_code 15 = .ok (.iload_n 2, 1) := by decide +kernel
theorem d_M_divides_16 : decode prog_12_method_6_code 16 = .ok (.iload_n 3, 1) := by decide +kernel
theorem d_M_divides_17 : decode prog_12_method_6_code 17 = .ok (.invokestatic 43, 3) := by decide +kernel
theorem d_M_divides_20 : decode prog_12_method_6_code 20 = .ok (.if_icmp .le 5, 3) := by decide +kernel
theorem d_M_divides_23 : decode prog_12_method_6_code 23 = .ok (.iconst 0, 1) := by decide +kernel
theorem d_M_divides_24 : decode prog_12_method_6_code 24 = .ok (.ireturn, 1) := by decide +kernel
theorem d_M_divides_25 : decode prog_12_method_6_code 25 = .ok (.iinc 3 1, 3) := by decide +kernel
theorem d_M_divides_28 : decode prog_12_method_6_code 28 = .ok (.goto (-26), 3) := by decide +kernel
theorem d_M_divides_31 : decode prog_12_method_6_code 31 = .ok (.iconst 1, 1) := by decide +kernel
theorem d_M_divides_32 : decode prog_12_method_6_code 32 = .ok (.ireturn, 1) := by decide +kernel
def tb_M_divides : List (Nat × jm_Op) := [(0, oC 0 1), (1, oIs 3 2), (2, oIl 3 3), (3, oAl 0 4), (4, oGi 6 1 7), (7, oIcGe 31 10), (10, oIl 1 11), (11, oIl 3 12), (15, oIl 2 16), (16, oIl 3 17), (20, oIcLe 25 23), (23, oC 0 24), (25, oInc 3 1 28), (28, oGo 2), (31, oC 1 32)]
theorem ok_M_divides : jm_all 112 tb_M_divides := ⟨s_iconst d_M_divides_0 (by decide), s_istore_n d_M_divides_1 rfl (by decide), s_iload_n d_M_divides_2 rfl, s_aload_n d_M_divides_3 rfl, s_geti d_M_divides_4 ci_M rfl wd_652, s_icmp_ge d_M_divides_7 (by decide), s_iload_n d_M_divides_10 rfl, s_iload_n d_M_divides_11 rfl, s_iload_n d_M_divides_15 rfl, s_iload_n d_M_divides_16 rfl, s_icmp_le d_M_divides_20 (by decide), s_iconst d_M_divides_23 (by decide), s_iinc d_M_divides_25 (by decide) (by decide), s_goto d_M_divides_28 (by decide), s_iconst d_M_divides_31 (by decide), trivial⟩
theorem k_M_divides_12 {g : jm_G} {d : Nat} {L : List (Option jm_V)} {r : List jm_V} {σ : jm_S} {K K' : jm_O → Prop} {x0 : Int32} {x1 : Int32} (hr : Nat.ble (jm_cs r) 8 = true) (hcal : J g d 80 0 [some (aI x0), some (aI x1)] [] σ K') (hk : ∀ u, K' u → jm_aft g (d + 1) 112 12 L r u K) : J g (d + 1) 112 12 L (aI x1 :: aI x0 :: r) σ K :=
  J_call' (id' := 80) jm_sk (vs := [aI x0, aI x1]) (inv_S (id' := 80) d_M_divides_12 wd_752 wd_753 wd_62 cw_M_exponent (by decide) pn_M_exponent) cw_M_exponent (by decide) (by decide) (Nat.le_of_ble_eq_true rfl) rfl hr rfl hcal hk
theorem k_M_divides_17 {g : jm_G} {d : Nat} {L : List (Option jm_V)} {r : List jm_V} {σ : jm_S} {K K' : jm_O → Prop} {x0 : Int32} {x1 : Int32} (hr : Nat.ble (jm_cs r) 8 = true) (hcal : J g d 80 0 [some (aI x0), some (aI x1)] [] σ K') (hk : ∀ u, K' u → jm_aft g (d + 1) 112 17 L r u K) : J g (d + 1) 112 17 L (aI x1 :: aI x0 :: r) σ K :=
  J_call' (id' := 80) jm_sk (vs := [aI x0, aI x1]) (inv_S (id' := 80) d_M_divides_17 wd_752 wd_753 wd_62 cw_M_exponent (by decide) pn_M_exponent) cw_M_exponent (by decide) (by decide) (Nat.le_of_ble_eq_true rfl) rfl hr rfl hcal hk
theorem r_M_divides_24 {g : jm_G} {d : Nat} {L : List (Option jm_V)} {σ : jm_S} {K : jm_O → Prop} {v : Int32} (hv : v = 0 ∨ v = 1) (hK : K (σ, .inl (some (aI v)))) : J g d 112 24 L [aI v] σ K := J_zret d_M_divides_24 rfl hv hK
theorem r_M_divides_32 {g : jm_G} {d : Nat} {L : List (Option jm_V)} {σ : jm_S} {K : jm_O → Prop} {v : Int32} (hv : v = 0 ∨ v = 1) (hK : K (σ, .inl (some (aI v)))) : J g d 112 32 L [aI v] σ K := J_zret d_M_divides_32 rfl hv hK
-- IdealProverModel isWaiting (II)Z
theorem d_M_isWaiting_0 : decode prog_12_method_34_code 0 = .ok (.aload_n 0, 1) := by decide +kernel
theorem d_M_isWaiting_1 : decode prog_12_method_34_code 1 = .ok (.getfield 29, 3) := by decide +kernel
theorem d_M_isWaiting_4 : decode prog_12_method_34_code 4 = .ok (.iload_n 1, 1) := by decide +kernel
theorem d_M_isWaiting_5 : decode prog_12_method_34_code 5 = .ok (.iload_n 2, 1) := by decide +kernel
theorem d_M_isWaiting_6 : decode prog_12_method_34_code 6 = .ok (.if_icmp .ge 12, 3) := by decide +kernel
theorem d_M_isWaiting_9 : decode prog_12_method_34_code 9 = .ok (.bipush 25, 2) := by decide +kernel
theorem d_M_isWaiting_11 : decode prog_12_method_34_code 11 = .ok (.iload_n 1, 1) := by decide +kernel
theorem d_M_isWaiting_12 : decode prog_12_method_34_code 12 = .ok (.imul, 1) := by decide +kernel
theorem d_M_isWaiting_13 : decode prog_12_method_34_code 13 = .ok (.iload_n 2, 1) := by decide +kernel
theorem d_M_isWaiting_14 : decode prog_12_method_34_code 14 = .ok (.iadd, 1) := by decide +kernel
theorem d_M_isWaiting_15 : decode prog_12_method_34_code 15 = .ok (.goto 9, 3) := by decide +kernel
theorem d_M_isWaiting_18 : decode prog_12_method_34_code 18 = .ok (.bipush 25, 2) := by decide +kernel
theorem d_M_isWaiting_20 : decode prog_12_method_34_code 20 = .ok (.iload_n 2, 1) := by decide +kernel
theorem d_M_isWaiting_21 : decode prog_12_method_34_code 21 = .ok (.imul, 1) := by decide +kernel
theorem d_M_isWaiting_22 : decode prog_12_method_34_code 22 = .ok (.iload_n 1, 1) := by decide +kernel
theorem d_M_isWaiting_23 : decode prog_12_method_34_code 23 = .ok (.iadd, 1) := by decide +kernel
theorem d_M_isWaiting_24 : decode prog_12_method_34_code 24 = .ok (.baload, 1) := by decide +kernel
theorem d_M_isWaiting_25 : decode prog_12_method_34_code 25 = .ok (.ireturn, 1) := by decide +kernel
def tb_M_isWaiting : List (Nat × jm_Op) := [(0, oAl 0 1), (1, oGr 6 23 9 4), (4, oIl 1 5), (5, oIl 2 6), (6, oIcGe 18 9), (9, oC 25 11), (11, oIl 1 12), (12, oMul 13), (13, oIl 2 14), (14, oAdd 15), (15, oGo 24), (18, oC 25 20), (20, oIl 2 21), (21, oMul 22), (22, oIl 1 23), (23, oAdd 24), (24, oZa 25)]
theorem ok_M_isWaiting : jm_all 113 tb_M_isWaiting := ⟨s_aload_n d_M_isWaiting_0 rfl, s_getr d_M_isWaiting_1 ci_M rfl wd_674, s_iload_n d_M_isWaiting_4 rfl, s_iload_n d_M_isWaiting_5 rfl, s_icmp_ge d_M_isWaiting_6 (by decide), s_bipush d_M_isWaiting_9 (by decide), s_iload_n d_M_isWaiting_11 rfl, s_imul d_M_isWaiting_12, s_iload_n d_M_isWaiting_13 rfl, s_iadd d_M_isWaiting_14, s_goto d_M_isWaiting_15 (by decide), s_bipush d_M_isWaiting_18 (by decide), s_iload_n d_M_isWaiting_20 rfl, s_imul d_M_isWaiting_21, s_iload_n d_M_isWaiting_22 rfl, s_iadd d_M_isWaiting_23, s_baload d_M_isWaiting_24, trivial⟩
theorem r_M_isWaiting_25 {g : jm_G} {d : Nat} {L : List (Option jm_V)} {σ : jm_S} {K : jm_O → Prop} {v : Int32} (hv : v = 0 ∨ v = 1) (hK : K (σ, .inl (some (aI v)))) : J g d 113 25 L [aI v] σ K := J_zret d_M_isWaiting_25 rfl hv hK
-- IdealProverModel divided (II)V
theorem d_M_divided_0 : decode prog_12_method_29_code 0 = .ok (.aload_n 0, 1) := by decide +kernel
theorem d_M_divided_1 : decode prog_12_method_29_code 1 = .ok (.getfield 20, 3) := by decide +kernel
theorem d_M_divided_4 : decode prog_12_method_29_code 4 = .ok (.iload_n 2, 1) := by decide +kernel
theorem d_M_divided_5 : decode prog_12_method_29_code 5 = .ok (.iconst 0, 1) := by decide +kernel
theorem d_M_divided_6 : decode prog_12_method_29_code 6 = .ok (.iastore, 1) := by decide +kernel
theorem d_M_divided_7 : decode prog_12_method_29_code 7 = .ok (.iconst 0, 1) := by decide +kernel
theorem d_M_divided_8 : decode prog_12_method_29_code 8 = .ok (.istore_n 3, 1) := by decide +kernel
theorem d_M_divided_9 : decode prog_12_method_29_code 9 = .ok (.iload_n 3, 1) := by decide +kernel
theorem d_M_divided_10 : decode prog_12_method_29_code 10 = .ok (.bipush 25, 2) := by decide +kernel
theorem d_M_divided_12 : decode prog_12_method_29_code 12 = .ok (.if_icmp .ge 19, 3) := by decide +kernel
theorem d_M_divided_15 : decode prog_12_method_29_code 15 = .ok (.aload_n 0, 1) := by decide +kernel
theorem d_M_divided_16 : decode prog_12_method_29_code 16 = .ok (.getfield 20, 3) := by decide +kernel
theorem d_M_divided_19 : decode prog_12_method_29_code 19 = .ok (.bipush 100, 2) := by decide +kernel
theorem d_M_divided_21 : decode prog_12_method_29_code 21 = .ok (.iload_n 3, 1) := by decide +kernel
theorem d_M_divided_22 : decode prog_12_method_29_code 22 = .ok (.iadd, 1) := by decide +kernel
theorem d_M_divided_23 : decode prog_12_method_29_code 23 = .ok (.iconst 0, 1) := by decide +kernel
theorem d_M_divided_24 : decode prog_12_method_29_code 24 = .ok (.iastore, 1) := by decide +kernel
theorem d_M_divided_25 : decode prog_12_method_29_code 25 = .ok (.iinc 3 1, 3) := by decide +kernel
theorem d_M_divided_28 : decode prog_12_method_29_code 28 = .ok (.goto (-19), 3) := by decide +kernel
theorem d_M_divided_31 : decode prog_12_method_29_code 31 = .ok (.aload_n 0, 1) := by decide +kernel
theorem d_M_divided_32 : decode prog_12_method_29_code 32 = .ok (.getfield 20, 3) := by decide +kernel
theorem d_M_divided_35 : decode prog_12_method_29_code 35 = .ok (.iload_n 1, 1) := by decide +kernel
theorem d_M_divided_36 : decode prog_12_method_29_code 36 = .ok (.iaload, 1) := by decide +kernel
theorem d_M_divided_37 : decode prog_12_method_29_code 37 = .ok (.ifCond .le 360, 3) := by decide +kernel
theorem d_M_divided_40 : decode prog_12_method_29_code 40 = .ok (.aload_n 0, 1) := by decide +kernel
theorem d_M_divided_41 : decode prog_12_method_29_code 41 = .ok (.getfield 54, 3) := by decide +kernel
theorem d_M_divided_44 : decode prog_12_method_29_code 44 = .ok (.ifCond .ne 353, 3) := by decide +kernel
theorem d_M_divided_47 : decode prog_12_method_29_code 47 = .ok (.aload_n 0, 1) := by decide +kernel
theorem d_M_divided_48 : decode prog_12_method_29_code 48 = .ok (.getfield 121, 3) := by decide +kernel
theorem d_M_divided_51 : decode prog_12_method_29_code 51 = .ok (.aload_n 0, 1) := by decide +kernel
theorem d_M_divided_52 : decode prog_12_method_29_code 52 = .ok (.getfield 124, 3) := by decide +kernel
theorem d_M_divided_55 : decode prog_12_method_29_code 55 = .ok (.if_icmp .ne 9, 3) := by decide +kernel
theorem d_M_divided_58 : decode prog_12_method_29_code 58 = .ok (.aload_n 0, 1) := by decide +kernel
theorem d_M_divided_59 : decode prog_12_method_29_code 59 = .ok (.iconst 1, 1) := by decide +kernel
theorem d_M_divided_60 : decode prog_12_method_29_code 60 = .ok (.putfield 127, 3) := by decide +kernel
theorem d_M_divided_63 : decode prog_12_method_29_code 63 = .ok (.return_, 1) := by decide +kernel
theorem d_M_divided_64 : decode prog_12_method_29_code 64 = .ok (.aload_n 0, 1) := by decide +kernel
theorem d_M_divided_65 : decode prog_12_method_29_code 65 = .ok (.dup, 1) := by decide +kernel
theorem d_M_divided_66 : decode prog_12_method_29_code 66 = .ok (.getfield 121, 3) := by decide +kernel
theorem d_M_divided_69 : decode prog_12_method_29_code 69 = .ok (.iconst 1, 1) := by decide +kernel
theorem d_M_divided_70 : decode prog_12_method_29_code 70 = .ok (.iadd, 1) := by decide +kernel
theorem d_M_divided_71 : decode prog_12_method_29_code 71 = .ok (.putfield 121, 3) := by decide +kernel
theorem d_M_divided_74 : decode prog_12_method_29_code 74 = .ok (.aload_n 0, 1) := by decide +kernel
theorem d_M_divided_75 : decode prog_12_method_29_code 75 = .ok (.iload_n 1, 1) := by decide +kernel
theorem d_M_divided_76 : decode prog_12_method_29_code 76 = .ok (.invokevirtual 130, 3) := by decide +kernel
theorem d_M_divided_79 : decode prog_12_method_29_code 79 = .ok (.istore_n 3, 1) := by decide +kernel
theorem d_M_divided_80 : decode prog_12_method_29_code 80 = .ok (.iconst 0, 1) := by decide +kernel
theorem d_M_divided_81 : decode prog_12_method_29_code 81 = .ok (.istore 4, 2) := by decide +kernel
theorem d_M_divided_83 : decode prog_12_method_29_code 83 = .ok (.iload 4, 2) := by decide +kernel
theorem d_M_divided_85 : decode prog_12_method_29_code 85 = .ok (.aload_n 0, 1) := by decide +kernel
theorem d_M_divided_86 : decode prog_12_method_29_code 86 = .ok (.getfield 133, 3) := by decide +kernel
theorem d_M_divided_89 : decode prog_12_method_29_code 89 = .ok (.if_icmp .ge 37, 3) := by decide +kernel
theorem d_M_divided_92 : decode prog_12_method_29_code 92 = .ok (.iload 4, 2) := by decide +kernel
theorem d_M_divided_94 : decode prog_12_method_29_code 94 = .ok (.aload_n 0, 1) := by decide +kernel
theorem d_M_divided_95 : decode prog_12_method_29_code 95 = .ok (.getfield 136, 3) := by decide +kernel
theorem d_M_divided_98 : decode prog_12_method_29_code 98 = .ok (.if_icmp .eq 22, 3) := by decide +kernel
theorem d_M_divided_101 : decode prog_12_method_29_code 101 = .ok (.aload_n 0, 1) := by decide +kernel
theorem d_M_divided_102 : decode prog_12_method_29_code 102 = .ok (.aload_n 0, 1) := by decide +kernel
theorem d_M_divided_103 : decode prog_12_method_29_code 103 = .ok (.aload_n 0, 1) := by decide +kernel
theorem d_M_divided_104 : decode prog_12_method_29_code 104 = .ok (.getfield 139, 3) := by decide +kernel
theorem d_M_divided_107 : decode prog_12_method_29_code 107 = .ok (.iload 4, 2) := by decide +kernel
theorem d_M_divided_109 : decode prog_12_method_29_code 109 = .ok (.iadd, 1) := by decide +kernel
theorem d_M_divided_110 : decode prog_12_method_29_code 110 = .ok (.invokevirtual 130, 3) := by decide +kernel
theorem d_M_divided_113 : decode prog_12_method_29_code 113 = .ok (.iload_n 3, 1) := by decide +kernel
theorem d_M_divided_114 : decode prog_12_method_29_code 114 = .ok (.invokevirtual 142, 3) := by decide +kernel
theorem d_M_divided_117 : decode prog_12_method_29_code 117 = .ok (.ifCond .ne 9, 3) := by decide +kernel
theorem d_M_divided_120 : decode prog_12_method_29_code 120 = .ok (.iinc 4 1, 3) := by decide +kernel
theorem d_M_divided_123 : decode prog_12_method_29_code 123 = .ok (.goto (-40), 3) := by decide +kernel
theorem d_M_divided_126 : decode prog_12_method_29_code 126 = .ok (.bipush 100, 2) := by decide +kernel
theorem d_M_divided_128 : decode prog_12_method_29_code 128 = .ok (.iload_n 1, 1) := by decide +kernel
theorem d_M_divided_129 : decode prog_12_method_29_code 129 = .ok (.imul, 1) := by decide +kernel
theorem d_M_divided_130 : decode prog_12_method_29_code 130 = .ok (.istore 5, 2) := by decide +kernel
theorem d_M_divided_132 : decode prog_12_method_29_code 132 = .ok (.iload 4, 2) := by decide +kernel
theorem d_M_divided_134 : decode prog_12_method_29_code 134 = .ok (.aload_n 0, 1) := by decide +kernel
theorem d_M_divided_135 : decode prog_12_method_29_code 135 = .ok (.getfield 133, 3) := by decide +kernel
theorem d_M_divided_138 : decode prog_12_method_29_code 138 = .ok (.if_icmp .ne 122, 3) := by decide +kernel
theorem d_M_divided_141 : decode prog_12_method_29_code 141 = .ok (.aload_n 0, 1) := by decide +kernel
theorem d_M_divided_142 : decode prog_12_method_29_code 142 = .ok (.iload_n 2, 1) := by decide +kernel
theorem d_M_divided_143 : decode prog_12_method_29_code 143 = .ok (.aload_n 0, 1) := by decide +kernel
theorem d_M_divided_144 : decode prog_12_method_29_code 144 = .ok (.getfield 8, 3) := by decide +kernel
theorem d_M_divided_147 : decode prog_12_method_29_code 147 = .ok (.iload 5, 2) := by decide +kernel
theorem d_M_divided_149 : decode prog_12_method_29_code 149 = .ok (.iaload, 1) := by decide +kernel
theorem d_M_divided_150 : decode prog_12_method_29_code 150 = .ok (.aload_n 0, 1) := by decide +kernel
theorem d_M_divided_151 : decode prog_12_method_29_code 151 = .ok (.getfield 14, 3) := by decide +kernel
theorem d_M_divided_154 : decode prog_12_method_29_code 154 = .ok (.iload 5, 2) := by decide +kernel
theorem d_M_divided_156 : decode prog_12_method_29_code 156 = .ok (.iaload, 1) := by decide +kernel
theorem d_M_divided_157 : decode prog_12_method_29_code 157 = .ok (.iload_n 3, 1) := by decide +kernel
theorem d_M_divided_158 : decode prog_12_method_29_code 158 = .ok (.invokevirtual 82, 3) := by decide +kernel
theorem d_M_divided_161 : decode prog_12_method_29_code 161 = .ok (.aload_n 0, 1) := by decide +kernel
theorem d_M_divided_162 : decode prog_12_method_29_code 162 = .ok (.getfield 20, 3) := by decide +kernel
theorem d_M_divided_165 : decode prog_12_method_29_code 165 = .ok (.iload_n 1, 1) := by decide +kernel
theorem d_M_divided_166 : decode prog_12_method_29_code 166 = .ok (.dup2, 1) := by decide +kernel
theorem d_M_divided_167 : decode prog_12_method_29_code 167 = .ok (.iaload, 1) := by decide +kernel
theorem d_M_divided_168 : decode prog_12_method_29_code 168 = .ok (.iconst 1, 1) := by decide +kernel
theorem d_M_divided_169 : decode prog_12_method_29_code 169 = .ok (.isub, 1) := by decide +kernel
theorem d_M_divided_170 : decode prog_12_method_29_code 170 = .ok (.iastore, 1) := by decide +kernel
theorem d_M_divided_171 : decode prog_12_method_29_code 171 = .ok (.iconst 0, 1) := by decide +kernel
theorem d_M_divided_172 : decode prog_12_method_29_code 172 = .ok (.istore 6, 2) := by decide +kernel
theorem d_M_divided_174 : decode prog_12_method_29_code 174 = .ok (.iload 6, 2) := by decide +kernel
theorem d_M_divided_176 : decode prog_12_method_29_code 176 = .ok (.aload_n 0, 1) := by decide +kernel
theorem d_M_divided_177 : decode prog_12_method_29_code 177 = .ok (.getfield 20, 3) := by decide +kernel
theorem d_M_divided_180 : decode prog_12_method_29_code 180 = .ok (.iload_n 1, 1) := by decide +kernel
theorem d_M_divided_181 : decode prog_12_method_29_code 181 = .ok (.iaload, 1) := by decide +kernel
theorem d_M_divided_182 : decode prog_12_method_29_code 182 = .ok (.if_icmp .ge 75, 3) := by decide +kernel
theorem d_M_divided_185 : decode prog_12_method_29_code 185 = .ok (.aload_n 0, 1) := by decide +kernel
theorem d_M_divided_186 : decode prog_12_method_29_code 186 = .ok (.getfield 8, 3) := by decide +kernel
theorem d_M_divided_189 : decode prog_12_method_29_code 189 = .ok (.iload 5, 2) := by decide +kernel
theorem d_M_divided_191 : decode prog_12_method_29_code 191 = .ok (.iload 6, 2) := by decide +kernel
theorem d_M_divided_193 : decode prog_12_method_29_code 193 = .ok (.iadd, 1) := by decide +kernel
theorem d_M_divided_194 : decode prog_12_method_29_code 194 = .ok (.aload_n 0, 1) := by decide +kernel
theorem d_M_divided_195 : decode prog_12_method_29_code 195 = .ok (.getfield 8, 3) := by decide +kernel
theorem d_M_divided_198 : decode prog_12_method_29_code 198 = .ok (.iload 5, 2) := by decide +kernel
theorem d_M_divided_200 : decode prog_12_method_29_code 200 = .ok (.iload 6, 2) := by decide +kernel
theorem d_M_divided_202 : decode prog_12_method_29_code 202 = .ok (.iadd, 1) := by decide +kernel
theorem d_M_divided_203 : decode prog_12_method_29_code 203 = .ok (.iconst 1, 1) := by decide +kernel
theorem d_M_divided_204 : decode prog_12_method_29_code 204 = .ok (.iadd, 1) := by decide +kernel
theorem d_M_divided_205 : decode prog_12_method_29_code 205 = .ok (.iaload, 1) := by decide +kernel
theorem d_M_divided_206 : decode prog_12_method_29_code 206 = .ok (.iastore, 1) := by decide +kernel
theorem d_M_divided_207 : decode prog_12_method_29_code 207 = .ok (.aload_n 0, 1) := by decide +kernel
theorem d_M_divided_208 : decode prog_12_method_29_code 208 = .ok (.getfield 14, 3) := by decide +kernel
theorem d_M_divided_211 : decode prog_12_method_29_code 211 = .ok (.iload 5, 2) := by decide +kernel
theorem d_M_divided_213 : decode prog_12_method_29_code 213 = .ok (.iload 6, 2) := by decide +kernel
theorem d_M_divided_215 : decode prog_12_method_29_code 215 = .ok (.iadd, 1) := by decide +kernel
theorem d_M_divided_216 : decode prog_12_method_29_code 216 = .ok (.aload_n 0, 1) := by decide +kernel
theorem d_M_divided_217 : decode prog_12_method_29_code 217 = .ok (.getfield 14, 3) := by decide +kernel
theorem d_M_divided_220 : decode prog_12_method_29_code 220 = .ok (.iload 5, 2) := by decide +kernel
theorem d_M_divided_222 : decode prog_12_method_29_code 222 = .ok (.iload 6, 2) := by decide +kernel
theorem d_M_divided_224 : decode prog_12_method_29_code 224 = .ok (.iadd, 1) := by decide +kernel
theorem d_M_divided_225 : decode prog_12_method_29_code 225 = .ok (.iconst 1, 1) := by decide +kernel
theorem d_M_divided_226 : decode prog_12_method_29_code 226 = .ok (.iadd, 1) := by decide +kernel
theorem d_M_divided_227 : decode prog_12_method_29_code 227 = .ok (.iaload, 1) := by decide +kernel
theorem d_M_divided_228 : decode prog_12_method_29_code 228 = .ok (.iastore, 1) := by decide +kernel
theorem d_M_divided_229 : decode prog_12_method_29_code 229 = .ok (.aload_n 0, 1) := by decide +kernel
theorem d_M_divided_230 : decode prog_12_method_29_code 230 = .ok (.getfield 17, 3) := by decide +kernel
theorem d_M_divided_233 : decode prog_12_method_29_code 233 = .ok (.iload 5, 2) := by decide +kernel
theorem d_M_divided_235 : decode prog_12_method_29_code 235 = .ok (.iload 6, 2) := by decide +kernel
theorem d_M_divided_237 : decode prog_12_method_29_code 237 = .ok (.iadd, 1) := by decide +kernel
theorem d_M_divided_238 : decode prog_12_method_29_code 238 = .ok (.aload_n 0, 1) := by decide +kernel
theorem d_M_divided_239 : decode prog_12_method_29_code 239 = .ok (.getfield 17, 3) := by decide +kernel
theorem d_M_divided_242 : decode prog_12_method_29_code 242 = .ok (.iload 5, 2) := by decide +kernel
theorem d_M_divided_244 : decode prog_12_method_29_code 244 = .ok (.iload 6, 2) := by decide +kernel
theorem d_M_divided_246 : decode prog_12_method_29_code 246 = .ok (.iadd, 1) := by decide +kernel
theorem d_M_divided_247 : decode prog_12_method_29_code 247 = .ok (.iconst 1, 1) := by decide +kernel
theorem d_M_divided_248 : decode prog_12_method_29_code 248 = .ok (.iadd, 1) := by decide +kernel
theorem d_M_divided_249 : decode prog_12_method_29_code 249 = .ok (.iaload, 1) := by decide +kernel
theorem d_M_divided_250 : decode prog_12_method_29_code 250 = .ok (.iastore, 1) := by decide +kernel
theorem d_M_divided_251 : decode prog_12_method_29_code 251 = .ok (.iinc 6 1, 3) := by decide +kernel
theorem d_M_divided_254 : decode prog_12_method_29_code 254 = .ok (.goto (-80), 3) := by decide +kernel
theorem d_M_divided_257 : decode prog_12_method_29_code 257 = .ok (.goto 137, 3) := by decide +kernel
theorem d_M_divided_260 : decode prog_12_method_29_code 260 = .ok (.aload_n 0, 1) := by decide +kernel
theorem d_M_divided_261 : decode prog_12_method_29_code 261 = .ok (.getfield 139, 3) := by decide +kernel
theorem d_M_divided_264 : decode prog_12_method_29_code 264 = .ok (.iload 4, 2) := by decide +kernel
theorem d_M_divided_266 : decode prog_12_method_29_code 266 = .ok (.iadd, 1) := by decide +kernel
theorem d_M_divided_267 : decode prog_12_method_29_code 267 = .ok (.istore 6, 2) := by decide +kernel
theorem d_M_divided_269 : decode prog_12_method_29_code 269 = .ok (.aload_n 0, 1) := by decide +kernel
theorem d_M_divided_270 : decode prog_12_method_29_code 270 = .ok (.getfield 8, 3) := by decide +kernel
theorem d_M_divided_273 : decode prog_12_method_29_code 273 = .ok (.bipush 100, 2) := by decide +kernel
theorem d_M_divided_275 : decode prog_12_method_29_code 275 = .ok (.iload 6, 2) := by decide +kernel
theorem d_M_divided_277 : decode prog_12_method_29_code 277 = .ok (.imul, 1) := by decide +kernel
theorem d_M_divided_278 : decode prog_12_method_29_code 278 = .ok (.iaload, 1) := by decide +kernel
theorem d_M_divided_279 : decode prog_12_method_29_code 279 = .ok (.istore 7, 2) := by decide +kernel
theorem d_M_divided_281 : decode prog_12_method_29_code 281 = .ok (.aload_n 0, 1) := by decide +kernel
theorem d_M_divided_282 : decode prog_12_method_29_code 282 = .ok (.getfield 14, 3) := by decide +kernel
theorem d_M_divided_285 : decode prog_12_method_29_code 285 = .ok (.bipush 100, 2) := by decide +kernel
theorem d_M_divided_287 : decode prog_12_method_29_code 287 = .ok (.iload 6, 2) := by decide +kernel
theorem d_M_divided_289 : decode prog_12_method_29_code 289 = .ok (.imul, 1) := by decide +kernel
theorem d_M_divided_290 : decode prog_12_method_29_code 290 = .ok (.iaload, 1) := by decide +kernel
theorem d_M_divided_291 : decode prog_12_method_29_code 291 = .ok (.istore 8, 2) := by decide +kernel
theorem d_M_divided_293 : decode prog_12_method_29_code 293 = .ok (.aload_n 0, 1) := by decide +kernel
theorem d_M_divided_294 : decode prog_12_method_29_code 294 = .ok (.aload_n 0, 1) := by decide +kernel
theorem d_M_divided_295 : decode prog_12_method_29_code 295 = .ok (.getfield 8, 3) := by decide +kernel
theorem d_M_divided_298 : decode prog_12_method_29_code 298 = .ok (.iload 5, 2) := by decide +kernel
theorem d_M_divided_300 : decode prog_12_method_29_code 300 = .ok (.iaload, 1) := by decide +kernel
theorem d_M_divided_301 : decode prog_12_method_29_code 301 = .ok (.i2l, 1) := by decide +kernel
theorem d_M_divided_302 : decode prog_12_method_29_code 302 = .ok (.aload_n 0, 1) := by decide +kernel
theorem d_M_divided_303 : decode prog_12_method_29_code 303 = .ok (.getfield 14, 3) := by decide +kernel
theorem d_M_divided_306 : decode prog_12_method_29_code 306 = .ok (.iload 5, 2) := by decide +kernel
theorem d_M_divided_308 : decode prog_12_method_29_code 308 = .ok (.iaload, 1) := by decide +kernel
theorem d_M_divided_309 : decode prog_12_method_29_code 309 = .ok (.i2l, 1) := by decide +kernel
theorem d_M_divided_310 : decode prog_12_method_29_code 310 = .ok (.iload 7, 2) := by decide +kernel
theorem d_M_divided_312 : decode prog_12_method_29_code 312 = .ok (.ifCond .ge 10, 3) := by decide +kernel
theorem d_M_divided_315 : decode prog_12_method_29_code 315 = .ok (.iload 8, 2) := by decide +kernel
theorem d_M_divided_317 : decode prog_12_method_29_code 317 = .ok (.ineg, 1) := by decide +kernel
theorem d_M_divided_318 : decode prog_12_method_29_code 318 = .ok (.i2l, 1) := by decide +kernel
theorem d_M_divided_319 : decode prog_12_method_29_code 319 = .ok (.goto 6, 3) := by decide +kernel
theorem d_M_divided_322 : decode prog_12_method_29_code 322 = .ok (.iload 8, 2) := by decide +kernel
theorem d_M_divided_324 : decode prog_12_method_29_code 324 = .ok (.i2l, 1) := by decide +kernel
theorem d_M_divided_325 : decode prog_12_method_29_code 325 = .ok (.iload 7, 2) := by decide +kernel
theorem d_M_divided_327 : decode prog_12_method_29_code 327 = .ok (.ifCond .ge 10, 3) := by decide +kernel
theorem d_M_divided_330 : decode prog_12_method_29_code 330 = .ok (.iload 7, 2) := by decide +kernel
theorem d_M_divided_332 : decode prog_12_method_29_code 332 = .ok (.ineg, 1) := by decide +kernel
theorem d_M_divided_333 : decode prog_12_method_29_code 333 = .ok (.i2l, 1) := by decide +kernel
theorem d_M_divided_334 : decode prog_12_method_29_code 334 = .ok (.goto 6, 3) := by decide +kernel
theorem d_M_divided_337 : decode prog_12_method_29_code 337 = .ok (.iload 7, 2) := by decide +kernel
theorem d_M_divided_339 : decode prog_12_method_29_code 339 = .ok (.i2l, 1) := by decide +kernel
theorem d_M_divided_340 : decode prog_12_method_29_code 340 = .ok (.invokevirtual 78, 3) := by decide +kernel
theorem d_M_divided_343 : decode prog_12_method_29_code 343 = .ok (.aload_n 0, 1) := by decide +kernel
theorem d_M_divided_344 : decode prog_12_method_29_code 344 = .ok (.getfield 62, 3) := by decide +kernel
theorem d_M_divided_347 : decode prog_12_method_29_code 347 = .ok (.istore 9, 2) := by decide +kernel
theorem d_M_divided_349 : decode prog_12_method_29_code 349 = .ok (.aload_n 0, 1) := by decide +kernel
theorem d_M_divided_350 : decode prog_12_method_29_code 350 = .ok (.getfield 65, 3) := by decide +kernel
theorem d_M_divided_353 : decode prog_12_method_29_code 353 = .ok (.istore 10, 2) := by decide +kernel
theorem d_M_divided_355 : decode prog_12_method_29_code 355 = .ok (.iload_n 3, 1) := by decide +kernel
theorem d_M_divided_356 : decode prog_12_method_29_code 356 = .ok (.aload_n 0, 1) := by decide +kernel
theorem d_M_divided_357 : decode prog_12_method_29_code 357 = .ok (.iload 6, 2) := by decide +kernel
theorem d_M_divided_359 : decode prog_12_method_29_code 359 = .ok (.invokevirtual 130, 3) := by decide +kernel
theorem d_M_divided_362 : decode prog_12_method_29_code 362 = .ok (.isub, 1) := by decide +kernel
theorem d_M_divided_363 : decode prog_12_method_29_code 363 = .ok (.istore 11, 2) := by decide +kernel
theorem d_M_divided_365 : decode prog_12_method_29_code 365 = .ok (.aload_n 0, 1) := by decide +kernel
theorem d_M_divided_366 : decode prog_12_method_29_code 366 = .ok (.iload_n 1, 1) := by decide +kernel
theorem d_M_divided_367 : decode prog_12_method_29_code 367 = .ok (.iload 9, 2) := by decide +kernel
theorem d_M_divided_369 : decode prog_12_method_29_code 369 = .ok (.ineg, 1) := by decide +kernel
theorem d_M_divided_370 : decode prog_12_method_29_code 370 = .ok (.iload 10, 2) := by decide +kernel
theorem d_M_divided_372 : decode prog_12_method_29_code 372 = .ok (.iload 11, 2) := by decide +kernel
theorem d_M_divided_374 : decode prog_12_method_29_code 374 = .ok (.iload 6, 2) := by decide +kernel
theorem d_M_divided_376 : decode prog_12_method_29_code 376 = .ok (.invokevirtual 86, 3) := by decide +kernel
theorem d_M_divided_379 : decode prog_12_method_29_code 379 = .ok (.aload_n 0, 1) := by decide +kernel
theorem d_M_divided_380 : decode prog_12_method_29_code 380 = .ok (.bipush 100, 2) := by decide +kernel
theorem d_M_divided_382 : decode prog_12_method_29_code 382 = .ok (.iload 4, 2) := by decide +kernel
theorem d_M_divided_384 : decode prog_12_method_29_code 384 = .ok (.iadd, 1) := by decide +kernel
theorem d_M_divided_385 : decode prog_12_method_29_code 385 = .ok (.iload 9, 2) := by decide +kernel
theorem d_M_divided_387 : decode prog_12_method_29_code 387 = .ok (.iload 10, 2) := by decide +kernel
theorem d_M_divided_389 : decode prog_12_method_29_code 389 = .ok (.iload 11, 2) := by decide +kernel
theorem d_M_divided_391 : decode prog_12_method_29_code 391 = .ok (.invokevirtual 82, 3) := by decide +kernel
theorem d_M_divided_394 : decode prog_12_method_29_code 394 = .ok (.goto (-363), 3) := by decide +kernel
theorem d_M_divided_397 : decode prog_12_method_29_code 397 = .ok (.return_, 1) := by decide +kernel
def tb_M_divided_0 : List (Nat × jm_Op) := [(0, oAl 0 1), (1, oGr 6 6 8 4), (4, oIl 2 5), (5, oC 0 6), (6, oIw 7), (7, oC 0 8), (8, oIs 3 9), (9, oIl 3 10), (10, oC 25 12), (12, oIcGe 31 15), (15, oAl 0 16), (16, oGr 6 6 8 19), (19, oC 100 21), (21, oIl 3 22), (22, oAdd 23), (23, oC 0 24), (24, oIw 25), (25, oInc 3 1 28), (28, oGo 9), (31, oAl 0 32), (32, oGr 6 6 8 35), (35, oIl 1 36), (36, oIa 37), (37, oIfLe 397 40), (40, oAl 0 41), (41, oGi 6 11 44), (44, oIfNe 397 47), (47, oAl 0 48), (48, oGi 6 13 51), (51, oAl 0 52), (52, oGi 6 14 55), (55, oIcNe 64 58), (58, oAl 0 59), (59, oC 1 60), (60, oPz 6 12 63), (64, oAl 0 65), (65, oDup 66), (66, oGi 6 13 69), (69, oC 1 70), (70, oAdd 71), (71, oPi 6 13 74), (74, oAl 0 75), (75, oIl 1 76), (79, oIs 3 80), (80, oC 0 81), (81, oIs 4 83), (83, oIl 4 85), (85, oAl 0 86), (86, oGi 6 20 89), (89, oIcGe 126 92)]
theorem ok_M_divided_0 : jm_all 114 tb_M_divided_0 := ⟨s_aload_n d_M_divided_0 rfl, s_getr d_M_divided_1 ci_M rfl wd_657, s_iload_n d_M_divided_4 rfl, s_iconst d_M_divided_5 (by decide), s_iastore d_M_divided_6, s_iconst d_M_divided_7 (by decide), s_istore_n d_M_divided_8 rfl (by decide), s_iload_n d_M_divided_9 rfl, s_bipush d_M_divided_10 (by decide), s_icmp_ge d_M_divided_12 (by decide), s_aload_n d_M_divided_15 rfl, s_getr d_M_divided_16 ci_M rfl wd_657, s_bipush d_M_divided_19 (by decide), s_iload_n d_M_divided_21 rfl, s_iadd d_M_divided_22, s_iconst d_M_divided_23 (by decide), s_iastore d_M_divided_24, s_iinc d_M_divided_25 (by decide) (by decide), s_goto d_M_divided_28 (by decide), s_aload_n d_M_divided_31 rfl, s_getr d_M_divided_32 ci_M rfl wd_657, s_iload_n d_M_divided_35 rfl, s_iaload d_M_divided_36, s_if_le d_M_divided_37 (by decide), s_aload_n d_M_divided_40 rfl, s_geti d_M_divided_41 ci_M rfl wd_662, s_if_ne d_M_divided_44 (by decide), s_aload_n d_M_divided_47 rfl, s_geti d_M_divided_48 ci_M rfl wd_664, s_aload_n d_M_divided_51 rfl, s_geti d_M_divided_52 ci_M rfl wd_665, s_icmp_ne d_M_divided_55 (by decide), s_aload_n d_M_divided_58 rfl, s_iconst d_M_divided_59 (by decide), s_putz d_M_divided_60 ci_M rfl rfl rfl wd_663, s_aload_n d_M_divided_64 rfl, s_dup d_M_divided_65, s_geti d_M_divided_66 ci_M rfl wd_664, s_iconst d_M_divided_69 (by decide), s_iadd d_M_divided_70, s_puti d_M_divided_71 ci_M rfl rfl rfl wd_664, s_aload_n d_M_divided_74 rfl, s_iload_n d_M_divided_75 rfl, s_istore_n d_M_divided_79 rfl (by decide), s_iconst d_M_divided_80 (by decide), s_istore d_M_divided_81 (by decide), s_iload d_M_divided_83, s_aload_n d_M_divided_85 rfl, s_geti d_M_divided_86 ci_M rfl wd_671, s_icmp_ge d_M_divided_89 (by decide), trivial⟩
def tb_M_divided_1 : List (Nat × jm_Op) := [(92, oIl 4 94), (94, oAl 0 95), (95, oGi 6 21 98), (98, oIcEq 120 101), (101, oAl 0 102), (102, oAl 0 103), (103, oAl 0 104), (104, oGi 6 19 107), (107, oIl 4 109), (109, oAdd 110), (113, oIl 3 114), (117, oIfNe 126 120), (120, oInc 4 1 123), (123, oGo 83), (126, oC 100 128), (128, oIl 1 129), (129, oMul 130), (130, oIs 5 132), (132, oIl 4 134), (134, oAl 0 135), (135, oGi 6 20 138), (138, oIcNe 260 141), (141, oAl 0 142), (142, oIl 2 143), (143, oAl 0 144), (144, oGr 6 3 8 147), (147, oIl 5 149), (149, oIa 150), (150, oAl 0 151), (151, oGr 6 4 8 154), (154, oIl 5 156), (156, oIa 157), (157, oIl 3 158), (161, oAl 0 162), (162, oGr 6 6 8 165), (165, oIl 1 166), (166, oDup2 167), (167, oIa 168), (168, oC 1 169), (169, oSub 170), (170, oIw 171), (171, oC 0 172), (172, oIs 6 174), (174, oIl 6 176), (176, oAl 0 177), (177, oGr 6 6 8 180), (180, oIl 1 181), (181, oIa 182), (182, oIcGe 257 185), (185, oAl 0 186)]
theorem ok_M_divided_1 : jm_all 114 tb_M_divided_1 := ⟨s_iload d_M_divided_92, s_aload_n d_M_divided_94 rfl, s_geti d_M_divided_95 ci_M rfl wd_672, s_icmp_eq d_M_divided_98 (by decide), s_aload_n d_M_divided_101 rfl, s_aload_n d_M_divided_102 rfl, s_aload_n d_M_divided_103 rfl, s_geti d_M_divided_104 ci_M rfl wd_670, s_iload d_M_divided_107, s_iadd d_M_divided_109, s_iload_n d_M_divided_113 rfl, s_if_ne d_M_divided_117 (by decide), s_iinc d_M_divided_120 (by decide) (by decide), s_goto d_M_divided_123 (by decide), s_bipush d_M_divided_126 (by decide), s_iload_n d_M_divided_128 rfl, s_imul d_M_divided_129, s_istore d_M_divided_130 (by decide), s_iload d_M_divided_132, s_aload_n d_M_divided_134 rfl, s_geti d_M_divided_135 ci_M rfl wd_671, s_icmp_ne d_M_divided_138 (by decide), s_aload_n d_M_divided_141 rfl, s_iload_n d_M_divided_142 rfl, s_aload_n d_M_divided_143 rfl, s_getr d_M_divided_144 ci_M rfl wd_654, s_iload d_M_divided_147, s_iaload d_M_divided_149, s_aload_n d_M_divided_150 rfl, s_getr d_M_divided_151 ci_M rfl wd_655, s_iload d_M_divided_154, s_iaload d_M_divided_156, s_iload_n d_M_divided_157 rfl, s_aload_n d_M_divided_161 rfl, s_getr d_M_divided_162 ci_M rfl wd_657, s_iload_n d_M_divided_165 rfl, s_dup2 d_M_divided_166, s_iaload d_M_divided_167, s_iconst d_M_divided_168 (by decide), s_isub d_M_divided_169, s_iastore d_M_divided_170, s_iconst d_M_divided_171 (by decide), s_istore d_M_divided_172 (by decide), s_iload d_M_divided_174, s_aload_n d_M_divided_176 rfl, s_getr d_M_divided_177 ci_M rfl wd_657, s_iload_n d_M_divided_180 rfl, s_iaload d_M_divided_181, s_icmp_ge d_M_divided_182 (by decide), s_aload_n d_M_divided_185 rfl, trivial⟩
def tb_M_divided_2 : List (Nat × jm_Op) := [(186, oGr 6 3 8 189), (189, oIl 5 191), (191, oIl 6 193), (193, oAdd 194), (194, oAl 0 195), (195, oGr 6 3 8 198), (198, oIl 5 200), (200, oIl 6 202), (202, oAdd 203), (203, oC 1 204), (204, oAdd 205), (205, oIa 206), (206, oIw 207), (207, oAl 0 208), (208, oGr 6 4 8 211), (211, oIl 5 213), (213, oIl 6 215), (215, oAdd 216), (216, oAl 0 217), (217, oGr 6 4 8 220), (220, oIl 5 222), (222, oIl 6 224), (224, oAdd 225), (225, oC 1 226), (226, oAdd 227), (227, oIa 228), (228, oIw 229), (229, oAl 0 230), (230, oGr 6 5 8 233), (233, oIl 5 235), (235, oIl 6 237), (237, oAdd 238), (238, oAl 0 239), (239, oGr 6 5 8 242), (242, oIl 5 244), (244, oIl 6 246), (246, oAdd 247), (247, oC 1 248), (248, oAdd 249), (249, oIa 250), (250, oIw 251), (251, oInc 6 1 254), (254, oGo 174), (257, oGo 394), (260, oAl 0 261), (261, oGi 6 19 264), (264, oIl 4 266), (266, oAdd 267), (267, oIs 6 269), (269, oAl 0 270)]
theorem ok_M_divided_2 : jm_all 114 tb_M_divided_2 := ⟨s_getr d_M_divided_186 ci_M rfl wd_654, s_iload d_M_divided_189, s_iload d_M_divided_191, s_iadd d_M_divided_193, s_aload_n d_M_divided_194 rfl, s_getr d_M_divided_195 ci_M rfl wd_654, s_iload d_M_divided_198, s_iload d_M_divided_200, s_iadd d_M_divided_202, s_iconst d_M_divided_203 (by decide), s_iadd d_M_divided_204, s_iaload d_M_divided_205, s_iastore d_M_divided_206, s_aload_n d_M_divided_207 rfl, s_getr d_M_divided_208 ci_M rfl wd_655, s_iload d_M_divided_211, s_iload d_M_divided_213, s_iadd d_M_divided_215, s_aload_n d_M_divided_216 rfl, s_getr d_M_divided_217 ci_M rfl wd_655, s_iload d_M_divided_220, s_iload d_M_divided_222, s_iadd d_M_divided_224, s_iconst d_M_divided_225 (by decide), s_iadd d_M_divided_226, s_iaload d_M_divided_227, s_iastore d_M_divided_228, s_aload_n d_M_divided_229 rfl, s_getr d_M_divided_230 ci_M rfl wd_656, s_iload d_M_divided_233, s_iload d_M_divided_235, s_iadd d_M_divided_237, s_aload_n d_M_divided_238 rfl, s_getr d_M_divided_239 ci_M rfl wd_656, s_iload d_M_divided_242, s_iload d_M_divided_244, s_iadd d_M_divided_246, s_iconst d_M_divided_247 (by decide), s_iadd d_M_divided_248, s_iaload d_M_divided_249, s_iastore d_M_divided_250, s_iinc d_M_divided_251 (by decide) (by decide), s_goto d_M_divided_254 (by decide), s_goto d_M_divided_257 (by decide), s_aload_n d_M_divided_260 rfl, s_geti d_M_divided_261 ci_M rfl wd_670, s_iload d_M_divided_264, s_iadd d_M_divided_266, s_istore d_M_divided_267 (by decide), s_aload_n d_M_divided_269 rfl, trivial⟩
def tb_M_divided_3 : List (Nat × jm_Op) := [(270, oGr 6 3 8 273), (273, oC 100 275), (275, oIl 6 277), (277, oMul 278), (278, oIa 279), (279, oIs 7 281), (281, oAl 0 282), (282, oGr 6 4 8 285), (285, oC 100 287), (287, oIl 6 289), (289, oMul 290), (290, oIa 291), (291, oIs 8 293), (293, oAl 0 294), (294, oAl 0 295), (295, oGr 6 3 8 298), (298, oIl 5 300), (300, oIa 301), (301, oI2L 302), (302, oAl 0 303), (303, oGr 6 4 8 306), (306, oIl 5 308), (308, oIa 309), (309, oI2L 310), (310, oIl 7 312), (312, oIfGe 322 315), (315, oIl 8 317), (317, oNeg 318), (318, oI2L 319), (319, oGo 325), (322, oIl 8 324), (324, oI2L 325), (325, oIl 7 327), (327, oIfGe 337 330), (330, oIl 7 332), (332, oNeg 333), (333, oI2L 334), (334, oGo 340), (337, oIl 7 339), (339, oI2L 340), (343, oAl 0 344), (344, oGi 6 16 347), (347, oIs 9 349), (349, oAl 0 350), (350, oGi 6 17 353), (353, oIs 10 355), (355, oIl 3 356), (356, oAl 0 357), (357, oIl 6 359), (362, oSub 363)]
theorem ok_M_divided_3 : jm_all 114 tb_M_divided_3 := ⟨s_getr d_M_divided_270 ci_M rfl wd_654, s_bipush d_M_divided_273 (by decide), s_iload d_M_divided_275, s_imul d_M_divided_277, s_iaload d_M_divided_278, s_istore d_M_divided_279 (by decide), s_aload_n d_M_divided_281 rfl, s_getr d_M_divided_282 ci_M rfl wd_655, s_bipush d_M_divided_285 (by decide), s_iload d_M_divided_287, s_imul d_M_divided_289, s_iaload d_M_divided_290, s_istore d_M_divided_291 (by decide), s_aload_n d_M_divided_293 rfl, s_aload_n d_M_divided_294 rfl, s_getr d_M_divided_295 ci_M rfl wd_654, s_iload d_M_divided_298, s_iaload d_M_divided_300, s_i2l d_M_divided_301, s_aload_n d_M_divided_302 rfl, s_getr d_M_divided_303 ci_M rfl wd_655, s_iload d_M_divided_306, s_iaload d_M_divided_308, s_i2l d_M_divided_309, s_iload d_M_divided_310, s_if_ge d_M_divided_312 (by decide), s_iload d_M_divided_315, s_ineg d_M_divided_317, s_i2l d_M_divided_318, s_goto d_M_divided_319 (by decide), s_iload d_M_divided_322, s_i2l d_M_divided_324, s_iload d_M_divided_325, s_if_ge d_M_divided_327 (by decide), s_iload d_M_divided_330, s_ineg d_M_divided_332, s_i2l d_M_divided_333, s_goto d_M_divided_334 (by decide), s_iload d_M_divided_337, s_i2l d_M_divided_339, s_aload_n d_M_divided_343 rfl, s_geti d_M_divided_344 ci_M rfl wd_667, s_istore d_M_divided_347 (by decide), s_aload_n d_M_divided_349 rfl, s_geti d_M_divided_350 ci_M rfl wd_668, s_istore d_M_divided_353 (by decide), s_iload_n d_M_divided_355 rfl, s_aload_n d_M_divided_356 rfl, s_iload d_M_divided_357, s_isub d_M_divided_362, trivial⟩
def tb_M_divided_4 : List (Nat × jm_Op) := [(363, oIs 11 365), (365, oAl 0 366), (366, oIl 1 367), (367, oIl 9 369), (369, oNeg 370), (370, oIl 10 372), (372, oIl 11 374), (374, oIl 6 376), (379, oAl 0 380), (380, oC 100 382), (382, oIl 4 384), (384, oAdd 385), (385, oIl 9 387), (387, oIl 10 389), (389, oIl 11 391), (394, oGo 31)]
theorem ok_M_divided_4 : jm_all 114 tb_M_divided_4 := ⟨s_istore d_M_divided_363 (by decide), s_aload_n d_M_divided_365 rfl, s_iload_n d_M_divided_366 rfl, s_iload d_M_divided_367, s_ineg d_M_divided_369, s_iload d_M_divided_370, s_iload d_M_divided_372, s_iload d_M_divided_374, s_aload_n d_M_divided_379 rfl, s_bipush d_M_divided_380 (by decide), s_iload d_M_divided_382, s_iadd d_M_divided_384, s_iload d_M_divided_385, s_iload d_M_divided_387, s_iload d_M_divided_389, s_goto d_M_divided_394 (by decide), trivial⟩
def tb_M_divided : List (Nat × jm_Op) := tb_M_divided_0 ++ (tb_M_divided_1 ++ (tb_M_divided_2 ++ (tb_M_divided_3 ++ tb_M_divided_4)))
theorem ok_M_divided : jm_all 114 tb_M_divided := jm_all_app ok_M_divided_0 (jm_all_app ok_M_divided_1 (jm_all_app ok_M_divided_2 (jm_all_app ok_M_divided_3 ok_M_divided_4)))
theorem r_M_divided_63 {g : jm_G} {d : Nat} {L : List (Option jm_V)} {σ : jm_S} {K : jm_O → Prop} (hK : K (σ, .inl none)) : J g d 114 63 L [] σ K := J_vret d_M_divided_63 rfl hK
theorem k_M_divided_76 {g : jm_G} {d : Nat} {L : List (Option jm_V)} {r : List jm_V} {σ : jm_S} {K K' : jm_O → Prop} {q0 : Nat} {x0 : Int32} (hr : Nat.ble (jm_cs r) 8 = true) (hcal : J g d 109 0 [some (aR 6 q0), some (aI x0)] [] σ K') (hk : ∀ u, K' u → jm_aft g (d + 1) 114 76 L r u K) : J g (d + 1) 114 76 L (aI x0 :: aR 6 q0 :: r) σ K :=
  J_call' (id' := 109) jm_sk (vs := [aR 6 q0, aI x0]) (inv_V (id' := 109) d_M_divided_76 ci_M wd_870 wd_872 wd_41 cw_M_lead (by decide) pn_M_lead) cw_M_lead (by decide) (by decide) (Nat.le_of_ble_eq_true rfl) rfl hr rfl hcal hk
theorem k_M_divided_110 {g : jm_G} {d : Nat} {L : List (Option jm_V)} {r : List jm_V} {σ : jm_S} {K K' : jm_O → Prop} {q0 : Nat} {x0 : Int32} (hr : Nat.ble (jm_cs r) 8 = true) (hcal : J g d 109 0 [some (aR 6 q0), some (aI x0)] [] σ K') (hk : ∀ u, K' u → jm_aft g (d + 1) 114 110 L r u K) : J g (d + 1) 114 110 L (aI x0 :: aR 6 q0 :: r) σ K :=
  J_call' (id' := 109) jm_sk (vs := [aR 6 q0, aI x0]) (inv_V (id' := 109) d_M_divided_110 ci_M wd_870 wd_872 wd_41 cw_M_lead (by decide) pn_M_lead) cw_M_lead (by decide) (by decide) (Nat.le_of_ble_eq_true rfl) rfl hr rfl hcal hk
theorem k_M_divided_114 {g : jm_G} {d : Nat} {L : List (Option jm_V)} {r : List jm_V} {σ : jm_S} {K K' : jm_O → Prop} {q0 : Nat} {x0 : Int32} {x1 : Int32} (hr : Nat.ble (jm_cs r) 8 = true) (hcal : J g d 112 0 [some (aR 6 q0), some (aI x0), some (aI x1), none] [] σ K') (hk : ∀ u, K' u → jm_aft g (d + 1) 114 114 L r u K) : J g (d + 1) 114 114 L (aI x1 :: aI x0 :: aR 6 q0 :: r) σ K :=
  J_call' (id' := 112) jm_sk (vs := [aR 6 q0, aI x0, aI x1]) (inv_V (id' := 112) d_M_divided_114 ci_M wd_882 wd_884 wd_44 cw_M_divides (by decide) pn_M_divides) cw_M_divides (by decide) (by decide) (Nat.le_of_ble_eq_true rfl) rfl hr rfl hcal hk
theorem k_M_divided_158 {g : jm_G} {d : Nat} {L : List (Option jm_V)} {r : List jm_V} {σ : jm_S} {K K' : jm_O → Prop} {q0 : Nat} {x0 : Int32} {x1 : Int32} {x2 : Int32} {x3 : Int32} (hr : Nat.ble (jm_cs r) 8 = true) (hcal : J g d 86 0 [some (aR 6 q0), some (aI x0), some (aI x1), some (aI x2), some (aI x3), none, none, none] [] σ K') (hk : ∀ u, K' u → jm_aft g (d + 1) 114 158 L r u K) : J g (d + 1) 114 158 L (aI x3 :: aI x2 :: aI x1 :: aI x0 :: aR 6 q0 :: r) σ K :=
  J_call' (id' := 86) jm_sk (vs := [aR 6 q0, aI x0, aI x1, aI x2, aI x3]) (inv_V (id' := 86) d_M_divided_158 ci_M wd_778 wd_780 wd_28 cw_M_comes (by decide) pn_M_comes) cw_M_comes (by decide) (by decide) (Nat.le_of_ble_eq_true rfl) rfl hr rfl hcal hk
theorem k_M_divided_340 {g : jm_G} {d : Nat} {L : List (Option jm_V)} {r : List jm_V} {σ : jm_S} {K K' : jm_O → Prop} {q0 : Nat} {x0 : Int64} {x1 : Int64} {x2 : Int64} {x3 : Int64} (hr : Nat.ble (jm_cs r) 8 = true) (hcal : J g d 94 0 [some (aR 6 q0), some (aL x0), none, some (aL x1), none, some (aL x2), none, some (aL x3), none] [] σ K') (hk : ∀ u, K' u → jm_aft g (d + 1) 114 340 L r u K) : J g (d + 1) 114 340 L (aL x3 :: aL x2 :: aL x1 :: aL x0 :: aR 6 q0 :: r) σ K :=
  J_call' (id' := 94) jm_sk (vs := [aR 6 q0, aL x0, aL x1, aL x2, aL x3]) (inv_V (id' := 94) d_M_divided_340 ci_M wd_810 wd_812 wd_32 cw_M_multiplied (by decide) pn_M_multiplied) cw_M_multiplied (by decide) (by decide) (Nat.le_of_ble_eq_true rfl) rfl hr rfl hcal hk
theorem k_M_divided_359 {g : jm_G} {d : Nat} {L : List (Option jm_V)} {r : List jm_V} {σ : jm_S} {K K' : jm_O → Prop} {q0 : Nat} {x0 : Int32} (hr : Nat.ble (jm_cs r) 8 = true) (hcal : J g d 109 0 [some (aR 6 q0), some (aI x0)] [] σ K') (hk : ∀ u, K' u → jm_aft g (d + 1) 114 359 L r u K) : J g (d + 1) 114 359 L (aI x0 :: aR 6 q0 :: r) σ K :=
  J_call' (id' := 109) jm_sk (vs := [aR 6 q0, aI x0]) (inv_V (id' := 109) d_M_divided_359 ci_M wd_870 wd_872 wd_41 cw_M_lead (by decide) pn_M_lead) cw_M_lead (by decide) (by decide) (Nat.le_of_ble_eq_true rfl) rfl hr rfl hcal hk
theorem k_M_divided_376 {g : jm_G} {d : Nat} {L : List (Option jm_V)} {r : List jm_V} {σ : jm_S} {K K' : jm_O → Prop} {q0 : Nat} {x0 : Int32} {x1 : Int32} {x2 : Int32} {x3 : Int32} {x4 : Int32} (hr : Nat.ble (jm_cs r) 8 = true) (hcal : J g d 92 0 [some (aR 6 q0), some (aI x0), some (aI x1), some (aI x2), some (aI x3), some (aI x4), none, none, none] [] σ K') (hk : ∀ u, K' u → jm_aft g (d + 1) 114 376 L r u K) : J g (d + 1) 114 376 L (aI x4 :: aI x3 :: aI x2 :: aI x1 :: aI x0 :: aR 6 q0 :: r) σ K :=
  J_call' (id' := 92) jm_sk (vs := [aR 6 q0, aI x0, aI x1, aI x2, aI x3, aI x4]) (inv_V (id' := 92) d_M_divided_376 ci_M wd_802 wd_804 wd_30 cw_M_adds (by decide) pn_M_adds) cw_M_adds (by decide) (by decide) (Nat.le_of_ble_eq_true rfl) rfl hr rfl hcal hk
theorem k_M_divided_391 {g : jm_G} {d : Nat} {L : List (Option jm_V)} {r : List jm_V} {σ : jm_S} {K K' : jm_O → Prop} {q0 : Nat} {x0 : Int32} {x1 : Int32} {x2 : Int32} {x3 : Int32} (hr : Nat.ble (jm_cs r) 8 = true) (hcal : J g d 86 0 [some (aR 6 q0), some (aI x0), some (aI x1), some (aI x2), some (aI x3), none, none, none] [] σ K') (hk : ∀ u, K' u → jm_aft g (d + 1) 114 391 L r u K) : J g (d + 1) 114 391 L (aI x3 :: aI x2 :: aI x1 :: aI x0 :: aR 6 q0 :: r) σ K :=
  J_call' (id' := 86) jm_sk (vs := [aR 6 q0, aI x0, aI x1, aI x2, aI x3]) (inv_V (id' := 86) d_M_divided_391 ci_M wd_778 wd_780 wd_28 cw_M_comes (by decide) pn_M_comes) cw_M_comes (by decide) (by decide) (Nat.le_of_ble_eq_true rfl) rfl hr rfl hcal hk
theorem r_M_divided_397 {g : jm_G} {d : Nat} {L : List (Option jm_V)} {σ : jm_S} {K : jm_O → Prop} (hK : K (σ, .inl none)) : J g d 114 397 L [] σ K := J_vret d_M_divided_397 rfl hK
-- IdealProverModel lessShares (III)V
theorem d_M_lessShares_0 : decode prog_12_method_31_code 0 = .ok (.iconst 0, 1) := by decide +kernel
theorem d_M_lessShares_1 : decode prog_12_method_31_code 1 = .ok (.istore 4, 2) := by decide +kernel
theorem d_M_lessShares_3 : decode prog_12_method_31_code 3 = .ok (.iload 4, 2) := by decide +kernel
theorem d_M_lessShares_5 : decode prog_12_method_31_code 5 = .ok (.aload_n 0, 1) := by decide +kernel
theorem d_M_lessShares_6 : decode prog_12_method_31_code 6 = .ok (.getfield 133, 3) := by decide +kernel
theorem d_M_lessShares_9 : decode prog_12_method_31_code 9 = .ok (.if_icmp .ge 95, 3) := by decide +kernel
theorem d_M_lessShares_12 : decode prog_12_method_31_code 12 = .ok (.aload_n 0, 1) := by decide +kernel
theorem d_M_lessShares_13 : decode prog_12_method_31_code 13 = .ok (.getfield 54, 3) := by decide +kernel
theorem d_M_lessShares_16 : decode prog_12_method_31_code 16 = .ok (.ifCond .ne 88, 3) := by decide +kernel
theorem d_M_lessShares_19 : decode prog_12_method_31_code 19 = .ok (.iconst 0, 1) := by decide +kernel
theorem d_M_lessShares_20 : decode prog_12_method_31_code 20 = .ok (.istore 5, 2) := by decide +kernel
theorem d_M_lessShares_22 : decode prog_12_method_31_code 22 = .ok (.iload 5, 2) := by decide +kernel
theorem d_M_lessShares_24 : decode prog_12_method_31_code 24 = .ok (.aload_n 0, 1) := by decide +kernel
theorem d_M_lessShares_25 : decode prog_12_method_31_code 25 = .ok (.getfield 20, 3) := by decide +kernel
theorem d_M_lessShares_28 : decode prog_12_method_31_code 28 = .ok (.bipush 100, 2) := by decide +kernel
theorem d_M_lessShares_30 : decode prog_12_method_31_code 30 = .ok (.iload 4, 2) := by decide +kernel
theorem d_M_lessShares_32 : decode prog_12_method_31_code 32 = .ok (.iadd, 1) := by decide +kernel
theorem d_M_lessShares_33 : decode prog_12_method_31_code 33 = .ok (.iaload, 1) := by decide +kernel
theorem d_M_lessShares_34 : decode prog_12_method_31_code 34 = .ok (.if_icmp .ge 64, 3) := by decide +kernel
theorem d_M_lessShares_37 : decode prog_12_method_31_code 37 = .ok (.aload_n 0, 1) := by decide +kernel
theorem d_M_lessShares_38 : decode prog_12_method_31_code 38 = .ok (.getfield 54, 3) := by decide +kernel
theorem d_M_lessShares_41 : decode prog_12_method_31_code 41 = .ok (.ifCond .ne 57, 3) := by decide +kernel
theorem d_M_lessShares_44 : decode prog_12_method_31_code 44 = .ok (.bipush 100, 2) := by decide +kernel
theorem d_M_lessShares_46 : decode prog_12_method_31_code 46 = .ok (.bipush 100, 2) := by decide +kernel
theorem d_M_lessShares_48 : decode prog_12_method_31_code 48 = .ok (.iload 4, 2) := by decide +kernel
theorem d_M_lessShares_50 : decode prog_12_method_31_code 50 = .ok (.iadd, 1) := by decide +kernel
theorem d_M_lessShares_51 : decode prog_12_method_31_code 51 = .ok (.imul, 1) := by decide +kernel
theorem d_M_lessShares_52 : decode prog_12_method_31_code 52 = .ok (.iload 5, 2) := by decide +kernel
theorem d_M_lessShares_54 : decode prog_12_method_31_code 54 = .ok (.iadd, 1) := by decide +kernel
theorem d_M_lessShares_55 : decode prog_12_method_31_code 55 = .ok (.istore 6, 2) := by decide +kernel
theorem d_M_lessShares_57 : decode prog_12_method_31_code 57 = .ok (.aload_n 0, 1) := by decide +kernel
theorem d_M_lessShares_58 : decode prog_12_method_31_code 58 = .ok (.iload_n 1, 1) := by decide +kernel
theorem d_M_lessShares_59 : decode prog_12_method_31_code 59 = .ok (.iload_n 3, 1) := by decide +kernel
theorem d_M_lessShares_60 : decode prog_12_method_31_code 60 = .ok (.aload_n 0, 1) := by decide +kernel
theorem d_M_lessShares_61 : decode prog_12_method_31_code 61 = .ok (.getfield 8, 3) := by decide +kernel
theorem d_M_lessShares_64 : decode prog_12_method_31_code 64 = .ok (.iload 6, 2) := by decide +kernel
theorem d_M_lessShares_66 : decode prog_12_method_31_code 66 = .ok (.iaload, 1) := by decide +kernel
theorem d_M_lessShares_67 : decode prog_12_method_31_code 67 = .ok (.imul, 1) := by decide +kernel
theorem d_M_lessShares_68 : decode prog_12_method_31_code 68 = .ok (.aload_n 0, 1) := by decide +kernel
theorem d_M_lessShares_69 : decode prog_12_method_31_code 69 = .ok (.getfield 14, 3) := by decide +kernel
theorem d_M_lessShares_72 : decode prog_12_method_31_code 72 = .ok (.iload 6, 2) := by decide +kernel
theorem d_M_lessShares_74 : decode prog_12_method_31_code 74 = .ok (.iaload, 1) := by decide +kernel
theorem d_M_lessShares_75 : decode prog_12_method_31_code 75 = .ok (.aload_n 0, 1) := by decide +kernel
theorem d_M_lessShares_76 : decode prog_12_method_31_code 76 = .ok (.getfield 17, 3) := by decide +kernel
theorem d_M_lessShares_79 : decode prog_12_method_31_code 79 = .ok (.iload 6, 2) := by decide +kernel
theorem d_M_lessShares_81 : decode prog_12_method_31_code 81 = .ok (.iaload, 1) := by decide +kernel
theorem d_M_lessShares_82 : decode prog_12_method_31_code 82 = .ok (.aload_n 0, 1) := by decide +kernel
theorem d_M_lessShares_83 : decode prog_12_method_31_code 83 = .ok (.iload 4, 2) := by decide +kernel
theorem d_M_lessShares_85 : decode prog_12_method_31_code 85 = .ok (.iload_n 2, 1) := by decide +kernel
theorem d_M_lessShares_86 : decode prog_12_method_31_code 86 = .ok (.invokevirtual 145, 3) := by decide +kernel
theorem d_M_lessShares_89 : decode prog_12_method_31_code 89 = .ok (.invokevirtual 86, 3) := by decide +kernel
theorem d_M_lessShares_92 : decode prog_12_method_31_code 92 = .ok (.iinc 5 1, 3) := by decide +kernel
theorem d_M_lessShares_95 : decode prog_12_method_31_code 95 = .ok (.goto (-73), 3) := by decide +kernel
theorem d_M_lessShares_98 : decode prog_12_method_31_code 98 = .ok (.iinc 4 1, 3) := by decide +kernel
theorem d_M_lessShares_101 : decode prog_12_method_31_code 101 = .ok (.goto (-98), 3) := by decide +kernel
theorem d_M_lessShares_104 : decode prog_12_method_31_code 104 = .ok (.return_, 1) := by decide +kernel
def tb_M_lessShares_0 : List (Nat × jm_Op) := [(0, oC 0 1), (1, oIs 4 3), (3, oIl 4 5), (5, oAl 0 6), (6, oGi 6 20 9), (9, oIcGe 104 12), (12, oAl 0 13), (13, oGi 6 11 16), (16, oIfNe 104 19), (19, oC 0 20), (20, oIs 5 22), (22, oIl 5 24), (24, oAl 0 25), (25, oGr 6 6 8 28), (28, oC 100 30), (30, oIl 4 32), (32, oAdd 33), (33, oIa 34), (34, oIcGe 98 37), (37, oAl 0 38), (38, oGi 6 11 41), (41, oIfNe 98 44), (44, oC 100 46), (46, oC 100 48), (48, oIl 4 50), (50, oAdd 51), (51, oMul 52), (52, oIl 5 54), (54, oAdd 55), (55, oIs 6 57), (57, oAl 0 58), (58, oIl 1 59), (59, oIl 3 60), (60, oAl 0 61), (61, oGr 6 3 8 64), (64, oIl 6 66), (66, oIa 67), (67, oMul 68), (68, oAl 0 69), (69, oGr 6 4 8 72), (72, oIl 6 74), (74, oIa 75), (75, oAl 0 76), (76, oGr 6 5 8 79), (79, oIl 6 81), (81, oIa 82), (82, oAl 0 83), (83, oIl 4 85), (85, oIl 2 86), (92, oInc 5 1 95)]
theorem ok_M_lessShares_0 : jm_all 115 tb_M_lessShares_0 := ⟨s_iconst d_M_lessShares_0 (by decide), s_istore d_M_lessShares_1 (by decide), s_iload d_M_lessShares_3, s_aload_n d_M_lessShares_5 rfl, s_geti d_M_lessShares_6 ci_M rfl wd_671, s_icmp_ge d_M_lessShares_9 (by decide), s_aload_n d_M_lessShares_12 rfl, s_geti d_M_lessShares_13 ci_M rfl wd_662, s_if_ne d_M_lessShares_16 (by decide), s_iconst d_M_lessShares_19 (by decide), s_istore d_M_lessShares_20 (by decide), s_iload d_M_lessShares_22, s_aload_n d_M_lessShares_24 rfl, s_getr d_M_lessShares_25 ci_M rfl wd_657, s_bipush d_M_lessShares_28 (by decide), s_iload d_M_lessShares_30, s_iadd d_M_lessShares_32, s_iaload d_M_lessShares_33, s_icmp_ge d_M_lessShares_34 (by decide), s_aload_n d_M_lessShares_37 rfl, s_geti d_M_lessShares_38 ci_M rfl wd_662, s_if_ne d_M_lessShares_41 (by decide), s_bipush d_M_lessShares_44 (by decide), s_bipush d_M_lessShares_46 (by decide), s_iload d_M_lessShares_48, s_iadd d_M_lessShares_50, s_imul d_M_lessShares_51, s_iload d_M_lessShares_52, s_iadd d_M_lessShares_54, s_istore d_M_lessShares_55 (by decide), s_aload_n d_M_lessShares_57 rfl, s_iload_n d_M_lessShares_58 rfl, s_iload_n d_M_lessShares_59 rfl, s_aload_n d_M_lessShares_60 rfl, s_getr d_M_lessShares_61 ci_M rfl wd_654, s_iload d_M_lessShares_64, s_iaload d_M_lessShares_66, s_imul d_M_lessShares_67, s_aload_n d_M_lessShares_68 rfl, s_getr d_M_lessShares_69 ci_M rfl wd_655, s_iload d_M_lessShares_72, s_iaload d_M_lessShares_74, s_aload_n d_M_lessShares_75 rfl, s_getr d_M_lessShares_76 ci_M rfl wd_656, s_iload d_M_lessShares_79, s_iaload d_M_lessShares_81, s_aload_n d_M_lessShares_82 rfl, s_iload d_M_lessShares_83, s_iload_n d_M_lessShares_85 rfl, s_iinc d_M_lessShares_92 (by decide) (by decide), trivial⟩
def tb_M_lessShares_1 : List (Nat × jm_Op) := [(95, oGo 22), (98, oInc 4 1 101), (101, oGo 3)]
theorem ok_M_lessShares_1 : jm_all 115 tb_M_lessShares_1 := ⟨s_goto d_M_lessShares_95 (by decide), s_iinc d_M_lessShares_98 (by decide) (by decide), s_goto d_M_lessShares_101 (by decide), trivial⟩
def tb_M_lessShares : List (Nat × jm_Op) := tb_M_lessShares_0 ++ tb_M_lessShares_1
theorem ok_M_lessShares : jm_all 115 tb_M_lessShares := jm_all_app ok_M_lessShares_0 ok_M_lessShares_1
theorem k_M_lessShares_86 {g : jm_G} {d : Nat} {L : List (Option jm_V)} {r : List jm_V} {σ : jm_S} {K K' : jm_O → Prop} {q0 : Nat} {x0 : Int32} {x1 : Int32} (hr : Nat.ble (jm_cs r) 8 = true) (hcal : J g d 104 0 [some (aR 6 q0), some (aI x0), some (aI x1)] [] σ K') (hk : ∀ u, K' u → jm_aft g (d + 1) 115 86 L r u K) : J g (d + 1) 115 86 L (aI x1 :: aI x0 :: aR 6 q0 :: r) σ K :=
  J_call' (id' := 104) jm_sk (vs := [aR 6 q0, aI x0, aI x1]) (inv_V (id' := 104) d_M_lessShares_86 ci_M wd_850 wd_852 wd_36 cw_M_cofactor (by decide) pn_M_cofactor) cw_M_cofactor (by decide) (by decide) (Nat.le_of_ble_eq_true rfl) rfl hr rfl hcal hk
theorem k_M_lessShares_89 {g : jm_G} {d : Nat} {L : List (Option jm_V)} {r : List jm_V} {σ : jm_S} {K K' : jm_O → Prop} {q0 : Nat} {x0 : Int32} {x1 : Int32} {x2 : Int32} {x3 : Int32} {x4 : Int32} (hr : Nat.ble (jm_cs r) 8 = true) (hcal : J g d 92 0 [some (aR 6 q0), some (aI x0), some (aI x1), some (aI x2), some (aI x3), some (aI x4), none, none, none] [] σ K') (hk : ∀ u, K' u → jm_aft g (d + 1) 115 89 L r u K) : J g (d + 1) 115 89 L (aI x4 :: aI x3 :: aI x2 :: aI x1 :: aI x0 :: aR 6 q0 :: r) σ K :=
  J_call' (id' := 92) jm_sk (vs := [aR 6 q0, aI x0, aI x1, aI x2, aI x3, aI x4]) (inv_V (id' := 92) d_M_lessShares_89 ci_M wd_802 wd_804 wd_30 cw_M_adds (by decide) pn_M_adds) cw_M_adds (by decide) (by decide) (Nat.le_of_ble_eq_true rfl) rfl hr rfl hcal hk
theorem r_M_lessShares_104 {g : jm_G} {d : Nat} {L : List (Option jm_V)} {σ : jm_S} {K : jm_O → Prop} (hK : K (σ, .inl none)) : J g d 115 104 L [] σ K := J_vret d_M_lessShares_104 rfl hK
-- IdealProverModel clean ()V
theorem d_M_clean_0 : decode prog_12_method_39_code 0 = .ok (.iconst 0, 1) := by decide +kernel
theorem d_M_clean_1 : decode prog_12_method_39_code 1 = .ok (.istore_n 1, 1) := by decide +kernel
theorem d_M_clean_2 : decode prog_12_method_39_code 2 = .ok (.iload_n 1, 1) := by decide +kernel
theorem d_M_clean_3 : decode prog_12_method_39_code 3 = .ok (.aload_n 0, 1) := by decide +kernel
theorem d_M_clean_4 : decode prog_12_method_39_code 4 = .ok (.getfield 133, 3) := by decide +kernel
theorem d_M_clean_7 : decode prog_12_method_39_code 7 = .ok (.if_icmp .ge 101, 3) := by decide +kernel
theorem d_M_clean_10 : decode prog_12_method_39_code 10 = .ok (.aload_n 0, 1) := by decide +kernel
theorem d_M_clean_11 : decode prog_12_method_39_code 11 = .ok (.getfield 33, 3) := by decide +kernel
theorem d_M_clean_14 : decode prog_12_method_39_code 14 = .ok (.iload_n 1, 1) := by decide +kernel
theorem d_M_clean_15 : decode prog_12_method_39_code 15 = .ok (.iconst 0, 1) := by decide +kernel
theorem d_M_clean_16 : decode prog_12_method_39_code 16 = .ok (.bastore, 1) := by decide +kernel
theorem d_M_clean_17 : decode prog_12_method_39_code 17 = .ok (.iconst 0, 1) := by decide +kernel
theorem d_M_clean_18 : decode prog_12_method_39_code 18 = .ok (.istore_n 2, 1) := by decide +kernel
theorem d_M_clean_19 : decode prog_12_method_39_code 19 = .ok (.iload_n 2, 1) := by decide +kernel
theorem d_M_clean_20 : decode prog_12_method_39_code 20 = .ok (.aload_n 0, 1) := by decide +kernel
theorem d_M_clean_21 : decode prog_12_method_39_code 21 = .ok (.getfield 133, 3) := by decide +kernel
theorem d_M_clean_24 : decode prog_12_method_39_code 24 = .ok (.if_icmp .ge 78, 3) := by decide +kernel
theorem d_M_clean_27 : decode prog_12_method_39_code 27 = .ok (.aload_n 0, 1) := by decide +kernel
theorem d_M_clean_28 : decode prog_12_method_39_code 28 = .ok (.aload_n 0, 1) := by decide +kernel
theorem d_M_clean_29 : decode prog_12_method_39_code 29 = .ok (.getfield 139, 3) := by decide +kernel
theorem d_M_clean_32 : decode prog_12_method_39_code 32 = .ok (.iload_n 2, 1) := by decide +kernel
theorem d_M_clean_33 : decode prog_12_method_39_code 33 = .ok (.iadd, 1) := by decide +kernel
theorem d_M_clean_34 : decode prog_12_method_39_code 34 = .ok (.invokevirtual 130, 3) := by decide +kernel
theorem d_M_clean_37 : decode prog_12_method_39_code 37 = .ok (.istore_n 3, 1) := by decide +kernel
theorem d_M_clean_38 : decode prog_12_method_39_code 38 = .ok (.aload_n 0, 1) := by decide +kernel
theorem d_M_clean_39 : decode prog_12_method_39_code 39 = .ok (.aload_n 0, 1) := by decide +kernel
theorem d_M_clean_40 : decode prog_12_method_39_code 40 = .ok (.getfield 139, 3) := by decide +kernel
theorem d_M_clean_43 : decode prog_12_method_39_code 43 = .ok (.iload_n 1, 1) := by decide +kernel
theorem d_M_clean_44 : decode prog_12_method_39_code 44 = .ok (.iadd, 1) := by decide +kernel
theorem d_M_clean_45 : decode prog_12_method_39_code 45 = .ok (.invokevirtual 130, 3) := by decide +kernel
theorem d_M_clean_48 : decode prog_12_method_39_code 48 = .ok (.istore 4, 2) := by decide +kernel
theorem d_M_clean_50 : decode prog_12_method_39_code 50 = .ok (.aload_n 0, 1) := by decide +kernel
theorem d_M_clean_51 : decode prog_12_method_39_code 51 = .ok (.getfield 33, 3) := by decide +kernel
theorem d_M_clean_54 : decode prog_12_method_39_code 54 = .ok (.iload_n 1, 1) := by decide +kernel
theorem d_M_clean_55 : decode prog_12_method_39_code 55 = .ok (.aload_n 0, 1) := by decide +kernel
theorem d_M_clean_56 : decode prog_12_method_39_code 56 = .ok (.getfield 33, 3) := by decide +kernel
theorem d_M_clean_59 : decode prog_12_method_39_code 59 = .ok (.iload_n 1, 1) := by decide +kernel
theorem d_M_clean_60 : decode prog_12_method_39_code 60 = .ok (.baload, 1) := by decide +kernel
theorem d_M_clean_61 : decode prog_12_method_39_code 61 = .ok (.ifCond .ne 29, 3) := by decide +kernel
theorem d_M_clean_64 : decode prog_12_method_39_code 64 = .ok (.iload_n 2, 1) := by decide +kernel
theorem d_M_clean_65 : decode prog_12_method_39_code 65 = .ok (.iload_n 1, 1) := by decide +kernel
theorem d_M_clean_66 : decode prog_12_method_39_code 66 = .ok (.if_icmp .eq 28, 3) := by decide +kernel
theorem d_M_clean_69 : decode prog_12_method_39_code 69 = .ok (.aload_n 0, 1) := by decide +kernel
theorem d_M_clean_70 : decode prog_12_method_39_code 70 = .ok (.iload_n 3, 1) := by decide +kernel
theorem d_M_clean_71 : decode prog_12_method_39_code 71 = .ok (.iload 4, 2) := by decide +kernel
theorem d_M_clean_73 : decode prog_12_method_39_code 73 = .ok (.invokevirtual 142, 3) := by decide +kernel
theorem d_M_clean_76 : decode prog_12_method_39_code 76 = .ok (.ifCond .eq 18, 3) := by decide +kernel
theorem d_M_clean_79 : decode prog_12_method_39_code 79 = .ok (.iload_n 3, 1) := by decide +kernel
theorem d_M_clean_80 : decode prog_12_method_39_code 80 = .ok (.iload 4, 2) := by decide +kernel
theorem d_M_clean_82 : decode prog_12_method_39_code 82 = .ok (.if_icmp .ne 8, 3) := by decide +kernel
theorem d_M_clean_85 : decode prog_12_method_39_code 85 = .ok (.iload_n 2, 1) := by decide +kernel
theorem d_M_clean_86 : decode prog_12_method_39_code 86 = .ok (.iload_n 1, 1) := by decide +kernel
theorem d_M_clean_87 : decode prog_12_method_39_code 87 = .ok (.if_icmp .ge 7, 3) := by decide +kernel
theorem d_M_clean_90 : decode prog_12_method_39_code 90 = .ok (.iconst 1, 1) := by decide +kernel
theorem d_M_clean_91 : decode prog_12_method_39_code 91 = .ok (.goto 4, 3) := by decide +kernel
theorem d_M_clean_94 : decode prog_12_method_39_code 94 = .ok (.iconst 0, 1) := by decide +kernel
theorem d_M_clean_95 : decode prog_12_method_39_code 95 = .ok (.bastore, 1) := by decide +kernel
theorem d_M_clean_96 : decode prog_12_method_39_code 96 = .ok (.iinc 2 1, 3) := by decide +kernel
theorem d_M_clean_99 : decode prog_12_method_39_code 99 = .ok (.goto (-80), 3) := by decide +kernel
theorem d_M_clean_102 : decode prog_12_method_39_code 102 = .ok (.iinc 1 1, 3) := by decide +kernel
theorem d_M_clean_105 : decode prog_12_method_39_code 105 = .ok (.goto (-103), 3) := by decide +kernel
theorem d_M_clean_108 : decode prog_12_method_39_code 108 = .ok (.iconst 0, 1) := by decide +kernel
theorem d_M_clean_109 : decode prog_12_method_39_code 109 = .ok (.istore_n 1, 1) := by decide +kernel
theorem d_M_clean_110 : decode prog_12_method_39_code 110 = .ok (.iconst 0, 1) := by decide +kernel
theorem d_M_clean_111 : decode prog_12_method_39_code 111 = .ok (.istore_n 2, 1) := by decide +kernel
theorem d_M_clean_112 : decode prog_12_method_39_code 112 = .ok (.iload_n 2, 1) := by decide +kernel
theorem d_M_clean_113 : decode prog_12_method_39_code 113 = .ok (.aload_n 0, 1) := by decide +kernel
theorem d_M_clean_114 : decode prog_12_method_39_code 114 = .ok (.getfield 133, 3) := by decide +kernel
theorem d_M_clean_117 : decode prog_12_method_39_code 117 = .ok (.if_icmp .ge 27, 3) := by decide +kernel
theorem d_M_clean_120 : decode prog_12_method_39_code 120 = .ok (.aload_n 0, 1) := by decide +kernel
theorem d_M_clean_121 : decode prog_12_method_39_code 121 = .ok (.getfield 33, 3) := by decide +kernel
theorem d_M_clean_124 : decode prog_12_method_39_code 124 = .ok (.iload_n 2, 1) := by decide +kernel
theorem d_M_clean_125 : decode prog_12_method_39_code 125 = .ok (.baload, 1) := by decide +kernel
theorem d_M_clean_126 : decode prog_12_method_39_code 126 = .ok (.ifCond .ne 12, 3) := by decide +kernel
theorem d_M_clean_129 : decode prog_12_method_39_code 129 = .ok (.aload_n 0, 1) := by decide +kernel
theorem d_M_clean_130 : decode prog_12_method_39_code 130 = .ok (.iload_n 2, 1) := by decide +kernel
theorem d_M_clean_131 : decode prog_12_method_39_code 131 = .ok (.iload_n 1, 1) := by decide +kernel
theorem d_M_clean_132 : decode prog_12_method_39_code 132 = .ok (.invokevirtual 195, 3) := by decide +kernel
theorem d_M_clean_135 : decode prog_12_method_39_code 135 = .ok (.iinc 1 1, 3) := by decide +kernel
theorem d_M_clean_138 : decode prog_12_method_39_code 138 = .ok (.iinc 2 1, 3) := by decide +kernel
theorem d_M_clean_141 : decode prog_12_method_39_code 141 = .ok (.goto (-29), 3) := by decide +kernel
theorem d_M_clean_144 : decode prog_12_method_39_code 144 = .ok (.aload_n 0, 1) := by decide +kernel
theorem d_M_clean_145 : decode prog_12_method_39_code 145 = .ok (.iload_n 1, 1) := by decide +kernel
theorem d_M_clean_146 : decode prog_12_method_39_code 146 = .ok (.putfield 133, 3) := by decide +kernel
theorem d_M_clean_149 : decode prog_12_method_39_code 149 = .ok (.iconst 1, 1) := by decide +kernel
theorem d_M_clean_150 : decode prog_12_method_39_code 150 = .ok (.istore_n 2, 1) := by decide +kernel
theorem d_M_clean_151 : decode prog_12_method_39_code 151 = .ok (.iload_n 2, 1) := by decide +kernel
theorem d_M_clean_152 : decode prog_12_method_39_code 152 = .ok (.aload_n 0, 1) := by decide +kernel
theorem d_M_clean_153 : decode prog_12_method_39_code 153 = .ok (.getfield 133, 3) := by decide +kernel
theorem d_M_clean_156 : decode prog_12_method_39_code 156 = .ok (.if_icmp .ge 74, 3) := by decide +kernel
theorem d_M_clean_159 : decode prog_12_method_39_code 159 = .ok (.iload_n 2, 1) := by decide +kernel
theorem d_M_clean_160 : decode prog_12_method_39_code 160 = .ok (.istore_n 3, 1) := by decide +kernel
theorem d_M_clean_161 : decode prog_12_method_39_code 161 = .ok (.iload_n 3, 1) := by decide +kernel
theorem d_M_clean_162 : decode prog_12_method_39_code 162 = .ok (.ifCond .le 62, 3) := by decide +kernel
theorem d_M_clean_165 : decode prog_12_method_39_code 165 = .ok (.aload_n 0, 1) := by decide +kernel
theorem d_M_clean_166 : decode prog_12_method_39_code 166 = .ok (.aload_n 0, 1) := by decide +kernel
theorem d_M_clean_167 : decode prog_12_method_39_code 167 = .ok (.aload_n 0, 1) := by decide +kernel
theorem d_M_clean_168 : decode prog_12_method_39_code 168 = .ok (.getfield 139, 3) := by decide +kernel
theorem d_M_clean_171 : decode prog_12_method_39_code 171 = .ok (.iload_n 3, 1) := by decide +kernel
theorem d_M_clean_172 : decode prog_12_method_39_code 172 = .ok (.iadd, 1) := by decide +kernel
theorem d_M_clean_173 : decode prog_12_method_39_code 173 = .ok (.iconst 1, 1) := by decide +kernel
theorem d_M_clean_174 : decode prog_12_method_39_code 174 = .ok (.isub, 1) := by decide +kernel
theorem d_M_clean_175 : decode prog_12_method_39_code 175 = .ok (.invokevirtual 130, 3) := by decide +kernel
theorem d_M_clean_178 : decode prog_12_method_39_code 178 = .ok (.aload_n 0, 1) := by decide +kernel
theorem d_M_clean_179 : decode prog_12_method_39_code 179 = .ok (.aload_n 0, 1) := by decide +kernel
theorem d_M_clean_180 : decode prog_12_method_39_code 180 = .ok (.getfield 139, 3) := by decide +kernel
theorem d_M_clean_183 : decode prog_12_method_39_code 183 = .ok (.iload_n 3, 1) := by decide +kernel
theorem d_M_clean_184 : decode prog_12_method_39_code 184 = .ok (.iadd, 1) := by decide +kernel
theorem d_M_clean_185 : decode prog_12_method_39_code 185 = .ok (.invokevirtual 130, 3) := by decide +kernel
theorem d_M_clean_188 : decode prog_12_method_39_code 188 = .ok (.invokevirtual 72, 3) := by decide +kernel
theorem d_M_clean_191 : decode prog_12_method_39_code 191 = .ok (.ifCond .le 33, 3) := by decide +kernel
theorem d_M_clean_194 : decode prog_12_method_39_code 194 = .ok (.aload_n 0, 1) := by decide +kernel
theorem d_M_clean_195 : decode prog_12_method_39_code 195 = .ok (.iload_n 3, 1) := by decide +kernel
theorem d_M_clean_196 : decode prog_12_method_39_code 196 = .ok (.bipush 24, 2) := by decide +kernel
theorem d_M_clean_198 : decode prog_12_method_39_code 198 = .ok (.invokevirtual 195, 3) := by decide +kernel
theorem d_M_clean_201 : decode prog_12_method_39_code 201 = .ok (.aload_n 0, 1) := by decide +kernel
theorem d_M_clean_202 : decode prog_12_method_39_code 202 = .ok (.iload_n 3, 1) := by decide +kernel
theorem d_M_clean_203 : decode prog_12_method_39_code 203 = .ok (.iconst 1, 1) := by decide +kernel
theorem d_M_clean_204 : decode prog_12_method_39_code 204 = .ok (.isub, 1) := by decide +kernel
theorem d_M_clean_205 : decode prog_12_method_39_code 205 = .ok (.iload_n 3, 1) := by decide +kernel
theorem d_M_clean_206 : decode prog_12_method_39_code 206 = .ok (.invokevirtual 195, 3) := by decide +kernel
theorem d_M_clean_209 : decode prog_12_method_39_code 209 = .ok (.aload_n 0, 1) := by decide +kernel
theorem d_M_clean_210 : decode prog_12_method_39_code 210 = .ok (.bipush 24, 2) := by decide +kernel
theorem d_M_clean_212 : decode prog_12_method_39_code 212 = .ok (.iload_n 3, 1) := by decide +kernel
theorem d_M_clean_213 : decode prog_12_method_39_code 213 = .ok (.iconst 1, 1) := by decide +kernel
theorem d_M_clean_214 : decode prog_12_method_39_code 214 = .ok (.isub, 1) := by decide +kernel
theorem d_M_clean_215 : decode prog_12_method_39_code 215 = .ok (.invokevirtual 195, 3) := by decide +kernel
theorem d_M_clean_218 : decode prog_12_method_39_code 218 = .ok (.iinc 3 (-1), 3) := by decide +kernel
theorem d_M_clean_221 : decode prog_12_method_39_code 221 = .ok (.goto (-60), 3) := by decide +kernel
theorem d_M_clean_224 : decode prog_12_method_39_code 224 = .ok (.iinc 2 1, 3) := by decide +kernel
theorem d_M_clean_227 : decode prog_12_method_39_code 227 = .ok (.goto (-76), 3) := by decide +kernel
theorem d_M_clean_230 : decode prog_12_method_39_code 230 = .ok (.return_, 1) := by decide +kernel
def tb_M_clean_0 : List (Nat × jm_Op) := [(0, oC 0 1), (1, oIs 1 2), (2, oIl 1 3), (3, oAl 0 4), (4, oGi 6 20 7), (7, oIcGe 108 10), (10, oAl 0 11), (11, oGr 6 27 9 14), (14, oIl 1 15), (15, oC 0 16), (16, oZw 17), (17, oC 0 18), (18, oIs 2 19), (19, oIl 2 20), (20, oAl 0 21), (21, oGi 6 20 24), (24, oIcGe 102 27), (27, oAl 0 28), (28, oAl 0 29), (29, oGi 6 19 32), (32, oIl 2 33), (33, oAdd 34), (37, oIs 3 38), (38, oAl 0 39), (39, oAl 0 40), (40, oGi 6 19 43), (43, oIl 1 44), (44, oAdd 45), (48, oIs 4 50), (50, oAl 0 51), (51, oGr 6 27 9 54), (54, oIl 1 55), (55, oAl 0 56), (56, oGr 6 27 9 59), (59, oIl 1 60), (60, oZa 61), (61, oIfNe 90 64), (64, oIl 2 65), (65, oIl 1 66), (66, oIcEq 94 69), (69, oAl 0 70), (70, oIl 3 71), (71, oIl 4 73), (76, oIfEq 94 79), (79, oIl 3 80), (80, oIl 4 82), (82, oIcNe 90 85), (85, oIl 2 86), (86, oIl 1 87), (87, oIcGe 94 90)]
theorem ok_M_clean_0 : jm_all 116 tb_M_clean_0 := ⟨s_iconst d_M_clean_0 (by decide), s_istore_n d_M_clean_1 rfl (by decide), s_iload_n d_M_clean_2 rfl, s_aload_n d_M_clean_3 rfl, s_geti d_M_clean_4 ci_M rfl wd_671, s_icmp_ge d_M_clean_7 (by decide), s_aload_n d_M_clean_10 rfl, s_getr d_M_clean_11 ci_M rfl wd_678, s_iload_n d_M_clean_14 rfl, s_iconst d_M_clean_15 (by decide), s_bastore d_M_clean_16, s_iconst d_M_clean_17 (by decide), s_istore_n d_M_clean_18 rfl (by decide), s_iload_n d_M_clean_19 rfl, s_aload_n d_M_clean_20 rfl, s_geti d_M_clean_21 ci_M rfl wd_671, s_icmp_ge d_M_clean_24 (by decide), s_aload_n d_M_clean_27 rfl, s_aload_n d_M_clean_28 rfl, s_geti d_M_clean_29 ci_M rfl wd_670, s_iload_n d_M_clean_32 rfl, s_iadd d_M_clean_33, s_istore_n d_M_clean_37 rfl (by decide), s_aload_n d_M_clean_38 rfl, s_aload_n d_M_clean_39 rfl, s_geti d_M_clean_40 ci_M rfl wd_670, s_iload_n d_M_clean_43 rfl, s_iadd d_M_clean_44, s_istore d_M_clean_48 (by decide), s_aload_n d_M_clean_50 rfl, s_getr d_M_clean_51 ci_M rfl wd_678, s_iload_n d_M_clean_54 rfl, s_aload_n d_M_clean_55 rfl, s_getr d_M_clean_56 ci_M rfl wd_678, s_iload_n d_M_clean_59 rfl, s_baload d_M_clean_60, s_if_ne d_M_clean_61 (by decide), s_iload_n d_M_clean_64 rfl, s_iload_n d_M_clean_65 rfl, s_icmp_eq d_M_clean_66 (by decide), s_aload_n d_M_clean_69 rfl, s_iload_n d_M_clean_70 rfl, s_iload d_M_clean_71, s_if_eq d_M_clean_76 (by decide), s_iload_n d_M_clean_79 rfl, s_iload d_M_clean_80, s_icmp_ne d_M_clean_82 (by decide), s_iload_n d_M_clean_85 rfl, s_iload_n d_M_clean_86 rfl, s_icmp_ge d_M_clean_87 (by decide), trivial⟩
def tb_M_clean_1 : List (Nat × jm_Op) := [(90, oC 1 91), (91, oGo 95), (94, oC 0 95), (95, oZw 96), (96, oInc 2 1 99), (99, oGo 19), (102, oInc 1 1 105), (105, oGo 2), (108, oC 0 109), (109, oIs 1 110), (110, oC 0 111), (111, oIs 2 112), (112, oIl 2 113), (113, oAl 0 114), (114, oGi 6 20 117), (117, oIcGe 144 120), (120, oAl 0 121), (121, oGr 6 27 9 124), (124, oIl 2 125), (125, oZa 126), (126, oIfNe 138 129), (129, oAl 0 130), (130, oIl 2 131), (131, oIl 1 132), (135, oInc 1 1 138), (138, oInc 2 1 141), (141, oGo 112), (144, oAl 0 145), (145, oIl 1 146), (146, oPi 6 20 149), (149, oC 1 150), (150, oIs 2 151), (151, oIl 2 152), (152, oAl 0 153), (153, oGi 6 20 156), (156, oIcGe 230 159), (159, oIl 2 160), (160, oIs 3 161), (161, oIl 3 162), (162, oIfLe 224 165), (165, oAl 0 166), (166, oAl 0 167), (167, oAl 0 168), (168, oGi 6 19 171), (171, oIl 3 172), (172, oAdd 173), (173, oC 1 174), (174, oSub 175), (178, oAl 0 179), (179, oAl 0 180)]
theorem ok_M_clean_1 : jm_all 116 tb_M_clean_1 := ⟨s_iconst d_M_clean_90 (by decide), s_goto d_M_clean_91 (by decide), s_iconst d_M_clean_94 (by decide), s_bastore d_M_clean_95, s_iinc d_M_clean_96 (by decide) (by decide), s_goto d_M_clean_99 (by decide), s_iinc d_M_clean_102 (by decide) (by decide), s_goto d_M_clean_105 (by decide), s_iconst d_M_clean_108 (by decide), s_istore_n d_M_clean_109 rfl (by decide), s_iconst d_M_clean_110 (by decide), s_istore_n d_M_clean_111 rfl (by decide), s_iload_n d_M_clean_112 rfl, s_aload_n d_M_clean_113 rfl, s_geti d_M_clean_114 ci_M rfl wd_671, s_icmp_ge d_M_clean_117 (by decide), s_aload_n d_M_clean_120 rfl, s_getr d_M_clean_121 ci_M rfl wd_678, s_iload_n d_M_clean_124 rfl, s_baload d_M_clean_125, s_if_ne d_M_clean_126 (by decide), s_aload_n d_M_clean_129 rfl, s_iload_n d_M_clean_130 rfl, s_iload_n d_M_clean_131 rfl, s_iinc d_M_clean_135 (by decide) (by decide), s_iinc d_M_clean_138 (by decide) (by decide), s_goto d_M_clean_141 (by decide), s_aload_n d_M_clean_144 rfl, s_iload_n d_M_clean_145 rfl, s_puti d_M_clean_146 ci_M rfl rfl rfl wd_671, s_iconst d_M_clean_149 (by decide), s_istore_n d_M_clean_150 rfl (by decide), s_iload_n d_M_clean_151 rfl, s_aload_n d_M_clean_152 rfl, s_geti d_M_clean_153 ci_M rfl wd_671, s_icmp_ge d_M_clean_156 (by decide), s_iload_n d_M_clean_159 rfl, s_istore_n d_M_clean_160 rfl (by decide), s_iload_n d_M_clean_161 rfl, s_if_le d_M_clean_162 (by decide), s_aload_n d_M_clean_165 rfl, s_aload_n d_M_clean_166 rfl, s_aload_n d_M_clean_167 rfl, s_geti d_M_clean_168 ci_M rfl wd_670, s_iload_n d_M_clean_171 rfl, s_iadd d_M_clean_172, s_iconst d_M_clean_173 (by decide), s_isub d_M_clean_174, s_aload_n d_M_clean_178 rfl, s_aload_n d_M_clean_179 rfl, trivial⟩
def tb_M_clean_2 : List (Nat × jm_Op) := [(180, oGi 6 19 183), (183, oIl 3 184), (184, oAdd 185), (191, oIfLe 224 194), (194, oAl 0 195), (195, oIl 3 196), (196, oC 24 198), (201, oAl 0 202), (202, oIl 3 203), (203, oC 1 204), (204, oSub 205), (205, oIl 3 206), (209, oAl 0 210), (210, oC 24 212), (212, oIl 3 213), (213, oC 1 214), (214, oSub 215), (218, oInc 3 (-1) 221), (221, oGo 161), (224, oInc 2 1 227), (227, oGo 151)]
theorem ok_M_clean_2 : jm_all 116 tb_M_clean_2 := ⟨s_geti d_M_clean_180 ci_M rfl wd_670, s_iload_n d_M_clean_183 rfl, s_iadd d_M_clean_184, s_if_le d_M_clean_191 (by decide), s_aload_n d_M_clean_194 rfl, s_iload_n d_M_clean_195 rfl, s_bipush d_M_clean_196 (by decide), s_aload_n d_M_clean_201 rfl, s_iload_n d_M_clean_202 rfl, s_iconst d_M_clean_203 (by decide), s_isub d_M_clean_204, s_iload_n d_M_clean_205 rfl, s_aload_n d_M_clean_209 rfl, s_bipush d_M_clean_210 (by decide), s_iload_n d_M_clean_212 rfl, s_iconst d_M_clean_213 (by decide), s_isub d_M_clean_214, s_iinc d_M_clean_218 (by decide) (by decide), s_goto d_M_clean_221 (by decide), s_iinc d_M_clean_224 (by decide) (by decide), s_goto d_M_clean_227 (by decide), trivial⟩
def tb_M_clean : List (Nat × jm_Op) := tb_M_clean_0 ++ (tb_M_clean_1 ++ tb_M_clean_2)
theorem ok_M_clean : jm_all 116 tb_M_clean := jm_all_app ok_M_clean_0 (jm_all_app ok_M_clean_1 ok_M_clean_2)
theorem k_M_clean_34 {g : jm_G} {d : Nat} {L : List (Option jm_V)} {r : List jm_V} {σ : jm_S} {K K' : jm_O → Prop} {q0 : Nat} {x0 : Int32} (hr : Nat.ble (jm_cs r) 8 = true) (hcal : J g d 109 0 [some (aR 6 q0), some (aI x0)] [] σ K') (hk : ∀ u, K' u → jm_aft g (d + 1) 116 34 L r u K) : J g (d + 1) 116 34 L (aI x0 :: aR 6 q0 :: r) σ K :=
  J_call' (id' := 109) jm_sk (vs := [aR 6 q0, aI x0]) (inv_V (id' := 109) d_M_clean_34 ci_M wd_870 wd_872 wd_41 cw_M_lead (by decide) pn_M_lead) cw_M_lead (by decide) (by decide) (Nat.le_of_ble_eq_true rfl) rfl hr rfl hcal hk
theorem k_M_clean_45 {g : jm_G} {d : Nat} {L : List (Option jm_V)} {r : List jm_V} {σ : jm_S} {K K' : jm_O → Prop} {q0 : Nat} {x0 : Int32} (hr : Nat.ble (jm_cs r) 8 = true) (hcal : J g d 109 0 [some (aR 6 q0), some (aI x0)] [] σ K') (hk : ∀ u, K' u → jm_aft g (d + 1) 116 45 L r u K) : J g (d + 1) 116 45 L (aI x0 :: aR 6 q0 :: r) σ K :=
  J_call' (id' := 109) jm_sk (vs := [aR 6 q0, aI x0]) (inv_V (id' := 109) d_M_clean_45 ci_M wd_870 wd_872 wd_41 cw_M_lead (by decide) pn_M_lead) cw_M_lead (by decide) (by decide) (Nat.le_of_ble_eq_true rfl) rfl hr rfl hcal hk
theorem k_M_clean_73 {g : jm_G} {d : Nat} {L : List (Option jm_V)} {r : List jm_V} {σ : jm_S} {K K' : jm_O → Prop} {q0 : Nat} {x0 : Int32} {x1 : Int32} (hr : Nat.ble (jm_cs r) 8 = true) (hcal : J g d 112 0 [some (aR 6 q0), some (aI x0), some (aI x1), none] [] σ K') (hk : ∀ u, K' u → jm_aft g (d + 1) 116 73 L r u K) : J g (d + 1) 116 73 L (aI x1 :: aI x0 :: aR 6 q0 :: r) σ K :=
  J_call' (id' := 112) jm_sk (vs := [aR 6 q0, aI x0, aI x1]) (inv_V (id' := 112) d_M_clean_73 ci_M wd_882 wd_884 wd_44 cw_M_divides (by decide) pn_M_divides) cw_M_divides (by decide) (by decide) (Nat.le_of_ble_eq_true rfl) rfl hr rfl hcal hk
theorem k_M_clean_132 {g : jm_G} {d : Nat} {L : List (Option jm_V)} {r : List jm_V} {σ : jm_S} {K K' : jm_O → Prop} {q0 : Nat} {x0 : Int32} {x1 : Int32} (hr : Nat.ble (jm_cs r) 8 = true) (hcal : J g d 117 0 [some (aR 6 q0), some (aI x0), some (aI x1), none] [] σ K') (hk : ∀ u, K' u → jm_aft g (d + 1) 116 132 L r u K) : J g (d + 1) 116 132 L (aI x1 :: aI x0 :: aR 6 q0 :: r) σ K :=
  J_call' (id' := 117) jm_sk (vs := [aR 6 q0, aI x0, aI x1]) (inv_V (id' := 117) d_M_clean_132 ci_M wd_902 wd_904 wd_49 cw_M_move (by decide) pn_M_move) cw_M_move (by decide) (by decide) (Nat.le_of_ble_eq_true rfl) rfl hr rfl hcal hk
theorem k_M_clean_175 {g : jm_G} {d : Nat} {L : List (Option jm_V)} {r : List jm_V} {σ : jm_S} {K K' : jm_O → Prop} {q0 : Nat} {x0 : Int32} (hr : Nat.ble (jm_cs r) 8 = true) (hcal : J g d 109 0 [some (aR 6 q0), some (aI x0)] [] σ K') (hk : ∀ u, K' u → jm_aft g (d + 1) 116 175 L r u K) : J g (d + 1) 116 175 L (aI x0 :: aR 6 q0 :: r) σ K :=
  J_call' (id' := 109) jm_sk (vs := [aR 6 q0, aI x0]) (inv_V (id' := 109) d_M_clean_175 ci_M wd_870 wd_872 wd_41 cw_M_lead (by decide) pn_M_lead) cw_M_lead (by decide) (by decide) (Nat.le_of_ble_eq_true rfl) rfl hr rfl hcal hk
theorem k_M_clean_185 {g : jm_G} {d : Nat} {L : List (Option jm_V)} {r : List jm_V} {σ : jm_S} {K K' : jm_O → Prop} {q0 : Nat} {x0 : Int32} (hr : Nat.ble (jm_cs r) 8 = true) (hcal : J g d 109 0 [some (aR 6 q0), some (aI x0)] [] σ K') (hk : ∀ u, K' u → jm_aft g (d + 1) 116 185 L r u K) : J g (d + 1) 116 185 L (aI x0 :: aR 6 q0 :: r) σ K :=
  J_call' (id' := 109) jm_sk (vs := [aR 6 q0, aI x0]) (inv_V (id' := 109) d_M_clean_185 ci_M wd_870 wd_872 wd_41 cw_M_lead (by decide) pn_M_lead) cw_M_lead (by decide) (by decide) (Nat.le_of_ble_eq_true rfl) rfl hr rfl hcal hk
theorem k_M_clean_188 {g : jm_G} {d : Nat} {L : List (Option jm_V)} {r : List jm_V} {σ : jm_S} {K K' : jm_O → Prop} {q0 : Nat} {x0 : Int32} {x1 : Int32} (hr : Nat.ble (jm_cs r) 8 = true) (hcal : J g d 79 0 [some (aR 6 q0), some (aI x0), some (aI x1), none] [] σ K') (hk : ∀ u, K' u → jm_aft g (d + 1) 116 188 L r u K) : J g (d + 1) 116 188 L (aI x1 :: aI x0 :: aR 6 q0 :: r) σ K :=
  J_call' (id' := 79) jm_sk (vs := [aR 6 q0, aI x0, aI x1]) (inv_V (id' := 79) d_M_clean_188 ci_M wd_748 wd_750 wd_24 cw_M_compare (by decide) pn_M_compare) cw_M_compare (by decide) (by decide) (Nat.le_of_ble_eq_true rfl) rfl hr rfl hcal hk
theorem k_M_clean_198 {g : jm_G} {d : Nat} {L : List (Option jm_V)} {r : List jm_V} {σ : jm_S} {K K' : jm_O → Prop} {q0 : Nat} {x0 : Int32} {x1 : Int32} (hr : Nat.ble (jm_cs r) 8 = true) (hcal : J g d 117 0 [some (aR 6 q0), some (aI x0), some (aI x1), none] [] σ K') (hk : ∀ u, K' u → jm_aft g (d + 1) 116 198 L r u K) : J g (d + 1) 116 198 L (aI x1 :: aI x0 :: aR 6 q0 :: r) σ K :=
  J_call' (id' := 117) jm_sk (vs := [aR 6 q0, aI x0, aI x1]) (inv_V (id' := 117) d_M_clean_198 ci_M wd_902 wd_904 wd_49 cw_M_move (by decide) pn_M_move) cw_M_move (by decide) (by decide) (Nat.le_of_ble_eq_true rfl) rfl hr rfl hcal hk
theorem k_M_clean_206 {g : jm_G} {d : Nat} {L : List (Option jm_V)} {r : List jm_V} {σ : jm_S} {K K' : jm_O → Prop} {q0 : Nat} {x0 : Int32} {x1 : Int32} (hr : Nat.ble (jm_cs r) 8 = true) (hcal : J g d 117 0 [some (aR 6 q0), some (aI x0), some (aI x1), none] [] σ K') (hk : ∀ u, K' u → jm_aft g (d + 1) 116 206 L r u K) : J g (d + 1) 116 206 L (aI x1 :: aI x0 :: aR 6 q0 :: r) σ K :=
  J_call' (id' := 117) jm_sk (vs := [aR 6 q0, aI x0, aI x1]) (inv_V (id' := 117) d_M_clean_206 ci_M wd_902 wd_904 wd_49 cw_M_move (by decide) pn_M_move) cw_M_move (by decide) (by decide) (Nat.le_of_ble_eq_true rfl) rfl hr rfl hcal hk
theorem k_M_clean_215 {g : jm_G} {d : Nat} {L : List (Option jm_V)} {r : List jm_V} {σ : jm_S} {K K' : jm_O → Prop} {q0 : Nat} {x0 : Int32} {x1 : Int32} (hr : Nat.ble (jm_cs r) 8 = true) (hcal : J g d 117 0 [some (aR 6 q0), some (aI x0), some (aI x1), none] [] σ K') (hk : ∀ u, K' u → jm_aft g (d + 1) 116 215 L r u K) : J g (d + 1) 116 215 L (aI x1 :: aI x0 :: aR 6 q0 :: r) σ K :=
  J_call' (id' := 117) jm_sk (vs := [aR 6 q0, aI x0, aI x1]) (inv_V (id' := 117) d_M_clean_215 ci_M wd_902 wd_904 wd_49 cw_M_move (by decide) pn_M_move) cw_M_move (by decide) (by decide) (Nat.le_of_ble_eq_true rfl) rfl hr rfl hcal hk
theorem r_M_clean_230 {g : jm_G} {d : Nat} {L : List (Option jm_V)} {σ : jm_S} {K : jm_O → Prop} (hK : K (σ, .inl none)) : J g d 116 230 L [] σ K := J_vret d_M_clean_230 rfl hK
-- IdealProverModel move (II)V
theorem d_M_move_0 : decode prog_12_method_40_code 0 = .ok (.iload_n 1, 1) := by decide +kernel
theorem d_M_move_1 : decode prog_12_method_40_code 1 = .ok (.iload_n 2, 1) := by decide +kernel
theorem d_M_move_2 : decode prog_12_method_40_code 2 = .ok (.if_icmp .ne 4, 3) := by decide +kernel
theorem d_M_move_5 : decode prog_12_method_40_code 5 = .ok (.return_, 1) := by decide +kernel
theorem d_M_move_6 : decode prog_12_method_40_code 6 = .ok (.aload_n 0, 1) := by decide +kernel
theorem d_M_move_7 : decode prog_12_method_40_code 7 = .ok (.aload_n 0, 1) := by decide +kernel
theorem d_M_move_8 : decode prog_12_method_40_code 8 = .ok (.getfield 139, 3) := by decide +kernel
theorem d_M_move_11 : decode prog_12_method_40_code 11 = .ok (.iload_n 1, 1) := by decide +kernel
theorem d_M_move_12 : decode prog_12_method_40_code 12 = .ok (.iadd, 1) := by decide +kernel
theorem d_M_move_13 : decode prog_12_method_40_code 13 = .ok (.aload_n 0, 1) := by decide +kernel
theorem d_M_move_14 : decode prog_12_method_40_code 14 = .ok (.getfield 139, 3) := by decide +kernel
theorem d_M_move_17 : decode prog_12_method_40_code 17 = .ok (.iload_n 2, 1) := by decide +kernel
theorem d_M_move_18 : decode prog_12_method_40_code 18 = .ok (.iadd, 1) := by decide +kernel
theorem d_M_move_19 : decode prog_12_method_40_code 19 = .ok (.invokevirtual 106, 3) := by decide +kernel
theorem d_M_move_22 : decode prog_12_method_40_code 22 = .ok (.iconst 0, 1) := by decide +kernel
theorem d_M_move_23 : decode prog_12_method_40_code 23 = .ok (.istore_n 3, 1) := by decide +kernel
theorem d_M_move_24 : decode prog_12_method_40_code 24 = .ok (.iload_n 3, 1) := by decide +kernel
theorem d_M_move_25 : decode prog_12_method_40_code 25 = .ok (.aload_n 0, 1) := by decide +kernel
theorem d_M_move_26 : decode prog_12_method_40_code 26 = .ok (.getfield 90, 3) := by decide +kernel
theorem d_M_move_29 : decode prog_12_method_40_code 29 = .ok (.if_icmp .ge 32, 3) := by decide +kernel
theorem d_M_move_32 : decode prog_12_method_40_code 32 = .ok (.aload_n 0, 1) := by decide +kernel
theorem d_M_move_33 : decode prog_12_method_40_code 33 = .ok (.getfield 151, 3) := by decide +kernel
theorem d_M_move_36 : decode prog_12_method_40_code 36 = .ok (.ifCond .eq 25, 3) := by decide +kernel
theorem d_M_move_39 : decode prog_12_method_40_code 39 = .ok (.aload_n 0, 1) := by decide +kernel
theorem d_M_move_40 : decode prog_12_method_40_code 40 = .ok (.aload_n 0, 1) := by decide +kernel
theorem d_M_move_41 : decode prog_12_method_40_code 41 = .ok (.iload_n 1, 1) := by decide +kernel
theorem d_M_move_42 : decode prog_12_method_40_code 42 = .ok (.iload_n 3, 1) := by decide +kernel
theorem d_M_move_43 : decode prog_12_method_40_code 43 = .ok (.invokevirtual 145, 3) := by decide +kernel
theorem d_M_move_46 : decode prog_12_method_40_code 46 = .ok (.aload_n 0, 1) := by decide +kernel
theorem d_M_move_47 : decode prog_12_method_40_code 47 = .ok (.iload_n 2, 1) := by decide +kernel
theorem d_M_move_48 : decode prog_12_method_40_code 48 = .ok (.iload_n 3, 1) := by decide +kernel
theorem d_M_move_49 : decode prog_12_method_40_code 49 = .ok (.invokevirtual 145, 3) := by decide +kernel
theorem d_M_move_52 : decode prog_12_method_40_code 52 = .ok (.invokevirtual 106, 3) := by decide +kernel
theorem d_M_move_55 : decode prog_12_method_40_code 55 = .ok (.iinc 3 1, 3) := by decide +kernel
theorem d_M_move_58 : decode prog_12_method_40_code 58 = .ok (.goto (-34), 3) := by decide +kernel
theorem d_M_move_61 : decode prog_12_method_40_code 61 = .ok (.return_, 1) := by decide +kernel
def tb_M_move : List (Nat × jm_Op) := [(0, oIl 1 1), (1, oIl 2 2), (2, oIcNe 6 5), (6, oAl 0 7), (7, oAl 0 8), (8, oGi 6 19 11), (11, oIl 1 12), (12, oAdd 13), (13, oAl 0 14), (14, oGi 6 19 17), (17, oIl 2 18), (18, oAdd 19), (22, oC 0 23), (23, oIs 3 24), (24, oIl 3 25), (25, oAl 0 26), (26, oGi 6 7 29), (29, oIcGe 61 32), (32, oAl 0 33), (33, oGi 6 22 36), (36, oIfEq 61 39), (39, oAl 0 40), (40, oAl 0 41), (41, oIl 1 42), (42, oIl 3 43), (46, oAl 0 47), (47, oIl 2 48), (48, oIl 3 49), (55, oInc 3 1 58), (58, oGo 24)]
theorem ok_M_move : jm_all 117 tb_M_move := ⟨s_iload_n d_M_move_0 rfl, s_iload_n d_M_move_1 rfl, s_icmp_ne d_M_move_2 (by decide), s_aload_n d_M_move_6 rfl, s_aload_n d_M_move_7 rfl, s_geti d_M_move_8 ci_M rfl wd_670, s_iload_n d_M_move_11 rfl, s_iadd d_M_move_12, s_aload_n d_M_move_13 rfl, s_geti d_M_move_14 ci_M rfl wd_670, s_iload_n d_M_move_17 rfl, s_iadd d_M_move_18, s_iconst d_M_move_22 (by decide), s_istore_n d_M_move_23 rfl (by decide), s_iload_n d_M_move_24 rfl, s_aload_n d_M_move_25 rfl, s_geti d_M_move_26 ci_M rfl wd_658, s_icmp_ge d_M_move_29 (by decide), s_aload_n d_M_move_32 rfl, s_geti d_M_move_33 ci_M rfl wd_673, s_if_eq d_M_move_36 (by decide), s_aload_n d_M_move_39 rfl, s_aload_n d_M_move_40 rfl, s_iload_n d_M_move_41 rfl, s_iload_n d_M_move_42 rfl, s_aload_n d_M_move_46 rfl, s_iload_n d_M_move_47 rfl, s_iload_n d_M_move_48 rfl, s_iinc d_M_move_55 (by decide) (by decide), s_goto d_M_move_58 (by decide), trivial⟩
theorem r_M_move_5 {g : jm_G} {d : Nat} {L : List (Option jm_V)} {σ : jm_S} {K : jm_O → Prop} (hK : K (σ, .inl none)) : J g d 117 5 L [] σ K := J_vret d_M_move_5 rfl hK
theorem k_M_move_19 {g : jm_G} {d : Nat} {L : List (Option jm_V)} {r : List jm_V} {σ : jm_S} {K K' : jm_O → Prop} {q0 : Nat} {x0 : Int32} {x1 : Int32} (hr : Nat.ble (jm_cs r) 8 = true) (hcal : J g d 84 0 [some (aR 6 q0), some (aI x0), some (aI x1), none] [] σ K') (hk : ∀ u, K' u → jm_aft g (d + 1) 117 19 L r u K) : J g (d + 1) 117 19 L (aI x1 :: aI x0 :: aR 6 q0 :: r) σ K :=
  J_call' (id' := 84) jm_sk (vs := [aR 6 q0, aI x0, aI x1]) (inv_V (id' := 84) d_M_move_19 ci_M wd_768 wd_770 wd_26 cw_M_copy (by decide) pn_M_copy) cw_M_copy (by decide) (by decide) (Nat.le_of_ble_eq_true rfl) rfl hr rfl hcal hk
theorem k_M_move_43 {g : jm_G} {d : Nat} {L : List (Option jm_V)} {r : List jm_V} {σ : jm_S} {K K' : jm_O → Prop} {q0 : Nat} {x0 : Int32} {x1 : Int32} (hr : Nat.ble (jm_cs r) 8 = true) (hcal : J g d 104 0 [some (aR 6 q0), some (aI x0), some (aI x1)] [] σ K') (hk : ∀ u, K' u → jm_aft g (d + 1) 117 43 L r u K) : J g (d + 1) 117 43 L (aI x1 :: aI x0 :: aR 6 q0 :: r) σ K :=
  J_call' (id' := 104) jm_sk (vs := [aR 6 q0, aI x0, aI x1]) (inv_V (id' := 104) d_M_move_43 ci_M wd_850 wd_852 wd_36 cw_M_cofactor (by decide) pn_M_cofactor) cw_M_cofactor (by decide) (by decide) (Nat.le_of_ble_eq_true rfl) rfl hr rfl hcal hk
theorem k_M_move_49 {g : jm_G} {d : Nat} {L : List (Option jm_V)} {r : List jm_V} {σ : jm_S} {K K' : jm_O → Prop} {q0 : Nat} {x0 : Int32} {x1 : Int32} (hr : Nat.ble (jm_cs r) 8 = true) (hcal : J g d 104 0 [some (aR 6 q0), some (aI x0), some (aI x1)] [] σ K') (hk : ∀ u, K' u → jm_aft g (d + 1) 117 49 L r u K) : J g (d + 1) 117 49 L (aI x1 :: aI x0 :: aR 6 q0 :: r) σ K :=
  J_call' (id' := 104) jm_sk (vs := [aR 6 q0, aI x0, aI x1]) (inv_V (id' := 104) d_M_move_49 ci_M wd_850 wd_852 wd_36 cw_M_cofactor (by decide) pn_M_cofactor) cw_M_cofactor (by decide) (by decide) (Nat.le_of_ble_eq_true rfl) rfl hr rfl hcal hk
theorem k_M_move_52 {g : jm_G} {d : Nat} {L : List (Option jm_V)} {r : List jm_V} {σ : jm_S} {K K' : jm_O → Prop} {q0 : Nat} {x0 : Int32} {x1 : Int32} (hr : Nat.ble (jm_cs r) 8 = true) (hcal : J g d 84 0 [some (aR 6 q0), some (aI x0), some (aI x1), none] [] σ K') (hk : ∀ u, K' u → jm_aft g (d + 1) 117 52 L r u K) : J g (d + 1) 117 52 L (aI x1 :: aI x0 :: aR 6 q0 :: r) σ K :=
  J_call' (id' := 84) jm_sk (vs := [aR 6 q0, aI x0, aI x1]) (inv_V (id' := 84) d_M_move_52 ci_M wd_768 wd_770 wd_26 cw_M_copy (by decide) pn_M_copy) cw_M_copy (by decide) (by decide) (Nat.le_of_ble_eq_true rfl) rfl hr rfl hcal hk
theorem r_M_move_61 {g : jm_G} {d : Nat} {L : List (Option jm_V)} {σ : jm_S} {K : jm_O → Prop} (hK : K (σ, .inl none)) : J g d 117 61 L [] σ K := J_vret d_M_move_61 rfl hK
-- IdealProverModel reduce (I)V
theorem d_M_reduce_0 : decode prog_12_method_41_code 0 = .ok (.aload_n 0, 1) := by decide +kernel
theorem d_M_reduce_1 : decode prog_12_method_41_code 1 = .ok (.getfield 139, 3) := by decide +kernel
theorem d_M_reduce_4 : decode prog_12_method_41_code 4 = .ok (.iload_n 1, 1) := by decide +kernel
theorem d_M_reduce_5 : decode prog_12_method_41_code 5 = .ok (.iadd, 1) := by decide +kernel
theorem d_M_reduce_6 : decode prog_12_method_41_code 6 = .ok (.istore_n 2, 1) := by decide +kernel
theorem d_M_reduce_7 : decode prog_12_method_41_code 7 = .ok (.sipush 151, 3) := by decide +kernel
theorem d_M_reduce_10 : decode prog_12_method_41_code 10 = .ok (.istore_n 3, 1) := by decide +kernel
theorem d_M_reduce_11 : decode prog_12_method_41_code 11 = .ok (.aload_n 0, 1) := by decide +kernel
theorem d_M_reduce_12 : decode prog_12_method_41_code 12 = .ok (.getfield 8, 3) := by decide +kernel
theorem d_M_reduce_15 : decode prog_12_method_41_code 15 = .ok (.bipush 100, 2) := by decide +kernel
theorem d_M_reduce_17 : decode prog_12_method_41_code 17 = .ok (.iload_n 2, 1) := by decide +kernel
theorem d_M_reduce_18 : decode prog_12_method_41_code 18 = .ok (.imul, 1) := by decide +kernel
theorem d_M_reduce_19 : decode prog_12_method_41_code 19 = .ok (.iaload, 1) := by decide +kernel
theorem d_M_reduce_20 : decode prog_12_method_41_code 20 = .ok (.istore 4, 2) := by decide +kernel
theorem d_M_reduce_22 : decode prog_12_method_41_code 22 = .ok (.aload_n 0, 1) := by decide +kernel
theorem d_M_reduce_23 : decode prog_12_method_41_code 23 = .ok (.getfield 14, 3) := by decide +kernel
theorem d_M_reduce_26 : decode prog_12_method_41_code 26 = .ok (.bipush 100, 2) := by decide +kernel
theorem d_M_reduce_28 : decode prog_12_method_41_code 28 = .ok (.iload_n 2, 1) := by decide +kernel
theorem d_M_reduce_29 : decode prog_12_method_41_code 29 = .ok (.imul, 1) := by decide +kernel
theorem d_M_reduce_30 : decode prog_12_method_41_code 30 = .ok (.iaload, 1) := by decide +kernel
theorem d_M_reduce_31 : decode prog_12_method_41_code 31 = .ok (.istore 5, 2) := by decide +kernel
theorem d_M_reduce_33 : decode prog_12_method_41_code 33 = .ok (.aload_n 0, 1) := by decide +kernel
theorem d_M_reduce_34 : decode prog_12_method_41_code 34 = .ok (.iload_n 2, 1) := by decide +kernel
theorem d_M_reduce_35 : decode prog_12_method_41_code 35 = .ok (.invokevirtual 130, 3) := by decide +kernel
theorem d_M_reduce_38 : decode prog_12_method_41_code 38 = .ok (.istore 6, 2) := by decide +kernel
theorem d_M_reduce_40 : decode prog_12_method_41_code 40 = .ok (.aload_n 0, 1) := by decide +kernel
theorem d_M_reduce_41 : decode prog_12_method_41_code 41 = .ok (.iload_n 2, 1) := by decide +kernel
theorem d_M_reduce_42 : decode prog_12_method_41_code 42 = .ok (.iload_n 3, 1) := by decide +kernel
theorem d_M_reduce_43 : decode prog_12_method_41_code 43 = .ok (.invokevirtual 106, 3) := by decide +kernel
theorem d_M_reduce_46 : decode prog_12_method_41_code 46 = .ok (.aload_n 0, 1) := by decide +kernel
theorem d_M_reduce_47 : decode prog_12_method_41_code 47 = .ok (.iload_n 3, 1) := by decide +kernel
theorem d_M_reduce_48 : decode prog_12_method_41_code 48 = .ok (.iload 4, 2) := by decide +kernel
theorem d_M_reduce_50 : decode prog_12_method_41_code 50 = .ok (.ineg, 1) := by decide +kernel
theorem d_M_reduce_51 : decode prog_12_method_41_code 51 = .ok (.iload 5, 2) := by decide +kernel
theorem d_M_reduce_53 : decode prog_12_method_41_code 53 = .ok (.iload 6, 2) := by decide +kernel
theorem d_M_reduce_55 : decode prog_12_method_41_code 55 = .ok (.invokevirtual 82, 3) := by decide +kernel
theorem d_M_reduce_58 : decode prog_12_method_41_code 58 = .ok (.aload_n 0, 1) := by decide +kernel
theorem d_M_reduce_59 : decode prog_12_method_41_code 59 = .ok (.iload_n 1, 1) := by decide +kernel
theorem d_M_reduce_60 : decode prog_12_method_41_code 60 = .ok (.putfield 136, 3) := by decide +kernel
theorem d_M_reduce_63 : decode prog_12_method_41_code 63 = .ok (.aload_n 0, 1) := by decide +kernel
theorem d_M_reduce_64 : decode prog_12_method_41_code 64 = .ok (.iload_n 3, 1) := by decide +kernel
theorem d_M_reduce_65 : decode prog_12_method_41_code 65 = .ok (.sipush 152, 3) := by decide +kernel
theorem d_M_reduce_68 : decode prog_12_method_41_code 68 = .ok (.invokevirtual 189, 3) := by decide +kernel
theorem d_M_reduce_71 : decode prog_12_method_41_code 71 = .ok (.aload_n 0, 1) := by decide +kernel
theorem d_M_reduce_72 : decode prog_12_method_41_code 72 = .ok (.iconst (-1), 1) := by decide +kernel
theorem d_M_reduce_73 : decode prog_12_method_41_code 73 = .ok (.putfield 136, 3) := by decide +kernel
theorem d_M_reduce_76 : decode prog_12_method_41_code 76 = .ok (.aload_n 0, 1) := by decide +kernel
theorem d_M_reduce_77 : decode prog_12_method_41_code 77 = .ok (.getfield 54, 3) := by decide +kernel
theorem d_M_reduce_80 : decode prog_12_method_41_code 80 = .ok (.ifCond .ne 10, 3) := by decide +kernel
theorem d_M_reduce_83 : decode prog_12_method_41_code 83 = .ok (.aload_n 0, 1) := by decide +kernel
theorem d_M_reduce_84 : decode prog_12_method_41_code 84 = .ok (.getfield 127, 3) := by decide +kernel
theorem d_M_reduce_87 : decode prog_12_method_41_code 87 = .ok (.ifCond .eq 4, 3) := by decide +kernel
theorem d_M_reduce_90 : decode prog_12_method_41_code 90 = .ok (.return_, 1) := by decide +kernel
theorem d_M_reduce_91 : decode prog_12_method_41_code 91 = .ok (.aload_n 0, 1) := by decide +kernel
theorem d_M_reduce_92 : decode prog_12_method_41_code 92 = .ok (.sipush 152, 3) := by decide +kernel
theorem d_M_reduce_95 : decode prog_12_method_41_code 95 = .ok (.iload 4, 2) := by decide +kernel
theorem d_M_reduce_97 : decode prog_12_method_41_code 97 = .ok (.iload 5, 2) := by decide +kernel
theorem d_M_reduce_99 : decode prog_12_method_41_code 99 = .ok (.iload 6, 2) := by decide +kernel
theorem d_M_reduce_101 : decode prog_12_method_41_code 101 = .ok (.invokevirtual 82, 3) := by decide +kernel
theorem d_M_reduce_104 : decode prog_12_method_41_code 104 = .ok (.aload_n 0, 1) := by decide +kernel
theorem d_M_reduce_105 : decode prog_12_method_41_code 105 = .ok (.sipush 152, 3) := by decide +kernel
theorem d_M_reduce_108 : decode prog_12_method_41_code 108 = .ok (.iload_n 2, 1) := by decide +kernel
theorem d_M_reduce_109 : decode prog_12_method_41_code 109 = .ok (.invokevirtual 106, 3) := by decide +kernel
theorem d_M_reduce_112 : decode prog_12_method_41_code 112 = .ok (.iconst 0, 1) := by decide +kernel
theorem d_M_reduce_113 : decode prog_12_method_41_code 113 = .ok (.istore 7, 2) := by decide +kernel
theorem d_M_reduce_115 : decode prog_12_method_41_code 115 = .ok (.iload 7, 2) := by decide +kernel
theorem d_M_reduce_117 : decode prog_12_method_41_code 117 = .ok (.aload_n 0, 1) := by decide +kernel
theorem d_M_reduce_118 : decode prog_12_method_41_code 118 = .ok (.getfield 90, 3) := by decide +kernel
theorem d_M_reduce_121 : decode prog_12_method_41_code 121 = .ok (.if_icmp .ge 70, 3) := by decide +kernel
theorem d_M_reduce_124 : decode prog_12_method_41_code 124 = .ok (.aload_n 0, 1) := by decide +kernel
theorem d_M_reduce_125 : decode prog_12_method_41_code 125 = .ok (.getfield 151, 3) := by decide +kernel
theorem d_M_reduce_128 : decode prog_12_method_41_code 128 = .ok (.ifCond .eq 63, 3) := by decide +kernel
theorem d_M_reduce_131 : decode prog_12_method_41_code 131 = .ok (.aload_n 0, 1) := by decide +kernel
theorem d_M_reduce_132 : decode prog_12_method_41_code 132 = .ok (.getfield 54, 3) := by decide +kernel
theorem d_M_reduce_135 : decode prog_12_method_41_code 135 = .ok (.ifCond .ne 56, 3) := by decide +kernel
theorem d_M_reduce_138 : decode prog_12_method_41_code 138 = .ok (.aload_n 0, 1) := by decide +kernel
theorem d_M_reduce_139 : decode prog_12_method_41_code 139 = .ok (.aload_n 0, 1) := by decide +kernel
theorem d_M_reduce_140 : decode prog_12_method_41_code 140 = .ok (.iload_n 1, 1) := by decide +kernel
theorem d_M_reduce_141 : decode prog_12_method_41_code 141 = .ok (.iload 7, 2) := by decide +kernel
theorem d_M_reduce_143 : decode prog_12_method_41_code 143 = .ok (.invokevirtual 145, 3) := by decide +kernel
theorem d_M_reduce_146 : decode prog_12_method_41_code 146 = .ok (.sipush 154, 3) := by decide +kernel
theorem d_M_reduce_149 : decode prog_12_method_41_code 149 = .ok (.iload 7, 2) := by decide +kernel
theorem d_M_reduce_151 : decode prog_12_method_41_code 151 = .ok (.iadd, 1) := by decide +kernel
theorem d_M_reduce_152 : decode prog_12_method_41_code 152 = .ok (.invokevirtual 106, 3) := by decide +kernel
theorem d_M_reduce_155 : decode prog_12_method_41_code 155 = .ok (.aload_n 0, 1) := by decide +kernel
theorem d_M_reduce_156 : decode prog_12_method_41_code 156 = .ok (.sipush 154, 3) := by decide +kernel
theorem d_M_reduce_159 : decode prog_12_method_41_code 159 = .ok (.iload 7, 2) := by decide +kernel
theorem d_M_reduce_161 : decode prog_12_method_41_code 161 = .ok (.iadd, 1) := by decide +kernel
theorem d_M_reduce_162 : decode prog_12_method_41_code 162 = .ok (.iload 7, 2) := by decide +kernel
theorem d_M_reduce_164 : decode prog_12_method_41_code 164 = .ok (.iconst (-1), 1) := by decide +kernel
theorem d_M_reduce_165 : decode prog_12_method_41_code 165 = .ok (.invokevirtual 192, 3) := by decide +kernel
theorem d_M_reduce_168 : decode prog_12_method_41_code 168 = .ok (.aload_n 0, 1) := by decide +kernel
theorem d_M_reduce_169 : decode prog_12_method_41_code 169 = .ok (.sipush 154, 3) := by decide +kernel
theorem d_M_reduce_172 : decode prog_12_method_41_code 172 = .ok (.iload 7, 2) := by decide +kernel
theorem d_M_reduce_174 : decode prog_12_method_41_code 174 = .ok (.iadd, 1) := by decide +kernel
theorem d_M_reduce_175 : decode prog_12_method_41_code 175 = .ok (.aload_n 0, 1) := by decide +kernel
theorem d_M_reduce_176 : decode prog_12_method_41_code 176 = .ok (.iload_n 1, 1) := by decide +kernel
theorem d_M_reduce_177 : decode prog_12_method_41_code 177 = .ok (.iload 7, 2) := by decide +kernel
theorem d_M_reduce_179 : decode prog_12_method_41_code 179 = .ok (.invokevirtual 145, 3) := by decide +kernel
theorem d_M_reduce_182 : decode prog_12_method_41_code 182 = .ok (.invokevirtual 106, 3) := by decide +kernel
theorem d_M_reduce_185 : decode prog_12_method_41_code 185 = .ok (.iinc 7 1, 3) := by decide +kernel
theorem d_M_reduce_188 : decode prog_12_method_41_code 188 = .ok (.goto (-73), 3) := by decide +kernel
theorem d_M_reduce_191 : decode prog_12_method_41_code 191 = .ok (.return_, 1) := by decide +kernel
def tb_M_reduce_0 : List (Nat × jm_Op) := [(0, oAl 0 1), (1, oGi 6 19 4), (4, oIl 1 5), (5, oAdd 6), (6, oIs 2 7), (7, oC 151 10), (10, oIs 3 11), (11, oAl 0 12), (12, oGr 6 3 8 15), (15, oC 100 17), (17, oIl 2 18), (18, oMul 19), (19, oIa 20), (20, oIs 4 22), (22, oAl 0 23), (23, oGr 6 4 8 26), (26, oC 100 28), (28, oIl 2 29), (29, oMul 30), (30, oIa 31), (31, oIs 5 33), (33, oAl 0 34), (34, oIl 2 35), (38, oIs 6 40), (40, oAl 0 41), (41, oIl 2 42), (42, oIl 3 43), (46, oAl 0 47), (47, oIl 3 48), (48, oIl 4 50), (50, oNeg 51), (51, oIl 5 53), (53, oIl 6 55), (58, oAl 0 59), (59, oIl 1 60), (60, oPi 6 21 63), (63, oAl 0 64), (64, oIl 3 65), (65, oC 152 68), (71, oAl 0 72), (72, oC (-1) 73), (73, oPi 6 21 76), (76, oAl 0 77), (77, oGi 6 11 80), (80, oIfNe 90 83), (83, oAl 0 84), (84, oGi 6 12 87), (87, oIfEq 91 90), (91, oAl 0 92), (92, oC 152 95)]
theorem ok_M_reduce_0 : jm_all 118 tb_M_reduce_0 := ⟨s_aload_n d_M_reduce_0 rfl, s_geti d_M_reduce_1 ci_M rfl wd_670, s_iload_n d_M_reduce_4 rfl, s_iadd d_M_reduce_5, s_istore_n d_M_reduce_6 rfl (by decide), s_sipush d_M_reduce_7 (by decide), s_istore_n d_M_reduce_10 rfl (by decide), s_aload_n d_M_reduce_11 rfl, s_getr d_M_reduce_12 ci_M rfl wd_654, s_bipush d_M_reduce_15 (by decide), s_iload_n d_M_reduce_17 rfl, s_imul d_M_reduce_18, s_iaload d_M_reduce_19, s_istore d_M_reduce_20 (by decide), s_aload_n d_M_reduce_22 rfl, s_getr d_M_reduce_23 ci_M rfl wd_655, s_bipush d_M_reduce_26 (by decide), s_iload_n d_M_reduce_28 rfl, s_imul d_M_reduce_29, s_iaload d_M_reduce_30, s_istore d_M_reduce_31 (by decide), s_aload_n d_M_reduce_33 rfl, s_iload_n d_M_reduce_34 rfl, s_istore d_M_reduce_38 (by decide), s_aload_n d_M_reduce_40 rfl, s_iload_n d_M_reduce_41 rfl, s_iload_n d_M_reduce_42 rfl, s_aload_n d_M_reduce_46 rfl, s_iload_n d_M_reduce_47 rfl, s_iload d_M_reduce_48, s_ineg d_M_reduce_50, s_iload d_M_reduce_51, s_iload d_M_reduce_53, s_aload_n d_M_reduce_58 rfl, s_iload_n d_M_reduce_59 rfl, s_puti d_M_reduce_60 ci_M rfl rfl rfl wd_672, s_aload_n d_M_reduce_63 rfl, s_iload_n d_M_reduce_64 rfl, s_sipush d_M_reduce_65 (by decide), s_aload_n d_M_reduce_71 rfl, s_iconst d_M_reduce_72 (by decide), s_puti d_M_reduce_73 ci_M rfl rfl rfl wd_672, s_aload_n d_M_reduce_76 rfl, s_geti d_M_reduce_77 ci_M rfl wd_662, s_if_ne d_M_reduce_80 (by decide), s_aload_n d_M_reduce_83 rfl, s_geti d_M_reduce_84 ci_M rfl wd_663, s_if_eq d_M_reduce_87 (by decide), s_aload_n d_M_reduce_91 rfl, s_sipush d_M_reduce_92 (by decide), trivial⟩
def tb_M_reduce_1 : List (Nat × jm_Op) := [(95, oIl 4 97), (97, oIl 5 99), (99, oIl 6 101), (104, oAl 0 105), (105, oC 152 108), (108, oIl 2 109), (112, oC 0 113), (113, oIs 7 115), (115, oIl 7 117), (117, oAl 0 118), (118, oGi 6 7 121), (121, oIcGe 191 124), (124, oAl 0 125), (125, oGi 6 22 128), (128, oIfEq 191 131), (131, oAl 0 132), (132, oGi 6 11 135), (135, oIfNe 191 138), (138, oAl 0 139), (139, oAl 0 140), (140, oIl 1 141), (141, oIl 7 143), (146, oC 154 149), (149, oIl 7 151), (151, oAdd 152), (155, oAl 0 156), (156, oC 154 159), (159, oIl 7 161), (161, oAdd 162), (162, oIl 7 164), (164, oC (-1) 165), (168, oAl 0 169), (169, oC 154 172), (172, oIl 7 174), (174, oAdd 175), (175, oAl 0 176), (176, oIl 1 177), (177, oIl 7 179), (185, oInc 7 1 188), (188, oGo 115)]
theorem ok_M_reduce_1 : jm_all 118 tb_M_reduce_1 := ⟨s_iload d_M_reduce_95, s_iload d_M_reduce_97, s_iload d_M_reduce_99, s_aload_n d_M_reduce_104 rfl, s_sipush d_M_reduce_105 (by decide), s_iload_n d_M_reduce_108 rfl, s_iconst d_M_reduce_112 (by decide), s_istore d_M_reduce_113 (by decide), s_iload d_M_reduce_115, s_aload_n d_M_reduce_117 rfl, s_geti d_M_reduce_118 ci_M rfl wd_658, s_icmp_ge d_M_reduce_121 (by decide), s_aload_n d_M_reduce_124 rfl, s_geti d_M_reduce_125 ci_M rfl wd_673, s_if_eq d_M_reduce_128 (by decide), s_aload_n d_M_reduce_131 rfl, s_geti d_M_reduce_132 ci_M rfl wd_662, s_if_ne d_M_reduce_135 (by decide), s_aload_n d_M_reduce_138 rfl, s_aload_n d_M_reduce_139 rfl, s_iload_n d_M_reduce_140 rfl, s_iload d_M_reduce_141, s_sipush d_M_reduce_146 (by decide), s_iload d_M_reduce_149, s_iadd d_M_reduce_151, s_aload_n d_M_reduce_155 rfl, s_sipush d_M_reduce_156 (by decide), s_iload d_M_reduce_159, s_iadd d_M_reduce_161, s_iload d_M_reduce_162, s_iconst d_M_reduce_164 (by decide), s_aload_n d_M_reduce_168 rfl, s_sipush d_M_reduce_169 (by decide), s_iload d_M_reduce_172, s_iadd d_M_reduce_174, s_aload_n d_M_reduce_175 rfl, s_iload_n d_M_reduce_176 rfl, s_iload d_M_reduce_177, s_iinc d_M_reduce_185 (by decide) (by decide), s_goto d_M_reduce_188 (by decide), trivial⟩
def tb_M_reduce : List (Nat × jm_Op) := tb_M_reduce_0 ++ tb_M_reduce_1
theorem ok_M_reduce : jm_all 118 tb_M_reduce := jm_all_app ok_M_reduce_0 ok_M_reduce_1
theorem k_M_reduce_35 {g : jm_G} {d : Nat} {L : List (Option jm_V)} {r : List jm_V} {σ : jm_S} {K K' : jm_O → Prop} {q0 : Nat} {x0 : Int32} (hr : Nat.ble (jm_cs r) 8 = true) (hcal : J g d 109 0 [some (aR 6 q0), some (aI x0)] [] σ K') (hk : ∀ u, K' u → jm_aft g (d + 1) 118 35 L r u K) : J g (d + 1) 118 35 L (aI x0 :: aR 6 q0 :: r) σ K :=
  J_call' (id' := 109) jm_sk (vs := [aR 6 q0, aI x0]) (inv_V (id' := 109) d_M_reduce_35 ci_M wd_870 wd_872 wd_41 cw_M_lead (by decide) pn_M_lead) cw_M_lead (by decide) (by decide) (Nat.le_of_ble_eq_true rfl) rfl hr rfl hcal hk
theorem k_M_reduce_43 {g : jm_G} {d : Nat} {L : List (Option jm_V)} {r : List jm_V} {σ : jm_S} {K K' : jm_O → Prop} {q0 : Nat} {x0 : Int32} {x1 : Int32} (hr : Nat.ble (jm_cs r) 8 = true) (hcal : J g d 84 0 [some (aR 6 q0), some (aI x0), some (aI x1), none] [] σ K') (hk : ∀ u, K' u → jm_aft g (d + 1) 118 43 L r u K) : J g (d + 1) 118 43 L (aI x1 :: aI x0 :: aR 6 q0 :: r) σ K :=
  J_call' (id' := 84) jm_sk (vs := [aR 6 q0, aI x0, aI x1]) (inv_V (id' := 84) d_M_reduce_43 ci_M wd_768 wd_770 wd_26 cw_M_copy (by decide) pn_M_copy) cw_M_copy (by decide) (by decide) (Nat.le_of_ble_eq_true rfl) rfl hr rfl hcal hk
theorem k_M_reduce_55 {g : jm_G} {d : Nat} {L : List (Option jm_V)} {r : List jm_V} {σ : jm_S} {K K' : jm_O → Prop} {q0 : Nat} {x0 : Int32} {x1 : Int32} {x2 : Int32} {x3 : Int32} (hr : Nat.ble (jm_cs r) 8 = true) (hcal : J g d 86 0 [some (aR 6 q0), some (aI x0), some (aI x1), some (aI x2), some (aI x3), none, none, none] [] σ K') (hk : ∀ u, K' u → jm_aft g (d + 1) 118 55 L r u K) : J g (d + 1) 118 55 L (aI x3 :: aI x2 :: aI x1 :: aI x0 :: aR 6 q0 :: r) σ K :=
  J_call' (id' := 86) jm_sk (vs := [aR 6 q0, aI x0, aI x1, aI x2, aI x3]) (inv_V (id' := 86) d_M_reduce_55 ci_M wd_778 wd_780 wd_28 cw_M_comes (by decide) pn_M_comes) cw_M_comes (by decide) (by decide) (Nat.le_of_ble_eq_true rfl) rfl hr rfl hcal hk
theorem k_M_reduce_68 {g : jm_G} {d : Nat} {L : List (Option jm_V)} {r : List jm_V} {σ : jm_S} {K K' : jm_O → Prop} {q0 : Nat} {x0 : Int32} {x1 : Int32} (hr : Nat.ble (jm_cs r) 8 = true) (hcal : J g d 114 0 [some (aR 6 q0), some (aI x0), some (aI x1), none, none, none, none, none, none, none, none, none] [] σ K') (hk : ∀ u, K' u → jm_aft g (d + 1) 118 68 L r u K) : J g (d + 1) 118 68 L (aI x1 :: aI x0 :: aR 6 q0 :: r) σ K :=
  J_call' (id' := 114) jm_sk (vs := [aR 6 q0, aI x0, aI x1]) (inv_V (id' := 114) d_M_reduce_68 ci_M wd_890 wd_892 wd_46 cw_M_divided (by decide) pn_M_divided) cw_M_divided (by decide) (by decide) (Nat.le_of_ble_eq_true rfl) rfl hr rfl hcal hk
theorem r_M_reduce_90 {g : jm_G} {d : Nat} {L : List (Option jm_V)} {σ : jm_S} {K : jm_O → Prop} (hK : K (σ, .inl none)) : J g d 118 90 L [] σ K := J_vret d_M_reduce_90 rfl hK
theorem k_M_reduce_101 {g : jm_G} {d : Nat} {L : List (Option jm_V)} {r : List jm_V} {σ : jm_S} {K K' : jm_O → Prop} {q0 : Nat} {x0 : Int32} {x1 : Int32} {x2 : Int32} {x3 : Int32} (hr : Nat.ble (jm_cs r) 8 = true) (hcal : J g d 86 0 [some (aR 6 q0), some (aI x0), some (aI x1), some (aI x2), some (aI x3), none, none, none] [] σ K') (hk : ∀ u, K' u → jm_aft g (d + 1) 118 101 L r u K) : J g (d + 1) 118 101 L (aI x3 :: aI x2 :: aI x1 :: aI x0 :: aR 6 q0 :: r) σ K :=
  J_call' (id' := 86) jm_sk (vs := [aR 6 q0, aI x0, aI x1, aI x2, aI x3]) (inv_V (id' := 86) d_M_reduce_101 ci_M wd_778 wd_780 wd_28 cw_M_comes (by decide) pn_M_comes) cw_M_comes (by decide) (by decide) (Nat.le_of_ble_eq_true rfl) rfl hr rfl hcal hk
theorem k_M_reduce_109 {g : jm_G} {d : Nat} {L : List (Option jm_V)} {r : List jm_V} {σ : jm_S} {K K' : jm_O → Prop} {q0 : Nat} {x0 : Int32} {x1 : Int32} (hr : Nat.ble (jm_cs r) 8 = true) (hcal : J g d 84 0 [some (aR 6 q0), some (aI x0), some (aI x1), none] [] σ K') (hk : ∀ u, K' u → jm_aft g (d + 1) 118 109 L r u K) : J g (d + 1) 118 109 L (aI x1 :: aI x0 :: aR 6 q0 :: r) σ K :=
  J_call' (id' := 84) jm_sk (vs := [aR 6 q0, aI x0, aI x1]) (inv_V (id' := 84) d_M_reduce_109 ci_M wd_768 wd_770 wd_26 cw_M_copy (by decide) pn_M_copy) cw_M_copy (by decide) (by decide) (Nat.le_of_ble_eq_true rfl) rfl hr rfl hcal hk
theorem k_M_reduce_143 {g : jm_G} {d : Nat} {L : List (Option jm_V)} {r : List jm_V} {σ : jm_S} {K K' : jm_O → Prop} {q0 : Nat} {x0 : Int32} {x1 : Int32} (hr : Nat.ble (jm_cs r) 8 = true) (hcal : J g d 104 0 [some (aR 6 q0), some (aI x0), some (aI x1)] [] σ K') (hk : ∀ u, K' u → jm_aft g (d + 1) 118 143 L r u K) : J g (d + 1) 118 143 L (aI x1 :: aI x0 :: aR 6 q0 :: r) σ K :=
  J_call' (id' := 104) jm_sk (vs := [aR 6 q0, aI x0, aI x1]) (inv_V (id' := 104) d_M_reduce_143 ci_M wd_850 wd_852 wd_36 cw_M_cofactor (by decide) pn_M_cofactor) cw_M_cofactor (by decide) (by decide) (Nat.le_of_ble_eq_true rfl) rfl hr rfl hcal hk
theorem k_M_reduce_152 {g : jm_G} {d : Nat} {L : List (Option jm_V)} {r : List jm_V} {σ : jm_S} {K K' : jm_O → Prop} {q0 : Nat} {x0 : Int32} {x1 : Int32} (hr : Nat.ble (jm_cs r) 8 = true) (hcal : J g d 84 0 [some (aR 6 q0), some (aI x0), some (aI x1), none] [] σ K') (hk : ∀ u, K' u → jm_aft g (d + 1) 118 152 L r u K) : J g (d + 1) 118 152 L (aI x1 :: aI x0 :: aR 6 q0 :: r) σ K :=
  J_call' (id' := 84) jm_sk (vs := [aR 6 q0, aI x0, aI x1]) (inv_V (id' := 84) d_M_reduce_152 ci_M wd_768 wd_770 wd_26 cw_M_copy (by decide) pn_M_copy) cw_M_copy (by decide) (by decide) (Nat.le_of_ble_eq_true rfl) rfl hr rfl hcal hk
theorem k_M_reduce_165 {g : jm_G} {d : Nat} {L : List (Option jm_V)} {r : List jm_V} {σ : jm_S} {K K' : jm_O → Prop} {q0 : Nat} {x0 : Int32} {x1 : Int32} {x2 : Int32} (hr : Nat.ble (jm_cs r) 8 = true) (hcal : J g d 115 0 [some (aR 6 q0), some (aI x0), some (aI x1), some (aI x2), none, none, none] [] σ K') (hk : ∀ u, K' u → jm_aft g (d + 1) 118 165 L r u K) : J g (d + 1) 118 165 L (aI x2 :: aI x1 :: aI x0 :: aR 6 q0 :: r) σ K :=
  J_call' (id' := 115) jm_sk (vs := [aR 6 q0, aI x0, aI x1, aI x2]) (inv_V (id' := 115) d_M_reduce_165 ci_M wd_894 wd_896 wd_47 cw_M_lessShares (by decide) pn_M_lessShares) cw_M_lessShares (by decide) (by decide) (Nat.le_of_ble_eq_true rfl) rfl hr rfl hcal hk
theorem k_M_reduce_179 {g : jm_G} {d : Nat} {L : List (Option jm_V)} {r : List jm_V} {σ : jm_S} {K K' : jm_O → Prop} {q0 : Nat} {x0 : Int32} {x1 : Int32} (hr : Nat.ble (jm_cs r) 8 = true) (hcal : J g d 104 0 [some (aR 6 q0), some (aI x0), some (aI x1)] [] σ K') (hk : ∀ u, K' u → jm_aft g (d + 1) 118 179 L r u K) : J g (d + 1) 118 179 L (aI x1 :: aI x0 :: aR 6 q0 :: r) σ K :=
  J_call' (id' := 104) jm_sk (vs := [aR 6 q0, aI x0, aI x1]) (inv_V (id' := 104) d_M_reduce_179 ci_M wd_850 wd_852 wd_36 cw_M_cofactor (by decide) pn_M_cofactor) cw_M_cofactor (by decide) (by decide) (Nat.le_of_ble_eq_true rfl) rfl hr rfl hcal hk
theorem k_M_reduce_182 {g : jm_G} {d : Nat} {L : List (Option jm_V)} {r : List jm_V} {σ : jm_S} {K K' : jm_O → Prop} {q0 : Nat} {x0 : Int32} {x1 : Int32} (hr : Nat.ble (jm_cs r) 8 = true) (hcal : J g d 84 0 [some (aR 6 q0), some (aI x0), some (aI x1), none] [] σ K') (hk : ∀ u, K' u → jm_aft g (d + 1) 118 182 L r u K) : J g (d + 1) 118 182 L (aI x1 :: aI x0 :: aR 6 q0 :: r) σ K :=
  J_call' (id' := 84) jm_sk (vs := [aR 6 q0, aI x0, aI x1]) (inv_V (id' := 84) d_M_reduce_182 ci_M wd_768 wd_770 wd_26 cw_M_copy (by decide) pn_M_copy) cw_M_copy (by decide) (by decide) (Nat.le_of_ble_eq_true rfl) rfl hr rfl hcal hk
theorem r_M_reduce_191 {g : jm_G} {d : Nat} {L : List (Option jm_V)} {σ : jm_S} {K : jm_O → Prop} (hK : K (σ, .inl none)) : J g d 118 191 L [] σ K := J_vret d_M_reduce_191 rfl hK
-- IdealProverModel done (I)I
theorem d_M_done_0 : decode prog_12_method_45_code 0 = .ok (.iload_n 1, 1) := by decide +kernel
theorem d_M_done_1 : decode prog_12_method_45_code 1 = .ok (.ifCond .lt 8, 3) := by decide +kernel
theorem d_M_done_4 : decode prog_12_method_45_code 4 = .ok (.iload_n 1, 1) := by decide +kernel
theorem d_M_done_5 : decode prog_12_method_45_code 5 = .ok (.iconst 3, 1) := by decide +kernel
theorem d_M_done_6 : decode prog_12_method_45_code 6 = .ok (.if_icmp .le 8, 3) := by decide +kernel
theorem d_M_done_9 : decode prog_12_method_45_code 9 = .ok (.bipush (-2), 2) := by decide +kernel
theorem d_M_done_11 : decode prog_12_method_45_code 11 = .ok (.goto 9, 3) := by decide +kernel
theorem d_M_done_14 : decode prog_12_method_45_code 14 = .ok (.aload_n 0, 1) := by decide +kernel
theorem d_M_done_15 : decode prog_12_method_45_code 15 = .ok (.getfield 23, 3) := by decide +kernel
theorem d_M_done_18 : decode prog_12_method_45_code 18 = .ok (.iload_n 1, 1) := by decide +kernel
theorem d_M_done_19 : decode prog_12_method_45_code 19 = .ok (.iaload, 1) := by decide +kernel
theorem d_M_done_20 : decode prog_12_method_45_code 20 = .ok (.ireturn, 1) := by decide +kernel
def tb_M_done : List (Nat × jm_Op) := [(0, oIl 1 1), (1, oIfLt 9 4), (4, oIl 1 5), (5, oC 3 6), (6, oIcLe 14 9), (9, oC (-2) 11), (11, oGo 20), (14, oAl 0 15), (15, oGr 6 15 8 18), (18, oIl 1 19), (19, oIa 20)]
theorem ok_M_done : jm_all 119 tb_M_done := ⟨s_iload_n d_M_done_0 rfl, s_if_lt d_M_done_1 (by decide), s_iload_n d_M_done_4 rfl, s_iconst d_M_done_5 (by decide), s_icmp_le d_M_done_6 (by decide), s_bipush d_M_done_9 (by decide), s_goto d_M_done_11 (by decide), s_aload_n d_M_done_14 rfl, s_getr d_M_done_15 ci_M rfl wd_666, s_iload_n d_M_done_18 rfl, s_iaload d_M_done_19, trivial⟩
theorem r_M_done_20 {g : jm_G} {d : Nat} {L : List (Option jm_V)} {σ : jm_S} {K : jm_O → Prop} {v : Int32} (hK : K (σ, .inl (some (aI v)))) : J g d 119 20 L [aI v] σ K := J_iret d_M_done_20 rfl hK
-- IdealProverModel element (II)I
theorem d_M_element_0 : decode prog_12_method_46_code 0 = .ok (.aload_n 0, 1) := by decide +kernel
theorem d_M_element_1 : decode prog_12_method_46_code 1 = .ok (.getfield 97, 3) := by decide +kernel
theorem d_M_element_4 : decode prog_12_method_46_code 4 = .ok (.ifCond .ne 6, 3) := by decide +kernel
theorem d_M_element_7 : decode prog_12_method_46_code 7 = .ok (.bipush (-3), 2) := by decide +kernel
theorem d_M_element_9 : decode prog_12_method_46_code 9 = .ok (.ireturn, 1) := by decide +kernel
theorem d_M_element_10 : decode prog_12_method_46_code 10 = .ok (.iload_n 1, 1) := by decide +kernel
theorem d_M_element_11 : decode prog_12_method_46_code 11 = .ok (.ifCond .lt 18, 3) := by decide +kernel
theorem d_M_element_14 : decode prog_12_method_46_code 14 = .ok (.iload_n 1, 1) := by decide +kernel
theorem d_M_element_15 : decode prog_12_method_46_code 15 = .ok (.aload_n 0, 1) := by decide +kernel
theorem d_M_element_16 : decode prog_12_method_46_code 16 = .ok (.getfield 205, 3) := by decide +kernel
theorem d_M_element_19 : decode prog_12_method_46_code 19 = .ok (.if_icmp .ge 10, 3) := by decide +kernel
theorem d_M_element_22 : decode prog_12_method_46_code 22 = .ok (.iload_n 2, 1) := by decide +kernel
theorem d_M_element_23 : decode prog_12_method_46_code 23 = .ok (.invokestatic 100, 3) := by decide +kernel
theorem d_M_element_26 : decode prog_12_method_46_code 26 = .ok (.ifCond .ne 5, 3) := by decide +kernel
theorem d_M_element_29 : decode prog_12_method_46_code 29 = .ok (.iconst (-1), 1) := by decide +kernel
theorem d_M_element_30 : decode prog_12_method_46_code 30 = .ok (.ireturn, 1) := by decide +kernel
theorem d_M_element_31 : decode prog_12_method_46_code 31 = .ok (.aload_n 0, 1) := by decide +kernel
theorem d_M_element_32 : decode prog_12_method_46_code 32 = .ok (.bipush 50, 2) := by decide +kernel
theorem d_M_element_34 : decode prog_12_method_46_code 34 = .ok (.iload_n 1, 1) := by decide +kernel
theorem d_M_element_35 : decode prog_12_method_46_code 35 = .ok (.iadd, 1) := by decide +kernel
theorem d_M_element_36 : decode prog_12_method_46_code 36 = .ok (.iload_n 2, 1) := by decide +kernel
theorem d_M_element_37 : decode prog_12_method_46_code 37 = .ok (.invokevirtual 106, 3) := by decide +kernel
theorem d_M_element_40 : decode prog_12_method_46_code 40 = .ok (.aload_n 0, 1) := by decide +kernel
theorem d_M_element_41 : decode prog_12_method_46_code 41 = .ok (.getfield 20, 3) := by decide +kernel
theorem d_M_element_44 : decode prog_12_method_46_code 44 = .ok (.iload_n 2, 1) := by decide +kernel
theorem d_M_element_45 : decode prog_12_method_46_code 45 = .ok (.iaload, 1) := by decide +kernel
theorem d_M_element_46 : decode prog_12_method_46_code 46 = .ok (.ireturn, 1) := by decide +kernel
def tb_M_element : List (Nat × jm_Op) := [(0, oAl 0 1), (1, oGi 6 9 4), (4, oIfNe 10 7), (7, oC (-3) 9), (10, oIl 1 11), (11, oIfLt 29 14), (14, oIl 1 15), (15, oAl 0 16), (16, oGi 6 8 19), (19, oIcGe 29 22), (22, oIl 2 23), (26, oIfNe 31 29), (29, oC (-1) 30), (31, oAl 0 32), (32, oC 50 34), (34, oIl 1 35), (35, oAdd 36), (36, oIl 2 37), (40, oAl 0 41), (41, oGr 6 6 8 44), (44, oIl 2 45), (45, oIa 46)]
theorem ok_M_element : jm_all 120 tb_M_element := ⟨s_aload_n d_M_element_0 rfl, s_geti d_M_element_1 ci_M rfl wd_660, s_if_ne d_M_element_4 (by decide), s_bipush d_M_element_7 (by decide), s_iload_n d_M_element_10 rfl, s_if_lt d_M_element_11 (by decide), s_iload_n d_M_element_14 rfl, s_aload_n d_M_element_15 rfl, s_geti d_M_element_16 ci_M rfl wd_659, s_icmp_ge d_M_element_19 (by decide), s_iload_n d_M_element_22 rfl, s_if_ne d_M_element_26 (by decide), s_iconst d_M_element_29 (by decide), s_aload_n d_M_element_31 rfl, s_bipush d_M_element_32 (by decide), s_iload_n d_M_element_34 rfl, s_iadd d_M_element_35, s_iload_n d_M_element_36 rfl, s_aload_n d_M_element_40 rfl, s_getr d_M_element_41 ci_M rfl wd_657, s_iload_n d_M_element_44 rfl, s_iaload d_M_element_45, trivial⟩
theorem r_M_element_9 {g : jm_G} {d : Nat} {L : List (Option jm_V)} {σ : jm_S} {K : jm_O → Prop} {v : Int32} (hK : K (σ, .inl (some (aI v)))) : J g d 120 9 L [aI v] σ K := J_iret d_M_element_9 rfl hK
theorem k_M_element_23 {g : jm_G} {d : Nat} {L : List (Option jm_V)} {r : List jm_V} {σ : jm_S} {K K' : jm_O → Prop} {x0 : Int32} (hr : Nat.ble (jm_cs r) 8 = true) (hcal : J g d 83 0 [some (aI x0)] [] σ K') (hk : ∀ u, K' u → jm_aft g (d + 1) 120 23 L r u K) : J g (d + 1) 120 23 L (aI x0 :: r) σ K :=
  J_call' (id' := 83) jm_sk (vs := [aI x0]) (inv_S (id' := 83) d_M_element_23 wd_763 wd_764 wd_62 cw_M_isPlace (by decide) pn_M_isPlace) cw_M_isPlace (by decide) (by decide) (Nat.le_of_ble_eq_true rfl) rfl hr rfl hcal hk
theorem r_M_element_30 {g : jm_G} {d : Nat} {L : List (Option jm_V)} {σ : jm_S} {K : jm_O → Prop} {v : Int32} (hK : K (σ, .inl (some (aI v)))) : J g d 120 30 L [aI v] σ K := J_iret d_M_element_30 rfl hK
theorem k_M_element_37 {g : jm_G} {d : Nat} {L : List (Option jm_V)} {r : List jm_V} {σ : jm_S} {K K' : jm_O → Prop} {q0 : Nat} {x0 : Int32} {x1 : Int32} (hr : Nat.ble (jm_cs r) 8 = true) (hcal : J g d 84 0 [some (aR 6 q0), some (aI x0), some (aI x1), none] [] σ K') (hk : ∀ u, K' u → jm_aft g (d + 1) 120 37 L r u K) : J g (d + 1) 120 37 L (aI x1 :: aI x0 :: aR 6 q0 :: r) σ K :=
  J_call' (id' := 84) jm_sk (vs := [aR 6 q0, aI x0, aI x1]) (inv_V (id' := 84) d_M_element_37 ci_M wd_768 wd_770 wd_26 cw_M_copy (by decide) pn_M_copy) cw_M_copy (by decide) (by decide) (Nat.le_of_ble_eq_true rfl) rfl hr rfl hcal hk
theorem r_M_element_46 {g : jm_G} {d : Nat} {L : List (Option jm_V)} {σ : jm_S} {K : jm_O → Prop} {v : Int32} (hK : K (σ, .inl (some (aI v)))) : J g d 120 46 L [aI v] σ K := J_iret d_M_element_46 rfl hK
-- IdealProverModel share (III)I
theorem d_M_share_0 : decode prog_12_method_47_code 0 = .ok (.aload_n 0, 1) := by decide +kernel
theorem d_M_share_1 : decode prog_12_method_47_code 1 = .ok (.getfield 97, 3) := by decide +kernel
theorem d_M_share_4 : decode prog_12_method_47_code 4 = .ok (.ifCond .ne 6, 3) := by decide +kernel
theorem d_M_share_7 : decode prog_12_method_47_code 7 = .ok (.bipush (-3), 2) := by decide +kernel
theorem d_M_share_9 : decode prog_12_method_47_code 9 = .ok (.ireturn, 1) := by decide +kernel
theorem d_M_share_10 : decode prog_12_method_47_code 10 = .ok (.iload_n 1, 1) := by decide +kernel
theorem d_M_share_11 : decode prog_12_method_47_code 11 = .ok (.ifCond .lt 30, 3) := by decide +kernel
theorem d_M_share_14 : decode prog_12_method_47_code 14 = .ok (.iload_n 1, 1) := by decide +kernel
theorem d_M_share_15 : decode prog_12_method_47_code 15 = .ok (.aload_n 0, 1) := by decide +kernel
theorem d_M_share_16 : decode prog_12_method_47_code 16 = .ok (.getfield 205, 3) := by decide +kernel
theorem d_M_share_19 : decode prog_12_method_47_code 19 = .ok (.if_icmp .ge 22, 3) := by decide +kernel
theorem d_M_share_22 : decode prog_12_method_47_code 22 = .ok (.iload_n 2, 1) := by decide +kernel
theorem d_M_share_23 : decode prog_12_method_47_code 23 = .ok (.ifCond .lt 18, 3) := by decide +kernel
theorem d_M_share_26 : decode prog_12_method_47_code 26 = .ok (.iload_n 2, 1) := by decide +kernel
theorem d_M_share_27 : decode prog_12_method_47_code 27 = .ok (.aload_n 0, 1) := by decide +kernel
theorem d_M_share_28 : decode prog_12_method_47_code 28 = .ok (.getfield 90, 3) := by decide +kernel
theorem d_M_share_31 : decode prog_12_method_47_code 31 = .ok (.if_icmp .ge 10, 3) := by decide +kernel
theorem d_M_share_34 : decode prog_12_method_47_code 34 = .ok (.iload_n 3, 1) := by decide +kernel
theorem d_M_share_35 : decode prog_12_method_47_code 35 = .ok (.invokestatic 100, 3) := by decide +kernel
theorem d_M_share_38 : decode prog_12_method_47_code 38 = .ok (.ifCond .ne 5, 3) := by decide +kernel
theorem d_M_share_41 : decode prog_12_method_47_code 41 = .ok (.iconst (-1), 1) := by decide +kernel
theorem d_M_share_42 : decode prog_12_method_47_code 42 = .ok (.ireturn, 1) := by decide +kernel
theorem d_M_share_43 : decode prog_12_method_47_code 43 = .ok (.aload_n 0, 1) := by decide +kernel
theorem d_M_share_44 : decode prog_12_method_47_code 44 = .ok (.aload_n 0, 1) := by decide +kernel
theorem d_M_share_45 : decode prog_12_method_47_code 45 = .ok (.iload_n 1, 1) := by decide +kernel
theorem d_M_share_46 : decode prog_12_method_47_code 46 = .ok (.iload_n 2, 1) := by decide +kernel
theorem d_M_share_47 : decode prog_12_method_47_code 47 = .ok (.invokevirtual 145, 3) := by decide +kernel
theorem d_M_share_50 : decode prog_12_method_47_code 50 = .ok (.iload_n 3, 1) := by decide +kernel
theorem d_M_share_51 : decode prog_12_method_47_code 51 = .ok (.invokevirtual 106, 3) := by decide +kernel
theorem d_M_share_54 : decode prog_12_method_47_code 54 = .ok (.aload_n 0, 1) := by decide +kernel
theorem d_M_share_55 : decode prog_12_method_47_code 55 = .ok (.getfield 20, 3) := by decide +kernel
theorem d_M_share_58 : decode prog_12_method_47_code 58 = .ok (.iload_n 3, 1) := by decide +kernel
theorem d_M_share_59 : decode prog_12_method_47_code 59 = .ok (.iaload, 1) := by decide +kernel
theorem d_M_share_60 : decode prog_12_method_47_code 60 = .ok (.ireturn, 1) := by decide +kernel
def tb_M_share : List (Nat × jm_Op) := [(0, oAl 0 1), (1, oGi 6 9 4), (4, oIfNe 10 7), (7, oC (-3) 9), (10, oIl 1 11), (11, oIfLt 41 14), (14, oIl 1 15), (15, oAl 0 16), (16, oGi 6 8 19), (19, oIcGe 41 22), (22, oIl 2 23), (23, oIfLt 41 26), (26, oIl 2 27), (27, oAl 0 28), (28, oGi 6 7 31), (31, oIcGe 41 34), (34, oIl 3 35), (38, oIfNe 43 41), (41, oC (-1) 42), (43, oAl 0 44), (44, oAl 0 45), (45, oIl 1 46), (46, oIl 2 47), (50, oIl 3 51), (54, oAl 0 55), (55, oGr 6 6 8 58), (58, oIl 3 59), (59, oIa 60)]
theorem ok_M_share : jm_all 121 tb_M_share := ⟨s_aload_n d_M_share_0 rfl, s_geti d_M_share_1 ci_M rfl wd_660, s_if_ne d_M_share_4 (by decide), s_bipush d_M_share_7 (by decide), s_iload_n d_M_share_10 rfl, s_if_lt d_M_share_11 (by decide), s_iload_n d_M_share_14 rfl, s_aload_n d_M_share_15 rfl, s_geti d_M_share_16 ci_M rfl wd_659, s_icmp_ge d_M_share_19 (by decide), s_iload_n d_M_share_22 rfl, s_if_lt d_M_share_23 (by decide), s_iload_n d_M_share_26 rfl, s_aload_n d_M_share_27 rfl, s_geti d_M_share_28 ci_M rfl wd_658, s_icmp_ge d_M_share_31 (by decide), s_iload_n d_M_share_34 rfl, s_if_ne d_M_share_38 (by decide), s_iconst d_M_share_41 (by decide), s_aload_n d_M_share_43 rfl, s_aload_n d_M_share_44 rfl, s_iload_n d_M_share_45 rfl, s_iload_n d_M_share_46 rfl, s_iload_n d_M_share_50 rfl, s_aload_n d_M_share_54 rfl, s_getr d_M_share_55 ci_M rfl wd_657, s_iload_n d_M_share_58 rfl, s_iaload d_M_share_59, trivial⟩
theorem r_M_share_9 {g : jm_G} {d : Nat} {L : List (Option jm_V)} {σ : jm_S} {K : jm_O → Prop} {v : Int32} (hK : K (σ, .inl (some (aI v)))) : J g d 121 9 L [aI v] σ K := J_iret d_M_share_9 rfl hK
theorem k_M_share_35 {g : jm_G} {d : Nat} {L : List (Option jm_V)} {r : List jm_V} {σ : jm_S} {K K' : jm_O → Prop} {x0 : Int32} (hr : Nat.ble (jm_cs r) 8 = true) (hcal : J g d 83 0 [some (aI x0)] [] σ K') (hk : ∀ u, K' u → jm_aft g (d + 1) 121 35 L r u K) : J g (d + 1) 121 35 L (aI x0 :: r) σ K :=
  J_call' (id' := 83) jm_sk (vs := [aI x0]) (inv_S (id' := 83) d_M_share_35 wd_763 wd_764 wd_62 cw_M_isPlace (by decide) pn_M_isPlace) cw_M_isPlace (by decide) (by decide) (Nat.le_of_ble_eq_true rfl) rfl hr rfl hcal hk
theorem r_M_share_42 {g : jm_G} {d : Nat} {L : List (Option jm_V)} {σ : jm_S} {K : jm_O → Prop} {v : Int32} (hK : K (σ, .inl (some (aI v)))) : J g d 121 42 L [aI v] σ K := J_iret d_M_share_42 rfl hK
theorem k_M_share_47 {g : jm_G} {d : Nat} {L : List (Option jm_V)} {r : List jm_V} {σ : jm_S} {K K' : jm_O → Prop} {q0 : Nat} {x0 : Int32} {x1 : Int32} (hr : Nat.ble (jm_cs r) 8 = true) (hcal : J g d 104 0 [some (aR 6 q0), some (aI x0), some (aI x1)] [] σ K') (hk : ∀ u, K' u → jm_aft g (d + 1) 121 47 L r u K) : J g (d + 1) 121 47 L (aI x1 :: aI x0 :: aR 6 q0 :: r) σ K :=
  J_call' (id' := 104) jm_sk (vs := [aR 6 q0, aI x0, aI x1]) (inv_V (id' := 104) d_M_share_47 ci_M wd_850 wd_852 wd_36 cw_M_cofactor (by decide) pn_M_cofactor) cw_M_cofactor (by decide) (by decide) (Nat.le_of_ble_eq_true rfl) rfl hr rfl hcal hk
theorem k_M_share_51 {g : jm_G} {d : Nat} {L : List (Option jm_V)} {r : List jm_V} {σ : jm_S} {K K' : jm_O → Prop} {q0 : Nat} {x0 : Int32} {x1 : Int32} (hr : Nat.ble (jm_cs r) 8 = true) (hcal : J g d 84 0 [some (aR 6 q0), some (aI x0), some (aI x1), none] [] σ K') (hk : ∀ u, K' u → jm_aft g (d + 1) 121 51 L r u K) : J g (d + 1) 121 51 L (aI x1 :: aI x0 :: aR 6 q0 :: r) σ K :=
  J_call' (id' := 84) jm_sk (vs := [aR 6 q0, aI x0, aI x1]) (inv_V (id' := 84) d_M_share_51 ci_M wd_768 wd_770 wd_26 cw_M_copy (by decide) pn_M_copy) cw_M_copy (by decide) (by decide) (Nat.le_of_ble_eq_true rfl) rfl hr rfl hcal hk
theorem r_M_share_60 {g : jm_G} {d : Nat} {L : List (Option jm_V)} {σ : jm_S} {K : jm_O → Prop} {v : Int32} (hK : K (σ, .inl (some (aI v)))) : J g d 121 60 L [aI v] σ K := J_iret d_M_share_60 rfl hK
-- IdealProverModel divide (II)I
theorem d_M_divide_0 : decode prog_12_method_49_code 0 = .ok (.iload_n 1, 1) := by decide +kernel
theorem d_M_divide_1 : decode prog_12_method_49_code 1 = .ok (.invokestatic 100, 3) := by decide +kernel
theorem d_M_divide_4 : decode prog_12_method_49_code 4 = .ok (.ifCond .eq 10, 3) := by decide +kernel
theorem d_M_divide_7 : decode prog_12_method_49_code 7 = .ok (.iload_n 2, 1) := by decide +kernel
theorem d_M_divide_8 : decode prog_12_method_49_code 8 = .ok (.invokestatic 100, 3) := by decide +kernel
theorem d_M_divide_11 : decode prog_12_method_49_code 11 = .ok (.ifCond .ne 5, 3) := by decide +kernel
theorem d_M_divide_14 : decode prog_12_method_49_code 14 = .ok (.iconst (-1), 1) := by decide +kernel
theorem d_M_divide_15 : decode prog_12_method_49_code 15 = .ok (.ireturn, 1) := by decide +kernel
theorem d_M_divide_16 : decode prog_12_method_49_code 16 = .ok (.aload_n 0, 1) := by decide +kernel
theorem d_M_divide_17 : decode prog_12_method_49_code 17 = .ok (.getfield 97, 3) := by decide +kernel
theorem d_M_divide_20 : decode prog_12_method_49_code 20 = .ok (.ifCond .ne 6, 3) := by decide +kernel
theorem d_M_divide_23 : decode prog_12_method_49_code 23 = .ok (.bipush (-3), 2) := by decide +kernel
theorem d_M_divide_25 : decode prog_12_method_49_code 25 = .ok (.ireturn, 1) := by decide +kernel
theorem d_M_divide_26 : decode prog_12_method_49_code 26 = .ok (.aload_n 0, 1) := by decide +kernel
theorem d_M_divide_27 : decode prog_12_method_49_code 27 = .ok (.invokevirtual 208, 3) := by decide +kernel
theorem d_M_divide_30 : decode prog_12_method_49_code 30 = .ok (.aload_n 0, 1) := by decide +kernel
theorem d_M_divide_31 : decode prog_12_method_49_code 31 = .ok (.sipush 5000, 3) := by decide +kernel
theorem d_M_divide_34 : decode prog_12_method_49_code 34 = .ok (.putfield 124, 3) := by decide +kernel
theorem d_M_divide_37 : decode prog_12_method_49_code 37 = .ok (.aload_n 0, 1) := by decide +kernel
theorem d_M_divide_38 : decode prog_12_method_49_code 38 = .ok (.iload_n 1, 1) := by decide +kernel
theorem d_M_divide_39 : decode prog_12_method_49_code 39 = .ok (.sipush 151, 3) := by decide +kernel
theorem d_M_divide_42 : decode prog_12_method_49_code 42 = .ok (.invokevirtual 106, 3) := by decide +kernel
theorem d_M_divide_45 : decode prog_12_method_49_code 45 = .ok (.aload_n 0, 1) := by decide +kernel
theorem d_M_divide_46 : decode prog_12_method_49_code 46 = .ok (.sipush 151, 3) := by decide +kernel
theorem d_M_divide_49 : decode prog_12_method_49_code 49 = .ok (.sipush 152, 3) := by decide +kernel
theorem d_M_divide_52 : decode prog_12_method_49_code 52 = .ok (.invokevirtual 189, 3) := by decide +kernel
theorem d_M_divide_55 : decode prog_12_method_49_code 55 = .ok (.aload_n 0, 1) := by decide +kernel
theorem d_M_divide_56 : decode prog_12_method_49_code 56 = .ok (.getfield 127, 3) := by decide +kernel
theorem d_M_divide_59 : decode prog_12_method_49_code 59 = .ok (.ifCond .ne 10, 3) := by decide +kernel
theorem d_M_divide_62 : decode prog_12_method_49_code 62 = .ok (.aload_n 0, 1) := by decide +kernel
theorem d_M_divide_63 : decode prog_12_method_49_code 63 = .ok (.getfield 54, 3) := by decide +kernel
theorem d_M_divide_66 : decode prog_12_method_49_code 66 = .ok (.ifCond .eq 18, 3) := by decide +kernel
theorem d_M_divide_69 : decode prog_12_method_49_code 69 = .ok (.aload_n 0, 1) := by decide +kernel
theorem d_M_divide_70 : decode prog_12_method_49_code 70 = .ok (.getfield 127, 3) := by decide +kernel
theorem d_M_divide_73 : decode prog_12_method_49_code 73 = .ok (.ifCond .eq 8, 3) := by decide +kernel
theorem d_M_divide_76 : decode prog_12_method_49_code 76 = .ok (.bipush (-6), 2) := by decide +kernel
theorem d_M_divide_78 : decode prog_12_method_49_code 78 = .ok (.goto 5, 3) := by decide +kernel
theorem d_M_divide_81 : decode prog_12_method_49_code 81 = .ok (.bipush (-7), 2) := by decide +kernel
theorem d_M_divide_83 : decode prog_12_method_49_code 83 = .ok (.ireturn, 1) := by decide +kernel
theorem d_M_divide_84 : decode prog_12_method_49_code 84 = .ok (.aload_n 0, 1) := by decide +kernel
theorem d_M_divide_85 : decode prog_12_method_49_code 85 = .ok (.sipush 152, 3) := by decide +kernel
theorem d_M_divide_88 : decode prog_12_method_49_code 88 = .ok (.iload_n 2, 1) := by decide +kernel
theorem d_M_divide_89 : decode prog_12_method_49_code 89 = .ok (.invokevirtual 106, 3) := by decide +kernel
theorem d_M_divide_92 : decode prog_12_method_49_code 92 = .ok (.aload_n 0, 1) := by decide +kernel
theorem d_M_divide_93 : decode prog_12_method_49_code 93 = .ok (.aload_n 0, 1) := by decide +kernel
theorem d_M_divide_94 : decode prog_12_method_49_code 94 = .ok (.getfield 20, 3) := by decide +kernel
theorem d_M_divide_97 : decode prog_12_method_49_code 97 = .ok (.iload_n 2, 1) := by decide +kernel
theorem d_M_divide_98 : decode prog_12_method_49_code 98 = .ok (.iaload, 1) := by decide +kernel
theorem d_M_divide_99 : decode prog_12_method_49_code 99 = .ok (.ifCond .ne 7, 3) := by decide +kernel
theorem d_M_divide_102 : decode prog_12_method_49_code 102 = .ok (.iconst 1, 1) := by decide +kernel
theorem d_M_divide_103 : decode prog_12_method_49_code 103 = .ok (.goto 4, 3) := by decide +kernel
theorem d_M_divide_106 : decode prog_12_method_49_code 106 = .ok (.iconst 0, 1) := by decide +kernel
theorem d_M_divide_107 : decode prog_12_method_49_code 107 = .ok (.putfield 198, 3) := by decide +kernel
theorem d_M_divide_110 : decode prog_12_method_49_code 110 = .ok (.iconst 0, 1) := by decide +kernel
theorem d_M_divide_111 : decode prog_12_method_49_code 111 = .ok (.istore_n 3, 1) := by decide +kernel
theorem d_M_divide_112 : decode prog_12_method_49_code 112 = .ok (.iload_n 3, 1) := by decide +kernel
theorem d_M_divide_113 : decode prog_12_method_49_code 113 = .ok (.bipush 25, 2) := by decide +kernel
theorem d_M_divide_115 : decode prog_12_method_49_code 115 = .ok (.if_icmp .ge 21, 3) := by decide +kernel
theorem d_M_divide_118 : decode prog_12_method_49_code 118 = .ok (.aload_n 0, 1) := by decide +kernel
theorem d_M_divide_119 : decode prog_12_method_49_code 119 = .ok (.bipush 100, 2) := by decide +kernel
theorem d_M_divide_121 : decode prog_12_method_49_code 121 = .ok (.iload_n 3, 1) := by decide +kernel
theorem d_M_divide_122 : decode prog_12_method_49_code 122 = .ok (.iadd, 1) := by decide +kernel
theorem d_M_divide_123 : decode prog_12_method_49_code 123 = .ok (.bipush 125, 2) := by decide +kernel
theorem d_M_divide_125 : decode prog_12_method_49_code 125 = .ok (.iload_n 3, 1) := by decide +kernel
theorem d_M_divide_126 : decode prog_12_method_49_code 126 = .ok (.iadd, 1) := by decide +kernel
theorem d_M_divide_127 : decode prog_12_method_49_code 127 = .ok (.invokevirtual 106, 3) := by decide +kernel
theorem d_M_divide_130 : decode prog_12_method_49_code 130 = .ok (.iinc 3 1, 3) := by decide +kernel
theorem d_M_divide_133 : decode prog_12_method_49_code 133 = .ok (.goto (-21), 3) := by decide +kernel
theorem d_M_divide_136 : decode prog_12_method_49_code 136 = .ok (.aload_n 0, 1) := by decide +kernel
theorem d_M_divide_137 : decode prog_12_method_49_code 137 = .ok (.getfield 198, 3) := by decide +kernel
theorem d_M_divide_140 : decode prog_12_method_49_code 140 = .ok (.ifCond .eq 7, 3) := by decide +kernel
theorem d_M_divide_143 : decode prog_12_method_49_code 143 = .ok (.iconst 1, 1) := by decide +kernel
theorem d_M_divide_144 : decode prog_12_method_49_code 144 = .ok (.goto 4, 3) := by decide +kernel
theorem d_M_divide_147 : decode prog_12_method_49_code 147 = .ok (.iconst 0, 1) := by decide +kernel
theorem d_M_divide_148 : decode prog_12_method_49_code 148 = .ok (.ireturn, 1) := by decide +kernel
def tb_M_divide_0 : List (Nat × jm_Op) := [(0, oIl 1 1), (4, oIfEq 14 7), (7, oIl 2 8), (11, oIfNe 16 14), (14, oC (-1) 15), (16, oAl 0 17), (17, oGi 6 9 20), (20, oIfNe 26 23), (23, oC (-3) 25), (26, oAl 0 27), (30, oAl 0 31), (31, oC 5000 34), (34, oPi 6 14 37), (37, oAl 0 38), (38, oIl 1 39), (39, oC 151 42), (45, oAl 0 46), (46, oC 151 49), (49, oC 152 52), (55, oAl 0 56), (56, oGi 6 12 59), (59, oIfNe 69 62), (62, oAl 0 63), (63, oGi 6 11 66), (66, oIfEq 84 69), (69, oAl 0 70), (70, oGi 6 12 73), (73, oIfEq 81 76), (76, oC (-6) 78), (78, oGo 83), (81, oC (-7) 83), (84, oAl 0 85), (85, oC 152 88), (88, oIl 2 89), (92, oAl 0 93), (93, oAl 0 94), (94, oGr 6 6 8 97), (97, oIl 2 98), (98, oIa 99), (99, oIfNe 106 102), (102, oC 1 103), (103, oGo 107), (106, oC 0 107), (107, oPz 6 10 110), (110, oC 0 111), (111, oIs 3 112), (112, oIl 3 113), (113, oC 25 115), (115, oIcGe 136 118), (118, oAl 0 119)]
theorem ok_M_divide_0 : jm_all 122 tb_M_divide_0 := ⟨s_iload_n d_M_divide_0 rfl, s_if_eq d_M_divide_4 (by decide), s_iload_n d_M_divide_7 rfl, s_if_ne d_M_divide_11 (by decide), s_iconst d_M_divide_14 (by decide), s_aload_n d_M_divide_16 rfl, s_geti d_M_divide_17 ci_M rfl wd_660, s_if_ne d_M_divide_20 (by decide), s_bipush d_M_divide_23 (by decide), s_aload_n d_M_divide_26 rfl, s_aload_n d_M_divide_30 rfl, s_sipush d_M_divide_31 (by decide), s_puti d_M_divide_34 ci_M rfl rfl rfl wd_665, s_aload_n d_M_divide_37 rfl, s_iload_n d_M_divide_38 rfl, s_sipush d_M_divide_39 (by decide), s_aload_n d_M_divide_45 rfl, s_sipush d_M_divide_46 (by decide), s_sipush d_M_divide_49 (by decide), s_aload_n d_M_divide_55 rfl, s_geti d_M_divide_56 ci_M rfl wd_663, s_if_ne d_M_divide_59 (by decide), s_aload_n d_M_divide_62 rfl, s_geti d_M_divide_63 ci_M rfl wd_662, s_if_eq d_M_divide_66 (by decide), s_aload_n d_M_divide_69 rfl, s_geti d_M_divide_70 ci_M rfl wd_663, s_if_eq d_M_divide_73 (by decide), s_bipush d_M_divide_76 (by decide), s_goto d_M_divide_78 (by decide), s_bipush d_M_divide_81 (by decide), s_aload_n d_M_divide_84 rfl, s_sipush d_M_divide_85 (by decide), s_iload_n d_M_divide_88 rfl, s_aload_n d_M_divide_92 rfl, s_aload_n d_M_divide_93 rfl, s_getr d_M_divide_94 ci_M rfl wd_657, s_iload_n d_M_divide_97 rfl, s_iaload d_M_divide_98, s_if_ne d_M_divide_99 (by decide), s_iconst d_M_divide_102 (by decide), s_goto d_M_divide_103 (by decide), s_iconst d_M_divide_106 (by decide), s_putz d_M_divide_107 ci_M rfl rfl rfl wd_661, s_iconst d_M_divide_110 (by decide), s_istore_n d_M_divide_111 rfl (by decide), s_iload_n d_M_divide_112 rfl, s_bipush d_M_divide_113 (by decide), s_icmp_ge d_M_divide_115 (by decide), s_aload_n d_M_divide_118 rfl, trivial⟩
def tb_M_divide_1 : List (Nat × jm_Op) := [(119, oC 100 121), (121, oIl 3 122), (122, oAdd 123), (123, oC 125 125), (125, oIl 3 126), (126, oAdd 127), (130, oInc 3 1 133), (133, oGo 112), (136, oAl 0 137), (137, oGi 6 10 140), (140, oIfEq 147 143), (143, oC 1 144), (144, oGo 148), (147, oC 0 148)]
theorem ok_M_divide_1 : jm_all 122 tb_M_divide_1 := ⟨s_bipush d_M_divide_119 (by decide), s_iload_n d_M_divide_121 rfl, s_iadd d_M_divide_122, s_bipush d_M_divide_123 (by decide), s_iload_n d_M_divide_125 rfl, s_iadd d_M_divide_126, s_iinc d_M_divide_130 (by decide) (by decide), s_goto d_M_divide_133 (by decide), s_aload_n d_M_divide_136 rfl, s_geti d_M_divide_137 ci_M rfl wd_661, s_if_eq d_M_divide_140 (by decide), s_iconst d_M_divide_143 (by decide), s_goto d_M_divide_144 (by decide), s_iconst d_M_divide_147 (by decide), trivial⟩
def tb_M_divide : List (Nat × jm_Op) := tb_M_divide_0 ++ tb_M_divide_1
theorem ok_M_divide : jm_all 122 tb_M_divide := jm_all_app ok_M_divide_0 ok_M_divide_1
theorem k_M_divide_1 {g : jm_G} {d : Nat} {L : List (Option jm_V)} {r : List jm_V} {σ : jm_S} {K K' : jm_O → Prop} {x0 : Int32} (hr : Nat.ble (jm_cs r) 8 = true) (hcal : J g d 83 0 [some (aI x0)] [] σ K') (hk : ∀ u, K' u → jm_aft g (d + 1) 122 1 L r u K) : J g (d + 1) 122 1 L (aI x0 :: r) σ K :=
  J_call' (id' := 83) jm_sk (vs := [aI x0]) (inv_S (id' := 83) d_M_divide_1 wd_763 wd_764 wd_62 cw_M_isPlace (by decide) pn_M_isPlace) cw_M_isPlace (by decide) (by decide) (Nat.le_of_ble_eq_true rfl) rfl hr rfl hcal hk
theorem k_M_divide_8 {g : jm_G} {d : Nat} {L : List (Option jm_V)} {r : List jm_V} {σ : jm_S} {K K' : jm_O → Prop} {x0 : Int32} (hr : Nat.ble (jm_cs r) 8 = true) (hcal : J g d 83 0 [some (aI x0)] [] σ K') (hk : ∀ u, K' u → jm_aft g (d + 1) 122 8 L r u K) : J g (d + 1) 122 8 L (aI x0 :: r) σ K :=
  J_call' (id' := 83) jm_sk (vs := [aI x0]) (inv_S (id' := 83) d_M_divide_8 wd_763 wd_764 wd_62 cw_M_isPlace (by decide) pn_M_isPlace) cw_M_isPlace (by decide) (by decide) (Nat.le_of_ble_eq_true rfl) rfl hr rfl hcal hk
theorem r_M_divide_15 {g : jm_G} {d : Nat} {L : List (Option jm_V)} {σ : jm_S} {K : jm_O → Prop} {v : Int32} (hK : K (σ, .inl (some (aI v)))) : J g d 122 15 L [aI v] σ K := J_iret d_M_divide_15 rfl hK
theorem r_M_divide_25 {g : jm_G} {d : Nat} {L : List (Option jm_V)} {σ : jm_S} {K : jm_O → Prop} {v : Int32} (hK : K (σ, .inl (some (aI v)))) : J g d 122 25 L [aI v] σ K := J_iret d_M_divide_25 rfl hK
theorem k_M_divide_27 {g : jm_G} {d : Nat} {L : List (Option jm_V)} {r : List jm_V} {σ : jm_S} {K K' : jm_O → Prop} {q0 : Nat} (hr : Nat.ble (jm_cs r) 8 = true) (hcal : J g d 123 0 [some (aR 6 q0)] [] σ K') (hk : ∀ u, K' u → jm_aft g (d + 1) 122 27 L r u K) : J g (d + 1) 122 27 L (aR 6 q0 :: r) σ K :=
  J_call' (id' := 123) jm_sk (vs := [aR 6 q0]) (inv_V (id' := 123) d_M_divide_27 ci_M wd_926 wd_928 wd_51 cw_M_own (by decide) pn_M_own) cw_M_own (by decide) (by decide) (Nat.le_of_ble_eq_true rfl) rfl hr rfl hcal hk
theorem k_M_divide_42 {g : jm_G} {d : Nat} {L : List (Option jm_V)} {r : List jm_V} {σ : jm_S} {K K' : jm_O → Prop} {q0 : Nat} {x0 : Int32} {x1 : Int32} (hr : Nat.ble (jm_cs r) 8 = true) (hcal : J g d 84 0 [some (aR 6 q0), some (aI x0), some (aI x1), none] [] σ K') (hk : ∀ u, K' u → jm_aft g (d + 1) 122 42 L r u K) : J g (d + 1) 122 42 L (aI x1 :: aI x0 :: aR 6 q0 :: r) σ K :=
  J_call' (id' := 84) jm_sk (vs := [aR 6 q0, aI x0, aI x1]) (inv_V (id' := 84) d_M_divide_42 ci_M wd_768 wd_770 wd_26 cw_M_copy (by decide) pn_M_copy) cw_M_copy (by decide) (by decide) (Nat.le_of_ble_eq_true rfl) rfl hr rfl hcal hk
theorem k_M_divide_52 {g : jm_G} {d : Nat} {L : List (Option jm_V)} {r : List jm_V} {σ : jm_S} {K K' : jm_O → Prop} {q0 : Nat} {x0 : Int32} {x1 : Int32} (hr : Nat.ble (jm_cs r) 8 = true) (hcal : J g d 114 0 [some (aR 6 q0), some (aI x0), some (aI x1), none, none, none, none, none, none, none, none, none] [] σ K') (hk : ∀ u, K' u → jm_aft g (d + 1) 122 52 L r u K) : J g (d + 1) 122 52 L (aI x1 :: aI x0 :: aR 6 q0 :: r) σ K :=
  J_call' (id' := 114) jm_sk (vs := [aR 6 q0, aI x0, aI x1]) (inv_V (id' := 114) d_M_divide_52 ci_M wd_890 wd_892 wd_46 cw_M_divided (by decide) pn_M_divided) cw_M_divided (by decide) (by decide) (Nat.le_of_ble_eq_true rfl) rfl hr rfl hcal hk
theorem r_M_divide_83 {g : jm_G} {d : Nat} {L : List (Option jm_V)} {σ : jm_S} {K : jm_O → Prop} {v : Int32} (hK : K (σ, .inl (some (aI v)))) : J g d 122 83 L [aI v] σ K := J_iret d_M_divide_83 rfl hK
theorem k_M_divide_89 {g : jm_G} {d : Nat} {L : List (Option jm_V)} {r : List jm_V} {σ : jm_S} {K K' : jm_O → Prop} {q0 : Nat} {x0 : Int32} {x1 : Int32} (hr : Nat.ble (jm_cs r) 8 = true) (hcal : J g d 84 0 [some (aR 6 q0), some (aI x0), some (aI x1), none] [] σ K') (hk : ∀ u, K' u → jm_aft g (d + 1) 122 89 L r u K) : J g (d + 1) 122 89 L (aI x1 :: aI x0 :: aR 6 q0 :: r) σ K :=
  J_call' (id' := 84) jm_sk (vs := [aR 6 q0, aI x0, aI x1]) (inv_V (id' := 84) d_M_divide_89 ci_M wd_768 wd_770 wd_26 cw_M_copy (by decide) pn_M_copy) cw_M_copy (by decide) (by decide) (Nat.le_of_ble_eq_true rfl) rfl hr rfl hcal hk
theorem k_M_divide_127 {g : jm_G} {d : Nat} {L : List (Option jm_V)} {r : List jm_V} {σ : jm_S} {K K' : jm_O → Prop} {q0 : Nat} {x0 : Int32} {x1 : Int32} (hr : Nat.ble (jm_cs r) 8 = true) (hcal : J g d 84 0 [some (aR 6 q0), some (aI x0), some (aI x1), none] [] σ K') (hk : ∀ u, K' u → jm_aft g (d + 1) 122 127 L r u K) : J g (d + 1) 122 127 L (aI x1 :: aI x0 :: aR 6 q0 :: r) σ K :=
  J_call' (id' := 84) jm_sk (vs := [aR 6 q0, aI x0, aI x1]) (inv_V (id' := 84) d_M_divide_127 ci_M wd_768 wd_770 wd_26 cw_M_copy (by decide) pn_M_copy) cw_M_copy (by decide) (by decide) (Nat.le_of_ble_eq_true rfl) rfl hr rfl hcal hk
theorem r_M_divide_148 {g : jm_G} {d : Nat} {L : List (Option jm_V)} {σ : jm_S} {K : jm_O → Prop} {v : Int32} (hK : K (σ, .inl (some (aI v)))) : J g d 122 148 L [aI v] σ K := J_iret d_M_divide_148 rfl hK
-- IdealProverModel own ()V
theorem d_M_own_0 : decode prog_12_method_48_code 0 = .ok (.aload_n 0, 1) := by decide +kernel
theorem d_M_own_1 : decode prog_12_method_48_code 1 = .ok (.bipush 50, 2) := by decide +kernel
theorem d_M_own_3 : decode prog_12_method_48_code 3 = .ok (.putfield 139, 3) := by decide +kernel
theorem d_M_own_6 : decode prog_12_method_48_code 6 = .ok (.aload_n 0, 1) := by decide +kernel
theorem d_M_own_7 : decode prog_12_method_48_code 7 = .ok (.aload_n 0, 1) := by decide +kernel
theorem d_M_own_8 : decode prog_12_method_48_code 8 = .ok (.getfield 205, 3) := by decide +kernel
theorem d_M_own_11 : decode prog_12_method_48_code 11 = .ok (.putfield 133, 3) := by decide +kernel
theorem d_M_own_14 : decode prog_12_method_48_code 14 = .ok (.aload_n 0, 1) := by decide +kernel
theorem d_M_own_15 : decode prog_12_method_48_code 15 = .ok (.iconst (-1), 1) := by decide +kernel
theorem d_M_own_16 : decode prog_12_method_48_code 16 = .ok (.putfield 136, 3) := by decide +kernel
theorem d_M_own_19 : decode prog_12_method_48_code 19 = .ok (.aload_n 0, 1) := by decide +kernel
theorem d_M_own_20 : decode prog_12_method_48_code 20 = .ok (.iconst 0, 1) := by decide +kernel
theorem d_M_own_21 : decode prog_12_method_48_code 21 = .ok (.putfield 54, 3) := by decide +kernel
theorem d_M_own_24 : decode prog_12_method_48_code 24 = .ok (.aload_n 0, 1) := by decide +kernel
theorem d_M_own_25 : decode prog_12_method_48_code 25 = .ok (.iconst 0, 1) := by decide +kernel
theorem d_M_own_26 : decode prog_12_method_48_code 26 = .ok (.putfield 127, 3) := by decide +kernel
theorem d_M_own_29 : decode prog_12_method_48_code 29 = .ok (.aload_n 0, 1) := by decide +kernel
theorem d_M_own_30 : decode prog_12_method_48_code 30 = .ok (.iconst 0, 1) := by decide +kernel
theorem d_M_own_31 : decode prog_12_method_48_code 31 = .ok (.putfield 121, 3) := by decide +kernel
theorem d_M_own_34 : decode prog_12_method_48_code 34 = .ok (.return_, 1) := by decide +kernel
def tb_M_own : List (Nat × jm_Op) := [(0, oAl 0 1), (1, oC 50 3), (3, oPi 6 19 6), (6, oAl 0 7), (7, oAl 0 8), (8, oGi 6 8 11), (11, oPi 6 20 14), (14, oAl 0 15), (15, oC (-1) 16), (16, oPi 6 21 19), (19, oAl 0 20), (20, oC 0 21), (21, oPz 6 11 24), (24, oAl 0 25), (25, oC 0 26), (26, oPz 6 12 29), (29, oAl 0 30), (30, oC 0 31), (31, oPi 6 13 34)]
theorem ok_M_own : jm_all 123 tb_M_own := ⟨s_aload_n d_M_own_0 rfl, s_bipush d_M_own_1 (by decide), s_puti d_M_own_3 ci_M rfl rfl rfl wd_670, s_aload_n d_M_own_6 rfl, s_aload_n d_M_own_7 rfl, s_geti d_M_own_8 ci_M rfl wd_659, s_puti d_M_own_11 ci_M rfl rfl rfl wd_671, s_aload_n d_M_own_14 rfl, s_iconst d_M_own_15 (by decide), s_puti d_M_own_16 ci_M rfl rfl rfl wd_672, s_aload_n d_M_own_19 rfl, s_iconst d_M_own_20 (by decide), s_putz d_M_own_21 ci_M rfl rfl rfl wd_662, s_aload_n d_M_own_24 rfl, s_iconst d_M_own_25 (by decide), s_putz d_M_own_26 ci_M rfl rfl rfl wd_663, s_aload_n d_M_own_29 rfl, s_iconst d_M_own_30 (by decide), s_puti d_M_own_31 ci_M rfl rfl rfl wd_664, trivial⟩
theorem r_M_own_34 {g : jm_G} {d : Nat} {L : List (Option jm_V)} {σ : jm_S} {K : jm_O → Prop} (hK : K (σ, .inl none)) : J g d 123 34 L [] σ K := J_vret d_M_own_34 rfl hK
-- IdealProverModel certificate (II)I
theorem d_M_certificate_0 : decode prog_12_method_50_code 0 = .ok (.aload_n 0, 1) := by decide +kernel
theorem d_M_certificate_1 : decode prog_12_method_50_code 1 = .ok (.getfield 97, 3) := by decide +kernel
theorem d_M_certificate_4 : decode prog_12_method_50_code 4 = .ok (.ifCond .eq 10, 3) := by decide +kernel
theorem d_M_certificate_7 : decode prog_12_method_50_code 7 = .ok (.aload_n 0, 1) := by decide +kernel
theorem d_M_certificate_8 : decode prog_12_method_50_code 8 = .ok (.getfield 198, 3) := by decide +kernel
theorem d_M_certificate_11 : decode prog_12_method_50_code 11 = .ok (.ifCond .ne 6, 3) := by decide +kernel
theorem d_M_certificate_14 : decode prog_12_method_50_code 14 = .ok (.bipush (-3), 2) := by decide +kernel
theorem d_M_certificate_16 : decode prog_12_method_50_code 16 = .ok (.ireturn, 1) := by decide +kernel
theorem d_M_certificate_17 : decode prog_12_method_50_code 17 = .ok (.iload_n 1, 1) := by decide +kernel
theorem d_M_certificate_18 : decode prog_12_method_50_code 18 = .ok (.ifCond .lt 18, 3) := by decide +kernel
theorem d_M_certificate_21 : decode prog_12_method_50_code 21 = .ok (.iload_n 1, 1) := by decide +kernel
theorem d_M_certificate_22 : decode prog_12_method_50_code 22 = .ok (.aload_n 0, 1) := by decide +kernel
theorem d_M_certificate_23 : decode prog_12_method_50_code 23 = .ok (.getfield 90, 3) := by decide +kernel
theorem d_M_certificate_26 : decode prog_12_method_50_code 26 = .ok (.if_icmp .ge 10, 3) := by decide +kernel
theorem d_M_certificate_29 : decode prog_12_method_50_code 29 = .ok (.iload_n 2, 1) := by decide +kernel
theorem d_M_certificate_30 : decode prog_12_method_50_code 30 = .ok (.invokestatic 100, 3) := by decide +kernel
theorem d_M_certificate_33 : decode prog_12_method_50_code 33 = .ok (.ifCond .ne 5, 3) := by decide +kernel
theorem d_M_certificate_36 : decode prog_12_method_50_code 36 = .ok (.iconst (-1), 1) := by decide +kernel
theorem d_M_certificate_37 : decode prog_12_method_50_code 37 = .ok (.ireturn, 1) := by decide +kernel
theorem d_M_certificate_38 : decode prog_12_method_50_code 38 = .ok (.aload_n 0, 1) := by decide +kernel
theorem d_M_certificate_39 : decode prog_12_method_50_code 39 = .ok (.invokevirtual 208, 3) := by decide +kernel
theorem d_M_certificate_42 : decode prog_12_method_50_code 42 = .ok (.iconst 0, 1) := by decide +kernel
theorem d_M_certificate_43 : decode prog_12_method_50_code 43 = .ok (.istore_n 3, 1) := by decide +kernel
theorem d_M_certificate_44 : decode prog_12_method_50_code 44 = .ok (.iload_n 3, 1) := by decide +kernel
theorem d_M_certificate_45 : decode prog_12_method_50_code 45 = .ok (.bipush 25, 2) := by decide +kernel
theorem d_M_certificate_47 : decode prog_12_method_50_code 47 = .ok (.if_icmp .ge 21, 3) := by decide +kernel
theorem d_M_certificate_50 : decode prog_12_method_50_code 50 = .ok (.aload_n 0, 1) := by decide +kernel
theorem d_M_certificate_51 : decode prog_12_method_50_code 51 = .ok (.bipush 125, 2) := by decide +kernel
theorem d_M_certificate_53 : decode prog_12_method_50_code 53 = .ok (.iload_n 3, 1) := by decide +kernel
theorem d_M_certificate_54 : decode prog_12_method_50_code 54 = .ok (.iadd, 1) := by decide +kernel
theorem d_M_certificate_55 : decode prog_12_method_50_code 55 = .ok (.bipush 100, 2) := by decide +kernel
theorem d_M_certificate_57 : decode prog_12_method_50_code 57 = .ok (.iload_n 3, 1) := by decide +kernel
theorem d_M_certificate_58 : decode prog_12_method_50_code 58 = .ok (.iadd, 1) := by decide +kernel
theorem d_M_certificate_59 : decode prog_12_method_50_code 59 = .ok (.invokevirtual 106, 3) := by decide +kernel
theorem d_M_certificate_62 : decode prog_12_method_50_code 62 = .ok (.iinc 3 1, 3) := by decide +kernel
theorem d_M_certificate_65 : decode prog_12_method_50_code 65 = .ok (.goto (-21), 3) := by decide +kernel
theorem d_M_certificate_68 : decode prog_12_method_50_code 68 = .ok (.aload_n 0, 1) := by decide +kernel
theorem d_M_certificate_69 : decode prog_12_method_50_code 69 = .ok (.getfield 20, 3) := by decide +kernel
theorem d_M_certificate_72 : decode prog_12_method_50_code 72 = .ok (.sipush 150, 3) := by decide +kernel
theorem d_M_certificate_75 : decode prog_12_method_50_code 75 = .ok (.iconst 0, 1) := by decide +kernel
theorem d_M_certificate_76 : decode prog_12_method_50_code 76 = .ok (.iastore, 1) := by decide +kernel
theorem d_M_certificate_77 : decode prog_12_method_50_code 77 = .ok (.aload_n 0, 1) := by decide +kernel
theorem d_M_certificate_78 : decode prog_12_method_50_code 78 = .ok (.sipush 150, 3) := by decide +kernel
theorem d_M_certificate_81 : decode prog_12_method_50_code 81 = .ok (.iload_n 1, 1) := by decide +kernel
theorem d_M_certificate_82 : decode prog_12_method_50_code 82 = .ok (.iconst 1, 1) := by decide +kernel
theorem d_M_certificate_83 : decode prog_12_method_50_code 83 = .ok (.invokevirtual 192, 3) := by decide +kernel
theorem d_M_certificate_86 : decode prog_12_method_50_code 86 = .ok (.aload_n 0, 1) := by decide +kernel
theorem d_M_certificate_87 : decode prog_12_method_50_code 87 = .ok (.sipush 150, 3) := by decide +kernel
theorem d_M_certificate_90 : decode prog_12_method_50_code 90 = .ok (.iload_n 2, 1) := by decide +kernel
theorem d_M_certificate_91 : decode prog_12_method_50_code 91 = .ok (.invokevirtual 110, 3) := by decide +kernel
theorem d_M_certificate_94 : decode prog_12_method_50_code 94 = .ok (.ireturn, 1) := by decide +kernel
def tb_M_certificate : List (Nat × jm_Op) := [(0, oAl 0 1), (1, oGi 6 9 4), (4, oIfEq 14 7), (7, oAl 0 8), (8, oGi 6 10 11), (11, oIfNe 17 14), (14, oC (-3) 16), (17, oIl 1 18), (18, oIfLt 36 21), (21, oIl 1 22), (22, oAl 0 23), (23, oGi 6 7 26), (26, oIcGe 36 29), (29, oIl 2 30), (33, oIfNe 38 36), (36, oC (-1) 37), (38, oAl 0 39), (42, oC 0 43), (43, oIs 3 44), (44, oIl 3 45), (45, oC 25 47), (47, oIcGe 68 50), (50, oAl 0 51), (51, oC 125 53), (53, oIl 3 54), (54, oAdd 55), (55, oC 100 57), (57, oIl 3 58), (58, oAdd 59), (62, oInc 3 1 65), (65, oGo 44), (68, oAl 0 69), (69, oGr 6 6 8 72), (72, oC 150 75), (75, oC 0 76), (76, oIw 77), (77, oAl 0 78), (78, oC 150 81), (81, oIl 1 82), (82, oC 1 83), (86, oAl 0 87), (87, oC 150 90), (90, oIl 2 91)]
theorem ok_M_certificate : jm_all 124 tb_M_certificate := ⟨s_aload_n d_M_certificate_0 rfl, s_geti d_M_certificate_1 ci_M rfl wd_660, s_if_eq d_M_certificate_4 (by decide), s_aload_n d_M_certificate_7 rfl, s_geti d_M_certificate_8 ci_M rfl wd_661, s_if_ne d_M_certificate_11 (by decide), s_bipush d_M_certificate_14 (by decide), s_iload_n d_M_certificate_17 rfl, s_if_lt d_M_certificate_18 (by decide), s_iload_n d_M_certificate_21 rfl, s_aload_n d_M_certificate_22 rfl, s_geti d_M_certificate_23 ci_M rfl wd_658, s_icmp_ge d_M_certificate_26 (by decide), s_iload_n d_M_certificate_29 rfl, s_if_ne d_M_certificate_33 (by decide), s_iconst d_M_certificate_36 (by decide), s_aload_n d_M_certificate_38 rfl, s_iconst d_M_certificate_42 (by decide), s_istore_n d_M_certificate_43 rfl (by decide), s_iload_n d_M_certificate_44 rfl, s_bipush d_M_certificate_45 (by decide), s_icmp_ge d_M_certificate_47 (by decide), s_aload_n d_M_certificate_50 rfl, s_bipush d_M_certificate_51 (by decide), s_iload_n d_M_certificate_53 rfl, s_iadd d_M_certificate_54, s_bipush d_M_certificate_55 (by decide), s_iload_n d_M_certificate_57 rfl, s_iadd d_M_certificate_58, s_iinc d_M_certificate_62 (by decide) (by decide), s_goto d_M_certificate_65 (by decide), s_aload_n d_M_certificate_68 rfl, s_getr d_M_certificate_69 ci_M rfl wd_657, s_sipush d_M_certificate_72 (by decide), s_iconst d_M_certificate_75 (by decide), s_iastore d_M_certificate_76, s_aload_n d_M_certificate_77 rfl, s_sipush d_M_certificate_78 (by decide), s_iload_n d_M_certificate_81 rfl, s_iconst d_M_certificate_82 (by decide), s_aload_n d_M_certificate_86 rfl, s_sipush d_M_certificate_87 (by decide), s_iload_n d_M_certificate_90 rfl, trivial⟩
theorem r_M_certificate_16 {g : jm_G} {d : Nat} {L : List (Option jm_V)} {σ : jm_S} {K : jm_O → Prop} {v : Int32} (hK : K (σ, .inl (some (aI v)))) : J g d 124 16 L [aI v] σ K := J_iret d_M_certificate_16 rfl hK
theorem k_M_certificate_30 {g : jm_G} {d : Nat} {L : List (Option jm_V)} {r : List jm_V} {σ : jm_S} {K K' : jm_O → Prop} {x0 : Int32} (hr : Nat.ble (jm_cs r) 8 = true) (hcal : J g d 83 0 [some (aI x0)] [] σ K') (hk : ∀ u, K' u → jm_aft g (d + 1) 124 30 L r u K) : J g (d + 1) 124 30 L (aI x0 :: r) σ K :=
  J_call' (id' := 83) jm_sk (vs := [aI x0]) (inv_S (id' := 83) d_M_certificate_30 wd_763 wd_764 wd_62 cw_M_isPlace (by decide) pn_M_isPlace) cw_M_isPlace (by decide) (by decide) (Nat.le_of_ble_eq_true rfl) rfl hr rfl hcal hk
theorem r_M_certificate_37 {g : jm_G} {d : Nat} {L : List (Option jm_V)} {σ : jm_S} {K : jm_O → Prop} {v : Int32} (hK : K (σ, .inl (some (aI v)))) : J g d 124 37 L [aI v] σ K := J_iret d_M_certificate_37 rfl hK
theorem k_M_certificate_39 {g : jm_G} {d : Nat} {L : List (Option jm_V)} {r : List jm_V} {σ : jm_S} {K K' : jm_O → Prop} {q0 : Nat} (hr : Nat.ble (jm_cs r) 8 = true) (hcal : J g d 123 0 [some (aR 6 q0)] [] σ K') (hk : ∀ u, K' u → jm_aft g (d + 1) 124 39 L r u K) : J g (d + 1) 124 39 L (aR 6 q0 :: r) σ K :=
  J_call' (id' := 123) jm_sk (vs := [aR 6 q0]) (inv_V (id' := 123) d_M_certificate_39 ci_M wd_926 wd_928 wd_51 cw_M_own (by decide) pn_M_own) cw_M_own (by decide) (by decide) (Nat.le_of_ble_eq_true rfl) rfl hr rfl hcal hk
theorem k_M_certificate_59 {g : jm_G} {d : Nat} {L : List (Option jm_V)} {r : List jm_V} {σ : jm_S} {K K' : jm_O → Prop} {q0 : Nat} {x0 : Int32} {x1 : Int32} (hr : Nat.ble (jm_cs r) 8 = true) (hcal : J g d 84 0 [some (aR 6 q0), some (aI x0), some (aI x1), none] [] σ K') (hk : ∀ u, K' u → jm_aft g (d + 1) 124 59 L r u K) : J g (d + 1) 124 59 L (aI x1 :: aI x0 :: aR 6 q0 :: r) σ K :=
  J_call' (id' := 84) jm_sk (vs := [aR 6 q0, aI x0, aI x1]) (inv_V (id' := 84) d_M_certificate_59 ci_M wd_768 wd_770 wd_26 cw_M_copy (by decide) pn_M_copy) cw_M_copy (by decide) (by decide) (Nat.le_of_ble_eq_true rfl) rfl hr rfl hcal hk
theorem k_M_certificate_83 {g : jm_G} {d : Nat} {L : List (Option jm_V)} {r : List jm_V} {σ : jm_S} {K K' : jm_O → Prop} {q0 : Nat} {x0 : Int32} {x1 : Int32} {x2 : Int32} (hr : Nat.ble (jm_cs r) 8 = true) (hcal : J g d 115 0 [some (aR 6 q0), some (aI x0), some (aI x1), some (aI x2), none, none, none] [] σ K') (hk : ∀ u, K' u → jm_aft g (d + 1) 124 83 L r u K) : J g (d + 1) 124 83 L (aI x2 :: aI x1 :: aI x0 :: aR 6 q0 :: r) σ K :=
  J_call' (id' := 115) jm_sk (vs := [aR 6 q0, aI x0, aI x1, aI x2]) (inv_V (id' := 115) d_M_certificate_83 ci_M wd_894 wd_896 wd_47 cw_M_lessShares (by decide) pn_M_lessShares) cw_M_lessShares (by decide) (by decide) (Nat.le_of_ble_eq_true rfl) rfl hr rfl hcal hk
theorem k_M_certificate_91 {g : jm_G} {d : Nat} {L : List (Option jm_V)} {r : List jm_V} {σ : jm_S} {K K' : jm_O → Prop} {q0 : Nat} {x0 : Int32} {x1 : Int32} (hr : Nat.ble (jm_cs r) 8 = true) (hcal : J g d 87 0 [some (aR 6 q0), some (aI x0), some (aI x1)] [] σ K') (hk : ∀ u, K' u → jm_aft g (d + 1) 124 91 L r u K) : J g (d + 1) 124 91 L (aI x1 :: aI x0 :: aR 6 q0 :: r) σ K :=
  J_call' (id' := 87) jm_sk (vs := [aR 6 q0, aI x0, aI x1]) (inv_V (id' := 87) d_M_certificate_91 ci_M wd_782 wd_784 wd_29 cw_M_taken (by decide) pn_M_taken) cw_M_taken (by decide) (by decide) (Nat.le_of_ble_eq_true rfl) rfl hr rfl hcal hk
theorem r_M_certificate_94 {g : jm_G} {d : Nat} {L : List (Option jm_V)} {σ : jm_S} {K : jm_O → Prop} {v : Int32} (hK : K (σ, .inl (some (aI v)))) : J g d 124 94 L [aI v] σ K := J_iret d_M_certificate_94 rfl hK
-- IdealProverModel check ()I
theorem d_M_check_0 : decode prog_12_method_51_code 0 = .ok (.aload_n 0, 1) := by decide +kernel
theorem d_M_check_1 : decode prog_12_method_51_code 1 = .ok (.getfield 97, 3) := by decide +kernel
theorem d_M_check_4 : decode prog_12_method_51_code 4 = .ok (.ifCond .ne 6, 3) := by decide +kernel
theorem d_M_check_7 : decode prog_12_method_51_code 7 = .ok (.bipush (-3), 2) := by decide +kernel
theorem d_M_check_9 : decode prog_12_method_51_code 9 = .ok (.ireturn, 1) := by decide +kernel
theorem d_M_check_10 : decode prog_12_method_51_code 10 = .ok (.aload_n 0, 1) := by decide +kernel
theorem d_M_check_11 : decode prog_12_method_51_code 11 = .ok (.iconst 0, 1) := by decide +kernel
theorem d_M_check_12 : decode prog_12_method_51_code 12 = .ok (.putfield 54, 3) := by decide +kernel
theorem d_M_check_15 : decode prog_12_method_51_code 15 = .ok (.iconst 1, 1) := by decide +kernel
theorem d_M_check_16 : decode prog_12_method_51_code 16 = .ok (.istore_n 1, 1) := by decide +kernel
theorem d_M_check_17 : decode prog_12_method_51_code 17 = .ok (.iconst 0, 1) := by decide +kernel
theorem d_M_check_18 : decode prog_12_method_51_code 18 = .ok (.istore_n 2, 1) := by decide +kernel
theorem d_M_check_19 : decode prog_12_method_51_code 19 = .ok (.iload_n 2, 1) := by decide +kernel
theorem d_M_check_20 : decode prog_12_method_51_code 20 = .ok (.aload_n 0, 1) := by decide +kernel
theorem d_M_check_21 : decode prog_12_method_51_code 21 = .ok (.getfield 205, 3) := by decide +kernel
theorem d_M_check_24 : decode prog_12_method_51_code 24 = .ok (.if_icmp .ge 98, 3) := by decide +kernel
theorem d_M_check_27 : decode prog_12_method_51_code 27 = .ok (.aload_n 0, 1) := by decide +kernel
theorem d_M_check_28 : decode prog_12_method_51_code 28 = .ok (.getfield 20, 3) := by decide +kernel
theorem d_M_check_31 : decode prog_12_method_51_code 31 = .ok (.sipush 150, 3) := by decide +kernel
theorem d_M_check_34 : decode prog_12_method_51_code 34 = .ok (.iconst 0, 1) := by decide +kernel
theorem d_M_check_35 : decode prog_12_method_51_code 35 = .ok (.iastore, 1) := by decide +kernel
theorem d_M_check_36 : decode prog_12_method_51_code 36 = .ok (.iconst 0, 1) := by decide +kernel
theorem d_M_check_37 : decode prog_12_method_51_code 37 = .ok (.istore_n 3, 1) := by decide +kernel
theorem d_M_check_38 : decode prog_12_method_51_code 38 = .ok (.iload_n 3, 1) := by decide +kernel
theorem d_M_check_39 : decode prog_12_method_51_code 39 = .ok (.aload_n 0, 1) := by decide +kernel
theorem d_M_check_40 : decode prog_12_method_51_code 40 = .ok (.getfield 90, 3) := by decide +kernel
theorem d_M_check_43 : decode prog_12_method_51_code 43 = .ok (.if_icmp .ge 39, 3) := by decide +kernel
theorem d_M_check_46 : decode prog_12_method_51_code 46 = .ok (.aload_n 0, 1) := by decide +kernel
theorem d_M_check_47 : decode prog_12_method_51_code 47 = .ok (.aload_n 0, 1) := by decide +kernel
theorem d_M_check_48 : decode prog_12_method_51_code 48 = .ok (.iload_n 2, 1) := by decide +kernel
theorem d_M_check_49 : decode prog_12_method_51_code 49 = .ok (.iload_n 3, 1) := by decide +kernel
theorem d_M_check_50 : decode prog_12_method_51_code 50 = .ok (.invokevirtual 145, 3) := by decide +kernel
theorem d_M_check_53 : decode prog_12_method_51_code 53 = .ok (.bipush 40, 2) := by decide +kernel
theorem d_M_check_55 : decode prog_12_method_51_code 55 = .ok (.iload_n 3, 1) := by decide +kernel
theorem d_M_check_56 : decode prog_12_method_51_code 56 = .ok (.iadd, 1) := by decide +kernel
theorem d_M_check_57 : decode prog_12_method_51_code 57 = .ok (.sipush 151, 3) := by decide +kernel
theorem d_M_check_60 : decode prog_12_method_51_code 60 = .ok (.invokevirtual 113, 3) := by decide +kernel
theorem d_M_check_63 : decode prog_12_method_51_code 63 = .ok (.aload_n 0, 1) := by decide +kernel
theorem d_M_check_64 : decode prog_12_method_51_code 64 = .ok (.sipush 150, 3) := by decide +kernel
theorem d_M_check_67 : decode prog_12_method_51_code 67 = .ok (.iconst 1, 1) := by decide +kernel
theorem d_M_check_68 : decode prog_12_method_51_code 68 = .ok (.iconst 1, 1) := by decide +kernel
theorem d_M_check_69 : decode prog_12_method_51_code 69 = .ok (.iconst 0, 1) := by decide +kernel
theorem d_M_check_70 : decode prog_12_method_51_code 70 = .ok (.sipush 151, 3) := by decide +kernel
theorem d_M_check_73 : decode prog_12_method_51_code 73 = .ok (.invokevirtual 86, 3) := by decide +kernel
theorem d_M_check_76 : decode prog_12_method_51_code 76 = .ok (.iinc 3 1, 3) := by decide +kernel
theorem d_M_check_79 : decode prog_12_method_51_code 79 = .ok (.goto (-41), 3) := by decide +kernel
theorem d_M_check_82 : decode prog_12_method_51_code 82 = .ok (.aload_n 0, 1) := by decide +kernel
theorem d_M_check_83 : decode prog_12_method_51_code 83 = .ok (.getfield 54, 3) := by decide +kernel
theorem d_M_check_86 : decode prog_12_method_51_code 86 = .ok (.ifCond .eq 6, 3) := by decide +kernel
theorem d_M_check_89 : decode prog_12_method_51_code 89 = .ok (.bipush (-7), 2) := by decide +kernel
theorem d_M_check_91 : decode prog_12_method_51_code 91 = .ok (.ireturn, 1) := by decide +kernel
theorem d_M_check_92 : decode prog_12_method_51_code 92 = .ok (.iload_n 1, 1) := by decide +kernel
theorem d_M_check_93 : decode prog_12_method_51_code 93 = .ok (.ifCond .eq 21, 3) := by decide +kernel
theorem d_M_check_96 : decode prog_12_method_51_code 96 = .ok (.aload_n 0, 1) := by decide +kernel
theorem d_M_check_97 : decode prog_12_method_51_code 97 = .ok (.sipush 150, 3) := by decide +kernel
theorem d_M_check_100 : decode prog_12_method_51_code 100 = .ok (.bipush 50, 2) := by decide +kernel
theorem d_M_check_102 : decode prog_12_method_51_code 102 = .ok (.iload_n 2, 1) := by decide +kernel
theorem d_M_check_103 : decode prog_12_method_51_code 103 = .ok (.iadd, 1) := by decide +kernel
theorem d_M_check_104 : decode prog_12_method_51_code 104 = .ok (.invokevirtual 117, 3) := by decide +kernel
theorem d_M_check_107 : decode prog_12_method_51_code 107 = .ok (.ifCond .eq 7, 3) := by decide +kernel
theorem d_M_check_110 : decode prog_12_method_51_code 110 = .ok (.iconst 1, 1) := by decide +kernel
theorem d_M_check_111 : decode prog_12_method_51_code 111 = .ok (.goto 4, 3) := by decide +kernel
theorem d_M_check_114 : decode prog_12_method_51_code 114 = .ok (.iconst 0, 1) := by decide +kernel
theorem d_M_check_115 : decode prog_12_method_51_code 115 = .ok (.istore_n 1, 1) := by decide +kernel
theorem d_M_check_116 : decode prog_12_method_51_code 116 = .ok (.iinc 2 1, 3) := by decide +kernel
theorem d_M_check_119 : decode prog_12_method_51_code 119 = .ok (.goto (-100), 3) := by decide +kernel
theorem d_M_check_122 : decode prog_12_method_51_code 122 = .ok (.iload_n 1, 1) := by decide +kernel
theorem d_M_check_123 : decode prog_12_method_51_code 123 = .ok (.ifCond .eq 7, 3) := by decide +kernel
theorem d_M_check_126 : decode prog_12_method_51_code 126 = .ok (.iconst 1, 1) := by decide +kernel
theorem d_M_check_127 : decode prog_12_method_51_code 127 = .ok (.goto 4, 3) := by decide +kernel
theorem d_M_check_130 : decode prog_12_method_51_code 130 = .ok (.iconst 0, 1) := by decide +kernel
theorem d_M_check_131 : decode prog_12_method_51_code 131 = .ok (.ireturn, 1) := by decide +kernel
def tb_M_check_0 : List (Nat × jm_Op) := [(0, oAl 0 1), (1, oGi 6 9 4), (4, oIfNe 10 7), (7, oC (-3) 9), (10, oAl 0 11), (11, oC 0 12), (12, oPz 6 11 15), (15, oC 1 16), (16, oIs 1 17), (17, oC 0 18), (18, oIs 2 19), (19, oIl 2 20), (20, oAl 0 21), (21, oGi 6 8 24), (24, oIcGe 122 27), (27, oAl 0 28), (28, oGr 6 6 8 31), (31, oC 150 34), (34, oC 0 35), (35, oIw 36), (36, oC 0 37), (37, oIs 3 38), (38, oIl 3 39), (39, oAl 0 40), (40, oGi 6 7 43), (43, oIcGe 82 46), (46, oAl 0 47), (47, oAl 0 48), (48, oIl 2 49), (49, oIl 3 50), (53, oC 40 55), (55, oIl 3 56), (56, oAdd 57), (57, oC 151 60), (63, oAl 0 64), (64, oC 150 67), (67, oC 1 68), (68, oC 1 69), (69, oC 0 70), (70, oC 151 73), (76, oInc 3 1 79), (79, oGo 38), (82, oAl 0 83), (83, oGi 6 11 86), (86, oIfEq 92 89), (89, oC (-7) 91), (92, oIl 1 93), (93, oIfEq 114 96), (96, oAl 0 97), (97, oC 150 100)]
theorem ok_M_check_0 : jm_all 125 tb_M_check_0 := ⟨s_aload_n d_M_check_0 rfl, s_geti d_M_check_1 ci_M rfl wd_660, s_if_ne d_M_check_4 (by decide), s_bipush d_M_check_7 (by decide), s_aload_n d_M_check_10 rfl, s_iconst d_M_check_11 (by decide), s_putz d_M_check_12 ci_M rfl rfl rfl wd_662, s_iconst d_M_check_15 (by decide), s_istore_n d_M_check_16 rfl (by decide), s_iconst d_M_check_17 (by decide), s_istore_n d_M_check_18 rfl (by decide), s_iload_n d_M_check_19 rfl, s_aload_n d_M_check_20 rfl, s_geti d_M_check_21 ci_M rfl wd_659, s_icmp_ge d_M_check_24 (by decide), s_aload_n d_M_check_27 rfl, s_getr d_M_check_28 ci_M rfl wd_657, s_sipush d_M_check_31 (by decide), s_iconst d_M_check_34 (by decide), s_iastore d_M_check_35, s_iconst d_M_check_36 (by decide), s_istore_n d_M_check_37 rfl (by decide), s_iload_n d_M_check_38 rfl, s_aload_n d_M_check_39 rfl, s_geti d_M_check_40 ci_M rfl wd_658, s_icmp_ge d_M_check_43 (by decide), s_aload_n d_M_check_46 rfl, s_aload_n d_M_check_47 rfl, s_iload_n d_M_check_48 rfl, s_iload_n d_M_check_49 rfl, s_bipush d_M_check_53 (by decide), s_iload_n d_M_check_55 rfl, s_iadd d_M_check_56, s_sipush d_M_check_57 (by decide), s_aload_n d_M_check_63 rfl, s_sipush d_M_check_64 (by decide), s_iconst d_M_check_67 (by decide), s_iconst d_M_check_68 (by decide), s_iconst d_M_check_69 (by decide), s_sipush d_M_check_70 (by decide), s_iinc d_M_check_76 (by decide) (by decide), s_goto d_M_check_79 (by decide), s_aload_n d_M_check_82 rfl, s_geti d_M_check_83 ci_M rfl wd_662, s_if_eq d_M_check_86 (by decide), s_bipush d_M_check_89 (by decide), s_iload_n d_M_check_92 rfl, s_if_eq d_M_check_93 (by decide), s_aload_n d_M_check_96 rfl, s_sipush d_M_check_97 (by decide), trivial⟩
def tb_M_check_1 : List (Nat × jm_Op) := [(100, oC 50 102), (102, oIl 2 103), (103, oAdd 104), (107, oIfEq 114 110), (110, oC 1 111), (111, oGo 115), (114, oC 0 115), (115, oIs 1 116), (116, oInc 2 1 119), (119, oGo 19), (122, oIl 1 123), (123, oIfEq 130 126), (126, oC 1 127), (127, oGo 131), (130, oC 0 131)]
theorem ok_M_check_1 : jm_all 125 tb_M_check_1 := ⟨s_bipush d_M_check_100 (by decide), s_iload_n d_M_check_102 rfl, s_iadd d_M_check_103, s_if_eq d_M_check_107 (by decide), s_iconst d_M_check_110 (by decide), s_goto d_M_check_111 (by decide), s_iconst d_M_check_114 (by decide), s_istore_n d_M_check_115 rfl (by decide), s_iinc d_M_check_116 (by decide) (by decide), s_goto d_M_check_119 (by decide), s_iload_n d_M_check_122 rfl, s_if_eq d_M_check_123 (by decide), s_iconst d_M_check_126 (by decide), s_goto d_M_check_127 (by decide), s_iconst d_M_check_130 (by decide), trivial⟩
def tb_M_check : List (Nat × jm_Op) := tb_M_check_0 ++ tb_M_check_1
theorem ok_M_check : jm_all 125 tb_M_check := jm_all_app ok_M_check_0 ok_M_check_1
theorem r_M_check_9 {g : jm_G} {d : Nat} {L : List (Option jm_V)} {σ : jm_S} {K : jm_O → Prop} {v : Int32} (hK : K (σ, .inl (some (aI v)))) : J g d 125 9 L [aI v] σ K := J_iret d_M_check_9 rfl hK
theorem k_M_check_50 {g : jm_G} {d : Nat} {L : List (Option jm_V)} {r : List jm_V} {σ : jm_S} {K K' : jm_O → Prop} {q0 : Nat} {x0 : Int32} {x1 : Int32} (hr : Nat.ble (jm_cs r) 8 = true) (hcal : J g d 104 0 [some (aR 6 q0), some (aI x0), some (aI x1)] [] σ K') (hk : ∀ u, K' u → jm_aft g (d + 1) 125 50 L r u K) : J g (d + 1) 125 50 L (aI x1 :: aI x0 :: aR 6 q0 :: r) σ K :=
  J_call' (id' := 104) jm_sk (vs := [aR 6 q0, aI x0, aI x1]) (inv_V (id' := 104) d_M_check_50 ci_M wd_850 wd_852 wd_36 cw_M_cofactor (by decide) pn_M_cofactor) cw_M_cofactor (by decide) (by decide) (Nat.le_of_ble_eq_true rfl) rfl hr rfl hcal hk
theorem k_M_check_60 {g : jm_G} {d : Nat} {L : List (Option jm_V)} {r : List jm_V} {σ : jm_S} {K K' : jm_O → Prop} {q0 : Nat} {x0 : Int32} {x1 : Int32} {x2 : Int32} (hr : Nat.ble (jm_cs r) 8 = true) (hcal : J g d 96 0 [some (aR 6 q0), some (aI x0), some (aI x1), some (aI x2), none] [] σ K') (hk : ∀ u, K' u → jm_aft g (d + 1) 125 60 L r u K) : J g (d + 1) 125 60 L (aI x2 :: aI x1 :: aI x0 :: aR 6 q0 :: r) σ K :=
  J_call' (id' := 96) jm_sk (vs := [aR 6 q0, aI x0, aI x1, aI x2]) (inv_V (id' := 96) d_M_check_60 ci_M wd_818 wd_820 wd_33 cw_M_made (by decide) pn_M_made) cw_M_made (by decide) (by decide) (Nat.le_of_ble_eq_true rfl) rfl hr rfl hcal hk
theorem k_M_check_73 {g : jm_G} {d : Nat} {L : List (Option jm_V)} {r : List jm_V} {σ : jm_S} {K K' : jm_O → Prop} {q0 : Nat} {x0 : Int32} {x1 : Int32} {x2 : Int32} {x3 : Int32} {x4 : Int32} (hr : Nat.ble (jm_cs r) 8 = true) (hcal : J g d 92 0 [some (aR 6 q0), some (aI x0), some (aI x1), some (aI x2), some (aI x3), some (aI x4), none, none, none] [] σ K') (hk : ∀ u, K' u → jm_aft g (d + 1) 125 73 L r u K) : J g (d + 1) 125 73 L (aI x4 :: aI x3 :: aI x2 :: aI x1 :: aI x0 :: aR 6 q0 :: r) σ K :=
  J_call' (id' := 92) jm_sk (vs := [aR 6 q0, aI x0, aI x1, aI x2, aI x3, aI x4]) (inv_V (id' := 92) d_M_check_73 ci_M wd_802 wd_804 wd_30 cw_M_adds (by decide) pn_M_adds) cw_M_adds (by decide) (by decide) (Nat.le_of_ble_eq_true rfl) rfl hr rfl hcal hk
theorem r_M_check_91 {g : jm_G} {d : Nat} {L : List (Option jm_V)} {σ : jm_S} {K : jm_O → Prop} {v : Int32} (hK : K (σ, .inl (some (aI v)))) : J g d 125 91 L [aI v] σ K := J_iret d_M_check_91 rfl hK
theorem k_M_check_104 {g : jm_G} {d : Nat} {L : List (Option jm_V)} {r : List jm_V} {σ : jm_S} {K K' : jm_O → Prop} {q0 : Nat} {x0 : Int32} {x1 : Int32} (hr : Nat.ble (jm_cs r) 8 = true) (hcal : J g d 98 0 [some (aR 6 q0), some (aI x0), some (aI x1), none] [] σ K') (hk : ∀ u, K' u → jm_aft g (d + 1) 125 104 L r u K) : J g (d + 1) 125 104 L (aI x1 :: aI x0 :: aR 6 q0 :: r) σ K :=
  J_call' (id' := 98) jm_sk (vs := [aR 6 q0, aI x0, aI x1]) (inv_V (id' := 98) d_M_check_104 ci_M wd_826 wd_828 wd_34 cw_M_isSame (by decide) pn_M_isSame) cw_M_isSame (by decide) (by decide) (Nat.le_of_ble_eq_true rfl) rfl hr rfl hcal hk
theorem r_M_check_131 {g : jm_G} {d : Nat} {L : List (Option jm_V)} {σ : jm_S} {K : jm_O → Prop} {v : Int32} (hK : K (σ, .inl (some (aI v)))) : J g d 125 131 L [aI v] σ K := J_iret d_M_check_131 rfl hK
-- IdealProverModel radical (II)I
theorem d_M_radical_0 : decode prog_12_method_52_code 0 = .ok (.iload_n 1, 1) := by decide +kernel
theorem d_M_radical_1 : decode prog_12_method_52_code 1 = .ok (.invokestatic 100, 3) := by decide +kernel
theorem d_M_radical_4 : decode prog_12_method_52_code 4 = .ok (.ifCond .ne 5, 3) := by decide +kernel
theorem d_M_radical_7 : decode prog_12_method_52_code 7 = .ok (.iconst (-1), 1) := by decide +kernel
theorem d_M_radical_8 : decode prog_12_method_52_code 8 = .ok (.ireturn, 1) := by decide +kernel
theorem d_M_radical_9 : decode prog_12_method_52_code 9 = .ok (.iload_n 2, 1) := by decide +kernel
theorem d_M_radical_10 : decode prog_12_method_52_code 10 = .ok (.ifCond .lt 10, 3) := by decide +kernel
theorem d_M_radical_13 : decode prog_12_method_52_code 13 = .ok (.iload_n 2, 1) := by decide +kernel
theorem d_M_radical_14 : decode prog_12_method_52_code 14 = .ok (.sipush 20000, 3) := by decide +kernel
theorem d_M_radical_17 : decode prog_12_method_52_code 17 = .ok (.if_icmp .le 6, 3) := by decide +kernel
theorem d_M_radical_20 : decode prog_12_method_52_code 20 = .ok (.bipush (-2), 2) := by decide +kernel
theorem d_M_radical_22 : decode prog_12_method_52_code 22 = .ok (.ireturn, 1) := by decide +kernel
theorem d_M_radical_23 : decode prog_12_method_52_code 23 = .ok (.aload_n 0, 1) := by decide +kernel
theorem d_M_radical_24 : decode prog_12_method_52_code 24 = .ok (.getfield 36, 3) := by decide +kernel
theorem d_M_radical_27 : decode prog_12_method_52_code 27 = .ok (.iconst 4, 1) := by decide +kernel
theorem d_M_radical_28 : decode prog_12_method_52_code 28 = .ok (.if_icmp .ne 6, 3) := by decide +kernel
theorem d_M_radical_31 : decode prog_12_method_52_code 31 = .ok (.bipush (-3), 2) := by decide +kernel
theorem d_M_radical_33 : decode prog_12_method_52_code 33 = .ok (.ireturn, 1) := by decide +kernel
theorem d_M_radical_34 : decode prog_12_method_52_code 34 = .ok (.aload_n 0, 1) := by decide +kernel
theorem d_M_radical_35 : decode prog_12_method_52_code 35 = .ok (.iconst 0, 1) := by decide +kernel
theorem d_M_radical_36 : decode prog_12_method_52_code 36 = .ok (.putfield 54, 3) := by decide +kernel
theorem d_M_radical_39 : decode prog_12_method_52_code 39 = .ok (.aload_n 0, 1) := by decide +kernel
theorem d_M_radical_40 : decode prog_12_method_52_code 40 = .ok (.iconst 0, 1) := by decide +kernel
theorem d_M_radical_41 : decode prog_12_method_52_code 41 = .ok (.putfield 127, 3) := by decide +kernel
theorem d_M_radical_44 : decode prog_12_method_52_code 44 = .ok (.aload_n 0, 1) := by decide +kernel
theorem d_M_radical_45 : decode prog_12_method_52_code 45 = .ok (.iconst 0, 1) := by decide +kernel
theorem d_M_radical_46 : decode prog_12_method_52_code 46 = .ok (.putfield 121, 3) := by decide +kernel
theorem d_M_radical_49 : decode prog_12_method_52_code 49 = .ok (.aload_n 0, 1) := by decide +kernel
theorem d_M_radical_50 : decode prog_12_method_52_code 50 = .ok (.iload_n 2, 1) := by decide +kernel
theorem d_M_radical_51 : decode prog_12_method_52_code 51 = .ok (.putfield 124, 3) := by decide +kernel
theorem d_M_radical_54 : decode prog_12_method_52_code 54 = .ok (.aload_n 0, 1) := by decide +kernel
theorem d_M_radical_55 : decode prog_12_method_52_code 55 = .ok (.aload_n 0, 1) := by decide +kernel
theorem d_M_radical_56 : decode prog_12_method_52_code 56 = .ok (.getfield 36, 3) := by decide +kernel
theorem d_M_radical_59 : decode prog_12_method_52_code 59 = .ok (.iconst 1, 1) := by decide +kernel
theorem d_M_radical_60 : decode prog_12_method_52_code 60 = .ok (.iadd, 1) := by decide +kernel
theorem d_M_radical_61 : decode prog_12_method_52_code 61 = .ok (.putfield 40, 3) := by decide +kernel
theorem d_M_radical_64 : decode prog_12_method_52_code 64 = .ok (.bipush 40, 2) := by decide +kernel
theorem d_M_radical_66 : decode prog_12_method_52_code 66 = .ok (.aload_n 0, 1) := by decide +kernel
theorem d_M_radical_67 : decode prog_12_method_52_code 67 = .ok (.getfield 90, 3) := by decide +kernel
theorem d_M_radical_70 : decode prog_12_method_52_code 70 = .ok (.iadd, 1) := by decide +kernel
theorem d_M_radical_71 : decode prog_12_method_52_code 71 = .ok (.istore_n 3, 1) := by decide +kernel
theorem d_M_radical_72 : decode prog_12_method_52_code 72 = .ok (.aload_n 0, 1) := by decide +kernel
theorem d_M_radical_73 : decode prog_12_method_52_code 73 = .ok (.getfield 20, 3) := by decide +kernel
theorem d_M_radical_76 : decode prog_12_method_52_code 76 = .ok (.iload_n 3, 1) := by decide +kernel
theorem d_M_radical_77 : decode prog_12_method_52_code 77 = .ok (.iconst 0, 1) := by decide +kernel
theorem d_M_radical_78 : decode prog_12_method_52_code 78 = .ok (.iastore, 1) := by decide +kernel
theorem d_M_radical_79 : decode prog_12_method_52_code 79 = .ok (.aload_n 0, 1) := by decide +kernel
theorem d_M_radical_80 : decode prog_12_method_52_code 80 = .ok (.iload_n 3, 1) := by decide +kernel
theorem d_M_radical_81 : decode prog_12_method_52_code 81 = .ok (.iconst 1, 1) := by decide +kernel
theorem d_M_radical_82 : decode prog_12_method_52_code 82 = .ok (.iconst 1, 1) := by decide +kernel
theorem d_M_radical_83 : decode prog_12_method_52_code 83 = .ok (.iconst 0, 1) := by decide +kernel
theorem d_M_radical_84 : decode prog_12_method_52_code 84 = .ok (.invokevirtual 82, 3) := by decide +kernel
theorem d_M_radical_87 : decode prog_12_method_52_code 87 = .ok (.aload_n 0, 1) := by decide +kernel
theorem d_M_radical_88 : decode prog_12_method_52_code 88 = .ok (.iload_n 3, 1) := by decide +kernel
theorem d_M_radical_89 : decode prog_12_method_52_code 89 = .ok (.iconst (-1), 1) := by decide +kernel
theorem d_M_radical_90 : decode prog_12_method_52_code 90 = .ok (.iconst 1, 1) := by decide +kernel
theorem d_M_radical_91 : decode prog_12_method_52_code 91 = .ok (.iconst 1, 1) := by decide +kernel
theorem d_M_radical_92 : decode prog_12_method_52_code 92 = .ok (.iconst 5, 1) := by decide +kernel
theorem d_M_radical_93 : decode prog_12_method_52_code 93 = .ok (.aload_n 0, 1) := by decide +kernel
theorem d_M_radical_94 : decode prog_12_method_52_code 94 = .ok (.getfield 36, 3) := by decide +kernel
theorem d_M_radical_97 : decode prog_12_method_52_code 97 = .ok (.imul, 1) := by decide +kernel
theorem d_M_radical_98 : decode prog_12_method_52_code 98 = .ok (.ishl, 1) := by decide +kernel
theorem d_M_radical_99 : decode prog_12_method_52_code 99 = .ok (.iload_n 1, 1) := by decide +kernel
theorem d_M_radical_100 : decode prog_12_method_52_code 100 = .ok (.invokevirtual 86, 3) := by decide +kernel
theorem d_M_radical_103 : decode prog_12_method_52_code 103 = .ok (.aload_n 0, 1) := by decide +kernel
theorem d_M_radical_104 : decode prog_12_method_52_code 104 = .ok (.getfield 54, 3) := by decide +kernel
theorem d_M_radical_107 : decode prog_12_method_52_code 107 = .ok (.ifCond .ne 16, 3) := by decide +kernel
theorem d_M_radical_110 : decode prog_12_method_52_code 110 = .ok (.aload_n 0, 1) := by decide +kernel
theorem d_M_radical_111 : decode prog_12_method_52_code 111 = .ok (.bipush 75, 2) := by decide +kernel
theorem d_M_radical_113 : decode prog_12_method_52_code 113 = .ok (.aload_n 0, 1) := by decide +kernel
theorem d_M_radical_114 : decode prog_12_method_52_code 114 = .ok (.getfield 90, 3) := by decide +kernel
theorem d_M_radical_117 : decode prog_12_method_52_code 117 = .ok (.iconst 1, 1) := by decide +kernel
theorem d_M_radical_118 : decode prog_12_method_52_code 118 = .ok (.iadd, 1) := by decide +kernel
theorem d_M_radical_119 : decode prog_12_method_52_code 119 = .ok (.iconst 0, 1) := by decide +kernel
theorem d_M_radical_120 : decode prog_12_method_52_code 120 = .ok (.invokevirtual 201, 3) := by decide +kernel
theorem d_M_radical_123 : decode prog_12_method_52_code 123 = .ok (.aload_n 0, 1) := by decide +kernel
theorem d_M_radical_124 : decode prog_12_method_52_code 124 = .ok (.getfield 54, 3) := by decide +kernel
theorem d_M_radical_127 : decode prog_12_method_52_code 127 = .ok (.ifCond .ne 31, 3) := by decide +kernel
theorem d_M_radical_130 : decode prog_12_method_52_code 130 = .ok (.aload_n 0, 1) := by decide +kernel
theorem d_M_radical_131 : decode prog_12_method_52_code 131 = .ok (.getfield 127, 3) := by decide +kernel
theorem d_M_radical_134 : decode prog_12_method_52_code 134 = .ok (.ifCond .ne 24, 3) := by decide +kernel
theorem d_M_radical_137 : decode prog_12_method_52_code 137 = .ok (.aload_n 0, 1) := by decide +kernel
theorem d_M_radical_138 : decode prog_12_method_52_code 138 = .ok (.getfield 133, 3) := by decide +kernel
theorem d_M_radical_141 : decode prog_12_method_52_code 141 = .ok (.iconst 1, 1) := by decide +kernel
theorem d_M_radical_142 : decode prog_12_method_52_code 142 = .ok (.if_icmp .ne 16, 3) := by decide +kernel
theorem d_M_radical_145 : decode prog_12_method_52_code 145 = .ok (.aload_n 0, 1) := by decide +kernel
theorem d_M_radical_146 : decode prog_12_method_52_code 146 = .ok (.bipush 75, 2) := by decide +kernel
theorem d_M_radical_148 : decode prog_12_method_52_code 148 = .ok (.invokevirtual 130, 3) := by decide +kernel
theorem d_M_radical_151 : decode prog_12_method_52_code 151 = .ok (.ifCond .ne 7, 3) := by decide +kernel
theorem d_M_radical_154 : decode prog_12_method_52_code 154 = .ok (.iconst 1, 1) := by decide +kernel
theorem d_M_radical_155 : decode prog_12_method_52_code 155 = .ok (.goto 4, 3) := by decide +kernel
theorem d_M_radical_158 : decode prog_12_method_52_code 158 = .ok (.iconst 0, 1) := by decide +kernel
theorem d_M_radical_159 : decode prog_12_method_52_code 159 = .ok (.istore 4, 2) := by decide +kernel
theorem d_M_radical_161 : decode prog_12_method_52_code 161 = .ok (.aload_n 0, 1) := by decide +kernel
theorem d_M_radical_162 : decode prog_12_method_52_code 162 = .ok (.aload_n 0, 1) := by decide +kernel
theorem d_M_radical_163 : decode prog_12_method_52_code 163 = .ok (.getfield 36, 3) := by decide +kernel
theorem d_M_radical_166 : decode prog_12_method_52_code 166 = .ok (.putfield 40, 3) := by decide +kernel
theorem d_M_radical_169 : decode prog_12_method_52_code 169 = .ok (.aload_n 0, 1) := by decide +kernel
theorem d_M_radical_170 : decode prog_12_method_52_code 170 = .ok (.getfield 127, 3) := by decide +kernel
theorem d_M_radical_173 : decode prog_12_method_52_code 173 = .ok (.ifCond .eq 8, 3) := by decide +kernel
theorem d_M_radical_176 : decode prog_12_method_52_code 176 = .ok (.bipush (-6), 2) := by decide +kernel
theorem d_M_radical_178 : decode prog_12_method_52_code 178 = .ok (.goto 25, 3) := by decide +kernel
theorem d_M_radical_181 : decode prog_12_method_52_code 181 = .ok (.aload_n 0, 1) := by decide +kernel
theorem d_M_radical_182 : decode prog_12_method_52_code 182 = .ok (.getfield 54, 3) := by decide +kernel
theorem d_M_radical_185 : decode prog_12_method_52_code 185 = .ok (.ifCond .eq 8, 3) := by decide +kernel
theorem d_M_radical_188 : decode prog_12_method_52_code 188 = .ok (.bipush (-7), 2) := by decide +kernel
theorem d_M_radical_190 : decode prog_12_method_52_code 190 = .ok (.goto 13, 3) := by decide +kernel
theorem d_M_radical_193 : decode prog_12_method_52_code 193 = .ok (.iload 4, 2) := by decide +kernel
theorem d_M_radical_195 : decode prog_12_method_52_code 195 = .ok (.ifCond .eq 7, 3) := by decide +kernel
theorem d_M_radical_198 : decode prog_12_method_52_code 198 = .ok (.iconst 1, 1) := by decide +kernel
theorem d_M_radical_199 : decode prog_12_method_52_code 199 = .ok (.goto 4, 3) := by decide +kernel
theorem d_M_radical_202 : decode prog_12_method_52_code 202 = .ok (.iconst 0, 1) := by decide +kernel
theorem d_M_radical_203 : decode prog_12_method_52_code 203 = .ok (.ireturn, 1) := by decide +kernel
def tb_M_radical_0 : List (Nat × jm_Op) := [(0, oIl 1 1), (4, oIfNe 9 7), (7, oC (-1) 8), (9, oIl 2 10), (10, oIfLt 20 13), (13, oIl 2 14), (14, oC 20000 17), (17, oIcLe 23 20), (20, oC (-2) 22), (23, oAl 0 24), (24, oGi 6 0 27), (27, oC 4 28), (28, oIcNe 34 31), (31, oC (-3) 33), (34, oAl 0 35), (35, oC 0 36), (36, oPz 6 11 39), (39, oAl 0 40), (40, oC 0 41), (41, oPz 6 12 44), (44, oAl 0 45), (45, oC 0 46), (46, oPi 6 13 49), (49, oAl 0 50), (50, oIl 2 51), (51, oPi 6 14 54), (54, oAl 0 55), (55, oAl 0 56), (56, oGi 6 0 59), (59, oC 1 60), (60, oAdd 61), (61, oPi 6 1 64), (64, oC 40 66), (66, oAl 0 67), (67, oGi 6 7 70), (70, oAdd 71), (71, oIs 3 72), (72, oAl 0 73), (73, oGr 6 6 8 76), (76, oIl 3 77), (77, oC 0 78), (78, oIw 79), (79, oAl 0 80), (80, oIl 3 81), (81, oC 1 82), (82, oC 1 83), (83, oC 0 84), (87, oAl 0 88), (88, oIl 3 89), (89, oC (-1) 90)]
theorem ok_M_radical_0 : jm_all 126 tb_M_radical_0 := ⟨s_iload_n d_M_radical_0 rfl, s_if_ne d_M_radical_4 (by decide), s_iconst d_M_radical_7 (by decide), s_iload_n d_M_radical_9 rfl, s_if_lt d_M_radical_10 (by decide), s_iload_n d_M_radical_13 rfl, s_sipush d_M_radical_14 (by decide), s_icmp_le d_M_radical_17 (by decide), s_bipush d_M_radical_20 (by decide), s_aload_n d_M_radical_23 rfl, s_geti d_M_radical_24 ci_M rfl wd_651, s_iconst d_M_radical_27 (by decide), s_icmp_ne d_M_radical_28 (by decide), s_bipush d_M_radical_31 (by decide), s_aload_n d_M_radical_34 rfl, s_iconst d_M_radical_35 (by decide), s_putz d_M_radical_36 ci_M rfl rfl rfl wd_662, s_aload_n d_M_radical_39 rfl, s_iconst d_M_radical_40 (by decide), s_putz d_M_radical_41 ci_M rfl rfl rfl wd_663, s_aload_n d_M_radical_44 rfl, s_iconst d_M_radical_45 (by decide), s_puti d_M_radical_46 ci_M rfl rfl rfl wd_664, s_aload_n d_M_radical_49 rfl, s_iload_n d_M_radical_50 rfl, s_puti d_M_radical_51 ci_M rfl rfl rfl wd_665, s_aload_n d_M_radical_54 rfl, s_aload_n d_M_radical_55 rfl, s_geti d_M_radical_56 ci_M rfl wd_651, s_iconst d_M_radical_59 (by decide), s_iadd d_M_radical_60, s_puti d_M_radical_61 ci_M rfl rfl rfl wd_652, s_bipush d_M_radical_64 (by decide), s_aload_n d_M_radical_66 rfl, s_geti d_M_radical_67 ci_M rfl wd_658, s_iadd d_M_radical_70, s_istore_n d_M_radical_71 rfl (by decide), s_aload_n d_M_radical_72 rfl, s_getr d_M_radical_73 ci_M rfl wd_657, s_iload_n d_M_radical_76 rfl, s_iconst d_M_radical_77 (by decide), s_iastore d_M_radical_78, s_aload_n d_M_radical_79 rfl, s_iload_n d_M_radical_80 rfl, s_iconst d_M_radical_81 (by decide), s_iconst d_M_radical_82 (by decide), s_iconst d_M_radical_83 (by decide), s_aload_n d_M_radical_87 rfl, s_iload_n d_M_radical_88 rfl, s_iconst d_M_radical_89 (by decide), trivial⟩
def tb_M_radical_1 : List (Nat × jm_Op) := [(90, oC 1 91), (91, oC 1 92), (92, oC 5 93), (93, oAl 0 94), (94, oGi 6 0 97), (97, oMul 98), (98, oShl 99), (99, oIl 1 100), (103, oAl 0 104), (104, oGi 6 11 107), (107, oIfNe 123 110), (110, oAl 0 111), (111, oC 75 113), (113, oAl 0 114), (114, oGi 6 7 117), (117, oC 1 118), (118, oAdd 119), (119, oC 0 120), (123, oAl 0 124), (124, oGi 6 11 127), (127, oIfNe 158 130), (130, oAl 0 131), (131, oGi 6 12 134), (134, oIfNe 158 137), (137, oAl 0 138), (138, oGi 6 20 141), (141, oC 1 142), (142, oIcNe 158 145), (145, oAl 0 146), (146, oC 75 148), (151, oIfNe 158 154), (154, oC 1 155), (155, oGo 159), (158, oC 0 159), (159, oIs 4 161), (161, oAl 0 162), (162, oAl 0 163), (163, oGi 6 0 166), (166, oPi 6 1 169), (169, oAl 0 170), (170, oGi 6 12 173), (173, oIfEq 181 176), (176, oC (-6) 178), (178, oGo 203), (181, oAl 0 182), (182, oGi 6 11 185), (185, oIfEq 193 188), (188, oC (-7) 190), (190, oGo 203), (193, oIl 4 195)]
theorem ok_M_radical_1 : jm_all 126 tb_M_radical_1 := ⟨s_iconst d_M_radical_90 (by decide), s_iconst d_M_radical_91 (by decide), s_iconst d_M_radical_92 (by decide), s_aload_n d_M_radical_93 rfl, s_geti d_M_radical_94 ci_M rfl wd_651, s_imul d_M_radical_97, s_ishl d_M_radical_98, s_iload_n d_M_radical_99 rfl, s_aload_n d_M_radical_103 rfl, s_geti d_M_radical_104 ci_M rfl wd_662, s_if_ne d_M_radical_107 (by decide), s_aload_n d_M_radical_110 rfl, s_bipush d_M_radical_111 (by decide), s_aload_n d_M_radical_113 rfl, s_geti d_M_radical_114 ci_M rfl wd_658, s_iconst d_M_radical_117 (by decide), s_iadd d_M_radical_118, s_iconst d_M_radical_119 (by decide), s_aload_n d_M_radical_123 rfl, s_geti d_M_radical_124 ci_M rfl wd_662, s_if_ne d_M_radical_127 (by decide), s_aload_n d_M_radical_130 rfl, s_geti d_M_radical_131 ci_M rfl wd_663, s_if_ne d_M_radical_134 (by decide), s_aload_n d_M_radical_137 rfl, s_geti d_M_radical_138 ci_M rfl wd_671, s_iconst d_M_radical_141 (by decide), s_icmp_ne d_M_radical_142 (by decide), s_aload_n d_M_radical_145 rfl, s_bipush d_M_radical_146 (by decide), s_if_ne d_M_radical_151 (by decide), s_iconst d_M_radical_154 (by decide), s_goto d_M_radical_155 (by decide), s_iconst d_M_radical_158 (by decide), s_istore d_M_radical_159 (by decide), s_aload_n d_M_radical_161 rfl, s_aload_n d_M_radical_162 rfl, s_geti d_M_radical_163 ci_M rfl wd_651, s_puti d_M_radical_166 ci_M rfl rfl rfl wd_652, s_aload_n d_M_radical_169 rfl, s_geti d_M_radical_170 ci_M rfl wd_663, s_if_eq d_M_radical_173 (by decide), s_bipush d_M_radical_176 (by decide), s_goto d_M_radical_178 (by decide), s_aload_n d_M_radical_181 rfl, s_geti d_M_radical_182 ci_M rfl wd_662, s_if_eq d_M_radical_185 (by decide), s_bipush d_M_radical_188 (by decide), s_goto d_M_radical_190 (by decide), s_iload d_M_radical_193, trivial⟩
def tb_M_radical_2 : List (Nat × jm_Op) := [(195, oIfEq 202 198), (198, oC 1 199), (199, oGo 203), (202, oC 0 203)]
theorem ok_M_radical_2 : jm_all 126 tb_M_radical_2 := ⟨s_if_eq d_M_radical_195 (by decide), s_iconst d_M_radical_198 (by decide), s_goto d_M_radical_199 (by decide), s_iconst d_M_radical_202 (by decide), trivial⟩
def tb_M_radical : List (Nat × jm_Op) := tb_M_radical_0 ++ (tb_M_radical_1 ++ tb_M_radical_2)
theorem ok_M_radical : jm_all 126 tb_M_radical := jm_all_app ok_M_radical_0 (jm_all_app ok_M_radical_1 ok_M_radical_2)
theorem k_M_radical_1 {g : jm_G} {d : Nat} {L : List (Option jm_V)} {r : List jm_V} {σ : jm_S} {K K' : jm_O → Prop} {x0 : Int32} (hr : Nat.ble (jm_cs r) 8 = true) (hcal : J g d 83 0 [some (aI x0)] [] σ K') (hk : ∀ u, K' u → jm_aft g (d + 1) 126 1 L r u K) : J g (d + 1) 126 1 L (aI x0 :: r) σ K :=
  J_call' (id' := 83) jm_sk (vs := [aI x0]) (inv_S (id' := 83) d_M_radical_1 wd_763 wd_764 wd_62 cw_M_isPlace (by decide) pn_M_isPlace) cw_M_isPlace (by decide) (by decide) (Nat.le_of_ble_eq_true rfl) rfl hr rfl hcal hk
theorem r_M_radical_8 {g : jm_G} {d : Nat} {L : List (Option jm_V)} {σ : jm_S} {K : jm_O → Prop} {v : Int32} (hK : K (σ, .inl (some (aI v)))) : J g d 126 8 L [aI v] σ K := J_iret d_M_radical_8 rfl hK
theorem r_M_radical_22 {g : jm_G} {d : Nat} {L : List (Option jm_V)} {σ : jm_S} {K : jm_O → Prop} {v : Int32} (hK : K (σ, .inl (some (aI v)))) : J g d 126 22 L [aI v] σ K := J_iret d_M_radical_22 rfl hK
theorem r_M_radical_33 {g : jm_G} {d : Nat} {L : List (Option jm_V)} {σ : jm_S} {K : jm_O → Prop} {v : Int32} (hK : K (σ, .inl (some (aI v)))) : J g d 126 33 L [aI v] σ K := J_iret d_M_radical_33 rfl hK
theorem k_M_radical_84 {g : jm_G} {d : Nat} {L : List (Option jm_V)} {r : List jm_V} {σ : jm_S} {K K' : jm_O → Prop} {q0 : Nat} {x0 : Int32} {x1 : Int32} {x2 : Int32} {x3 : Int32} (hr : Nat.ble (jm_cs r) 8 = true) (hcal : J g d 86 0 [some (aR 6 q0), some (aI x0), some (aI x1), some (aI x2), some (aI x3), none, none, none] [] σ K') (hk : ∀ u, K' u → jm_aft g (d + 1) 126 84 L r u K) : J g (d + 1) 126 84 L (aI x3 :: aI x2 :: aI x1 :: aI x0 :: aR 6 q0 :: r) σ K :=
  J_call' (id' := 86) jm_sk (vs := [aR 6 q0, aI x0, aI x1, aI x2, aI x3]) (inv_V (id' := 86) d_M_radical_84 ci_M wd_778 wd_780 wd_28 cw_M_comes (by decide) pn_M_comes) cw_M_comes (by decide) (by decide) (Nat.le_of_ble_eq_true rfl) rfl hr rfl hcal hk
theorem k_M_radical_100 {g : jm_G} {d : Nat} {L : List (Option jm_V)} {r : List jm_V} {σ : jm_S} {K K' : jm_O → Prop} {q0 : Nat} {x0 : Int32} {x1 : Int32} {x2 : Int32} {x3 : Int32} {x4 : Int32} (hr : Nat.ble (jm_cs r) 8 = true) (hcal : J g d 92 0 [some (aR 6 q0), some (aI x0), some (aI x1), some (aI x2), some (aI x3), some (aI x4), none, none, none] [] σ K') (hk : ∀ u, K' u → jm_aft g (d + 1) 126 100 L r u K) : J g (d + 1) 126 100 L (aI x4 :: aI x3 :: aI x2 :: aI x1 :: aI x0 :: aR 6 q0 :: r) σ K :=
  J_call' (id' := 92) jm_sk (vs := [aR 6 q0, aI x0, aI x1, aI x2, aI x3, aI x4]) (inv_V (id' := 92) d_M_radical_100 ci_M wd_802 wd_804 wd_30 cw_M_adds (by decide) pn_M_adds) cw_M_adds (by decide) (by decide) (Nat.le_of_ble_eq_true rfl) rfl hr rfl hcal hk
theorem k_M_radical_120 {g : jm_G} {d : Nat} {L : List (Option jm_V)} {r : List jm_V} {σ : jm_S} {K K' : jm_O → Prop} {q0 : Nat} {x0 : Int32} {x1 : Int32} {x2 : Int32} (hr : Nat.ble (jm_cs r) 8 = true) (hcal : J g d 103 0 [some (aR 6 q0), some (aI x0), some (aI x1), some (aI x2), none, none] [] σ K') (hk : ∀ u, K' u → jm_aft g (d + 1) 126 120 L r u K) : J g (d + 1) 126 120 L (aI x2 :: aI x1 :: aI x0 :: aR 6 q0 :: r) σ K :=
  J_call' (id' := 103) jm_sk (vs := [aR 6 q0, aI x0, aI x1, aI x2]) (inv_V (id' := 103) d_M_radical_120 ci_M wd_846 wd_848 wd_35 cw_M_make (by decide) pn_M_make) cw_M_make (by decide) (by decide) (Nat.le_of_ble_eq_true rfl) rfl hr rfl hcal hk
theorem k_M_radical_148 {g : jm_G} {d : Nat} {L : List (Option jm_V)} {r : List jm_V} {σ : jm_S} {K K' : jm_O → Prop} {q0 : Nat} {x0 : Int32} (hr : Nat.ble (jm_cs r) 8 = true) (hcal : J g d 109 0 [some (aR 6 q0), some (aI x0)] [] σ K') (hk : ∀ u, K' u → jm_aft g (d + 1) 126 148 L r u K) : J g (d + 1) 126 148 L (aI x0 :: aR 6 q0 :: r) σ K :=
  J_call' (id' := 109) jm_sk (vs := [aR 6 q0, aI x0]) (inv_V (id' := 109) d_M_radical_148 ci_M wd_870 wd_872 wd_41 cw_M_lead (by decide) pn_M_lead) cw_M_lead (by decide) (by decide) (Nat.le_of_ble_eq_true rfl) rfl hr rfl hcal hk
theorem r_M_radical_203 {g : jm_G} {d : Nat} {L : List (Option jm_V)} {σ : jm_S} {K : jm_O → Prop} {v : Int32} (hK : K (σ, .inl (some (aI v)))) : J g d 126 203 L [aI v] σ K := J_iret d_M_radical_203 rfl hK
-- IdealProverModel free (I)I
theorem d_M_free_0 : decode prog_12_method_53_code 0 = .ok (.iload_n 1, 1) := by decide +kernel
theorem d_M_free_1 : decode prog_12_method_53_code 1 = .ok (.ifCond .lt 11, 3) := by decide +kernel
theorem d_M_free_4 : decode prog_12_method_53_code 4 = .ok (.iload_n 1, 1) := by decide +kernel
theorem d_M_free_5 : decode prog_12_method_53_code 5 = .ok (.aload_n 0, 1) := by decide +kernel
theorem d_M_free_6 : decode prog_12_method_53_code 6 = .ok (.getfield 36, 3) := by decide +kernel
theorem d_M_free_9 : decode prog_12_method_53_code 9 = .ok (.if_icmp .le 6, 3) := by decide +kernel
theorem d_M_free_12 : decode prog_12_method_53_code 12 = .ok (.bipush (-2), 2) := by decide +kernel
theorem d_M_free_14 : decode prog_12_method_53_code 14 = .ok (.ireturn, 1) := by decide +kernel
theorem d_M_free_15 : decode prog_12_method_53_code 15 = .ok (.aload_n 0, 1) := by decide +kernel
theorem d_M_free_16 : decode prog_12_method_53_code 16 = .ok (.getfield 97, 3) := by decide +kernel
theorem d_M_free_19 : decode prog_12_method_53_code 19 = .ok (.ifCond .ne 6, 3) := by decide +kernel
theorem d_M_free_22 : decode prog_12_method_53_code 22 = .ok (.bipush (-3), 2) := by decide +kernel
theorem d_M_free_24 : decode prog_12_method_53_code 24 = .ok (.ireturn, 1) := by decide +kernel
theorem d_M_free_25 : decode prog_12_method_53_code 25 = .ok (.iconst 0, 1) := by decide +kernel
theorem d_M_free_26 : decode prog_12_method_53_code 26 = .ok (.istore_n 2, 1) := by decide +kernel
theorem d_M_free_27 : decode prog_12_method_53_code 27 = .ok (.iconst 0, 1) := by decide +kernel
theorem d_M_free_28 : decode prog_12_method_53_code 28 = .ok (.istore_n 3, 1) := by decide +kernel
theorem d_M_free_29 : decode prog_12_method_53_code 29 = .ok (.iload_n 3, 1) := by decide +kernel
theorem d_M_free_30 : decode prog_12_method_53_code 30 = .ok (.aload_n 0, 1) := by decide +kernel
theorem d_M_free_31 : decode prog_12_method_53_code 31 = .ok (.getfield 205, 3) := by decide +kernel
theorem d_M_free_34 : decode prog_12_method_53_code 34 = .ok (.if_icmp .ge 86, 3) := by decide +kernel
theorem d_M_free_37 : decode prog_12_method_53_code 37 = .ok (.iconst 1, 1) := by decide +kernel
theorem d_M_free_38 : decode prog_12_method_53_code 38 = .ok (.istore 4, 2) := by decide +kernel
theorem d_M_free_40 : decode prog_12_method_53_code 40 = .ok (.iconst 0, 1) := by decide +kernel
theorem d_M_free_41 : decode prog_12_method_53_code 41 = .ok (.istore 5, 2) := by decide +kernel
theorem d_M_free_43 : decode prog_12_method_53_code 43 = .ok (.iload 5, 2) := by decide +kernel
theorem d_M_free_45 : decode prog_12_method_53_code 45 = .ok (.aload_n 0, 1) := by decide +kernel
theorem d_M_free_46 : decode prog_12_method_53_code 46 = .ok (.getfield 20, 3) := by decide +kernel
theorem d_M_free_49 : decode prog_12_method_53_code 49 = .ok (.bipush 50, 2) := by decide +kernel
theorem d_M_free_51 : decode prog_12_method_53_code 51 = .ok (.iload_n 3, 1) := by decide +kernel
theorem d_M_free_52 : decode prog_12_method_53_code 52 = .ok (.iadd, 1) := by decide +kernel
theorem d_M_free_53 : decode prog_12_method_53_code 53 = .ok (.iaload, 1) := by decide +kernel
theorem d_M_free_54 : decode prog_12_method_53_code 54 = .ok (.if_icmp .ge 47, 3) := by decide +kernel
theorem d_M_free_57 : decode prog_12_method_53_code 57 = .ok (.iload 4, 2) := by decide +kernel
theorem d_M_free_59 : decode prog_12_method_53_code 59 = .ok (.ifCond .eq 33, 3) := by decide +kernel
theorem d_M_free_62 : decode prog_12_method_53_code 62 = .ok (.aload_n 0, 1) := by decide +kernel
theorem d_M_free_63 : decode prog_12_method_53_code 63 = .ok (.getfield 17, 3) := by decide +kernel
theorem d_M_free_66 : decode prog_12_method_53_code 66 = .ok (.bipush 100, 2) := by decide +kernel
theorem d_M_free_68 : decode prog_12_method_53_code 68 = .ok (.bipush 50, 2) := by decide +kernel
theorem d_M_free_70 : decode prog_12_method_53_code 70 = .ok (.iload_n 3, 1) := by decide +kernel
theorem d_M_free_71 : decode prog_12_method_53_code 71 = .ok (.iadd, 1) := by decide +kernel
theorem d_M_free_72 : decode prog_12_method_53_code 72 = .ok (.imul, 1) := by decide +kernel
theorem d_M_free_73 : decode prog_12_method_53_code 73 = .ok (.iload 5, 2) := by decide +kernel
theorem d_M_free_75 : decode prog_12_method_53_code 75 = .ok (.iadd, 1) := by decide +kernel
theorem d_M_free_76 : decode prog_12_method_53_code 76 = .ok (.iaload, 1) := by decide +kernel
theorem d_M_free_77 : decode prog_12_method_53_code 77 = .ok (.iconst 1, 1) := by decide +kernel
theorem d_M_free_78 : decode prog_12_method_53_code 78 = .ok (.iconst 5, 1) := by decide +kernel
theorem d_M_free_79 : decode prog_12_method_53_code 79 = .ok (.iload_n 1, 1) := by decide +kernel
theorem d_M_free_80 : decode prog_12_method_53_code 80 = .ok (.imul, 1) := by decide +kernel
theorem d_M_free_81 : decode prog_12_method_53_code 81 = .ok (.ishl, 1) := by decide +kernel
theorem d_M_free_82 : decode prog_12_method_53_code 82 = .ok (.iconst 1, 1) := by decide +kernel
theorem d_M_free_83 : decode prog_12_method_53_code 83 = .ok (.isub, 1) := by decide +kernel
theorem d_M_free_84 : decode prog_12_method_53_code 84 = .ok (.iand, 1) := by decide +kernel
theorem d_M_free_85 : decode prog_12_method_53_code 85 = .ok (.ifCond .ne 7, 3) := by decide +kernel
theorem d_M_free_88 : decode prog_12_method_53_code 88 = .ok (.iconst 1, 1) := by decide +kernel
theorem d_M_free_89 : decode prog_12_method_53_code 89 = .ok (.goto 4, 3) := by decide +kernel
theorem d_M_free_92 : decode prog_12_method_53_code 92 = .ok (.iconst 0, 1) := by decide +kernel
theorem d_M_free_93 : decode prog_12_method_53_code 93 = .ok (.istore 4, 2) := by decide +kernel
theorem d_M_free_95 : decode prog_12_method_53_code 95 = .ok (.iinc 5 1, 3) := by decide +kernel
theorem d_M_free_98 : decode prog_12_method_53_code 98 = .ok (.goto (-55), 3) := by decide +kernel
theorem d_M_free_101 : decode prog_12_method_53_code 101 = .ok (.iload_n 2, 1) := by decide +kernel
theorem d_M_free_102 : decode prog_12_method_53_code 102 = .ok (.iload 4, 2) := by decide +kernel
theorem d_M_free_104 : decode prog_12_method_53_code 104 = .ok (.ifCond .eq 7, 3) := by decide +kernel
theorem d_M_free_107 : decode prog_12_method_53_code 107 = .ok (.iconst 1, 1) := by decide +kernel
theorem d_M_free_108 : decode prog_12_method_53_code 108 = .ok (.goto 4, 3) := by decide +kernel
theorem d_M_free_111 : decode prog_12_method_53_code 111 = .ok (.iconst 0, 1) := by decide +kernel
theorem d_M_free_112 : decode prog_12_method_53_code 112 = .ok (.iadd, 1) := by decide +kernel
theorem d_M_free_113 : decode prog_12_method_53_code 113 = .ok (.istore_n 2, 1) := by decide +kernel
theorem d_M_free_114 : decode prog_12_method_53_code 114 = .ok (.iinc 3 1, 3) := by decide +kernel
theorem d_M_free_117 : decode prog_12_method_53_code 117 = .ok (.goto (-88), 3) := by decide +kernel
theorem d_M_free_120 : decode prog_12_method_53_code 120 = .ok (.iload_n 2, 1) := by decide +kernel
theorem d_M_free_121 : decode prog_12_method_53_code 121 = .ok (.ireturn, 1) := by decide +kernel
def tb_M_free_0 : List (Nat × jm_Op) := [(0, oIl 1 1), (1, oIfLt 12 4), (4, oIl 1 5), (5, oAl 0 6), (6, oGi 6 0 9), (9, oIcLe 15 12), (12, oC (-2) 14), (15, oAl 0 16), (16, oGi 6 9 19), (19, oIfNe 25 22), (22, oC (-3) 24), (25, oC 0 26), (26, oIs 2 27), (27, oC 0 28), (28, oIs 3 29), (29, oIl 3 30), (30, oAl 0 31), (31, oGi 6 8 34), (34, oIcGe 120 37), (37, oC 1 38), (38, oIs 4 40), (40, oC 0 41), (41, oIs 5 43), (43, oIl 5 45), (45, oAl 0 46), (46, oGr 6 6 8 49), (49, oC 50 51), (51, oIl 3 52), (52, oAdd 53), (53, oIa 54), (54, oIcGe 101 57), (57, oIl 4 59), (59, oIfEq 92 62), (62, oAl 0 63), (63, oGr 6 5 8 66), (66, oC 100 68), (68, oC 50 70), (70, oIl 3 71), (71, oAdd 72), (72, oMul 73), (73, oIl 5 75), (75, oAdd 76), (76, oIa 77), (77, oC 1 78), (78, oC 5 79), (79, oIl 1 80), (80, oMul 81), (81, oShl 82), (82, oC 1 83), (83, oSub 84)]
theorem ok_M_free_0 : jm_all 127 tb_M_free_0 := ⟨s_iload_n d_M_free_0 rfl, s_if_lt d_M_free_1 (by decide), s_iload_n d_M_free_4 rfl, s_aload_n d_M_free_5 rfl, s_geti d_M_free_6 ci_M rfl wd_651, s_icmp_le d_M_free_9 (by decide), s_bipush d_M_free_12 (by decide), s_aload_n d_M_free_15 rfl, s_geti d_M_free_16 ci_M rfl wd_660, s_if_ne d_M_free_19 (by decide), s_bipush d_M_free_22 (by decide), s_iconst d_M_free_25 (by decide), s_istore_n d_M_free_26 rfl (by decide), s_iconst d_M_free_27 (by decide), s_istore_n d_M_free_28 rfl (by decide), s_iload_n d_M_free_29 rfl, s_aload_n d_M_free_30 rfl, s_geti d_M_free_31 ci_M rfl wd_659, s_icmp_ge d_M_free_34 (by decide), s_iconst d_M_free_37 (by decide), s_istore d_M_free_38 (by decide), s_iconst d_M_free_40 (by decide), s_istore d_M_free_41 (by decide), s_iload d_M_free_43, s_aload_n d_M_free_45 rfl, s_getr d_M_free_46 ci_M rfl wd_657, s_bipush d_M_free_49 (by decide), s_iload_n d_M_free_51 rfl, s_iadd d_M_free_52, s_iaload d_M_free_53, s_icmp_ge d_M_free_54 (by decide), s_iload d_M_free_57, s_if_eq d_M_free_59 (by decide), s_aload_n d_M_free_62 rfl, s_getr d_M_free_63 ci_M rfl wd_656, s_bipush d_M_free_66 (by decide), s_bipush d_M_free_68 (by decide), s_iload_n d_M_free_70 rfl, s_iadd d_M_free_71, s_imul d_M_free_72, s_iload d_M_free_73, s_iadd d_M_free_75, s_iaload d_M_free_76, s_iconst d_M_free_77 (by decide), s_iconst d_M_free_78 (by decide), s_iload_n d_M_free_79 rfl, s_imul d_M_free_80, s_ishl d_M_free_81, s_iconst d_M_free_82 (by decide), s_isub d_M_free_83, trivial⟩
def tb_M_free_1 : List (Nat × jm_Op) := [(84, oAnd 85), (85, oIfNe 92 88), (88, oC 1 89), (89, oGo 93), (92, oC 0 93), (93, oIs 4 95), (95, oInc 5 1 98), (98, oGo 43), (101, oIl 2 102), (102, oIl 4 104), (104, oIfEq 111 107), (107, oC 1 108), (108, oGo 112), (111, oC 0 112), (112, oAdd 113), (113, oIs 2 114), (114, oInc 3 1 117), (117, oGo 29), (120, oIl 2 121)]
theorem ok_M_free_1 : jm_all 127 tb_M_free_1 := ⟨s_iand d_M_free_84, s_if_ne d_M_free_85 (by decide), s_iconst d_M_free_88 (by decide), s_goto d_M_free_89 (by decide), s_iconst d_M_free_92 (by decide), s_istore d_M_free_93 (by decide), s_iinc d_M_free_95 (by decide) (by decide), s_goto d_M_free_98 (by decide), s_iload_n d_M_free_101 rfl, s_iload d_M_free_102, s_if_eq d_M_free_104 (by decide), s_iconst d_M_free_107 (by decide), s_goto d_M_free_108 (by decide), s_iconst d_M_free_111 (by decide), s_iadd d_M_free_112, s_istore_n d_M_free_113 rfl (by decide), s_iinc d_M_free_114 (by decide) (by decide), s_goto d_M_free_117 (by decide), s_iload_n d_M_free_120 rfl, trivial⟩
def tb_M_free : List (Nat × jm_Op) := tb_M_free_0 ++ tb_M_free_1
theorem ok_M_free : jm_all 127 tb_M_free := jm_all_app ok_M_free_0 ok_M_free_1
theorem r_M_free_14 {g : jm_G} {d : Nat} {L : List (Option jm_V)} {σ : jm_S} {K : jm_O → Prop} {v : Int32} (hK : K (σ, .inl (some (aI v)))) : J g d 127 14 L [aI v] σ K := J_iret d_M_free_14 rfl hK
theorem r_M_free_24 {g : jm_G} {d : Nat} {L : List (Option jm_V)} {σ : jm_S} {K : jm_O → Prop} {v : Int32} (hK : K (σ, .inl (some (aI v)))) : J g d 127 24 L [aI v] σ K := J_iret d_M_free_24 rfl hK
theorem r_M_free_121 {g : jm_G} {d : Nat} {L : List (Option jm_V)} {σ : jm_S} {K : jm_O → Prop} {v : Int32} (hK : K (σ, .inl (some (aI v)))) : J g d 127 121 L [aI v] σ K := J_iret d_M_free_121 rfl hK
-- IdealProverModel stairs ()I
theorem d_M_stairs_0 : decode prog_12_method_54_code 0 = .ok (.aload_n 0, 1) := by decide +kernel
theorem d_M_stairs_1 : decode prog_12_method_54_code 1 = .ok (.getfield 97, 3) := by decide +kernel
theorem d_M_stairs_4 : decode prog_12_method_54_code 4 = .ok (.ifCond .ne 6, 3) := by decide +kernel
theorem d_M_stairs_7 : decode prog_12_method_54_code 7 = .ok (.bipush (-3), 2) := by decide +kernel
theorem d_M_stairs_9 : decode prog_12_method_54_code 9 = .ok (.ireturn, 1) := by decide +kernel
theorem d_M_stairs_10 : decode prog_12_method_54_code 10 = .ok (.iconst 0, 1) := by decide +kernel
theorem d_M_stairs_11 : decode prog_12_method_54_code 11 = .ok (.istore_n 1, 1) := by decide +kernel
theorem d_M_stairs_12 : decode prog_12_method_54_code 12 = .ok (.iload_n 1, 1) := by decide +kernel
theorem d_M_stairs_13 : decode prog_12_method_54_code 13 = .ok (.iconst 4, 1) := by decide +kernel
theorem d_M_stairs_14 : decode prog_12_method_54_code 14 = .ok (.if_icmp .ge 28, 3) := by decide +kernel
theorem d_M_stairs_17 : decode prog_12_method_54_code 17 = .ok (.aload_n 0, 1) := by decide +kernel
theorem d_M_stairs_18 : decode prog_12_method_54_code 18 = .ok (.getfield 26, 3) := by decide +kernel
theorem d_M_stairs_21 : decode prog_12_method_54_code 21 = .ok (.iload_n 1, 1) := by decide +kernel
theorem d_M_stairs_22 : decode prog_12_method_54_code 22 = .ok (.iload_n 1, 1) := by decide +kernel
theorem d_M_stairs_23 : decode prog_12_method_54_code 23 = .ok (.aload_n 0, 1) := by decide +kernel
theorem d_M_stairs_24 : decode prog_12_method_54_code 24 = .ok (.getfield 36, 3) := by decide +kernel
theorem d_M_stairs_27 : decode prog_12_method_54_code 27 = .ok (.if_icmp .ge 7, 3) := by decide +kernel
theorem d_M_stairs_30 : decode prog_12_method_54_code 30 = .ok (.iconst (-1), 1) := by decide +kernel
theorem d_M_stairs_31 : decode prog_12_method_54_code 31 = .ok (.goto 4, 3) := by decide +kernel
theorem d_M_stairs_34 : decode prog_12_method_54_code 34 = .ok (.iconst 1, 1) := by decide +kernel
theorem d_M_stairs_35 : decode prog_12_method_54_code 35 = .ok (.iastore, 1) := by decide +kernel
theorem d_M_stairs_36 : decode prog_12_method_54_code 36 = .ok (.iinc 1 1, 3) := by decide +kernel
theorem d_M_stairs_39 : decode prog_12_method_54_code 39 = .ok (.goto (-27), 3) := by decide +kernel
theorem d_M_stairs_42 : decode prog_12_method_54_code 42 = .ok (.iconst 0, 1) := by decide +kernel
theorem d_M_stairs_43 : decode prog_12_method_54_code 43 = .ok (.istore_n 1, 1) := by decide +kernel
theorem d_M_stairs_44 : decode prog_12_method_54_code 44 = .ok (.iload_n 1, 1) := by decide +kernel
theorem d_M_stairs_45 : decode prog_12_method_54_code 45 = .ok (.aload_n 0, 1) := by decide +kernel
theorem d_M_stairs_46 : decode prog_12_method_54_code 46 = .ok (.getfield 205, 3) := by decide +kernel
theorem d_M_stairs_49 : decode prog_12_method_54_code 49 = .ok (.if_icmp .ge 64, 3) := by decide +kernel
theorem d_M_stairs_52 : decode prog_12_method_54_code 52 = .ok (.aload_n 0, 1) := by decide +kernel
theorem d_M_stairs_53 : decode prog_12_method_54_code 53 = .ok (.bipush 50, 2) := by decide +kernel
theorem d_M_stairs_55 : decode prog_12_method_54_code 55 = .ok (.iload_n 1, 1) := by decide +kernel
theorem d_M_stairs_56 : decode prog_12_method_54_code 56 = .ok (.iadd, 1) := by decide +kernel
theorem d_M_stairs_57 : decode prog_12_method_54_code 57 = .ok (.invokevirtual 130, 3) := by decide +kernel
theorem d_M_stairs_60 : decode prog_12_method_54_code 60 = .ok (.istore_n 2, 1) := by decide +kernel
theorem d_M_stairs_61 : decode prog_12_method_54_code 61 = .ok (.iload_n 2, 1) := by decide +kernel
theorem d_M_stairs_62 : decode prog_12_method_54_code 62 = .ok (.ifCond .ne 5, 3) := by decide +kernel
theorem d_M_stairs_65 : decode prog_12_method_54_code 65 = .ok (.iconst 0, 1) := by decide +kernel
theorem d_M_stairs_66 : decode prog_12_method_54_code 66 = .ok (.ireturn, 1) := by decide +kernel
theorem d_M_stairs_67 : decode prog_12_method_54_code 67 = .ok (.iconst 0, 1) := by decide +kernel
theorem d_M_stairs_68 : decode prog_12_method_54_code 68 = .ok (.istore_n 3, 1) := by decide +kernel
theorem d_M_stairs_69 : decode prog_12_method_54_code 69 = .ok (.iload_n 3, 1) := by decide +kernel
theorem d_M_stairs_70 : decode prog_12_method_54_code 70 = .ok (.aload_n 0, 1) := by decide +kernel
theorem d_M_stairs_71 : decode prog_12_method_54_code 71 = .ok (.getfield 36, 3) := by decide +kernel
theorem d_M_stairs_74 : decode prog_12_method_54_code 74 = .ok (.if_icmp .ge 33, 3) := by decide +kernel
theorem d_M_stairs_77 : decode prog_12_method_54_code 77 = .ok (.iload_n 2, 1) := by decide +kernel
theorem d_M_stairs_78 : decode prog_12_method_54_code 78 = .ok (.iload_n 2, 1) := by decide +kernel
theorem d_M_stairs_79 : decode prog_12_method_54_code 79 = .ok (.iload_n 3, 1) := by decide +kernel
theorem d_M_stairs_80 : decode prog_12_method_54_code 80 = .ok (.invokestatic 43, 3) := by decide +kernel
theorem d_M_stairs_83 : decode prog_12_method_54_code 83 = .ok (.iconst 5, 1) := by decide +kernel
theorem d_M_stairs_84 : decode prog_12_method_54_code 84 = .ok (.iload_n 3, 1) := by decide +kernel
theorem d_M_stairs_85 : decode prog_12_method_54_code 85 = .ok (.imul, 1) := by decide +kernel
theorem d_M_stairs_86 : decode prog_12_method_54_code 86 = .ok (.ishl, 1) := by decide +kernel
theorem d_M_stairs_87 : decode prog_12_method_54_code 87 = .ok (.if_icmp .ne 14, 3) := by decide +kernel
theorem d_M_stairs_90 : decode prog_12_method_54_code 90 = .ok (.aload_n 0, 1) := by decide +kernel
theorem d_M_stairs_91 : decode prog_12_method_54_code 91 = .ok (.getfield 26, 3) := by decide +kernel
theorem d_M_stairs_94 : decode prog_12_method_54_code 94 = .ok (.iload_n 3, 1) := by decide +kernel
theorem d_M_stairs_95 : decode prog_12_method_54_code 95 = .ok (.iload_n 2, 1) := by decide +kernel
theorem d_M_stairs_96 : decode prog_12_method_54_code 96 = .ok (.iload_n 3, 1) := by decide +kernel
theorem d_M_stairs_97 : decode prog_12_method_54_code 97 = .ok (.invokestatic 43, 3) := by decide +kernel
theorem d_M_stairs_100 : decode prog_12_method_54_code 100 = .ok (.iastore, 1) := by decide +kernel
theorem d_M_stairs_101 : decode prog_12_method_54_code 101 = .ok (.iinc 3 1, 3) := by decide +kernel
theorem d_M_stairs_104 : decode prog_12_method_54_code 104 = .ok (.goto (-35), 3) := by decide +kernel
theorem d_M_stairs_107 : decode prog_12_method_54_code 107 = .ok (.iinc 1 1, 3) := by decide +kernel
theorem d_M_stairs_110 : decode prog_12_method_54_code 110 = .ok (.goto (-66), 3) := by decide +kernel
theorem d_M_stairs_113 : decode prog_12_method_54_code 113 = .ok (.aload_n 0, 1) := by decide +kernel
theorem d_M_stairs_114 : decode prog_12_method_54_code 114 = .ok (.getfield 26, 3) := by decide +kernel
theorem d_M_stairs_117 : decode prog_12_method_54_code 117 = .ok (.iconst 0, 1) := by decide +kernel
theorem d_M_stairs_118 : decode prog_12_method_54_code 118 = .ok (.iaload, 1) := by decide +kernel
theorem d_M_stairs_119 : decode prog_12_method_54_code 119 = .ok (.ifCond .lt 30, 3) := by decide +kernel
theorem d_M_stairs_122 : decode prog_12_method_54_code 122 = .ok (.aload_n 0, 1) := by decide +kernel
theorem d_M_stairs_123 : decode prog_12_method_54_code 123 = .ok (.getfield 26, 3) := by decide +kernel
theorem d_M_stairs_126 : decode prog_12_method_54_code 126 = .ok (.iconst 1, 1) := by decide +kernel
theorem d_M_stairs_127 : decode prog_12_method_54_code 127 = .ok (.iaload, 1) := by decide +kernel
theorem d_M_stairs_128 : decode prog_12_method_54_code 128 = .ok (.ifCond .lt 21, 3) := by decide +kernel
theorem d_M_stairs_131 : decode prog_12_method_54_code 131 = .ok (.aload_n 0, 1) := by decide +kernel
theorem d_M_stairs_132 : decode prog_12_method_54_code 132 = .ok (.getfield 26, 3) := by decide +kernel
theorem d_M_stairs_135 : decode prog_12_method_54_code 135 = .ok (.iconst 2, 1) := by decide +kernel
theorem d_M_stairs_136 : decode prog_12_method_54_code 136 = .ok (.iaload, 1) := by decide +kernel
theorem d_M_stairs_137 : decode prog_12_method_54_code 137 = .ok (.ifCond .lt 12, 3) := by decide +kernel
theorem d_M_stairs_140 : decode prog_12_method_54_code 140 = .ok (.aload_n 0, 1) := by decide +kernel
theorem d_M_stairs_141 : decode prog_12_method_54_code 141 = .ok (.getfield 26, 3) := by decide +kernel
theorem d_M_stairs_144 : decode prog_12_method_54_code 144 = .ok (.iconst 3, 1) := by decide +kernel
theorem d_M_stairs_145 : decode prog_12_method_54_code 145 = .ok (.iaload, 1) := by decide +kernel
theorem d_M_stairs_146 : decode prog_12_method_54_code 146 = .ok (.ifCond .ge 6, 3) := by decide +kernel
theorem d_M_stairs_149 : decode prog_12_method_54_code 149 = .ok (.bipush (-8), 2) := by decide +kernel
theorem d_M_stairs_151 : decode prog_12_method_54_code 151 = .ok (.ireturn, 1) := by decide +kernel
theorem d_M_stairs_152 : decode prog_12_method_54_code 152 = .ok (.iconst 0, 1) := by decide +kernel
theorem d_M_stairs_153 : decode prog_12_method_54_code 153 = .ok (.istore_n 1, 1) := by decide +kernel
theorem d_M_stairs_154 : decode prog_12_method_54_code 154 = .ok (.iconst 0, 1) := by decide +kernel
theorem d_M_stairs_155 : decode prog_12_method_54_code 155 = .ok (.istore_n 2, 1) := by decide +kernel
theorem d_M_stairs_156 : decode prog_12_method_54_code 156 = .ok (.iload_n 2, 1) := by decide +kernel
theorem d_M_stairs_157 : decode prog_12_method_54_code 157 = .ok (.aload_n 0, 1) := by decide +kernel
theorem d_M_stairs_158 : decode prog_12_method_54_code 158 = .ok (.getfield 26, 3) := by decide +kernel
theorem d_M_stairs_161 : decode prog_12_method_54_code 161 = .ok (.iconst 0, 1) := by decide +kernel
theorem d_M_stairs_162 : decode prog_12_method_54_code 162 = .ok (.iaload, 1) := by decide +kernel
theorem d_M_stairs_163 : decode prog_12_method_54_code 163 = .ok (.if_icmp .ge 99, 3) := by decide +kernel
theorem d_M_stairs_166 : decode prog_12_method_54_code 166 = .ok (.iconst 0, 1) := by decide +kernel
theorem d_M_stairs_167 : decode prog_12_method_54_code 167 = .ok (.istore_n 3, 1) := by decide +kernel
theorem d_M_stairs_168 : decode prog_12_method_54_code 168 = .ok (.iload_n 3, 1) := by decide +kernel
theorem d_M_stairs_169 : decode prog_12_method_54_code 169 = .ok (.aload_n 0, 1) := by decide +kernel
theorem d_M_stairs_170 : decode prog_12_method_54_code 170 = .ok (.getfield 26, 3) := by decide +kernel
theorem d_M_stairs_173 : decode prog_12_method_54_code 173 = .ok (.iconst 1, 1) := by decide +kernel
theorem d_M_stairs_174 : decode prog_12_method_54_code 174 = .ok (.iaload, 1) := by decide +kernel
theorem d_M_stairs_175 : decode prog_12_method_54_code 175 = .ok (.if_icmp .ge 81, 3) := by decide +kernel
theorem d_M_stairs_178 : decode prog_12_method_54_code 178 = .ok (.iconst 0, 1) := by decide +kernel
theorem d_M_stairs_179 : decode prog_12_method_54_code 179 = .ok (.istore 4, 2) := by decide +kernel
theorem d_M_stairs_181 : decode prog_12_method_54_code 181 = .ok (.iload 4, 2) := by decide +kernel
theorem d_M_stairs_183 : decode prog_12_method_54_code 183 = .ok (.aload_n 0, 1) := by decide +kernel
theorem d_M_stairs_184 : decode prog_12_method_54_code 184 = .ok (.getfield 26, 3) := by decide +kernel
theorem d_M_stairs_187 : decode prog_12_method_54_code 187 = .ok (.iconst 2, 1) := by decide +kernel
theorem d_M_stairs_188 : decode prog_12_method_54_code 188 = .ok (.iaload, 1) := by decide +kernel
theorem d_M_stairs_189 : decode prog_12_method_54_code 189 = .ok (.if_icmp .ge 61, 3) := by decide +kernel
theorem d_M_stairs_192 : decode prog_12_method_54_code 192 = .ok (.iconst 0, 1) := by decide +kernel
theorem d_M_stairs_193 : decode prog_12_method_54_code 193 = .ok (.istore 5, 2) := by decide +kernel
theorem d_M_stairs_195 : decode prog_12_method_54_code 195 = .ok (.iload 5, 2) := by decide +kernel
theorem d_M_stairs_197 : decode prog_12_method_54_code 197 = .ok (.aload_n 0, 1) := by decide +kernel
theorem d_M_stairs_198 : decode prog_12_method_54_code 198 = .ok (.getfield 26, 3) := by decide +kernel
theorem d_M_stairs_201 : decode prog_12_method_54_code 201 = .ok (.iconst 3, 1) := by decide +kernel
theorem d_M_stairs_202 : decode prog_12_method_54_code 202 = .ok (.iaload, 1) := by decide +kernel
theorem d_M_stairs_203 : decode prog_12_method_54_code 203 = .ok (.if_icmp .ge 41, 3) := by decide +kernel
theorem d_M_stairs_206 : decode prog_12_method_54_code 206 = .ok (.iload_n 1, 1) := by decide +kernel
theorem d_M_stairs_207 : decode prog_12_method_54_code 207 = .ok (.aload_n 0, 1) := by decide +kernel
theorem d_M_stairs_208 : decode prog_12_method_54_code 208 = .ok (.iload_n 2, 1) := by decide +kernel
theorem d_M_stairs_209 : decode prog_12_method_54_code 209 = .ok (.iload_n 3, 1) := by decide +kernel
theorem d_M_stairs_210 : decode prog_12_method_54_code 210 = .ok (.iconst 5, 1) := by decide +kernel
theorem d_M_stairs_211 : decode prog_12_method_54_code 211 = .ok (.ishl, 1) := by decide +kernel
theorem d_M_stairs_212 : decode prog_12_method_54_code 212 = .ok (.ior, 1) := by decide +kernel
theorem d_M_stairs_213 : decode prog_12_method_54_code 213 = .ok (.iload 4, 2) := by decide +kernel
theorem d_M_stairs_215 : decode prog_12_method_54_code 215 = .ok (.bipush 10, 2) := by decide +kernel
theorem d_M_stairs_217 : decode prog_12_method_54_code 217 = .ok (.ishl, 1) := by decide +kernel
theorem d_M_stairs_218 : decode prog_12_method_54_code 218 = .ok (.ior, 1) := by decide +kernel
theorem d_M_stairs_219 : decode prog_12_method_54_code 219 = .ok (.iload 5, 2) := by decide +kernel
theorem d_M_stairs_221 : decode prog_12_method_54_code 221 = .ok (.bipush 15, 2) := by decide +kernel
theorem d_M_stairs_223 : decode prog_12_method_54_code 223 = .ok (.ishl, 1) := by decide +kernel
theorem d_M_stairs_224 : decode prog_12_method_54_code 224 = .ok (.ior, 1) := by decide +kernel
theorem d_M_stairs_225 : decode prog_12_method_54_code 225 = .ok (.invokevirtual 211, 3) := by decide +kernel
theorem d_M_stairs_228 : decode prog_12_method_54_code 228 = .ok (.ifCond .eq 7, 3) := by decide +kernel
theorem d_M_stairs_231 : decode prog_12_method_54_code 231 = .ok (.iconst 1, 1) := by decide +kernel
theorem d_M_stairs_232 : decode prog_12_method_54_code 232 = .ok (.goto 4, 3) := by decide +kernel
theorem d_M_stairs_235 : decode prog_12_method_54_code 235 = .ok (.iconst 0, 1) := by decide +kernel
theorem d_M_stairs_236 : decode prog_12_method_54_code 236 = .ok (.iadd, 1) := by decide +kernel
theorem d_M_stairs_237 : decode prog_12_method_54_code 237 = .ok (.istore_n 1, 1) := by decide +kernel
theorem d_M_stairs_238 : decode prog_12_method_54_code 238 = .ok (.iinc 5 1, 3) := by decide +kernel
theorem d_M_stairs_241 : decode prog_12_method_54_code 241 = .ok (.goto (-46), 3) := by decide +kernel
theorem d_M_stairs_244 : decode prog_12_method_54_code 244 = .ok (.iinc 4 1, 3) := by decide +kernel
theorem d_M_stairs_247 : decode prog_12_method_54_code 247 = .ok (.goto (-66), 3) := by decide +kernel
theorem d_M_stairs_250 : decode prog_12_method_54_code 250 = .ok (.iinc 3 1, 3) := by decide +kernel
theorem d_M_stairs_253 : decode prog_12_method_54_code 253 = .ok (.goto (-85), 3) := by decide +kernel
theorem d_M_stairs_256 : decode prog_12_method_54_code 256 = .ok (.iinc 2 1, 3) := by decide +kernel
theorem d_M_stairs_259 : decode prog_12_method_54_code 259 = .ok (.goto (-103), 3) := by decide +kernel
theorem d_M_stairs_262 : decode prog_12_method_54_code 262 = .ok (.iload_n 1, 1) := by decide +kernel
theorem d_M_stairs_263 : decode prog_12_method_54_code 263 = .ok (.ireturn, 1) := by decide +kernel
def tb_M_stairs_0 : List (Nat × jm_Op) := [(0, oAl 0 1), (1, oGi 6 9 4), (4, oIfNe 10 7), (7, oC (-3) 9), (10, oC 0 11), (11, oIs 1 12), (12, oIl 1 13), (13, oC 4 14), (14, oIcGe 42 17), (17, oAl 0 18), (18, oGr 6 18 8 21), (21, oIl 1 22), (22, oIl 1 23), (23, oAl 0 24), (24, oGi 6 0 27), (27, oIcGe 34 30), (30, oC (-1) 31), (31, oGo 35), (34, oC 1 35), (35, oIw 36), (36, oInc 1 1 39), (39, oGo 12), (42, oC 0 43), (43, oIs 1 44), (44, oIl 1 45), (45, oAl 0 46), (46, oGi 6 8 49), (49, oIcGe 113 52), (52, oAl 0 53), (53, oC 50 55), (55, oIl 1 56), (56, oAdd 57), (60, oIs 2 61), (61, oIl 2 62), (62, oIfNe 67 65), (65, oC 0 66), (67, oC 0 68), (68, oIs 3 69), (69, oIl 3 70), (70, oAl 0 71), (71, oGi 6 0 74), (74, oIcGe 107 77), (77, oIl 2 78), (78, oIl 2 79), (79, oIl 3 80), (83, oC 5 84), (84, oIl 3 85), (85, oMul 86), (86, oShl 87), (87, oIcNe 101 90)]
theorem ok_M_stairs_0 : jm_all 128 tb_M_stairs_0 := ⟨s_aload_n d_M_stairs_0 rfl, s_geti d_M_stairs_1 ci_M rfl wd_660, s_if_ne d_M_stairs_4 (by decide), s_bipush d_M_stairs_7 (by decide), s_iconst d_M_stairs_10 (by decide), s_istore_n d_M_stairs_11 rfl (by decide), s_iload_n d_M_stairs_12 rfl, s_iconst d_M_stairs_13 (by decide), s_icmp_ge d_M_stairs_14 (by decide), s_aload_n d_M_stairs_17 rfl, s_getr d_M_stairs_18 ci_M rfl wd_669, s_iload_n d_M_stairs_21 rfl, s_iload_n d_M_stairs_22 rfl, s_aload_n d_M_stairs_23 rfl, s_geti d_M_stairs_24 ci_M rfl wd_651, s_icmp_ge d_M_stairs_27 (by decide), s_iconst d_M_stairs_30 (by decide), s_goto d_M_stairs_31 (by decide), s_iconst d_M_stairs_34 (by decide), s_iastore d_M_stairs_35, s_iinc d_M_stairs_36 (by decide) (by decide), s_goto d_M_stairs_39 (by decide), s_iconst d_M_stairs_42 (by decide), s_istore_n d_M_stairs_43 rfl (by decide), s_iload_n d_M_stairs_44 rfl, s_aload_n d_M_stairs_45 rfl, s_geti d_M_stairs_46 ci_M rfl wd_659, s_icmp_ge d_M_stairs_49 (by decide), s_aload_n d_M_stairs_52 rfl, s_bipush d_M_stairs_53 (by decide), s_iload_n d_M_stairs_55 rfl, s_iadd d_M_stairs_56, s_istore_n d_M_stairs_60 rfl (by decide), s_iload_n d_M_stairs_61 rfl, s_if_ne d_M_stairs_62 (by decide), s_iconst d_M_stairs_65 (by decide), s_iconst d_M_stairs_67 (by decide), s_istore_n d_M_stairs_68 rfl (by decide), s_iload_n d_M_stairs_69 rfl, s_aload_n d_M_stairs_70 rfl, s_geti d_M_stairs_71 ci_M rfl wd_651, s_icmp_ge d_M_stairs_74 (by decide), s_iload_n d_M_stairs_77 rfl, s_iload_n d_M_stairs_78 rfl, s_iload_n d_M_stairs_79 rfl, s_iconst d_M_stairs_83 (by decide), s_iload_n d_M_stairs_84 rfl, s_imul d_M_stairs_85, s_ishl d_M_stairs_86, s_icmp_ne d_M_stairs_87 (by decide), trivial⟩
def tb_M_stairs_1 : List (Nat × jm_Op) := [(90, oAl 0 91), (91, oGr 6 18 8 94), (94, oIl 3 95), (95, oIl 2 96), (96, oIl 3 97), (100, oIw 101), (101, oInc 3 1 104), (104, oGo 69), (107, oInc 1 1 110), (110, oGo 44), (113, oAl 0 114), (114, oGr 6 18 8 117), (117, oC 0 118), (118, oIa 119), (119, oIfLt 149 122), (122, oAl 0 123), (123, oGr 6 18 8 126), (126, oC 1 127), (127, oIa 128), (128, oIfLt 149 131), (131, oAl 0 132), (132, oGr 6 18 8 135), (135, oC 2 136), (136, oIa 137), (137, oIfLt 149 140), (140, oAl 0 141), (141, oGr 6 18 8 144), (144, oC 3 145), (145, oIa 146), (146, oIfGe 152 149), (149, oC (-8) 151), (152, oC 0 153), (153, oIs 1 154), (154, oC 0 155), (155, oIs 2 156), (156, oIl 2 157), (157, oAl 0 158), (158, oGr 6 18 8 161), (161, oC 0 162), (162, oIa 163), (163, oIcGe 262 166), (166, oC 0 167), (167, oIs 3 168), (168, oIl 3 169), (169, oAl 0 170), (170, oGr 6 18 8 173), (173, oC 1 174), (174, oIa 175), (175, oIcGe 256 178), (178, oC 0 179)]
theorem ok_M_stairs_1 : jm_all 128 tb_M_stairs_1 := ⟨s_aload_n d_M_stairs_90 rfl, s_getr d_M_stairs_91 ci_M rfl wd_669, s_iload_n d_M_stairs_94 rfl, s_iload_n d_M_stairs_95 rfl, s_iload_n d_M_stairs_96 rfl, s_iastore d_M_stairs_100, s_iinc d_M_stairs_101 (by decide) (by decide), s_goto d_M_stairs_104 (by decide), s_iinc d_M_stairs_107 (by decide) (by decide), s_goto d_M_stairs_110 (by decide), s_aload_n d_M_stairs_113 rfl, s_getr d_M_stairs_114 ci_M rfl wd_669, s_iconst d_M_stairs_117 (by decide), s_iaload d_M_stairs_118, s_if_lt d_M_stairs_119 (by decide), s_aload_n d_M_stairs_122 rfl, s_getr d_M_stairs_123 ci_M rfl wd_669, s_iconst d_M_stairs_126 (by decide), s_iaload d_M_stairs_127, s_if_lt d_M_stairs_128 (by decide), s_aload_n d_M_stairs_131 rfl, s_getr d_M_stairs_132 ci_M rfl wd_669, s_iconst d_M_stairs_135 (by decide), s_iaload d_M_stairs_136, s_if_lt d_M_stairs_137 (by decide), s_aload_n d_M_stairs_140 rfl, s_getr d_M_stairs_141 ci_M rfl wd_669, s_iconst d_M_stairs_144 (by decide), s_iaload d_M_stairs_145, s_if_ge d_M_stairs_146 (by decide), s_bipush d_M_stairs_149 (by decide), s_iconst d_M_stairs_152 (by decide), s_istore_n d_M_stairs_153 rfl (by decide), s_iconst d_M_stairs_154 (by decide), s_istore_n d_M_stairs_155 rfl (by decide), s_iload_n d_M_stairs_156 rfl, s_aload_n d_M_stairs_157 rfl, s_getr d_M_stairs_158 ci_M rfl wd_669, s_iconst d_M_stairs_161 (by decide), s_iaload d_M_stairs_162, s_icmp_ge d_M_stairs_163 (by decide), s_iconst d_M_stairs_166 (by decide), s_istore_n d_M_stairs_167 rfl (by decide), s_iload_n d_M_stairs_168 rfl, s_aload_n d_M_stairs_169 rfl, s_getr d_M_stairs_170 ci_M rfl wd_669, s_iconst d_M_stairs_173 (by decide), s_iaload d_M_stairs_174, s_icmp_ge d_M_stairs_175 (by decide), s_iconst d_M_stairs_178 (by decide), trivial⟩
def tb_M_stairs_2 : List (Nat × jm_Op) := [(179, oIs 4 181), (181, oIl 4 183), (183, oAl 0 184), (184, oGr 6 18 8 187), (187, oC 2 188), (188, oIa 189), (189, oIcGe 250 192), (192, oC 0 193), (193, oIs 5 195), (195, oIl 5 197), (197, oAl 0 198), (198, oGr 6 18 8 201), (201, oC 3 202), (202, oIa 203), (203, oIcGe 244 206), (206, oIl 1 207), (207, oAl 0 208), (208, oIl 2 209), (209, oIl 3 210), (210, oC 5 211), (211, oShl 212), (212, oOr 213), (213, oIl 4 215), (215, oC 10 217), (217, oShl 218), (218, oOr 219), (219, oIl 5 221), (221, oC 15 223), (223, oShl 224), (224, oOr 225), (228, oIfEq 235 231), (231, oC 1 232), (232, oGo 236), (235, oC 0 236), (236, oAdd 237), (237, oIs 1 238), (238, oInc 5 1 241), (241, oGo 195), (244, oInc 4 1 247), (247, oGo 181), (250, oInc 3 1 253), (253, oGo 168), (256, oInc 2 1 259), (259, oGo 156), (262, oIl 1 263)]
theorem ok_M_stairs_2 : jm_all 128 tb_M_stairs_2 := ⟨s_istore d_M_stairs_179 (by decide), s_iload d_M_stairs_181, s_aload_n d_M_stairs_183 rfl, s_getr d_M_stairs_184 ci_M rfl wd_669, s_iconst d_M_stairs_187 (by decide), s_iaload d_M_stairs_188, s_icmp_ge d_M_stairs_189 (by decide), s_iconst d_M_stairs_192 (by decide), s_istore d_M_stairs_193 (by decide), s_iload d_M_stairs_195, s_aload_n d_M_stairs_197 rfl, s_getr d_M_stairs_198 ci_M rfl wd_669, s_iconst d_M_stairs_201 (by decide), s_iaload d_M_stairs_202, s_icmp_ge d_M_stairs_203 (by decide), s_iload_n d_M_stairs_206 rfl, s_aload_n d_M_stairs_207 rfl, s_iload_n d_M_stairs_208 rfl, s_iload_n d_M_stairs_209 rfl, s_iconst d_M_stairs_210 (by decide), s_ishl d_M_stairs_211, s_ior d_M_stairs_212, s_iload d_M_stairs_213, s_bipush d_M_stairs_215 (by decide), s_ishl d_M_stairs_217, s_ior d_M_stairs_218, s_iload d_M_stairs_219, s_bipush d_M_stairs_221 (by decide), s_ishl d_M_stairs_223, s_ior d_M_stairs_224, s_if_eq d_M_stairs_228 (by decide), s_iconst d_M_stairs_231 (by decide), s_goto d_M_stairs_232 (by decide), s_iconst d_M_stairs_235 (by decide), s_iadd d_M_stairs_236, s_istore_n d_M_stairs_237 rfl (by decide), s_iinc d_M_stairs_238 (by decide) (by decide), s_goto d_M_stairs_241 (by decide), s_iinc d_M_stairs_244 (by decide) (by decide), s_goto d_M_stairs_247 (by decide), s_iinc d_M_stairs_250 (by decide) (by decide), s_goto d_M_stairs_253 (by decide), s_iinc d_M_stairs_256 (by decide) (by decide), s_goto d_M_stairs_259 (by decide), s_iload_n d_M_stairs_262 rfl, trivial⟩
def tb_M_stairs : List (Nat × jm_Op) := tb_M_stairs_0 ++ (tb_M_stairs_1 ++ tb_M_stairs_2)
theorem ok_M_stairs : jm_all 128 tb_M_stairs := jm_all_app ok_M_stairs_0 (jm_all_app ok_M_stairs_1 ok_M_stairs_2)
theorem r_M_stairs_9 {g : jm_G} {d : Nat} {L : List (Option jm_V)} {σ : jm_S} {K : jm_O → Prop} {v : Int32} (hK : K (σ, .inl (some (aI v)))) : J g d 128 9 L [aI v] σ K := J_iret d_M_stairs_9 rfl hK
theorem k_M_stairs_57 {g : jm_G} {d : Nat} {L : List (Option jm_V)} {r : List jm_V} {σ : jm_S} {K K' : jm_O → Prop} {q0 : Nat} {x0 : Int32} (hr : Nat.ble (jm_cs r) 8 = true) (hcal : J g d 109 0 [some (aR 6 q0), some (aI x0)] [] σ K') (hk : ∀ u, K' u → jm_aft g (d + 1) 128 57 L r u K) : J g (d + 1) 128 57 L (aI x0 :: aR 6 q0 :: r) σ K :=
  J_call' (id' := 109) jm_sk (vs := [aR 6 q0, aI x0]) (inv_V (id' := 109) d_M_stairs_57 ci_M wd_870 wd_872 wd_41 cw_M_lead (by decide) pn_M_lead) cw_M_lead (by decide) (by decide) (Nat.le_of_ble_eq_true rfl) rfl hr rfl hcal hk
theorem r_M_stairs_66 {g : jm_G} {d : Nat} {L : List (Option jm_V)} {σ : jm_S} {K : jm_O → Prop} {v : Int32} (hK : K (σ, .inl (some (aI v)))) : J g d 128 66 L [aI v] σ K := J_iret d_M_stairs_66 rfl hK
theorem k_M_stairs_80 {g : jm_G} {d : Nat} {L : List (Option jm_V)} {r : List jm_V} {σ : jm_S} {K K' : jm_O → Prop} {x0 : Int32} {x1 : Int32} (hr : Nat.ble (jm_cs r) 8 = true) (hcal : J g d 80 0 [some (aI x0), some (aI x1)] [] σ K') (hk : ∀ u, K' u → jm_aft g (d + 1) 128 80 L r u K) : J g (d + 1) 128 80 L (aI x1 :: aI x0 :: r) σ K :=
  J_call' (id' := 80) jm_sk (vs := [aI x0, aI x1]) (inv_S (id' := 80) d_M_stairs_80 wd_752 wd_753 wd_62 cw_M_exponent (by decide) pn_M_exponent) cw_M_exponent (by decide) (by decide) (Nat.le_of_ble_eq_true rfl) rfl hr rfl hcal hk
theorem k_M_stairs_97 {g : jm_G} {d : Nat} {L : List (Option jm_V)} {r : List jm_V} {σ : jm_S} {K K' : jm_O → Prop} {x0 : Int32} {x1 : Int32} (hr : Nat.ble (jm_cs r) 8 = true) (hcal : J g d 80 0 [some (aI x0), some (aI x1)] [] σ K') (hk : ∀ u, K' u → jm_aft g (d + 1) 128 97 L r u K) : J g (d + 1) 128 97 L (aI x1 :: aI x0 :: r) σ K :=
  J_call' (id' := 80) jm_sk (vs := [aI x0, aI x1]) (inv_S (id' := 80) d_M_stairs_97 wd_752 wd_753 wd_62 cw_M_exponent (by decide) pn_M_exponent) cw_M_exponent (by decide) (by decide) (Nat.le_of_ble_eq_true rfl) rfl hr rfl hcal hk
theorem r_M_stairs_151 {g : jm_G} {d : Nat} {L : List (Option jm_V)} {σ : jm_S} {K : jm_O → Prop} {v : Int32} (hK : K (σ, .inl (some (aI v)))) : J g d 128 151 L [aI v] σ K := J_iret d_M_stairs_151 rfl hK
theorem k_M_stairs_225 {g : jm_G} {d : Nat} {L : List (Option jm_V)} {r : List jm_V} {σ : jm_S} {K K' : jm_O → Prop} {q0 : Nat} {x0 : Int32} (hr : Nat.ble (jm_cs r) 8 = true) (hcal : J g d 129 0 [some (aR 6 q0), some (aI x0), none] [] σ K') (hk : ∀ u, K' u → jm_aft g (d + 1) 128 225 L r u K) : J g (d + 1) 128 225 L (aI x0 :: aR 6 q0 :: r) σ K :=
  J_call' (id' := 129) jm_sk (vs := [aR 6 q0, aI x0]) (inv_V (id' := 129) d_M_stairs_225 ci_M wd_950 wd_952 wd_52 cw_M_isStair (by decide) pn_M_isStair) cw_M_isStair (by decide) (by decide) (Nat.le_of_ble_eq_true rfl) rfl hr rfl hcal hk
theorem r_M_stairs_263 {g : jm_G} {d : Nat} {L : List (Option jm_V)} {σ : jm_S} {K : jm_O → Prop} {v : Int32} (hK : K (σ, .inl (some (aI v)))) : J g d 128 263 L [aI v] σ K := J_iret d_M_stairs_263 rfl hK
-- IdealProverModel isStair (I)Z
theorem d_M_isStair_0 : decode prog_12_method_55_code 0 = .ok (.iconst 0, 1) := by decide +kernel
theorem d_M_isStair_1 : decode prog_12_method_55_code 1 = .ok (.istore_n 2, 1) := by decide +kernel
theorem d_M_isStair_2 : decode prog_12_method_55_code 2 = .ok (.iload_n 2, 1) := by decide +kernel
theorem d_M_isStair_3 : decode prog_12_method_55_code 3 = .ok (.aload_n 0, 1) := by decide +kernel
theorem d_M_isStair_4 : decode prog_12_method_55_code 4 = .ok (.getfield 205, 3) := by decide +kernel
theorem d_M_isStair_7 : decode prog_12_method_55_code 7 = .ok (.if_icmp .ge 27, 3) := by decide +kernel
theorem d_M_isStair_10 : decode prog_12_method_55_code 10 = .ok (.aload_n 0, 1) := by decide +kernel
theorem d_M_isStair_11 : decode prog_12_method_55_code 11 = .ok (.aload_n 0, 1) := by decide +kernel
theorem d_M_isStair_12 : decode prog_12_method_55_code 12 = .ok (.bipush 50, 2) := by decide +kernel
theorem d_M_isStair_14 : decode prog_12_method_55_code 14 = .ok (.iload_n 2, 1) := by decide +kernel
theorem d_M_isStair_15 : decode prog_12_method_55_code 15 = .ok (.iadd, 1) := by decide +kernel
theorem d_M_isStair_16 : decode prog_12_method_55_code 16 = .ok (.invokevirtual 130, 3) := by decide +kernel
theorem d_M_isStair_19 : decode prog_12_method_55_code 19 = .ok (.iload_n 1, 1) := by decide +kernel
theorem d_M_isStair_20 : decode prog_12_method_55_code 20 = .ok (.invokevirtual 142, 3) := by decide +kernel
theorem d_M_isStair_23 : decode prog_12_method_55_code 23 = .ok (.ifCond .eq 5, 3) := by decide +kernel
theorem d_M_isStair_26 : decode prog_12_method_55_code 26 = .ok (.iconst 0, 1) := by decide +kernel
theorem d_M_isStair_27 : decode prog_12_method_55_code 27 = .ok (.ireturn, 1) := by decide +kernel
theorem d_M_isStair_28 : decode prog_12_method_55_code 28 = .ok (.iinc 2 1, 3) := by decide +kernel
theorem d_M_isStair_31 : decode prog_12_method_55_code 31 = .ok (.goto (-29), 3) := by decide +kernel
theorem d_M_isStair_34 : decode prog_12_method_55_code 34 = .ok (.iconst 1, 1) := by decide +kernel
theorem d_M_isStair_35 : decode prog_12_method_55_code 35 = .ok (.ireturn, 1) := by decide +kernel
def tb_M_isStair : List (Nat × jm_Op) := [(0, oC 0 1), (1, oIs 2 2), (2, oIl 2 3), (3, oAl 0 4), (4, oGi 6 8 7), (7, oIcGe 34 10), (10, oAl 0 11), (11, oAl 0 12), (12, oC 50 14), (14, oIl 2 15), (15, oAdd 16), (19, oIl 1 20), (23, oIfEq 28 26), (26, oC 0 27), (28, oInc 2 1 31), (31, oGo 2), (34, oC 1 35)]
theorem ok_M_isStair : jm_all 129 tb_M_isStair := ⟨s_iconst d_M_isStair_0 (by decide), s_istore_n d_M_isStair_1 rfl (by decide), s_iload_n d_M_isStair_2 rfl, s_aload_n d_M_isStair_3 rfl, s_geti d_M_isStair_4 ci_M rfl wd_659, s_icmp_ge d_M_isStair_7 (by decide), s_aload_n d_M_isStair_10 rfl, s_aload_n d_M_isStair_11 rfl, s_bipush d_M_isStair_12 (by decide), s_iload_n d_M_isStair_14 rfl, s_iadd d_M_isStair_15, s_iload_n d_M_isStair_19 rfl, s_if_eq d_M_isStair_23 (by decide), s_iconst d_M_isStair_26 (by decide), s_iinc d_M_isStair_28 (by decide) (by decide), s_goto d_M_isStair_31 (by decide), s_iconst d_M_isStair_34 (by decide), trivial⟩
theorem k_M_isStair_16 {g : jm_G} {d : Nat} {L : List (Option jm_V)} {r : List jm_V} {σ : jm_S} {K K' : jm_O → Prop} {q0 : Nat} {x0 : Int32} (hr : Nat.ble (jm_cs r) 8 = true) (hcal : J g d 109 0 [some (aR 6 q0), some (aI x0)] [] σ K') (hk : ∀ u, K' u → jm_aft g (d + 1) 129 16 L r u K) : J g (d + 1) 129 16 L (aI x0 :: aR 6 q0 :: r) σ K :=
  J_call' (id' := 109) jm_sk (vs := [aR 6 q0, aI x0]) (inv_V (id' := 109) d_M_isStair_16 ci_M wd_870 wd_872 wd_41 cw_M_lead (by decide) pn_M_lead) cw_M_lead (by decide) (by decide) (Nat.le_of_ble_eq_true rfl) rfl hr rfl hcal hk
theorem k_M_isStair_20 {g : jm_G} {d : Nat} {L : List (Option jm_V)} {r : List jm_V} {σ : jm_S} {K K' : jm_O → Prop} {q0 : Nat} {x0 : Int32} {x1 : Int32} (hr : Nat.ble (jm_cs r) 8 = true) (hcal : J g d 112 0 [some (aR 6 q0), some (aI x0), some (aI x1), none] [] σ K') (hk : ∀ u, K' u → jm_aft g (d + 1) 129 20 L r u K) : J g (d + 1) 129 20 L (aI x1 :: aI x0 :: aR 6 q0 :: r) σ K :=
  J_call' (id' := 112) jm_sk (vs := [aR 6 q0, aI x0, aI x1]) (inv_V (id' := 112) d_M_isStair_20 ci_M wd_882 wd_884 wd_44 cw_M_divides (by decide) pn_M_divides) cw_M_divides (by decide) (by decide) (Nat.le_of_ble_eq_true rfl) rfl hr rfl hcal hk
theorem r_M_isStair_27 {g : jm_G} {d : Nat} {L : List (Option jm_V)} {σ : jm_S} {K : jm_O → Prop} {v : Int32} (hv : v = 0 ∨ v = 1) (hK : K (σ, .inl (some (aI v)))) : J g d 129 27 L [aI v] σ K := J_zret d_M_isStair_27 rfl hv hK
theorem r_M_isStair_35 {g : jm_G} {d : Nat} {L : List (Option jm_V)} {σ : jm_S} {K : jm_O → Prop} {v : Int32} (hv : v = 0 ∨ v = 1) (hK : K (σ, .inl (some (aI v)))) : J g d 129 35 L [aI v] σ K := J_zret d_M_isStair_35 rfl hv hK
