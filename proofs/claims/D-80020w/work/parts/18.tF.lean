-- IdealProver$Poly <init> ()V
theorem d_P_init_0 : decode prog_9_method_1_code 0 = .ok (.aload_n 0, 1) := by decide +kernel
theorem d_P_init_1 : decode prog_9_method_1_code 1 = .ok (.invokespecial 3, 3) := by decide +kernel
theorem d_P_init_4 : decode prog_9_method_1_code 4 = .ok (.aload_n 0, 1) := by decide +kernel
theorem d_P_init_5 : decode prog_9_method_1_code 5 = .ok (.bipush 100, 2) := by decide +kernel
theorem d_P_init_7 : decode prog_9_method_1_code 7 = .ok (.newarray .int, 2) := by decide +kernel
theorem d_P_init_9 : decode prog_9_method_1_code 9 = .ok (.putfield 9, 3) := by decide +kernel
theorem d_P_init_12 : decode prog_9_method_1_code 12 = .ok (.aload_n 0, 1) := by decide +kernel
theorem d_P_init_13 : decode prog_9_method_1_code 13 = .ok (.bipush 100, 2) := by decide +kernel
theorem d_P_init_15 : decode prog_9_method_1_code 15 = .ok (.newarray .int, 2) := by decide +kernel
theorem d_P_init_17 : decode prog_9_method_1_code 17 = .ok (.putfield 15, 3) := by decide +kernel
theorem d_P_init_20 : decode prog_9_method_1_code 20 = .ok (.aload_n 0, 1) := by decide +kernel
theorem d_P_init_21 : decode prog_9_method_1_code 21 = .ok (.bipush 100, 2) := by decide +kernel
theorem d_P_init_23 : decode prog_9_method_1_code 23 = .ok (.newarray .int, 2) := by decide +kernel
theorem d_P_init_25 : decode prog_9_method_1_code 25 = .ok (.putfield 18, 3) := by decide +kernel
theorem d_P_init_28 : decode prog_9_method_1_code 28 = .ok (.return_, 1) := by decide +kernel
def tb_P_init : List (Nat × jm_Op) := [(0, oAl 0 1), (1, oObj 4), (4, oAl 0 5), (5, oC 100 7), (7, oNa 8 9), (9, oPr 5 1 8 12), (12, oAl 0 13), (13, oC 100 15), (15, oNa 8 17), (17, oPr 5 2 8 20), (20, oAl 0 21), (21, oC 100 23), (23, oNa 8 25), (25, oPr 5 3 8 28)]
theorem ok_P_init : jm_all 3 tb_P_init := ⟨s_aload_n d_P_init_0 rfl, s_objInit d_P_init_1 wd_97 wd_73 wd_74, s_aload_n d_P_init_4 rfl, s_bipush d_P_init_5 (by decide), s_newarrayI d_P_init_7 wd_121, s_putrF d_P_init_9 ci_P rfl (fun _ => ⟨rfl, rfl⟩) rfl rfl rfl wd_101, s_aload_n d_P_init_12 rfl, s_bipush d_P_init_13 (by decide), s_newarrayI d_P_init_15 wd_121, s_putrF d_P_init_17 ci_P rfl (fun _ => ⟨rfl, rfl⟩) rfl rfl rfl wd_105, s_aload_n d_P_init_20 rfl, s_bipush d_P_init_21 (by decide), s_newarrayI d_P_init_23 wd_121, s_putrF d_P_init_25 ci_P rfl (fun _ => ⟨rfl, rfl⟩) rfl rfl rfl wd_109, trivial⟩
theorem r_P_init_28 {g : jm_G} {d : Nat} {L : List (Option jm_V)} {σ : jm_S} {K : jm_O → Prop} (hK : K (σ, .inl none)) : J g d 3 28 L [] σ K := J_vret d_P_init_28 rfl hK
-- IdealProver$Fraction <init> ()V
theorem d_F_init_0 : decode prog_4_method_1_code 0 = .ok (.aload_n 0, 1) := by decide +kernel
theorem d_F_init_1 : decode prog_4_method_1_code 1 = .ok (.invokespecial 3, 3) := by decide +kernel
theorem d_F_init_4 : decode prog_4_method_1_code 4 = .ok (.return_, 1) := by decide +kernel
def tb_F_init : List (Nat × jm_Op) := [(0, oAl 0 1), (1, oObj 4)]
theorem ok_F_init : jm_all 5 tb_F_init := ⟨s_aload_n d_F_init_0 rfl, s_objInit d_F_init_1 wd_133 wd_73 wd_74, trivial⟩
theorem r_F_init_4 {g : jm_G} {d : Nat} {L : List (Option jm_V)} {σ : jm_S} {K : jm_O → Prop} (hK : K (σ, .inl none)) : J g d 5 4 L [] σ K := J_vret d_F_init_4 rfl hK
-- IdealProver$Element <init> (I)V
theorem d_E_init_0 : decode prog_2_method_1_code 0 = .ok (.aload_n 0, 1) := by decide +kernel
theorem d_E_init_1 : decode prog_2_method_1_code 1 = .ok (.invokespecial 1, 3) := by decide +kernel
theorem d_E_init_4 : decode prog_2_method_1_code 4 = .ok (.aload_n 0, 1) := by decide +kernel
theorem d_E_init_5 : decode prog_2_method_1_code 5 = .ok (.new 7, 3) := by decide +kernel
theorem d_E_init_8 : decode prog_2_method_1_code 8 = .ok (.dup, 1) := by decide +kernel
theorem d_E_init_9 : decode prog_2_method_1_code 9 = .ok (.invokespecial 9, 3) := by decide +kernel
theorem d_E_init_12 : decode prog_2_method_1_code 12 = .ok (.putfield 10, 3) := by decide +kernel
theorem d_E_init_15 : decode prog_2_method_1_code 15 = .ok (.aload_n 0, 1) := by decide +kernel
theorem d_E_init_16 : decode prog_2_method_1_code 16 = .ok (.iload_n 1, 1) := by decide +kernel
theorem d_E_init_17 : decode prog_2_method_1_code 17 = .ok (.invokestatic 16, 3) := by decide +kernel
theorem d_E_init_20 : decode prog_2_method_1_code 20 = .ok (.putfield 22, 3) := by decide +kernel
theorem d_E_init_23 : decode prog_2_method_1_code 23 = .ok (.return_, 1) := by decide +kernel
def tb_E_init : List (Nat × jm_Op) := [(0, oAl 0 1), (1, oObj 4), (4, oAl 0 5), (5, oNew 5 4 8), (8, oDup 9), (12, oPr 3 0 5 15), (15, oAl 0 16), (16, oIl 1 17), (20, oPr 3 1 10 23)]
theorem ok_E_init : jm_all 6 tb_E_init := ⟨s_aload_n d_E_init_0 rfl, s_objInit d_E_init_1 wd_156 wd_73 wd_74, s_aload_n d_E_init_4 rfl, s_new d_E_init_5 ci_P df_P wd_157 wd_93 wd_57, s_dup d_E_init_8, s_putr d_E_init_12 ci_E rfl (fun _ => ⟨rfl, rfl⟩) rfl wd_160, s_aload_n d_E_init_15 rfl, s_iload_n d_E_init_16 rfl, s_putrF d_E_init_20 ci_E rfl (fun _ => ⟨rfl, rfl⟩) rfl rfl rfl wd_163, trivial⟩
theorem k_E_init_9 {g : jm_G} {d : Nat} {L : List (Option jm_V)} {r : List jm_V} {σ : jm_S} {K K' : jm_O → Prop} {q0 : Nat} (hr : Nat.ble (jm_cs r) 8 = true) (hcal : J g d 3 0 [some (aR 5 q0)] [] σ K') (hk : ∀ u, K' u → jm_aft g (d + 1) 6 9 L r u K) : J g (d + 1) 6 9 L (aR 5 q0 :: r) σ K :=
  J_call' (id' := 3) jm_sk (vs := [aR 5 q0]) (inv_IN (id' := 3) (bytes := prog_9_method_1_code) (maxL := 1) d_E_init_9 wd_158 wd_95 rfl cw_P_init (by decide) pn_P_init) cw_P_init (by decide) (by decide) (Nat.le_of_ble_eq_true rfl) rfl hr rfl hcal hk
theorem k_E_init_17 {g : jm_G} {d : Nat} {L : List (Option jm_V)} {r : List jm_V} {σ : jm_S} {K K' : jm_O → Prop} {x0 : Int32} (hr : Nat.ble (jm_cs r) 8 = true) (hcal : J g d 2 0 [some (aI x0), none, none] [] σ K') (hk : ∀ u, K' u → jm_aft g (d + 1) 6 17 L r u K) : J g (d + 1) 6 17 L (aI x0 :: r) σ K :=
  J_call' (id' := 2) jm_sk (vs := [aI x0]) (inv_SN (id' := 2) d_E_init_17 wd_159 wd_89 wd_54 cw_H_polys (by decide) pn_H_polys) cw_H_polys (by decide) (by decide) (Nat.le_of_ble_eq_true rfl) rfl hr rfl hcal hk
theorem r_E_init_23 {g : jm_G} {d : Nat} {L : List (Option jm_V)} {σ : jm_S} {K : jm_O → Prop} (hK : K (σ, .inl none)) : J g d 6 23 L [] σ K := J_vret d_E_init_23 rfl hK
-- IdealProver$Poly sort (LIdealProver$Order;)V
theorem d_P_sort_0 : decode prog_9_method_8_code 0 = .ok (.iconst 1, 1) := by decide +kernel
theorem d_P_sort_1 : decode prog_9_method_8_code 1 = .ok (.istore_n 2, 1) := by decide +kernel
theorem d_P_sort_2 : decode prog_9_method_8_code 2 = .ok (.iload_n 2, 1) := by decide +kernel
theorem d_P_sort_3 : decode prog_9_method_8_code 3 = .ok (.aload_n 0, 1) := by decide +kernel
theorem d_P_sort_4 : decode prog_9_method_8_code 4 = .ok (.getfield 21, 3) := by decide +kernel
theorem d_P_sort_7 : decode prog_9_method_8_code 7 = .ok (.if_icmp .ge 138, 3) := by decide +kernel
theorem d_P_sort_10 : decode prog_9_method_8_code 10 = .ok (.aload_n 0, 1) := by decide +kernel
theorem d_P_sort_11 : decode prog_9_method_8_code 11 = .ok (.getfield 9, 3) := by decide +kernel
theorem d_P_sort_14 : decode prog_9_method_8_code 14 = .ok (.iload_n 2, 1) := by decide +kernel
theorem d_P_sort_15 : decode prog_9_method_8_code 15 = .ok (.iaload, 1) := by decide +kernel
theorem d_P_sort_16 : decode prog_9_method_8_code 16 = .ok (.istore_n 3, 1) := by decide +kernel
theorem d_P_sort_17 : decode prog_9_method_8_code 17 = .ok (.aload_n 0, 1) := by decide +kernel
theorem d_P_sort_18 : decode prog_9_method_8_code 18 = .ok (.getfield 15, 3) := by decide +kernel
theorem d_P_sort_21 : decode prog_9_method_8_code 21 = .ok (.iload_n 2, 1) := by decide +kernel
theorem d_P_sort_22 : decode prog_9_method_8_code 22 = .ok (.iaload, 1) := by decide +kernel
theorem d_P_sort_23 : decode prog_9_method_8_code 23 = .ok (.istore 4, 2) := by decide +kernel
theorem d_P_sort_25 : decode prog_9_method_8_code 25 = .ok (.aload_n 0, 1) := by decide +kernel
theorem d_P_sort_26 : decode prog_9_method_8_code 26 = .ok (.getfield 18, 3) := by decide +kernel
theorem d_P_sort_29 : decode prog_9_method_8_code 29 = .ok (.iload_n 2, 1) := by decide +kernel
theorem d_P_sort_30 : decode prog_9_method_8_code 30 = .ok (.iaload, 1) := by decide +kernel
theorem d_P_sort_31 : decode prog_9_method_8_code 31 = .ok (.istore 5, 2) := by decide +kernel
theorem d_P_sort_33 : decode prog_9_method_8_code 33 = .ok (.iload_n 2, 1) := by decide +kernel
theorem d_P_sort_34 : decode prog_9_method_8_code 34 = .ok (.istore 6, 2) := by decide +kernel
theorem d_P_sort_36 : decode prog_9_method_8_code 36 = .ok (.iload 6, 2) := by decide +kernel
theorem d_P_sort_38 : decode prog_9_method_8_code 38 = .ok (.ifCond .le 75, 3) := by decide +kernel
theorem d_P_sort_41 : decode prog_9_method_8_code 41 = .ok (.aload_n 1, 1) := by decide +kernel
theorem d_P_sort_42 : decode prog_9_method_8_code 42 = .ok (.iload 5, 2) := by decide +kernel
theorem d_P_sort_44 : decode prog_9_method_8_code 44 = .ok (.aload_n 0, 1) := by decide +kernel
theorem d_P_sort_45 : decode prog_9_method_8_code 45 = .ok (.getfield 18, 3) := by decide +kernel
theorem d_P_sort_48 : decode prog_9_method_8_code 48 = .ok (.iload 6, 2) := by decide +kernel
theorem d_P_sort_50 : decode prog_9_method_8_code 50 = .ok (.iconst 1, 1) := by decide +kernel
theorem d_P_sort_51 : decode prog_9_method_8_code 51 = .ok (.isub, 1) := by decide +kernel
theorem d_P_sort_52 : decode prog_9_method_8_code 52 = .ok (.iaload, 1) := by decide +kernel
theorem d_P_sort_53 : decode prog_9_method_8_code 53 = .ok (.invokevirtual 36, 3) := by decide +kernel
theorem d_P_sort_56 : decode prog_9_method_8_code 56 = .ok (.ifCond .le 57, 3) := by decide +kernel
theorem d_P_sort_59 : decode prog_9_method_8_code 59 = .ok (.aload_n 0, 1) := by decide +kernel
theorem d_P_sort_60 : decode prog_9_method_8_code 60 = .ok (.getfield 9, 3) := by decide +kernel
theorem d_P_sort_63 : decode prog_9_method_8_code 63 = .ok (.iload 6, 2) := by decide +kernel
theorem d_P_sort_65 : decode prog_9_method_8_code 65 = .ok (.aload_n 0, 1) := by decide +kernel
theorem d_P_sort_66 : decode prog_9_method_8_code 66 = .ok (.getfield 9, 3) := by decide +kernel
theorem d_P_sort_69 : decode prog_9_method_8_code 69 = .ok (.iload 6, 2) := by decide +kernel
theorem d_P_sort_71 : decode prog_9_method_8_code 71 = .ok (.iconst 1, 1) := by decide +kernel
theorem d_P_sort_72 : decode prog_9_method_8_code 72 = .ok (.isub, 1) := by decide +kernel
theorem d_P_sort_73 : decode prog_9_method_8_code 73 = .ok (.iaload, 1) := by decide +kernel
theorem d_P_sort_74 : decode prog_9_method_8_code 74 = .ok (.iastore, 1) := by decide +kernel
theorem d_P_sort_75 : decode prog_9_method_8_code 75 = .ok (.aload_n 0, 1) := by decide +kernel
theorem d_P_sort_76 : decode prog_9_method_8_code 76 = .ok (.getfield 15, 3) := by decide +kernel
theorem d_P_sort_79 : decode prog_9_method_8_code 79 = .ok (.iload 6, 2) := by decide +kernel
theorem d_P_sort_81 : decode prog_9_method_8_code 81 = .ok (.aload_n 0, 1) := by decide +kernel
theorem d_P_sort_82 : decode prog_9_method_8_code 82 = .ok (.getfield 15, 3) := by decide +kernel
theorem d_P_sort_85 : decode prog_9_method_8_code 85 = .ok (.iload 6, 2) := by decide +kernel
theorem d_P_sort_87 : decode prog_9_method_8_code 87 = .ok (.iconst 1, 1) := by decide +kernel
theorem d_P_sort_88 : decode prog_9_method_8_code 88 = .ok (.isub, 1) := by decide +kernel
theorem d_P_sort_89 : decode prog_9_method_8_code 89 = .ok (.iaload, 1) := by decide +kernel
theorem d_P_sort_90 : decode prog_9_method_8_code 90 = .ok (.iastore, 1) := by decide +kernel
theorem d_P_sort_91 : decode prog_9_method_8_code 91 = .ok (.aload_n 0, 1) := by decide +kernel
theorem d_P_sort_92 : decode prog_9_method_8_code 92 = .ok (.getfield 18, 3) := by decide +kernel
theorem d_P_sort_95 : decode prog_9_method_8_code 95 = .ok (.iload 6, 2) := by decide +kernel
theorem d_P_sort_97 : decode prog_9_method_8_code 97 = .ok (.aload_n 0, 1) := by decide +kernel
theorem d_P_sort_98 : decode prog_9_method_8_code 98 = .ok (.getfield 18, 3) := by decide +kernel
theorem d_P_sort_101 : decode prog_9_method_8_code 101 = .ok (.iload 6, 2) := by decide +kernel
theorem d_P_sort_103 : decode prog_9_method_8_code 103 = .ok (.iconst 1, 1) := by decide +kernel
theorem d_P_sort_104 : decode prog_9_method_8_code 104 = .ok (.isub, 1) := by decide +kernel
theorem d_P_sort_105 : decode prog_9_method_8_code 105 = .ok (.iaload, 1) := by decide +kernel
theorem d_P_sort_106 : decode prog_9_method_8_code 106 = .ok (.iastore, 1) := by decide +kernel
theorem d_P_sort_107 : decode prog_9_method_8_code 107 = .ok (.iinc 6 (-1), 3) := by decide +kernel
theorem d_P_sort_110 : decode prog_9_method_8_code 110 = .ok (.goto (-74), 3) := by decide +kernel
theorem d_P_sort_113 : decode prog_9_method_8_code 113 = .ok (.aload_n 0, 1) := by decide +kernel
theorem d_P_sort_114 : decode prog_9_method_8_code 114 = .ok (.getfield 9, 3) := by decide +kernel
theorem d_P_sort_117 : decode prog_9_method_8_code 117 = .ok (.iload 6, 2) := by decide +kernel
theorem d_P_sort_119 : decode prog_9_method_8_code 119 = .ok (.iload_n 3, 1) := by decide +kernel
theorem d_P_sort_120 : decode prog_9_method_8_code 120 = .ok (.iastore, 1) := by decide +kernel
theorem d_P_sort_121 : decode prog_9_method_8_code 121 = .ok (.aload_n 0, 1) := by decide +kernel
theorem d_P_sort_122 : decode prog_9_method_8_code 122 = .ok (.getfield 15, 3) := by decide +kernel
theorem d_P_sort_125 : decode prog_9_method_8_code 125 = .ok (.iload 6, 2) := by decide +kernel
theorem d_P_sort_127 : decode prog_9_method_8_code 127 = .ok (.iload 4, 2) := by decide +kernel
theorem d_P_sort_129 : decode prog_9_method_8_code 129 = .ok (.iastore, 1) := by decide +kernel
theorem d_P_sort_130 : decode prog_9_method_8_code 130 = .ok (.aload_n 0, 1) := by decide +kernel
theorem d_P_sort_131 : decode prog_9_method_8_code 131 = .ok (.getfield 18, 3) := by decide +kernel
theorem d_P_sort_134 : decode prog_9_method_8_code 134 = .ok (.iload 6, 2) := by decide +kernel
theorem d_P_sort_136 : decode prog_9_method_8_code 136 = .ok (.iload 5, 2) := by decide +kernel
theorem d_P_sort_138 : decode prog_9_method_8_code 138 = .ok (.iastore, 1) := by decide +kernel
theorem d_P_sort_139 : decode prog_9_method_8_code 139 = .ok (.iinc 2 1, 3) := by decide +kernel
theorem d_P_sort_142 : decode prog_9_method_8_code 142 = .ok (.goto (-140), 3) := by decide +kernel
theorem d_P_sort_145 : decode prog_9_method_8_code 145 = .ok (.return_, 1) := by decide +kernel
def tb_P_sort_0 : List (Nat × jm_Op) := [(0, oC 1 1), (1, oIs 2 2), (2, oIl 2 3), (3, oAl 0 4), (4, oGi 5 0 7), (7, oIcGe 145 10), (10, oAl 0 11), (11, oGr 5 1 8 14), (14, oIl 2 15), (15, oIa 16), (16, oIs 3 17), (17, oAl 0 18), (18, oGr 5 2 8 21), (21, oIl 2 22), (22, oIa 23), (23, oIs 4 25), (25, oAl 0 26), (26, oGr 5 3 8 29), (29, oIl 2 30), (30, oIa 31), (31, oIs 5 33), (33, oIl 2 34), (34, oIs 6 36), (36, oIl 6 38), (38, oIfLe 113 41), (41, oAl 1 42), (42, oIl 5 44), (44, oAl 0 45), (45, oGr 5 3 8 48), (48, oIl 6 50), (50, oC 1 51), (51, oSub 52), (52, oIa 53), (56, oIfLe 113 59), (59, oAl 0 60), (60, oGr 5 1 8 63), (63, oIl 6 65), (65, oAl 0 66), (66, oGr 5 1 8 69), (69, oIl 6 71), (71, oC 1 72), (72, oSub 73), (73, oIa 74), (74, oIw 75), (75, oAl 0 76), (76, oGr 5 2 8 79), (79, oIl 6 81), (81, oAl 0 82), (82, oGr 5 2 8 85), (85, oIl 6 87)]
theorem ok_P_sort_0 : jm_all 10 tb_P_sort_0 := ⟨s_iconst d_P_sort_0 (by decide), s_istore_n d_P_sort_1 rfl (by decide), s_iload_n d_P_sort_2 rfl, s_aload_n d_P_sort_3 rfl, s_geti d_P_sort_4 ci_P rfl wd_98, s_icmp_ge d_P_sort_7 (by decide), s_aload_n d_P_sort_10 rfl, s_getr d_P_sort_11 ci_P rfl wd_101, s_iload_n d_P_sort_14 rfl, s_iaload d_P_sort_15, s_istore_n d_P_sort_16 rfl (by decide), s_aload_n d_P_sort_17 rfl, s_getr d_P_sort_18 ci_P rfl wd_105, s_iload_n d_P_sort_21 rfl, s_iaload d_P_sort_22, s_istore d_P_sort_23 (by decide), s_aload_n d_P_sort_25 rfl, s_getr d_P_sort_26 ci_P rfl wd_109, s_iload_n d_P_sort_29 rfl, s_iaload d_P_sort_30, s_istore d_P_sort_31 (by decide), s_iload_n d_P_sort_33 rfl, s_istore d_P_sort_34 (by decide), s_iload d_P_sort_36, s_if_le d_P_sort_38 (by decide), s_aload_n d_P_sort_41 rfl, s_iload d_P_sort_42, s_aload_n d_P_sort_44 rfl, s_getr d_P_sort_45 ci_P rfl wd_109, s_iload d_P_sort_48, s_iconst d_P_sort_50 (by decide), s_isub d_P_sort_51, s_iaload d_P_sort_52, s_if_le d_P_sort_56 (by decide), s_aload_n d_P_sort_59 rfl, s_getr d_P_sort_60 ci_P rfl wd_101, s_iload d_P_sort_63, s_aload_n d_P_sort_65 rfl, s_getr d_P_sort_66 ci_P rfl wd_101, s_iload d_P_sort_69, s_iconst d_P_sort_71 (by decide), s_isub d_P_sort_72, s_iaload d_P_sort_73, s_iastore d_P_sort_74, s_aload_n d_P_sort_75 rfl, s_getr d_P_sort_76 ci_P rfl wd_105, s_iload d_P_sort_79, s_aload_n d_P_sort_81 rfl, s_getr d_P_sort_82 ci_P rfl wd_105, s_iload d_P_sort_85, trivial⟩
def tb_P_sort_1 : List (Nat × jm_Op) := [(87, oC 1 88), (88, oSub 89), (89, oIa 90), (90, oIw 91), (91, oAl 0 92), (92, oGr 5 3 8 95), (95, oIl 6 97), (97, oAl 0 98), (98, oGr 5 3 8 101), (101, oIl 6 103), (103, oC 1 104), (104, oSub 105), (105, oIa 106), (106, oIw 107), (107, oInc 6 (-1) 110), (110, oGo 36), (113, oAl 0 114), (114, oGr 5 1 8 117), (117, oIl 6 119), (119, oIl 3 120), (120, oIw 121), (121, oAl 0 122), (122, oGr 5 2 8 125), (125, oIl 6 127), (127, oIl 4 129), (129, oIw 130), (130, oAl 0 131), (131, oGr 5 3 8 134), (134, oIl 6 136), (136, oIl 5 138), (138, oIw 139), (139, oInc 2 1 142), (142, oGo 2)]
theorem ok_P_sort_1 : jm_all 10 tb_P_sort_1 := ⟨s_iconst d_P_sort_87 (by decide), s_isub d_P_sort_88, s_iaload d_P_sort_89, s_iastore d_P_sort_90, s_aload_n d_P_sort_91 rfl, s_getr d_P_sort_92 ci_P rfl wd_109, s_iload d_P_sort_95, s_aload_n d_P_sort_97 rfl, s_getr d_P_sort_98 ci_P rfl wd_109, s_iload d_P_sort_101, s_iconst d_P_sort_103 (by decide), s_isub d_P_sort_104, s_iaload d_P_sort_105, s_iastore d_P_sort_106, s_iinc d_P_sort_107 (by decide) (by decide), s_goto d_P_sort_110 (by decide), s_aload_n d_P_sort_113 rfl, s_getr d_P_sort_114 ci_P rfl wd_101, s_iload d_P_sort_117, s_iload_n d_P_sort_119 rfl, s_iastore d_P_sort_120, s_aload_n d_P_sort_121 rfl, s_getr d_P_sort_122 ci_P rfl wd_105, s_iload d_P_sort_125, s_iload d_P_sort_127, s_iastore d_P_sort_129, s_aload_n d_P_sort_130 rfl, s_getr d_P_sort_131 ci_P rfl wd_109, s_iload d_P_sort_134, s_iload d_P_sort_136, s_iastore d_P_sort_138, s_iinc d_P_sort_139 (by decide) (by decide), s_goto d_P_sort_142 (by decide), trivial⟩
def tb_P_sort : List (Nat × jm_Op) := tb_P_sort_0 ++ tb_P_sort_1
theorem ok_P_sort : jm_all 10 tb_P_sort := jm_all_app ok_P_sort_0 ok_P_sort_1
theorem k_P_sort_53_1 {g : jm_G} {d : Nat} {L : List (Option jm_V)} {r : List jm_V} {σ : jm_S} {K K' : jm_O → Prop} {q0 : Nat} {x0 : Int32} {x1 : Int32} (hq : q0 = goa g 0) (hr : Nat.ble (jm_cs r) 8 = true) (hcal : J g d 11 0 [some (aR 13 q0), some (aI x0), some (aI x1)] [] σ K') (hk : ∀ u, K' u → jm_aft g (d + 1) 10 53 L r u K) : J g (d + 1) 10 53 L (aI x1 :: aI x0 :: aR 13 q0 :: r) σ K :=
  J_call' (id' := 11) jm_sk (vs := [aR 13 q0, aI x0, aI x1]) (inv_O (id' := 11) (y := ⟨"IdealProver$Order", "compare", "(II)I"⟩) (j := 0) (by decide) hq d_P_sort_53 wd_304 wd_305 wd_306 wd_308 wd_307 (by decide) pn_O1_compare) cw_O1_compare (by decide) (by decide) (Nat.le_of_ble_eq_true rfl) rfl hr rfl hcal hk
theorem k_P_sort_53_2 {g : jm_G} {d : Nat} {L : List (Option jm_V)} {r : List jm_V} {σ : jm_S} {K K' : jm_O → Prop} {q0 : Nat} {x0 : Int32} {x1 : Int32} (hq : q0 = goa g 1) (hr : Nat.ble (jm_cs r) 8 = true) (hcal : J g d 12 0 [some (aR 13 q0), some (aI x0), some (aI x1)] [] σ K') (hk : ∀ u, K' u → jm_aft g (d + 1) 10 53 L r u K) : J g (d + 1) 10 53 L (aI x1 :: aI x0 :: aR 13 q0 :: r) σ K :=
  J_call' (id' := 12) jm_sk (vs := [aR 13 q0, aI x0, aI x1]) (inv_O (id' := 12) (y := ⟨"IdealProver$Order", "compare", "(II)I"⟩) (j := 1) (by decide) hq d_P_sort_53 wd_304 wd_305 wd_306 wd_311 wd_310 (by decide) pn_O1_compare) cw_O2_compare (by decide) (by decide) (Nat.le_of_ble_eq_true rfl) rfl hr rfl hcal hk
theorem k_P_sort_53_3 {g : jm_G} {d : Nat} {L : List (Option jm_V)} {r : List jm_V} {σ : jm_S} {K K' : jm_O → Prop} {q0 : Nat} {x0 : Int32} {x1 : Int32} (hq : q0 = goa g 2) (hr : Nat.ble (jm_cs r) 8 = true) (hcal : J g d 15 0 [some (aR 13 q0), some (aI x0), some (aI x1), none] [] σ K') (hk : ∀ u, K' u → jm_aft g (d + 1) 10 53 L r u K) : J g (d + 1) 10 53 L (aI x1 :: aI x0 :: aR 13 q0 :: r) σ K :=
  J_call' (id' := 15) jm_sk (vs := [aR 13 q0, aI x0, aI x1]) (inv_O (id' := 15) (y := ⟨"IdealProver$Order", "compare", "(II)I"⟩) (j := 2) (by decide) hq d_P_sort_53 wd_304 wd_305 wd_306 wd_320 wd_319 (by decide) pn_O1_compare) cw_O3_compare (by decide) (by decide) (Nat.le_of_ble_eq_true rfl) rfl hr rfl hcal hk
theorem r_P_sort_145 {g : jm_G} {d : Nat} {L : List (Option jm_V)} {σ : jm_S} {K : jm_O → Prop} (hK : K (σ, .inl none)) : J g d 10 145 L [] σ K := J_vret d_P_sort_145 rfl hK
-- IdealProver$Order$1 compare (II)I
theorem d_O1_compare_0 : decode prog_6_method_2_code 0 = .ok (.iload_n 1, 1) := by decide +kernel
theorem d_O1_compare_1 : decode prog_6_method_2_code 1 = .ok (.iload_n 2, 1) := by decide +kernel
theorem d_O1_compare_2 : decode prog_6_method_2_code 2 = .ok (.isub, 1) := by decide +kernel
theorem d_O1_compare_3 : decode prog_6_method_2_code 3 = .ok (.ireturn, 1) := by decide +kernel
def tb_O1_compare : List (Nat × jm_Op) := [(0, oIl 1 1), (1, oIl 2 2), (2, oSub 3)]
theorem ok_O1_compare : jm_all 11 tb_O1_compare := ⟨s_iload_n d_O1_compare_0 rfl, s_iload_n d_O1_compare_1 rfl, s_isub d_O1_compare_2, trivial⟩
theorem r_O1_compare_3 {g : jm_G} {d : Nat} {L : List (Option jm_V)} {σ : jm_S} {K : jm_O → Prop} {v : Int32} (hK : K (σ, .inl (some (aI v)))) : J g d 11 3 L [aI v] σ K := J_iret d_O1_compare_3 rfl hK
-- IdealProver$Order$2 compare (II)I
theorem d_O2_compare_0 : decode prog_7_method_2_code 0 = .ok (.iload_n 1, 1) := by decide +kernel
theorem d_O2_compare_1 : decode prog_7_method_2_code 1 = .ok (.iload_n 2, 1) := by decide +kernel
theorem d_O2_compare_2 : decode prog_7_method_2_code 2 = .ok (.invokestatic 7, 3) := by decide +kernel
theorem d_O2_compare_5 : decode prog_7_method_2_code 5 = .ok (.ireturn, 1) := by decide +kernel
def tb_O2_compare : List (Nat × jm_Op) := [(0, oIl 1 1), (1, oIl 2 2)]
theorem ok_O2_compare : jm_all 12 tb_O2_compare := ⟨s_iload_n d_O2_compare_0 rfl, s_iload_n d_O2_compare_1 rfl, trivial⟩
theorem k_O2_compare_2 {g : jm_G} {d : Nat} {L : List (Option jm_V)} {r : List jm_V} {σ : jm_S} {K K' : jm_O → Prop} {x0 : Int32} {x1 : Int32} (hr : Nat.ble (jm_cs r) 8 = true) (hcal : J g d 13 0 [some (aI x0), some (aI x1), none, none] [] σ K') (hk : ∀ u, K' u → jm_aft g (d + 1) 12 2 L r u K) : J g (d + 1) 12 2 L (aI x1 :: aI x0 :: r) σ K :=
  J_call' (id' := 13) jm_sk (vs := [aI x0, aI x1]) (inv_SN (id' := 13) d_O2_compare_2 wd_313 wd_314 wd_56 cw_O_bySum (by decide) pn_O_bySum) cw_O_bySum (by decide) (by decide) (Nat.le_of_ble_eq_true rfl) rfl hr rfl hcal hk
theorem r_O2_compare_5 {g : jm_G} {d : Nat} {L : List (Option jm_V)} {σ : jm_S} {K : jm_O → Prop} {v : Int32} (hK : K (σ, .inl (some (aI v)))) : J g d 12 5 L [aI v] σ K := J_iret d_O2_compare_5 rfl hK
-- IdealProver$Order bySum (II)I
theorem d_O_bySum_0 : decode prog_5_method_5_code 0 = .ok (.iconst 0, 1) := by decide +kernel
theorem d_O_bySum_1 : decode prog_5_method_5_code 1 = .ok (.istore_n 2, 1) := by decide +kernel
theorem d_O_bySum_2 : decode prog_5_method_5_code 2 = .ok (.iconst 0, 1) := by decide +kernel
theorem d_O_bySum_3 : decode prog_5_method_5_code 3 = .ok (.istore_n 3, 1) := by decide +kernel
theorem d_O_bySum_4 : decode prog_5_method_5_code 4 = .ok (.iload_n 3, 1) := by decide +kernel
theorem d_O_bySum_5 : decode prog_5_method_5_code 5 = .ok (.iconst 5, 1) := by decide +kernel
theorem d_O_bySum_6 : decode prog_5_method_5_code 6 = .ok (.if_icmp .ge 23, 3) := by decide +kernel
theorem d_O_bySum_9 : decode prog_5_method_5_code 9 = .ok (.iload_n 2, 1) := by decide +kernel
theorem d_O_bySum_10 : decode prog_5_method_5_code 10 = .ok (.iload_n 0, 1) := by decide +kernel
theorem d_O_bySum_11 : decode prog_5_method_5_code 11 = .ok (.iload_n 3, 1) := by decide +kernel
theorem d_O_bySum_12 : decode prog_5_method_5_code 12 = .ok (.invokestatic 32, 3) := by decide +kernel
theorem d_O_bySum_15 : decode prog_5_method_5_code 15 = .ok (.iload_n 1, 1) := by decide +kernel
theorem d_O_bySum_16 : decode prog_5_method_5_code 16 = .ok (.iload_n 3, 1) := by decide +kernel
theorem d_O_bySum_17 : decode prog_5_method_5_code 17 = .ok (.invokestatic 32, 3) := by decide +kernel
theorem d_O_bySum_20 : decode prog_5_method_5_code 20 = .ok (.isub, 1) := by decide +kernel
theorem d_O_bySum_21 : decode prog_5_method_5_code 21 = .ok (.iadd, 1) := by decide +kernel
theorem d_O_bySum_22 : decode prog_5_method_5_code 22 = .ok (.istore_n 2, 1) := by decide +kernel
theorem d_O_bySum_23 : decode prog_5_method_5_code 23 = .ok (.iinc 3 1, 3) := by decide +kernel
theorem d_O_bySum_26 : decode prog_5_method_5_code 26 = .ok (.goto (-22), 3) := by decide +kernel
theorem d_O_bySum_29 : decode prog_5_method_5_code 29 = .ok (.iload_n 2, 1) := by decide +kernel
theorem d_O_bySum_30 : decode prog_5_method_5_code 30 = .ok (.ifCond .eq 5, 3) := by decide +kernel
theorem d_O_bySum_33 : decode prog_5_method_5_code 33 = .ok (.iload_n 2, 1) := by decide +kernel
theorem d_O_bySum_34 : decode prog_5_method_5_code 34 = .ok (.ireturn, 1) := by decide +kernel
theorem d_O_bySum_35 : decode prog_5_method_5_code 35 = .ok (.iconst 4, 1) := by decide +kernel
theorem d_O_bySum_36 : decode prog_5_method_5_code 36 = .ok (.istore_n 3, 1) := by decide +kernel
theorem d_O_bySum_37 : decode prog_5_method_5_code 37 = .ok (.iload_n 3, 1) := by decide +kernel
theorem d_O_bySum_38 : decode prog_5_method_5_code 38 = .ok (.ifCond .lt 34, 3) := by decide +kernel
theorem d_O_bySum_41 : decode prog_5_method_5_code 41 = .ok (.iload_n 0, 1) := by decide +kernel
theorem d_O_bySum_42 : decode prog_5_method_5_code 42 = .ok (.iload_n 3, 1) := by decide +kernel
theorem d_O_bySum_43 : decode prog_5_method_5_code 43 = .ok (.invokestatic 32, 3) := by decide +kernel
theorem d_O_bySum_46 : decode prog_5_method_5_code 46 = .ok (.iload_n 1, 1) := by decide +kernel
theorem d_O_bySum_47 : decode prog_5_method_5_code 47 = .ok (.iload_n 3, 1) := by decide +kernel
theorem d_O_bySum_48 : decode prog_5_method_5_code 48 = .ok (.invokestatic 32, 3) := by decide +kernel
theorem d_O_bySum_51 : decode prog_5_method_5_code 51 = .ok (.if_icmp .eq 15, 3) := by decide +kernel
theorem d_O_bySum_54 : decode prog_5_method_5_code 54 = .ok (.iload_n 1, 1) := by decide +kernel
theorem d_O_bySum_55 : decode prog_5_method_5_code 55 = .ok (.iload_n 3, 1) := by decide +kernel
theorem d_O_bySum_56 : decode prog_5_method_5_code 56 = .ok (.invokestatic 32, 3) := by decide +kernel
theorem d_O_bySum_59 : decode prog_5_method_5_code 59 = .ok (.iload_n 0, 1) := by decide +kernel
theorem d_O_bySum_60 : decode prog_5_method_5_code 60 = .ok (.iload_n 3, 1) := by decide +kernel
theorem d_O_bySum_61 : decode prog_5_method_5_code 61 = .ok (.invokestatic 32, 3) := by decide +kernel
theorem d_O_bySum_64 : decode prog_5_method_5_code 64 = .ok (.isub, 1) := by decide +kernel
theorem d_O_bySum_65 : decode prog_5_method_5_code 65 = .ok (.ireturn, 1) := by decide +kernel
theorem d_O_bySum_66 : decode prog_5_method_5_code 66 = .ok (.iinc 3 (-1), 3) := by decide +kernel
theorem d_O_bySum_69 : decode prog_5_method_5_code 69 = .ok (.goto (-32), 3) := by decide +kernel
theorem d_O_bySum_72 : decode prog_5_method_5_code 72 = .ok (.iconst 0, 1) := by decide +kernel
theorem d_O_bySum_73 : decode prog_5_method_5_code 73 = .ok (.ireturn, 1) := by decide +kernel
def tb_O_bySum : List (Nat × jm_Op) := [(0, oC 0 1), (1, oIs 2 2), (2, oC 0 3), (3, oIs 3 4), (4, oIl 3 5), (5, oC 5 6), (6, oIcGe 29 9), (9, oIl 2 10), (10, oIl 0 11), (11, oIl 3 12), (15, oIl 1 16), (16, oIl 3 17), (20, oSub 21), (21, oAdd 22), (22, oIs 2 23), (23, oInc 3 1 26), (26, oGo 4), (29, oIl 2 30), (30, oIfEq 35 33), (33, oIl 2 34), (35, oC 4 36), (36, oIs 3 37), (37, oIl 3 38), (38, oIfLt 72 41), (41, oIl 0 42), (42, oIl 3 43), (46, oIl 1 47), (47, oIl 3 48), (51, oIcEq 66 54), (54, oIl 1 55), (55, oIl 3 56), (59, oIl 0 60), (60, oIl 3 61), (64, oSub 65), (66, oInc 3 (-1) 69), (69, oGo 37), (72, oC 0 73)]
theorem ok_O_bySum : jm_all 13 tb_O_bySum := ⟨s_iconst d_O_bySum_0 (by decide), s_istore_n d_O_bySum_1 rfl (by decide), s_iconst d_O_bySum_2 (by decide), s_istore_n d_O_bySum_3 rfl (by decide), s_iload_n d_O_bySum_4 rfl, s_iconst d_O_bySum_5 (by decide), s_icmp_ge d_O_bySum_6 (by decide), s_iload_n d_O_bySum_9 rfl, s_iload_n d_O_bySum_10 rfl, s_iload_n d_O_bySum_11 rfl, s_iload_n d_O_bySum_15 rfl, s_iload_n d_O_bySum_16 rfl, s_isub d_O_bySum_20, s_iadd d_O_bySum_21, s_istore_n d_O_bySum_22 rfl (by decide), s_iinc d_O_bySum_23 (by decide) (by decide), s_goto d_O_bySum_26 (by decide), s_iload_n d_O_bySum_29 rfl, s_if_eq d_O_bySum_30 (by decide), s_iload_n d_O_bySum_33 rfl, s_iconst d_O_bySum_35 (by decide), s_istore_n d_O_bySum_36 rfl (by decide), s_iload_n d_O_bySum_37 rfl, s_if_lt d_O_bySum_38 (by decide), s_iload_n d_O_bySum_41 rfl, s_iload_n d_O_bySum_42 rfl, s_iload_n d_O_bySum_46 rfl, s_iload_n d_O_bySum_47 rfl, s_icmp_eq d_O_bySum_51 (by decide), s_iload_n d_O_bySum_54 rfl, s_iload_n d_O_bySum_55 rfl, s_iload_n d_O_bySum_59 rfl, s_iload_n d_O_bySum_60 rfl, s_isub d_O_bySum_64, s_iinc d_O_bySum_66 (by decide) (by decide), s_goto d_O_bySum_69 (by decide), s_iconst d_O_bySum_72 (by decide), trivial⟩
theorem k_O_bySum_12 {g : jm_G} {d : Nat} {L : List (Option jm_V)} {r : List jm_V} {σ : jm_S} {K K' : jm_O → Prop} {x0 : Int32} {x1 : Int32} (hr : Nat.ble (jm_cs r) 8 = true) (hcal : J g d 14 0 [some (aI x0), some (aI x1)] [] σ K') (hk : ∀ u, K' u → jm_aft g (d + 1) 13 12 L r u K) : J g (d + 1) 13 12 L (aI x1 :: aI x0 :: r) σ K :=
  J_call' (id' := 14) jm_sk (vs := [aI x0, aI x1]) (inv_SN (id' := 14) d_O_bySum_12 wd_316 wd_317 wd_54 cw_H_exponent (by decide) pn_H_exponent) cw_H_exponent (by decide) (by decide) (Nat.le_of_ble_eq_true rfl) rfl hr rfl hcal hk
theorem k_O_bySum_17 {g : jm_G} {d : Nat} {L : List (Option jm_V)} {r : List jm_V} {σ : jm_S} {K K' : jm_O → Prop} {x0 : Int32} {x1 : Int32} (hr : Nat.ble (jm_cs r) 8 = true) (hcal : J g d 14 0 [some (aI x0), some (aI x1)] [] σ K') (hk : ∀ u, K' u → jm_aft g (d + 1) 13 17 L r u K) : J g (d + 1) 13 17 L (aI x1 :: aI x0 :: r) σ K :=
  J_call' (id' := 14) jm_sk (vs := [aI x0, aI x1]) (inv_SN (id' := 14) d_O_bySum_17 wd_316 wd_317 wd_54 cw_H_exponent (by decide) pn_H_exponent) cw_H_exponent (by decide) (by decide) (Nat.le_of_ble_eq_true rfl) rfl hr rfl hcal hk
theorem r_O_bySum_34 {g : jm_G} {d : Nat} {L : List (Option jm_V)} {σ : jm_S} {K : jm_O → Prop} {v : Int32} (hK : K (σ, .inl (some (aI v)))) : J g d 13 34 L [aI v] σ K := J_iret d_O_bySum_34 rfl hK
theorem k_O_bySum_43 {g : jm_G} {d : Nat} {L : List (Option jm_V)} {r : List jm_V} {σ : jm_S} {K K' : jm_O → Prop} {x0 : Int32} {x1 : Int32} (hr : Nat.ble (jm_cs r) 8 = true) (hcal : J g d 14 0 [some (aI x0), some (aI x1)] [] σ K') (hk : ∀ u, K' u → jm_aft g (d + 1) 13 43 L r u K) : J g (d + 1) 13 43 L (aI x1 :: aI x0 :: r) σ K :=
  J_call' (id' := 14) jm_sk (vs := [aI x0, aI x1]) (inv_SN (id' := 14) d_O_bySum_43 wd_316 wd_317 wd_54 cw_H_exponent (by decide) pn_H_exponent) cw_H_exponent (by decide) (by decide) (Nat.le_of_ble_eq_true rfl) rfl hr rfl hcal hk
theorem k_O_bySum_48 {g : jm_G} {d : Nat} {L : List (Option jm_V)} {r : List jm_V} {σ : jm_S} {K K' : jm_O → Prop} {x0 : Int32} {x1 : Int32} (hr : Nat.ble (jm_cs r) 8 = true) (hcal : J g d 14 0 [some (aI x0), some (aI x1)] [] σ K') (hk : ∀ u, K' u → jm_aft g (d + 1) 13 48 L r u K) : J g (d + 1) 13 48 L (aI x1 :: aI x0 :: r) σ K :=
  J_call' (id' := 14) jm_sk (vs := [aI x0, aI x1]) (inv_SN (id' := 14) d_O_bySum_48 wd_316 wd_317 wd_54 cw_H_exponent (by decide) pn_H_exponent) cw_H_exponent (by decide) (by decide) (Nat.le_of_ble_eq_true rfl) rfl hr rfl hcal hk
theorem k_O_bySum_56 {g : jm_G} {d : Nat} {L : List (Option jm_V)} {r : List jm_V} {σ : jm_S} {K K' : jm_O → Prop} {x0 : Int32} {x1 : Int32} (hr : Nat.ble (jm_cs r) 8 = true) (hcal : J g d 14 0 [some (aI x0), some (aI x1)] [] σ K') (hk : ∀ u, K' u → jm_aft g (d + 1) 13 56 L r u K) : J g (d + 1) 13 56 L (aI x1 :: aI x0 :: r) σ K :=
  J_call' (id' := 14) jm_sk (vs := [aI x0, aI x1]) (inv_SN (id' := 14) d_O_bySum_56 wd_316 wd_317 wd_54 cw_H_exponent (by decide) pn_H_exponent) cw_H_exponent (by decide) (by decide) (Nat.le_of_ble_eq_true rfl) rfl hr rfl hcal hk
theorem k_O_bySum_61 {g : jm_G} {d : Nat} {L : List (Option jm_V)} {r : List jm_V} {σ : jm_S} {K K' : jm_O → Prop} {x0 : Int32} {x1 : Int32} (hr : Nat.ble (jm_cs r) 8 = true) (hcal : J g d 14 0 [some (aI x0), some (aI x1)] [] σ K') (hk : ∀ u, K' u → jm_aft g (d + 1) 13 61 L r u K) : J g (d + 1) 13 61 L (aI x1 :: aI x0 :: r) σ K :=
  J_call' (id' := 14) jm_sk (vs := [aI x0, aI x1]) (inv_SN (id' := 14) d_O_bySum_61 wd_316 wd_317 wd_54 cw_H_exponent (by decide) pn_H_exponent) cw_H_exponent (by decide) (by decide) (Nat.le_of_ble_eq_true rfl) rfl hr rfl hcal hk
theorem r_O_bySum_65 {g : jm_G} {d : Nat} {L : List (Option jm_V)} {σ : jm_S} {K : jm_O → Prop} {v : Int32} (hK : K (σ, .inl (some (aI v)))) : J g d 13 65 L [aI v] σ K := J_iret d_O_bySum_65 rfl hK
theorem r_O_bySum_73 {g : jm_G} {d : Nat} {L : List (Option jm_V)} {σ : jm_S} {K : jm_O → Prop} {v : Int32} (hK : K (σ, .inl (some (aI v)))) : J g d 13 73 L [aI v] σ K := J_iret d_O_bySum_73 rfl hK
-- IdealProver$Order$3 compare (II)I
theorem d_O3_compare_0 : decode prog_8_method_2_code 0 = .ok (.iload_n 1, 1) := by decide +kernel
theorem d_O3_compare_1 : decode prog_8_method_2_code 1 = .ok (.iconst 0, 1) := by decide +kernel
theorem d_O3_compare_2 : decode prog_8_method_2_code 2 = .ok (.invokestatic 7, 3) := by decide +kernel
theorem d_O3_compare_5 : decode prog_8_method_2_code 5 = .ok (.iload_n 2, 1) := by decide +kernel
theorem d_O3_compare_6 : decode prog_8_method_2_code 6 = .ok (.iconst 0, 1) := by decide +kernel
theorem d_O3_compare_7 : decode prog_8_method_2_code 7 = .ok (.invokestatic 7, 3) := by decide +kernel
theorem d_O3_compare_10 : decode prog_8_method_2_code 10 = .ok (.isub, 1) := by decide +kernel
theorem d_O3_compare_11 : decode prog_8_method_2_code 11 = .ok (.istore_n 3, 1) := by decide +kernel
theorem d_O3_compare_12 : decode prog_8_method_2_code 12 = .ok (.iload_n 3, 1) := by decide +kernel
theorem d_O3_compare_13 : decode prog_8_method_2_code 13 = .ok (.ifCond .eq 7, 3) := by decide +kernel
theorem d_O3_compare_16 : decode prog_8_method_2_code 16 = .ok (.iload_n 3, 1) := by decide +kernel
theorem d_O3_compare_17 : decode prog_8_method_2_code 17 = .ok (.goto 8, 3) := by decide +kernel
theorem d_O3_compare_20 : decode prog_8_method_2_code 20 = .ok (.iload_n 1, 1) := by decide +kernel
theorem d_O3_compare_21 : decode prog_8_method_2_code 21 = .ok (.iload_n 2, 1) := by decide +kernel
theorem d_O3_compare_22 : decode prog_8_method_2_code 22 = .ok (.invokestatic 13, 3) := by decide +kernel
theorem d_O3_compare_25 : decode prog_8_method_2_code 25 = .ok (.ireturn, 1) := by decide +kernel
def tb_O3_compare : List (Nat × jm_Op) := [(0, oIl 1 1), (1, oC 0 2), (5, oIl 2 6), (6, oC 0 7), (10, oSub 11), (11, oIs 3 12), (12, oIl 3 13), (13, oIfEq 20 16), (16, oIl 3 17), (17, oGo 25), (20, oIl 1 21), (21, oIl 2 22)]
theorem ok_O3_compare : jm_all 15 tb_O3_compare := ⟨s_iload_n d_O3_compare_0 rfl, s_iconst d_O3_compare_1 (by decide), s_iload_n d_O3_compare_5 rfl, s_iconst d_O3_compare_6 (by decide), s_isub d_O3_compare_10, s_istore_n d_O3_compare_11 rfl (by decide), s_iload_n d_O3_compare_12 rfl, s_if_eq d_O3_compare_13 (by decide), s_iload_n d_O3_compare_16 rfl, s_goto d_O3_compare_17 (by decide), s_iload_n d_O3_compare_20 rfl, s_iload_n d_O3_compare_21 rfl, trivial⟩
theorem k_O3_compare_2 {g : jm_G} {d : Nat} {L : List (Option jm_V)} {r : List jm_V} {σ : jm_S} {K K' : jm_O → Prop} {x0 : Int32} {x1 : Int32} (hr : Nat.ble (jm_cs r) 8 = true) (hcal : J g d 14 0 [some (aI x0), some (aI x1)] [] σ K') (hk : ∀ u, K' u → jm_aft g (d + 1) 15 2 L r u K) : J g (d + 1) 15 2 L (aI x1 :: aI x0 :: r) σ K :=
  J_call' (id' := 14) jm_sk (vs := [aI x0, aI x1]) (inv_SN (id' := 14) d_O3_compare_2 wd_322 wd_317 wd_54 cw_H_exponent (by decide) pn_H_exponent) cw_H_exponent (by decide) (by decide) (Nat.le_of_ble_eq_true rfl) rfl hr rfl hcal hk
theorem k_O3_compare_7 {g : jm_G} {d : Nat} {L : List (Option jm_V)} {r : List jm_V} {σ : jm_S} {K K' : jm_O → Prop} {x0 : Int32} {x1 : Int32} (hr : Nat.ble (jm_cs r) 8 = true) (hcal : J g d 14 0 [some (aI x0), some (aI x1)] [] σ K') (hk : ∀ u, K' u → jm_aft g (d + 1) 15 7 L r u K) : J g (d + 1) 15 7 L (aI x1 :: aI x0 :: r) σ K :=
  J_call' (id' := 14) jm_sk (vs := [aI x0, aI x1]) (inv_SN (id' := 14) d_O3_compare_7 wd_322 wd_317 wd_54 cw_H_exponent (by decide) pn_H_exponent) cw_H_exponent (by decide) (by decide) (Nat.le_of_ble_eq_true rfl) rfl hr rfl hcal hk
theorem k_O3_compare_22 {g : jm_G} {d : Nat} {L : List (Option jm_V)} {r : List jm_V} {σ : jm_S} {K K' : jm_O → Prop} {x0 : Int32} {x1 : Int32} (hr : Nat.ble (jm_cs r) 8 = true) (hcal : J g d 13 0 [some (aI x0), some (aI x1), none, none] [] σ K') (hk : ∀ u, K' u → jm_aft g (d + 1) 15 22 L r u K) : J g (d + 1) 15 22 L (aI x1 :: aI x0 :: r) σ K :=
  J_call' (id' := 13) jm_sk (vs := [aI x0, aI x1]) (inv_SN (id' := 13) d_O3_compare_22 wd_323 wd_314 wd_56 cw_O_bySum (by decide) pn_O_bySum) cw_O_bySum (by decide) (by decide) (Nat.le_of_ble_eq_true rfl) rfl hr rfl hcal hk
theorem r_O3_compare_25 {g : jm_G} {d : Nat} {L : List (Option jm_V)} {σ : jm_S} {K : jm_O → Prop} {v : Int32} (hK : K (σ, .inl (some (aI v)))) : J g d 15 25 L [aI v] σ K := J_iret d_O3_compare_25 rfl hK
-- IdealProver$Poly become (LIdealProver$Poly;)V
theorem d_P_become_0 : decode prog_9_method_2_code 0 = .ok (.aload_n 0, 1) := by decide +kernel
theorem d_P_become_1 : decode prog_9_method_2_code 1 = .ok (.aload_n 1, 1) := by decide +kernel
theorem d_P_become_2 : decode prog_9_method_2_code 2 = .ok (.getfield 21, 3) := by decide +kernel
theorem d_P_become_5 : decode prog_9_method_2_code 5 = .ok (.putfield 21, 3) := by decide +kernel
theorem d_P_become_8 : decode prog_9_method_2_code 8 = .ok (.aload_n 1, 1) := by decide +kernel
theorem d_P_become_9 : decode prog_9_method_2_code 9 = .ok (.getfield 9, 3) := by decide +kernel
theorem d_P_become_12 : decode prog_9_method_2_code 12 = .ok (.iconst 0, 1) := by decide +kernel
theorem d_P_become_13 : decode prog_9_method_2_code 13 = .ok (.aload_n 0, 1) := by decide +kernel
theorem d_P_become_14 : decode prog_9_method_2_code 14 = .ok (.getfield 9, 3) := by decide +kernel
theorem d_P_become_17 : decode prog_9_method_2_code 17 = .ok (.iconst 0, 1) := by decide +kernel
theorem d_P_become_18 : decode prog_9_method_2_code 18 = .ok (.aload_n 0, 1) := by decide +kernel
theorem d_P_become_19 : decode prog_9_method_2_code 19 = .ok (.getfield 21, 3) := by decide +kernel
theorem d_P_become_22 : decode prog_9_method_2_code 22 = .ok (.invokestatic 25, 3) := by decide +kernel
theorem d_P_become_25 : decode prog_9_method_2_code 25 = .ok (.aload_n 1, 1) := by decide +kernel
theorem d_P_become_26 : decode prog_9_method_2_code 26 = .ok (.getfield 15, 3) := by decide +kernel
theorem d_P_become_29 : decode prog_9_method_2_code 29 = .ok (.iconst 0, 1) := by decide +kernel
theorem d_P_become_30 : decode prog_9_method_2_code 30 = .ok (.aload_n 0, 1) := by decide +kernel
theorem d_P_become_31 : decode prog_9_method_2_code 31 = .ok (.getfield 15, 3) := by decide +kernel
theorem d_P_become_34 : decode prog_9_method_2_code 34 = .ok (.iconst 0, 1) := by decide +kernel
theorem d_P_become_35 : decode prog_9_method_2_code 35 = .ok (.aload_n 0, 1) := by decide +kernel
theorem d_P_become_36 : decode prog_9_method_2_code 36 = .ok (.getfield 21, 3) := by decide +kernel
theorem d_P_become_39 : decode prog_9_method_2_code 39 = .ok (.invokestatic 25, 3) := by decide +kernel
theorem d_P_become_42 : decode prog_9_method_2_code 42 = .ok (.aload_n 1, 1) := by decide +kernel
theorem d_P_become_43 : decode prog_9_method_2_code 43 = .ok (.getfield 18, 3) := by decide +kernel
theorem d_P_become_46 : decode prog_9_method_2_code 46 = .ok (.iconst 0, 1) := by decide +kernel
theorem d_P_become_47 : decode prog_9_method_2_code 47 = .ok (.aload_n 0, 1) := by decide +kernel
theorem d_P_become_48 : decode prog_9_method_2_code 48 = .ok (.getfield 18, 3) := by decide +kernel
theorem d_P_become_51 : decode prog_9_method_2_code 51 = .ok (.iconst 0, 1) := by decide +kernel
theorem d_P_become_52 : decode prog_9_method_2_code 52 = .ok (.aload_n 0, 1) := by decide +kernel
theorem d_P_become_53 : decode prog_9_method_2_code 53 = .ok (.getfield 21, 3) := by decide +kernel
theorem d_P_become_56 : decode prog_9_method_2_code 56 = .ok (.invokestatic 25, 3) := by decide +kernel
theorem d_P_become_59 : decode prog_9_method_2_code 59 = .ok (.return_, 1) := by decide +kernel
def tb_P_become : List (Nat × jm_Op) := [(0, oAl 0 1), (1, oAl 1 2), (2, oGi 5 0 5), (5, oPi 5 0 8), (8, oAl 1 9), (9, oGr 5 1 8 12), (12, oC 0 13), (13, oAl 0 14), (14, oGr 5 1 8 17), (17, oC 0 18), (18, oAl 0 19), (19, oGi 5 0 22), (22, oCpy 25), (25, oAl 1 26), (26, oGr 5 2 8 29), (29, oC 0 30), (30, oAl 0 31), (31, oGr 5 2 8 34), (34, oC 0 35), (35, oAl 0 36), (36, oGi 5 0 39), (39, oCpy 42), (42, oAl 1 43), (43, oGr 5 3 8 46), (46, oC 0 47), (47, oAl 0 48), (48, oGr 5 3 8 51), (51, oC 0 52), (52, oAl 0 53), (53, oGi 5 0 56), (56, oCpy 59)]
theorem ok_P_become : jm_all 19 tb_P_become := ⟨s_aload_n d_P_become_0 rfl, s_aload_n d_P_become_1 rfl, s_geti d_P_become_2 ci_P rfl wd_98, s_puti d_P_become_5 ci_P rfl rfl rfl wd_98, s_aload_n d_P_become_8 rfl, s_getr d_P_become_9 ci_P rfl wd_101, s_iconst d_P_become_12 (by decide), s_aload_n d_P_become_13 rfl, s_getr d_P_become_14 ci_P rfl wd_101, s_iconst d_P_become_17 (by decide), s_aload_n d_P_become_18 rfl, s_geti d_P_become_19 ci_P rfl wd_98, s_copy d_P_become_22 wd_343 wd_345 wd_344 wd_63, s_aload_n d_P_become_25 rfl, s_getr d_P_become_26 ci_P rfl wd_105, s_iconst d_P_become_29 (by decide), s_aload_n d_P_become_30 rfl, s_getr d_P_become_31 ci_P rfl wd_105, s_iconst d_P_become_34 (by decide), s_aload_n d_P_become_35 rfl, s_geti d_P_become_36 ci_P rfl wd_98, s_copy d_P_become_39 wd_343 wd_345 wd_344 wd_63, s_aload_n d_P_become_42 rfl, s_getr d_P_become_43 ci_P rfl wd_109, s_iconst d_P_become_46 (by decide), s_aload_n d_P_become_47 rfl, s_getr d_P_become_48 ci_P rfl wd_109, s_iconst d_P_become_51 (by decide), s_aload_n d_P_become_52 rfl, s_geti d_P_become_53 ci_P rfl wd_98, s_copy d_P_become_56 wd_343 wd_345 wd_344 wd_63, trivial⟩
theorem r_P_become_59 {g : jm_G} {d : Nat} {L : List (Option jm_V)} {σ : jm_S} {K : jm_O → Prop} (hK : K (σ, .inl none)) : J g d 19 59 L [] σ K := J_vret d_P_become_59 rfl hK
-- IdealProver$Fraction set (JJ)V
theorem d_F_set_0 : decode prog_4_method_2_code 0 = .ok (.lload_n 1, 1) := by decide +kernel
theorem d_F_set_1 : decode prog_4_method_2_code 1 = .ok (.lload_n 3, 1) := by decide +kernel
theorem d_F_set_2 : decode prog_4_method_2_code 2 = .ok (.invokestatic 9, 3) := by decide +kernel
theorem d_F_set_5 : decode prog_4_method_2_code 5 = .ok (.lstore 5, 2) := by decide +kernel
theorem d_F_set_7 : decode prog_4_method_2_code 7 = .ok (.lload_n 3, 1) := by decide +kernel
theorem d_F_set_8 : decode prog_4_method_2_code 8 = .ok (.lconst 0, 1) := by decide +kernel
theorem d_F_set_9 : decode prog_4_method_2_code 9 = .ok (.lcmp, 1) := by decide +kernel
theorem d_F_set_10 : decode prog_4_method_2_code 10 = .ok (.ifCond .ge 11, 3) := by decide +kernel
theorem d_F_set_13 : decode prog_4_method_2_code 13 = .ok (.lload_n 1, 1) := by decide +kernel
theorem d_F_set_14 : decode prog_4_method_2_code 14 = .ok (.lload 5, 2) := by decide +kernel
theorem d_F_set_16 : decode prog_4_method_2_code 16 = .ok (.ldiv, 1) := by decide +kernel
theorem d_F_set_17 : decode prog_4_method_2_code 17 = .ok (.lneg, 1) := by decide +kernel
theorem d_F_set_18 : decode prog_4_method_2_code 18 = .ok (.goto 7, 3) := by decide +kernel
theorem d_F_set_21 : decode prog_4_method_2_code 21 = .ok (.lload_n 1, 1) := by decide +kernel
theorem d_F_set_22 : decode prog_4_method_2_code 22 = .ok (.lload 5, 2) := by decide +kernel
theorem d_F_set_24 : decode prog_4_method_2_code 24 = .ok (.ldiv, 1) := by decide +kernel
theorem d_F_set_25 : decode prog_4_method_2_code 25 = .ok (.lstore 7, 2) := by decide +kernel
theorem d_F_set_27 : decode prog_4_method_2_code 27 = .ok (.lload_n 3, 1) := by decide +kernel
theorem d_F_set_28 : decode prog_4_method_2_code 28 = .ok (.lload 5, 2) := by decide +kernel
theorem d_F_set_30 : decode prog_4_method_2_code 30 = .ok (.ldiv, 1) := by decide +kernel
theorem d_F_set_31 : decode prog_4_method_2_code 31 = .ok (.invokestatic 13, 3) := by decide +kernel
theorem d_F_set_34 : decode prog_4_method_2_code 34 = .ok (.lstore 9, 2) := by decide +kernel
theorem d_F_set_36 : decode prog_4_method_2_code 36 = .ok (.lload 7, 2) := by decide +kernel
theorem d_F_set_38 : decode prog_4_method_2_code 38 = .ok (.invokestatic 13, 3) := by decide +kernel
theorem d_F_set_41 : decode prog_4_method_2_code 41 = .ok (.ldc2_w 19, 3) := by decide +kernel
theorem d_F_set_44 : decode prog_4_method_2_code 44 = .ok (.lcmp, 1) := by decide +kernel
theorem d_F_set_45 : decode prog_4_method_2_code 45 = .ok (.ifCond .gt 12, 3) := by decide +kernel
theorem d_F_set_48 : decode prog_4_method_2_code 48 = .ok (.lload 9, 2) := by decide +kernel
theorem d_F_set_50 : decode prog_4_method_2_code 50 = .ok (.ldc2_w 19, 3) := by decide +kernel
theorem d_F_set_53 : decode prog_4_method_2_code 53 = .ok (.lcmp, 1) := by decide +kernel
theorem d_F_set_54 : decode prog_4_method_2_code 54 = .ok (.ifCond .le 13, 3) := by decide +kernel
theorem d_F_set_57 : decode prog_4_method_2_code 57 = .ok (.new 21, 3) := by decide +kernel
theorem d_F_set_60 : decode prog_4_method_2_code 60 = .ok (.dup, 1) := by decide +kernel
theorem d_F_set_61 : decode prog_4_method_2_code 61 = .ok (.bipush (-7), 2) := by decide +kernel
theorem d_F_set_63 : decode prog_4_method_2_code 63 = .ok (.invokespecial 23, 3) := by decide +kernel
theorem d_F_set_66 : decode prog_4_method_2_code 66 = .ok (.athrow, 1) := by decide +kernel
theorem d_F_set_67 : decode prog_4_method_2_code 67 = .ok (.aload_n 0, 1) := by decide +kernel
theorem d_F_set_68 : decode prog_4_method_2_code 68 = .ok (.lload 7, 2) := by decide +kernel
theorem d_F_set_70 : decode prog_4_method_2_code 70 = .ok (.l2i, 1) := by decide +kernel
theorem d_F_set_71 : decode prog_4_method_2_code 71 = .ok (.putfield 26, 3) := by decide +kernel
theorem d_F_set_74 : decode prog_4_method_2_code 74 = .ok (.aload_n 0, 1) := by decide +kernel
theorem d_F_set_75 : decode prog_4_method_2_code 75 = .ok (.lload 9, 2) := by decide +kernel
theorem d_F_set_77 : decode prog_4_method_2_code 77 = .ok (.l2i, 1) := by decide +kernel
theorem d_F_set_78 : decode prog_4_method_2_code 78 = .ok (.putfield 32, 3) := by decide +kernel
theorem d_F_set_81 : decode prog_4_method_2_code 81 = .ok (.return_, 1) := by decide +kernel
def tb_F_set : List (Nat × jm_Op) := [(0, oLl 1 1), (1, oLl 3 2), (5, oLs 5 7), (7, oLl 3 8), (8, oCL 0 9), (9, oLcmp 10), (10, oIfGe 21 13), (13, oLl 1 14), (14, oLl 5 16), (16, oLDiv 17), (17, oLNeg 18), (18, oGo 25), (21, oLl 1 22), (22, oLl 5 24), (24, oLDiv 25), (25, oLs 7 27), (27, oLl 3 28), (28, oLl 5 30), (30, oLDiv 31), (31, oAbsL 34), (34, oLs 9 36), (36, oLl 7 38), (38, oAbsL 41), (41, oCL 1000000000 44), (44, oLcmp 45), (45, oIfGt 57 48), (48, oLl 9 50), (50, oCL 1000000000 53), (53, oLcmp 54), (54, oIfLe 67 57), (67, oAl 0 68), (68, oLl 7 70), (70, oL2I 71), (71, oPi 4 0 74), (74, oAl 0 75), (75, oLl 9 77), (77, oL2I 78), (78, oPi 4 1 81)]
theorem ok_F_set : jm_all 20 tb_F_set := ⟨s_lload_n d_F_set_0 rfl, s_lload_n d_F_set_1 rfl, s_lstore d_F_set_5 (by decide), s_lload_n d_F_set_7 rfl, s_lconst d_F_set_8 (by decide), s_lcmp d_F_set_9, s_if_ge d_F_set_10 (by decide), s_lload_n d_F_set_13 rfl, s_lload d_F_set_14, s_ldiv d_F_set_16, s_lneg d_F_set_17, s_goto d_F_set_18 (by decide), s_lload_n d_F_set_21 rfl, s_lload d_F_set_22, s_ldiv d_F_set_24, s_lstore d_F_set_25 (by decide), s_lload_n d_F_set_27 rfl, s_lload d_F_set_28, s_ldiv d_F_set_30, s_absL d_F_set_31 wd_353 wd_333 wd_61 wd_334, s_lstore d_F_set_34 (by decide), s_lload d_F_set_36, s_absL d_F_set_38 wd_353 wd_333 wd_61 wd_334, s_ldc2 d_F_set_41 wd_354, s_lcmp d_F_set_44, s_if_gt d_F_set_45 (by decide), s_lload d_F_set_48, s_ldc2 d_F_set_50 wd_354, s_lcmp d_F_set_53, s_if_le d_F_set_54 (by decide), s_aload_n d_F_set_67 rfl, s_lload d_F_set_68, s_l2i d_F_set_70, s_puti d_F_set_71 ci_F rfl rfl rfl wd_134, s_aload_n d_F_set_74 rfl, s_lload d_F_set_75, s_l2i d_F_set_77, s_puti d_F_set_78 ci_F rfl rfl rfl wd_138, trivial⟩
theorem k_F_set_2 {g : jm_G} {d : Nat} {L : List (Option jm_V)} {r : List jm_V} {σ : jm_S} {K K' : jm_O → Prop} {x0 : Int64} {x1 : Int64} (hr : Nat.ble (jm_cs r) 8 = true) (hcal : J g d 21 0 [some (aL x0), none, some (aL x1), none, none, none, none, none, none, none] [] σ K') (hk : ∀ u, K' u → jm_aft g (d + 1) 20 2 L r u K) : J g (d + 1) 20 2 L (aL x1 :: aL x0 :: r) σ K :=
  J_call' (id' := 21) jm_sk (vs := [aL x0, aL x1]) (inv_SN (id' := 21) d_F_set_2 wd_350 wd_351 wd_54 cw_H_gcd (by decide) pn_H_gcd) cw_H_gcd (by decide) (by decide) (Nat.le_of_ble_eq_true rfl) rfl hr rfl hcal hk
theorem k_F_set_57 {g : jm_G} {d : Nat} {L : List (Option jm_V)} {r : List jm_V} {σ : jm_S} {K : jm_O → Prop} (hdep : 4 ≤ d) (hcs : Nat.ble (jm_cs r) 6 = true) (ht : gdm g (jm_hs σ) = 7) (hlim : jm_hs σ + 1 ≤ gb g + 601024 ∧ jm_ns σ + 7 ≤ 7293000) (hj : J g d 20 66 L (aR 7 (jm_hs σ) :: r) (jm_wi (jm_nw σ 7) (jm_hs σ) 0 (-7)) K) : J g d 20 57 L r σ K :=
  J_stop d_F_set_57 d_F_set_60 d_F_set_61 (by decide) d_F_set_63 wd_355 wd_392 hdep hcs ht hlim hj
theorem r_F_set_66 {g : jm_G} {d : Nat} {L : List (Option jm_V)} {r : List jm_V} {σ : jm_S} {K : jm_O → Prop} {q : Nat} (hK : K (σ, .inr q)) : J g d 20 66 L (aR 7 q :: r) σ K := J_throw d_F_set_66 rfl hK
theorem r_F_set_81 {g : jm_G} {d : Nat} {L : List (Option jm_V)} {σ : jm_S} {K : jm_O → Prop} (hK : K (σ, .inl none)) : J g d 20 81 L [] σ K := J_vret d_F_set_81 rfl hK
-- IdealProver$Poly come (LIdealProver$Order;LIdealProver$Fraction;III)V
theorem d_P_come_0 : decode prog_9_method_5_code 0 = .ok (.iconst 0, 1) := by decide +kernel
theorem d_P_come_1 : decode prog_9_method_5_code 1 = .ok (.istore 6, 2) := by decide +kernel
theorem d_P_come_3 : decode prog_9_method_5_code 3 = .ok (.iload 6, 2) := by decide +kernel
theorem d_P_come_5 : decode prog_9_method_5_code 5 = .ok (.aload_n 0, 1) := by decide +kernel
theorem d_P_come_6 : decode prog_9_method_5_code 6 = .ok (.getfield 21, 3) := by decide +kernel
theorem d_P_come_9 : decode prog_9_method_5_code 9 = .ok (.if_icmp .ge 25, 3) := by decide +kernel
theorem d_P_come_12 : decode prog_9_method_5_code 12 = .ok (.aload_n 1, 1) := by decide +kernel
theorem d_P_come_13 : decode prog_9_method_5_code 13 = .ok (.aload_n 0, 1) := by decide +kernel
theorem d_P_come_14 : decode prog_9_method_5_code 14 = .ok (.getfield 18, 3) := by decide +kernel
theorem d_P_come_17 : decode prog_9_method_5_code 17 = .ok (.iload 6, 2) := by decide +kernel
theorem d_P_come_19 : decode prog_9_method_5_code 19 = .ok (.iaload, 1) := by decide +kernel
theorem d_P_come_20 : decode prog_9_method_5_code 20 = .ok (.iload 5, 2) := by decide +kernel
theorem d_P_come_22 : decode prog_9_method_5_code 22 = .ok (.invokevirtual 36, 3) := by decide +kernel
theorem d_P_come_25 : decode prog_9_method_5_code 25 = .ok (.ifCond .le 9, 3) := by decide +kernel
theorem d_P_come_28 : decode prog_9_method_5_code 28 = .ok (.iinc 6 1, 3) := by decide +kernel
theorem d_P_come_31 : decode prog_9_method_5_code 31 = .ok (.goto (-28), 3) := by decide +kernel
theorem d_P_come_34 : decode prog_9_method_5_code 34 = .ok (.iload 6, 2) := by decide +kernel
theorem d_P_come_36 : decode prog_9_method_5_code 36 = .ok (.aload_n 0, 1) := by decide +kernel
theorem d_P_come_37 : decode prog_9_method_5_code 37 = .ok (.getfield 21, 3) := by decide +kernel
theorem d_P_come_40 : decode prog_9_method_5_code 40 = .ok (.if_icmp .eq 15, 3) := by decide +kernel
theorem d_P_come_43 : decode prog_9_method_5_code 43 = .ok (.aload_n 0, 1) := by decide +kernel
theorem d_P_come_44 : decode prog_9_method_5_code 44 = .ok (.getfield 18, 3) := by decide +kernel
theorem d_P_come_47 : decode prog_9_method_5_code 47 = .ok (.iload 6, 2) := by decide +kernel
theorem d_P_come_49 : decode prog_9_method_5_code 49 = .ok (.iaload, 1) := by decide +kernel
theorem d_P_come_50 : decode prog_9_method_5_code 50 = .ok (.iload 5, 2) := by decide +kernel
theorem d_P_come_52 : decode prog_9_method_5_code 52 = .ok (.if_icmp .eq 15, 3) := by decide +kernel
theorem d_P_come_55 : decode prog_9_method_5_code 55 = .ok (.aload_n 0, 1) := by decide +kernel
theorem d_P_come_56 : decode prog_9_method_5_code 56 = .ok (.iload 6, 2) := by decide +kernel
theorem d_P_come_58 : decode prog_9_method_5_code 58 = .ok (.iload_n 3, 1) := by decide +kernel
theorem d_P_come_59 : decode prog_9_method_5_code 59 = .ok (.iload 4, 2) := by decide +kernel
theorem d_P_come_61 : decode prog_9_method_5_code 61 = .ok (.iload 5, 2) := by decide +kernel
theorem d_P_come_63 : decode prog_9_method_5_code 63 = .ok (.invokevirtual 42, 3) := by decide +kernel
theorem d_P_come_66 : decode prog_9_method_5_code 66 = .ok (.return_, 1) := by decide +kernel
theorem d_P_come_67 : decode prog_9_method_5_code 67 = .ok (.aload_n 2, 1) := by decide +kernel
theorem d_P_come_68 : decode prog_9_method_5_code 68 = .ok (.aload_n 0, 1) := by decide +kernel
theorem d_P_come_69 : decode prog_9_method_5_code 69 = .ok (.getfield 9, 3) := by decide +kernel
theorem d_P_come_72 : decode prog_9_method_5_code 72 = .ok (.iload 6, 2) := by decide +kernel
theorem d_P_come_74 : decode prog_9_method_5_code 74 = .ok (.iaload, 1) := by decide +kernel
theorem d_P_come_75 : decode prog_9_method_5_code 75 = .ok (.aload_n 0, 1) := by decide +kernel
theorem d_P_come_76 : decode prog_9_method_5_code 76 = .ok (.getfield 15, 3) := by decide +kernel
theorem d_P_come_79 : decode prog_9_method_5_code 79 = .ok (.iload 6, 2) := by decide +kernel
theorem d_P_come_81 : decode prog_9_method_5_code 81 = .ok (.iaload, 1) := by decide +kernel
theorem d_P_come_82 : decode prog_9_method_5_code 82 = .ok (.iload_n 3, 1) := by decide +kernel
theorem d_P_come_83 : decode prog_9_method_5_code 83 = .ok (.iload 4, 2) := by decide +kernel
theorem d_P_come_85 : decode prog_9_method_5_code 85 = .ok (.invokevirtual 46, 3) := by decide +kernel
theorem d_P_come_88 : decode prog_9_method_5_code 88 = .ok (.aload_n 2, 1) := by decide +kernel
theorem d_P_come_89 : decode prog_9_method_5_code 89 = .ok (.getfield 51, 3) := by decide +kernel
theorem d_P_come_92 : decode prog_9_method_5_code 92 = .ok (.ifCond .ne 10, 3) := by decide +kernel
theorem d_P_come_95 : decode prog_9_method_5_code 95 = .ok (.aload_n 0, 1) := by decide +kernel
theorem d_P_come_96 : decode prog_9_method_5_code 96 = .ok (.iload 6, 2) := by decide +kernel
theorem d_P_come_98 : decode prog_9_method_5_code 98 = .ok (.invokevirtual 53, 3) := by decide +kernel
theorem d_P_come_101 : decode prog_9_method_5_code 101 = .ok (.return_, 1) := by decide +kernel
theorem d_P_come_102 : decode prog_9_method_5_code 102 = .ok (.aload_n 0, 1) := by decide +kernel
theorem d_P_come_103 : decode prog_9_method_5_code 103 = .ok (.getfield 9, 3) := by decide +kernel
theorem d_P_come_106 : decode prog_9_method_5_code 106 = .ok (.iload 6, 2) := by decide +kernel
theorem d_P_come_108 : decode prog_9_method_5_code 108 = .ok (.aload_n 2, 1) := by decide +kernel
theorem d_P_come_109 : decode prog_9_method_5_code 109 = .ok (.getfield 51, 3) := by decide +kernel
theorem d_P_come_112 : decode prog_9_method_5_code 112 = .ok (.iastore, 1) := by decide +kernel
theorem d_P_come_113 : decode prog_9_method_5_code 113 = .ok (.aload_n 0, 1) := by decide +kernel
theorem d_P_come_114 : decode prog_9_method_5_code 114 = .ok (.getfield 15, 3) := by decide +kernel
theorem d_P_come_117 : decode prog_9_method_5_code 117 = .ok (.iload 6, 2) := by decide +kernel
theorem d_P_come_119 : decode prog_9_method_5_code 119 = .ok (.aload_n 2, 1) := by decide +kernel
theorem d_P_come_120 : decode prog_9_method_5_code 120 = .ok (.getfield 56, 3) := by decide +kernel
theorem d_P_come_123 : decode prog_9_method_5_code 123 = .ok (.iastore, 1) := by decide +kernel
theorem d_P_come_124 : decode prog_9_method_5_code 124 = .ok (.return_, 1) := by decide +kernel
def tb_P_come_0 : List (Nat × jm_Op) := [(0, oC 0 1), (1, oIs 6 3), (3, oIl 6 5), (5, oAl 0 6), (6, oGi 5 0 9), (9, oIcGe 34 12), (12, oAl 1 13), (13, oAl 0 14), (14, oGr 5 3 8 17), (17, oIl 6 19), (19, oIa 20), (20, oIl 5 22), (25, oIfLe 34 28), (28, oInc 6 1 31), (31, oGo 3), (34, oIl 6 36), (36, oAl 0 37), (37, oGi 5 0 40), (40, oIcEq 55 43), (43, oAl 0 44), (44, oGr 5 3 8 47), (47, oIl 6 49), (49, oIa 50), (50, oIl 5 52), (52, oIcEq 67 55), (55, oAl 0 56), (56, oIl 6 58), (58, oIl 3 59), (59, oIl 4 61), (61, oIl 5 63), (67, oAl 2 68), (68, oAl 0 69), (69, oGr 5 1 8 72), (72, oIl 6 74), (74, oIa 75), (75, oAl 0 76), (76, oGr 5 2 8 79), (79, oIl 6 81), (81, oIa 82), (82, oIl 3 83), (83, oIl 4 85), (88, oAl 2 89), (89, oGi 4 0 92), (92, oIfNe 102 95), (95, oAl 0 96), (96, oIl 6 98), (102, oAl 0 103), (103, oGr 5 1 8 106), (106, oIl 6 108), (108, oAl 2 109)]
theorem ok_P_come_0 : jm_all 23 tb_P_come_0 := ⟨s_iconst d_P_come_0 (by decide), s_istore d_P_come_1 (by decide), s_iload d_P_come_3, s_aload_n d_P_come_5 rfl, s_geti d_P_come_6 ci_P rfl wd_98, s_icmp_ge d_P_come_9 (by decide), s_aload_n d_P_come_12 rfl, s_aload_n d_P_come_13 rfl, s_getr d_P_come_14 ci_P rfl wd_109, s_iload d_P_come_17, s_iaload d_P_come_19, s_iload d_P_come_20, s_if_le d_P_come_25 (by decide), s_iinc d_P_come_28 (by decide) (by decide), s_goto d_P_come_31 (by decide), s_iload d_P_come_34, s_aload_n d_P_come_36 rfl, s_geti d_P_come_37 ci_P rfl wd_98, s_icmp_eq d_P_come_40 (by decide), s_aload_n d_P_come_43 rfl, s_getr d_P_come_44 ci_P rfl wd_109, s_iload d_P_come_47, s_iaload d_P_come_49, s_iload d_P_come_50, s_icmp_eq d_P_come_52 (by decide), s_aload_n d_P_come_55 rfl, s_iload d_P_come_56, s_iload_n d_P_come_58 rfl, s_iload d_P_come_59, s_iload d_P_come_61, s_aload_n d_P_come_67 rfl, s_aload_n d_P_come_68 rfl, s_getr d_P_come_69 ci_P rfl wd_101, s_iload d_P_come_72, s_iaload d_P_come_74, s_aload_n d_P_come_75 rfl, s_getr d_P_come_76 ci_P rfl wd_105, s_iload d_P_come_79, s_iaload d_P_come_81, s_iload_n d_P_come_82 rfl, s_iload d_P_come_83, s_aload_n d_P_come_88 rfl, s_getiN d_P_come_89 ci_F rfl wd_135, s_if_ne d_P_come_92 (by decide), s_aload_n d_P_come_95 rfl, s_iload d_P_come_96, s_aload_n d_P_come_102 rfl, s_getr d_P_come_103 ci_P rfl wd_101, s_iload d_P_come_106, s_aload_n d_P_come_108 rfl, trivial⟩
def tb_P_come_1 : List (Nat × jm_Op) := [(109, oGi 4 0 112), (112, oIw 113), (113, oAl 0 114), (114, oGr 5 2 8 117), (117, oIl 6 119), (119, oAl 2 120), (120, oGi 4 1 123), (123, oIw 124)]
theorem ok_P_come_1 : jm_all 23 tb_P_come_1 := ⟨s_getiN d_P_come_109 ci_F rfl wd_135, s_iastore d_P_come_112, s_aload_n d_P_come_113 rfl, s_getr d_P_come_114 ci_P rfl wd_105, s_iload d_P_come_117, s_aload_n d_P_come_119 rfl, s_getiN d_P_come_120 ci_F rfl wd_139, s_iastore d_P_come_123, trivial⟩
def tb_P_come : List (Nat × jm_Op) := tb_P_come_0 ++ tb_P_come_1
theorem ok_P_come : jm_all 23 tb_P_come := jm_all_app ok_P_come_0 ok_P_come_1
theorem k_P_come_22_1 {g : jm_G} {d : Nat} {L : List (Option jm_V)} {r : List jm_V} {σ : jm_S} {K K' : jm_O → Prop} {q0 : Nat} {x0 : Int32} {x1 : Int32} (hq : q0 = goa g 0) (hr : Nat.ble (jm_cs r) 8 = true) (hcal : J g d 11 0 [some (aR 13 q0), some (aI x0), some (aI x1)] [] σ K') (hk : ∀ u, K' u → jm_aft g (d + 1) 23 22 L r u K) : J g (d + 1) 23 22 L (aI x1 :: aI x0 :: aR 13 q0 :: r) σ K :=
  J_call' (id' := 11) jm_sk (vs := [aR 13 q0, aI x0, aI x1]) (inv_O (id' := 11) (y := ⟨"IdealProver$Order", "compare", "(II)I"⟩) (j := 0) (by decide) hq d_P_come_22 wd_304 wd_305 wd_306 wd_308 wd_307 (by decide) pn_O1_compare) cw_O1_compare (by decide) (by decide) (Nat.le_of_ble_eq_true rfl) rfl hr rfl hcal hk
theorem k_P_come_22_2 {g : jm_G} {d : Nat} {L : List (Option jm_V)} {r : List jm_V} {σ : jm_S} {K K' : jm_O → Prop} {q0 : Nat} {x0 : Int32} {x1 : Int32} (hq : q0 = goa g 1) (hr : Nat.ble (jm_cs r) 8 = true) (hcal : J g d 12 0 [some (aR 13 q0), some (aI x0), some (aI x1)] [] σ K') (hk : ∀ u, K' u → jm_aft g (d + 1) 23 22 L r u K) : J g (d + 1) 23 22 L (aI x1 :: aI x0 :: aR 13 q0 :: r) σ K :=
  J_call' (id' := 12) jm_sk (vs := [aR 13 q0, aI x0, aI x1]) (inv_O (id' := 12) (y := ⟨"IdealProver$Order", "compare", "(II)I"⟩) (j := 1) (by decide) hq d_P_come_22 wd_304 wd_305 wd_306 wd_311 wd_310 (by decide) pn_O1_compare) cw_O2_compare (by decide) (by decide) (Nat.le_of_ble_eq_true rfl) rfl hr rfl hcal hk
theorem k_P_come_22_3 {g : jm_G} {d : Nat} {L : List (Option jm_V)} {r : List jm_V} {σ : jm_S} {K K' : jm_O → Prop} {q0 : Nat} {x0 : Int32} {x1 : Int32} (hq : q0 = goa g 2) (hr : Nat.ble (jm_cs r) 8 = true) (hcal : J g d 15 0 [some (aR 13 q0), some (aI x0), some (aI x1), none] [] σ K') (hk : ∀ u, K' u → jm_aft g (d + 1) 23 22 L r u K) : J g (d + 1) 23 22 L (aI x1 :: aI x0 :: aR 13 q0 :: r) σ K :=
  J_call' (id' := 15) jm_sk (vs := [aR 13 q0, aI x0, aI x1]) (inv_O (id' := 15) (y := ⟨"IdealProver$Order", "compare", "(II)I"⟩) (j := 2) (by decide) hq d_P_come_22 wd_304 wd_305 wd_306 wd_320 wd_319 (by decide) pn_O1_compare) cw_O3_compare (by decide) (by decide) (Nat.le_of_ble_eq_true rfl) rfl hr rfl hcal hk
theorem k_P_come_63 {g : jm_G} {d : Nat} {L : List (Option jm_V)} {r : List jm_V} {σ : jm_S} {K K' : jm_O → Prop} {q0 : Nat} {x0 : Int32} {x1 : Int32} {x2 : Int32} {x3 : Int32} (hr : Nat.ble (jm_cs r) 8 = true) (hcal : J g d 24 0 [some (aR 5 q0), some (aI x0), some (aI x1), some (aI x2), some (aI x3), none] [] σ K') (hk : ∀ u, K' u → jm_aft g (d + 1) 23 63 L r u K) : J g (d + 1) 23 63 L (aI x3 :: aI x2 :: aI x1 :: aI x0 :: aR 5 q0 :: r) σ K :=
  J_call' (id' := 24) jm_sk (vs := [aR 5 q0, aI x0, aI x1, aI x2, aI x3]) (inv_V (id' := 24) d_P_come_63 ci_P wd_419 wd_421 wd_3 cw_P_insert (by decide) pn_P_insert) cw_P_insert (by decide) (by decide) (Nat.le_of_ble_eq_true rfl) rfl hr rfl hcal hk
theorem r_P_come_66 {g : jm_G} {d : Nat} {L : List (Option jm_V)} {σ : jm_S} {K : jm_O → Prop} (hK : K (σ, .inl none)) : J g d 23 66 L [] σ K := J_vret d_P_come_66 rfl hK
theorem k_P_come_85 {g : jm_G} {d : Nat} {L : List (Option jm_V)} {r : List jm_V} {σ : jm_S} {K K' : jm_O → Prop} {q0 : Nat} {x0 : Int32} {x1 : Int32} {x2 : Int32} {x3 : Int32} (hr : Nat.ble (jm_cs r) 8 = true) (hcal : J g d 25 0 [some (aR 4 q0), some (aI x0), some (aI x1), some (aI x2), some (aI x3)] [] σ K') (hk : ∀ u, K' u → jm_aft g (d + 1) 23 85 L r u K) : J g (d + 1) 23 85 L (aI x3 :: aI x2 :: aI x1 :: aI x0 :: aR 4 q0 :: r) σ K :=
  J_call' (id' := 25) jm_sk (vs := [aR 4 q0, aI x0, aI x1, aI x2, aI x3]) (inv_V (id' := 25) d_P_come_85 ci_F wd_425 wd_426 wd_427 cw_F_plus (by decide) pn_F_plus) cw_F_plus (by decide) (by decide) (Nat.le_of_ble_eq_true rfl) rfl hr rfl hcal hk
theorem k_P_come_98 {g : jm_G} {d : Nat} {L : List (Option jm_V)} {r : List jm_V} {σ : jm_S} {K K' : jm_O → Prop} {q0 : Nat} {x0 : Int32} (hr : Nat.ble (jm_cs r) 8 = true) (hcal : J g d 26 0 [some (aR 5 q0), some (aI x0), none] [] σ K') (hk : ∀ u, K' u → jm_aft g (d + 1) 23 98 L r u K) : J g (d + 1) 23 98 L (aI x0 :: aR 5 q0 :: r) σ K :=
  J_call' (id' := 26) jm_sk (vs := [aR 5 q0, aI x0]) (inv_V (id' := 26) d_P_come_98 ci_P wd_430 wd_432 wd_4 cw_P_remove (by decide) pn_P_remove) cw_P_remove (by decide) (by decide) (Nat.le_of_ble_eq_true rfl) rfl hr rfl hcal hk
theorem r_P_come_101 {g : jm_G} {d : Nat} {L : List (Option jm_V)} {σ : jm_S} {K : jm_O → Prop} (hK : K (σ, .inl none)) : J g d 23 101 L [] σ K := J_vret d_P_come_101 rfl hK
theorem r_P_come_124 {g : jm_G} {d : Nat} {L : List (Option jm_V)} {σ : jm_S} {K : jm_O → Prop} (hK : K (σ, .inl none)) : J g d 23 124 L [] σ K := J_vret d_P_come_124 rfl hK
-- IdealProver$Poly insert (IIII)V
theorem d_P_insert_0 : decode prog_9_method_4_code 0 = .ok (.aload_n 0, 1) := by decide +kernel
theorem d_P_insert_1 : decode prog_9_method_4_code 1 = .ok (.getfield 21, 3) := by decide +kernel
theorem d_P_insert_4 : decode prog_9_method_4_code 4 = .ok (.bipush 100, 2) := by decide +kernel
theorem d_P_insert_6 : decode prog_9_method_4_code 6 = .ok (.if_icmp .ne 13, 3) := by decide +kernel
theorem d_P_insert_9 : decode prog_9_method_4_code 9 = .ok (.new 31, 3) := by decide +kernel
theorem d_P_insert_12 : decode prog_9_method_4_code 12 = .ok (.dup, 1) := by decide +kernel
theorem d_P_insert_13 : decode prog_9_method_4_code 13 = .ok (.bipush (-7), 2) := by decide +kernel
theorem d_P_insert_15 : decode prog_9_method_4_code 15 = .ok (.invokespecial 33, 3) := by decide +kernel
theorem d_P_insert_18 : decode prog_9_method_4_code 18 = .ok (.athrow, 1) := by decide +kernel
theorem d_P_insert_19 : decode prog_9_method_4_code 19 = .ok (.aload_n 0, 1) := by decide +kernel
theorem d_P_insert_20 : decode prog_9_method_4_code 20 = .ok (.getfield 21, 3) := by decide +kernel
theorem d_P_insert_23 : decode prog_9_method_4_code 23 = .ok (.istore 5, 2) := by decide +kernel
theorem d_P_insert_25 : decode prog_9_method_4_code 25 = .ok (.iload 5, 2) := by decide +kernel
theorem d_P_insert_27 : decode prog_9_method_4_code 27 = .ok (.iload_n 1, 1) := by decide +kernel
theorem d_P_insert_28 : decode prog_9_method_4_code 28 = .ok (.if_icmp .le 57, 3) := by decide +kernel
theorem d_P_insert_31 : decode prog_9_method_4_code 31 = .ok (.aload_n 0, 1) := by decide +kernel
theorem d_P_insert_32 : decode prog_9_method_4_code 32 = .ok (.getfield 9, 3) := by decide +kernel
theorem d_P_insert_35 : decode prog_9_method_4_code 35 = .ok (.iload 5, 2) := by decide +kernel
theorem d_P_insert_37 : decode prog_9_method_4_code 37 = .ok (.aload_n 0, 1) := by decide +kernel
theorem d_P_insert_38 : decode prog_9_method_4_code 38 = .ok (.getfield 9, 3) := by decide +kernel
theorem d_P_insert_41 : decode prog_9_method_4_code 41 = .ok (.iload 5, 2) := by decide +kernel
theorem d_P_insert_43 : decode prog_9_method_4_code 43 = .ok (.iconst 1, 1) := by decide +kernel
theorem d_P_insert_44 : decode prog_9_method_4_code 44 = .ok (.isub, 1) := by decide +kernel
theorem d_P_insert_45 : decode prog_9_method_4_code 45 = .ok (.iaload, 1) := by decide +kernel
theorem d_P_insert_46 : decode prog_9_method_4_code 46 = .ok (.iastore, 1) := by decide +kernel
theorem d_P_insert_47 : decode prog_9_method_4_code 47 = .ok (.aload_n 0, 1) := by decide +kernel
theorem d_P_insert_48 : decode prog_9_method_4_code 48 = .ok (.getfield 15, 3) := by decide +kernel
theorem d_P_insert_51 : decode prog_9_method_4_code 51 = .ok (.iload 5, 2) := by decide +kernel
theorem d_P_insert_53 : decode prog_9_method_4_code 53 = .ok (.aload_n 0, 1) := by decide +kernel
theorem d_P_insert_54 : decode prog_9_method_4_code 54 = .ok (.getfield 15, 3) := by decide +kernel
theorem d_P_insert_57 : decode prog_9_method_4_code 57 = .ok (.iload 5, 2) := by decide +kernel
theorem d_P_insert_59 : decode prog_9_method_4_code 59 = .ok (.iconst 1, 1) := by decide +kernel
theorem d_P_insert_60 : decode prog_9_method_4_code 60 = .ok (.isub, 1) := by decide +kernel
theorem d_P_insert_61 : decode prog_9_method_4_code 61 = .ok (.iaload, 1) := by decide +kernel
theorem d_P_insert_62 : decode prog_9_method_4_code 62 = .ok (.iastore, 1) := by decide +kernel
theorem d_P_insert_63 : decode prog_9_method_4_code 63 = .ok (.aload_n 0, 1) := by decide +kernel
theorem d_P_insert_64 : decode prog_9_method_4_code 64 = .ok (.getfield 18, 3) := by decide +kernel
theorem d_P_insert_67 : decode prog_9_method_4_code 67 = .ok (.iload 5, 2) := by decide +kernel
theorem d_P_insert_69 : decode prog_9_method_4_code 69 = .ok (.aload_n 0, 1) := by decide +kernel
theorem d_P_insert_70 : decode prog_9_method_4_code 70 = .ok (.getfield 18, 3) := by decide +kernel
theorem d_P_insert_73 : decode prog_9_method_4_code 73 = .ok (.iload 5, 2) := by decide +kernel
theorem d_P_insert_75 : decode prog_9_method_4_code 75 = .ok (.iconst 1, 1) := by decide +kernel
theorem d_P_insert_76 : decode prog_9_method_4_code 76 = .ok (.isub, 1) := by decide +kernel
theorem d_P_insert_77 : decode prog_9_method_4_code 77 = .ok (.iaload, 1) := by decide +kernel
theorem d_P_insert_78 : decode prog_9_method_4_code 78 = .ok (.iastore, 1) := by decide +kernel
theorem d_P_insert_79 : decode prog_9_method_4_code 79 = .ok (.iinc 5 (-1), 3) := by decide +kernel
theorem d_P_insert_82 : decode prog_9_method_4_code 82 = .ok (.goto (-57), 3) := by decide +kernel
theorem d_P_insert_85 : decode prog_9_method_4_code 85 = .ok (.aload_n 0, 1) := by decide +kernel
theorem d_P_insert_86 : decode prog_9_method_4_code 86 = .ok (.getfield 9, 3) := by decide +kernel
theorem d_P_insert_89 : decode prog_9_method_4_code 89 = .ok (.iload_n 1, 1) := by decide +kernel
theorem d_P_insert_90 : decode prog_9_method_4_code 90 = .ok (.iload_n 2, 1) := by decide +kernel
theorem d_P_insert_91 : decode prog_9_method_4_code 91 = .ok (.iastore, 1) := by decide +kernel
theorem d_P_insert_92 : decode prog_9_method_4_code 92 = .ok (.aload_n 0, 1) := by decide +kernel
theorem d_P_insert_93 : decode prog_9_method_4_code 93 = .ok (.getfield 15, 3) := by decide +kernel
theorem d_P_insert_96 : decode prog_9_method_4_code 96 = .ok (.iload_n 1, 1) := by decide +kernel
theorem d_P_insert_97 : decode prog_9_method_4_code 97 = .ok (.iload_n 3, 1) := by decide +kernel
theorem d_P_insert_98 : decode prog_9_method_4_code 98 = .ok (.iastore, 1) := by decide +kernel
theorem d_P_insert_99 : decode prog_9_method_4_code 99 = .ok (.aload_n 0, 1) := by decide +kernel
theorem d_P_insert_100 : decode prog_9_method_4_code 100 = .ok (.getfield 18, 3) := by decide +kernel
theorem d_P_insert_103 : decode prog_9_method_4_code 103 = .ok (.iload_n 1, 1) := by decide +kernel
theorem d_P_insert_104 : decode prog_9_method_4_code 104 = .ok (.iload 4, 2) := by decide +kernel
theorem d_P_insert_106 : decode prog_9_method_4_code 106 = .ok (.iastore, 1) := by decide +kernel
theorem d_P_insert_107 : decode prog_9_method_4_code 107 = .ok (.aload_n 0, 1) := by decide +kernel
theorem d_P_insert_108 : decode prog_9_method_4_code 108 = .ok (.dup, 1) := by decide +kernel
theorem d_P_insert_109 : decode prog_9_method_4_code 109 = .ok (.getfield 21, 3) := by decide +kernel
theorem d_P_insert_112 : decode prog_9_method_4_code 112 = .ok (.iconst 1, 1) := by decide +kernel
theorem d_P_insert_113 : decode prog_9_method_4_code 113 = .ok (.iadd, 1) := by decide +kernel
theorem d_P_insert_114 : decode prog_9_method_4_code 114 = .ok (.putfield 21, 3) := by decide +kernel
theorem d_P_insert_117 : decode prog_9_method_4_code 117 = .ok (.return_, 1) := by decide +kernel
def tb_P_insert_0 : List (Nat × jm_Op) := [(0, oAl 0 1), (1, oGi 5 0 4), (4, oC 100 6), (6, oIcNe 19 9), (19, oAl 0 20), (20, oGi 5 0 23), (23, oIs 5 25), (25, oIl 5 27), (27, oIl 1 28), (28, oIcLe 85 31), (31, oAl 0 32), (32, oGr 5 1 8 35), (35, oIl 5 37), (37, oAl 0 38), (38, oGr 5 1 8 41), (41, oIl 5 43), (43, oC 1 44), (44, oSub 45), (45, oIa 46), (46, oIw 47), (47, oAl 0 48), (48, oGr 5 2 8 51), (51, oIl 5 53), (53, oAl 0 54), (54, oGr 5 2 8 57), (57, oIl 5 59), (59, oC 1 60), (60, oSub 61), (61, oIa 62), (62, oIw 63), (63, oAl 0 64), (64, oGr 5 3 8 67), (67, oIl 5 69), (69, oAl 0 70), (70, oGr 5 3 8 73), (73, oIl 5 75), (75, oC 1 76), (76, oSub 77), (77, oIa 78), (78, oIw 79), (79, oInc 5 (-1) 82), (82, oGo 25), (85, oAl 0 86), (86, oGr 5 1 8 89), (89, oIl 1 90), (90, oIl 2 91), (91, oIw 92), (92, oAl 0 93), (93, oGr 5 2 8 96), (96, oIl 1 97)]
theorem ok_P_insert_0 : jm_all 24 tb_P_insert_0 := ⟨s_aload_n d_P_insert_0 rfl, s_geti d_P_insert_1 ci_P rfl wd_98, s_bipush d_P_insert_4 (by decide), s_icmp_ne d_P_insert_6 (by decide), s_aload_n d_P_insert_19 rfl, s_geti d_P_insert_20 ci_P rfl wd_98, s_istore d_P_insert_23 (by decide), s_iload d_P_insert_25, s_iload_n d_P_insert_27 rfl, s_icmp_le d_P_insert_28 (by decide), s_aload_n d_P_insert_31 rfl, s_getr d_P_insert_32 ci_P rfl wd_101, s_iload d_P_insert_35, s_aload_n d_P_insert_37 rfl, s_getr d_P_insert_38 ci_P rfl wd_101, s_iload d_P_insert_41, s_iconst d_P_insert_43 (by decide), s_isub d_P_insert_44, s_iaload d_P_insert_45, s_iastore d_P_insert_46, s_aload_n d_P_insert_47 rfl, s_getr d_P_insert_48 ci_P rfl wd_105, s_iload d_P_insert_51, s_aload_n d_P_insert_53 rfl, s_getr d_P_insert_54 ci_P rfl wd_105, s_iload d_P_insert_57, s_iconst d_P_insert_59 (by decide), s_isub d_P_insert_60, s_iaload d_P_insert_61, s_iastore d_P_insert_62, s_aload_n d_P_insert_63 rfl, s_getr d_P_insert_64 ci_P rfl wd_109, s_iload d_P_insert_67, s_aload_n d_P_insert_69 rfl, s_getr d_P_insert_70 ci_P rfl wd_109, s_iload d_P_insert_73, s_iconst d_P_insert_75 (by decide), s_isub d_P_insert_76, s_iaload d_P_insert_77, s_iastore d_P_insert_78, s_iinc d_P_insert_79 (by decide) (by decide), s_goto d_P_insert_82 (by decide), s_aload_n d_P_insert_85 rfl, s_getr d_P_insert_86 ci_P rfl wd_101, s_iload_n d_P_insert_89 rfl, s_iload_n d_P_insert_90 rfl, s_iastore d_P_insert_91, s_aload_n d_P_insert_92 rfl, s_getr d_P_insert_93 ci_P rfl wd_105, s_iload_n d_P_insert_96 rfl, trivial⟩
def tb_P_insert_1 : List (Nat × jm_Op) := [(97, oIl 3 98), (98, oIw 99), (99, oAl 0 100), (100, oGr 5 3 8 103), (103, oIl 1 104), (104, oIl 4 106), (106, oIw 107), (107, oAl 0 108), (108, oDup 109), (109, oGi 5 0 112), (112, oC 1 113), (113, oAdd 114), (114, oPi 5 0 117)]
theorem ok_P_insert_1 : jm_all 24 tb_P_insert_1 := ⟨s_iload_n d_P_insert_97 rfl, s_iastore d_P_insert_98, s_aload_n d_P_insert_99 rfl, s_getr d_P_insert_100 ci_P rfl wd_109, s_iload_n d_P_insert_103 rfl, s_iload d_P_insert_104, s_iastore d_P_insert_106, s_aload_n d_P_insert_107 rfl, s_dup d_P_insert_108, s_geti d_P_insert_109 ci_P rfl wd_98, s_iconst d_P_insert_112 (by decide), s_iadd d_P_insert_113, s_puti d_P_insert_114 ci_P rfl rfl rfl wd_98, trivial⟩
def tb_P_insert : List (Nat × jm_Op) := tb_P_insert_0 ++ tb_P_insert_1
theorem ok_P_insert : jm_all 24 tb_P_insert := jm_all_app ok_P_insert_0 ok_P_insert_1
theorem k_P_insert_9 {g : jm_G} {d : Nat} {L : List (Option jm_V)} {r : List jm_V} {σ : jm_S} {K : jm_O → Prop} (hdep : 4 ≤ d) (hcs : Nat.ble (jm_cs r) 6 = true) (ht : gdm g (jm_hs σ) = 7) (hlim : jm_hs σ + 1 ≤ gb g + 601024 ∧ jm_ns σ + 7 ≤ 7293000) (hj : J g d 24 18 L (aR 7 (jm_hs σ) :: r) (jm_wi (jm_nw σ 7) (jm_hs σ) 0 (-7)) K) : J g d 24 9 L r σ K :=
  J_stop d_P_insert_9 d_P_insert_12 d_P_insert_13 (by decide) d_P_insert_15 wd_423 wd_424 hdep hcs ht hlim hj
theorem r_P_insert_18 {g : jm_G} {d : Nat} {L : List (Option jm_V)} {r : List jm_V} {σ : jm_S} {K : jm_O → Prop} {q : Nat} (hK : K (σ, .inr q)) : J g d 24 18 L (aR 7 q :: r) σ K := J_throw d_P_insert_18 rfl hK
theorem r_P_insert_117 {g : jm_G} {d : Nat} {L : List (Option jm_V)} {σ : jm_S} {K : jm_O → Prop} (hK : K (σ, .inl none)) : J g d 24 117 L [] σ K := J_vret d_P_insert_117 rfl hK
-- IdealProver$Fraction plus (IIII)V
theorem d_F_plus_0 : decode prog_4_method_4_code 0 = .ok (.aload_n 0, 1) := by decide +kernel
theorem d_F_plus_1 : decode prog_4_method_4_code 1 = .ok (.iload_n 1, 1) := by decide +kernel
theorem d_F_plus_2 : decode prog_4_method_4_code 2 = .ok (.i2l, 1) := by decide +kernel
theorem d_F_plus_3 : decode prog_4_method_4_code 3 = .ok (.iload 4, 2) := by decide +kernel
theorem d_F_plus_5 : decode prog_4_method_4_code 5 = .ok (.i2l, 1) := by decide +kernel
theorem d_F_plus_6 : decode prog_4_method_4_code 6 = .ok (.lmul, 1) := by decide +kernel
theorem d_F_plus_7 : decode prog_4_method_4_code 7 = .ok (.iload_n 3, 1) := by decide +kernel
theorem d_F_plus_8 : decode prog_4_method_4_code 8 = .ok (.i2l, 1) := by decide +kernel
theorem d_F_plus_9 : decode prog_4_method_4_code 9 = .ok (.iload_n 2, 1) := by decide +kernel
theorem d_F_plus_10 : decode prog_4_method_4_code 10 = .ok (.i2l, 1) := by decide +kernel
theorem d_F_plus_11 : decode prog_4_method_4_code 11 = .ok (.lmul, 1) := by decide +kernel
theorem d_F_plus_12 : decode prog_4_method_4_code 12 = .ok (.ladd, 1) := by decide +kernel
theorem d_F_plus_13 : decode prog_4_method_4_code 13 = .ok (.iload_n 2, 1) := by decide +kernel
theorem d_F_plus_14 : decode prog_4_method_4_code 14 = .ok (.i2l, 1) := by decide +kernel
theorem d_F_plus_15 : decode prog_4_method_4_code 15 = .ok (.iload 4, 2) := by decide +kernel
theorem d_F_plus_17 : decode prog_4_method_4_code 17 = .ok (.i2l, 1) := by decide +kernel
theorem d_F_plus_18 : decode prog_4_method_4_code 18 = .ok (.lmul, 1) := by decide +kernel
theorem d_F_plus_19 : decode prog_4_method_4_code 19 = .ok (.invokevirtual 35, 3) := by decide +kernel
theorem d_F_plus_22 : decode prog_4_method_4_code 22 = .ok (.return_, 1) := by decide +kernel
def tb_F_plus : List (Nat × jm_Op) := [(0, oAl 0 1), (1, oIl 1 2), (2, oI2L 3), (3, oIl 4 5), (5, oI2L 6), (6, oLMul 7), (7, oIl 3 8), (8, oI2L 9), (9, oIl 2 10), (10, oI2L 11), (11, oLMul 12), (12, oLAdd 13), (13, oIl 2 14), (14, oI2L 15), (15, oIl 4 17), (17, oI2L 18), (18, oLMul 19)]
theorem ok_F_plus : jm_all 25 tb_F_plus := ⟨s_aload_n d_F_plus_0 rfl, s_iload_n d_F_plus_1 rfl, s_i2l d_F_plus_2, s_iload d_F_plus_3, s_i2l d_F_plus_5, s_lmul d_F_plus_6, s_iload_n d_F_plus_7 rfl, s_i2l d_F_plus_8, s_iload_n d_F_plus_9 rfl, s_i2l d_F_plus_10, s_lmul d_F_plus_11, s_ladd d_F_plus_12, s_iload_n d_F_plus_13 rfl, s_i2l d_F_plus_14, s_iload d_F_plus_15, s_i2l d_F_plus_17, s_lmul d_F_plus_18, trivial⟩
theorem k_F_plus_19 {g : jm_G} {d : Nat} {L : List (Option jm_V)} {r : List jm_V} {σ : jm_S} {K K' : jm_O → Prop} {q0 : Nat} {x0 : Int64} {x1 : Int64} (hr : Nat.ble (jm_cs r) 8 = true) (hcal : J g d 20 0 [some (aR 4 q0), some (aL x0), none, some (aL x1), none, none, none, none, none, none, none] [] σ K') (hk : ∀ u, K' u → jm_aft g (d + 1) 25 19 L r u K) : J g (d + 1) 25 19 L (aL x1 :: aL x0 :: aR 4 q0 :: r) σ K :=
  J_call' (id' := 20) jm_sk (vs := [aR 4 q0, aL x0, aL x1]) (inv_V (id' := 20) d_F_plus_19 ci_F wd_429 wd_348 wd_1 cw_F_set (by decide) pn_F_set) cw_F_set (by decide) (by decide) (Nat.le_of_ble_eq_true rfl) rfl hr rfl hcal hk
theorem r_F_plus_22 {g : jm_G} {d : Nat} {L : List (Option jm_V)} {σ : jm_S} {K : jm_O → Prop} (hK : K (σ, .inl none)) : J g d 25 22 L [] σ K := J_vret d_F_plus_22 rfl hK
-- IdealProver$Poly remove (I)V
theorem d_P_remove_0 : decode prog_9_method_3_code 0 = .ok (.aload_n 0, 1) := by decide +kernel
theorem d_P_remove_1 : decode prog_9_method_3_code 1 = .ok (.dup, 1) := by decide +kernel
theorem d_P_remove_2 : decode prog_9_method_3_code 2 = .ok (.getfield 21, 3) := by decide +kernel
theorem d_P_remove_5 : decode prog_9_method_3_code 5 = .ok (.iconst 1, 1) := by decide +kernel
theorem d_P_remove_6 : decode prog_9_method_3_code 6 = .ok (.isub, 1) := by decide +kernel
theorem d_P_remove_7 : decode prog_9_method_3_code 7 = .ok (.putfield 21, 3) := by decide +kernel
theorem d_P_remove_10 : decode prog_9_method_3_code 10 = .ok (.iload_n 1, 1) := by decide +kernel
theorem d_P_remove_11 : decode prog_9_method_3_code 11 = .ok (.istore_n 2, 1) := by decide +kernel
theorem d_P_remove_12 : decode prog_9_method_3_code 12 = .ok (.iload_n 2, 1) := by decide +kernel
theorem d_P_remove_13 : decode prog_9_method_3_code 13 = .ok (.aload_n 0, 1) := by decide +kernel
theorem d_P_remove_14 : decode prog_9_method_3_code 14 = .ok (.getfield 21, 3) := by decide +kernel
theorem d_P_remove_17 : decode prog_9_method_3_code 17 = .ok (.if_icmp .ge 51, 3) := by decide +kernel
theorem d_P_remove_20 : decode prog_9_method_3_code 20 = .ok (.aload_n 0, 1) := by decide +kernel
theorem d_P_remove_21 : decode prog_9_method_3_code 21 = .ok (.getfield 9, 3) := by decide +kernel
theorem d_P_remove_24 : decode prog_9_method_3_code 24 = .ok (.iload_n 2, 1) := by decide +kernel
theorem d_P_remove_25 : decode prog_9_method_3_code 25 = .ok (.aload_n 0, 1) := by decide +kernel
theorem d_P_remove_26 : decode prog_9_method_3_code 26 = .ok (.getfield 9, 3) := by decide +kernel
theorem d_P_remove_29 : decode prog_9_method_3_code 29 = .ok (.iload_n 2, 1) := by decide +kernel
theorem d_P_remove_30 : decode prog_9_method_3_code 30 = .ok (.iconst 1, 1) := by decide +kernel
theorem d_P_remove_31 : decode prog_9_method_3_code 31 = .ok (.iadd, 1) := by decide +kernel
theorem d_P_remove_32 : decode prog_9_method_3_code 32 = .ok (.iaload, 1) := by decide +kernel
theorem d_P_remove_33 : decode prog_9_method_3_code 33 = .ok (.iastore, 1) := by decide +kernel
theorem d_P_remove_34 : decode prog_9_method_3_code 34 = .ok (.aload_n 0, 1) := by decide +kernel
theorem d_P_remove_35 : decode prog_9_method_3_code 35 = .ok (.getfield 15, 3) := by decide +kernel
theorem d_P_remove_38 : decode prog_9_method_3_code 38 = .ok (.iload_n 2, 1) := by decide +kernel
theorem d_P_remove_39 : decode prog_9_method_3_code 39 = .ok (.aload_n 0, 1) := by decide +kernel
theorem d_P_remove_40 : decode prog_9_method_3_code 40 = .ok (.getfield 15, 3) := by decide +kernel
theorem d_P_remove_43 : decode prog_9_method_3_code 43 = .ok (.iload_n 2, 1) := by decide +kernel
theorem d_P_remove_44 : decode prog_9_method_3_code 44 = .ok (.iconst 1, 1) := by decide +kernel
theorem d_P_remove_45 : decode prog_9_method_3_code 45 = .ok (.iadd, 1) := by decide +kernel
theorem d_P_remove_46 : decode prog_9_method_3_code 46 = .ok (.iaload, 1) := by decide +kernel
theorem d_P_remove_47 : decode prog_9_method_3_code 47 = .ok (.iastore, 1) := by decide +kernel
theorem d_P_remove_48 : decode prog_9_method_3_code 48 = .ok (.aload_n 0, 1) := by decide +kernel
theorem d_P_remove_49 : decode prog_9_method_3_code 49 = .ok (.getfield 18, 3) := by decide +kernel
theorem d_P_remove_52 : decode prog_9_method_3_code 52 = .ok (.iload_n 2, 1) := by decide +kernel
theorem d_P_remove_53 : decode prog_9_method_3_code 53 = .ok (.aload_n 0, 1) := by decide +kernel
theorem d_P_remove_54 : decode prog_9_method_3_code 54 = .ok (.getfield 18, 3) := by decide +kernel
theorem d_P_remove_57 : decode prog_9_method_3_code 57 = .ok (.iload_n 2, 1) := by decide +kernel
theorem d_P_remove_58 : decode prog_9_method_3_code 58 = .ok (.iconst 1, 1) := by decide +kernel
theorem d_P_remove_59 : decode prog_9_method_3_code 59 = .ok (.iadd, 1) := by decide +kernel
theorem d_P_remove_60 : decode prog_9_method_3_code 60 = .ok (.iaload, 1) := by decide +kernel
theorem d_P_remove_61 : decode prog_9_method_3_code 61 = .ok (.iastore, 1) := by decide +kernel
theorem d_P_remove_62 : decode prog_9_method_3_code 62 = .ok (.iinc 2 1, 3) := by decide +kernel
theorem d_P_remove_65 : decode prog_9_method_3_code 65 = .ok (.goto (-53), 3) := by decide +kernel
theorem d_P_remove_68 : decode prog_9_method_3_code 68 = .ok (.return_, 1) := by decide +kernel
def tb_P_remove : List (Nat × jm_Op) := [(0, oAl 0 1), (1, oDup 2), (2, oGi 5 0 5), (5, oC 1 6), (6, oSub 7), (7, oPi 5 0 10), (10, oIl 1 11), (11, oIs 2 12), (12, oIl 2 13), (13, oAl 0 14), (14, oGi 5 0 17), (17, oIcGe 68 20), (20, oAl 0 21), (21, oGr 5 1 8 24), (24, oIl 2 25), (25, oAl 0 26), (26, oGr 5 1 8 29), (29, oIl 2 30), (30, oC 1 31), (31, oAdd 32), (32, oIa 33), (33, oIw 34), (34, oAl 0 35), (35, oGr 5 2 8 38), (38, oIl 2 39), (39, oAl 0 40), (40, oGr 5 2 8 43), (43, oIl 2 44), (44, oC 1 45), (45, oAdd 46), (46, oIa 47), (47, oIw 48), (48, oAl 0 49), (49, oGr 5 3 8 52), (52, oIl 2 53), (53, oAl 0 54), (54, oGr 5 3 8 57), (57, oIl 2 58), (58, oC 1 59), (59, oAdd 60), (60, oIa 61), (61, oIw 62), (62, oInc 2 1 65), (65, oGo 12)]
theorem ok_P_remove : jm_all 26 tb_P_remove := ⟨s_aload_n d_P_remove_0 rfl, s_dup d_P_remove_1, s_geti d_P_remove_2 ci_P rfl wd_98, s_iconst d_P_remove_5 (by decide), s_isub d_P_remove_6, s_puti d_P_remove_7 ci_P rfl rfl rfl wd_98, s_iload_n d_P_remove_10 rfl, s_istore_n d_P_remove_11 rfl (by decide), s_iload_n d_P_remove_12 rfl, s_aload_n d_P_remove_13 rfl, s_geti d_P_remove_14 ci_P rfl wd_98, s_icmp_ge d_P_remove_17 (by decide), s_aload_n d_P_remove_20 rfl, s_getr d_P_remove_21 ci_P rfl wd_101, s_iload_n d_P_remove_24 rfl, s_aload_n d_P_remove_25 rfl, s_getr d_P_remove_26 ci_P rfl wd_101, s_iload_n d_P_remove_29 rfl, s_iconst d_P_remove_30 (by decide), s_iadd d_P_remove_31, s_iaload d_P_remove_32, s_iastore d_P_remove_33, s_aload_n d_P_remove_34 rfl, s_getr d_P_remove_35 ci_P rfl wd_105, s_iload_n d_P_remove_38 rfl, s_aload_n d_P_remove_39 rfl, s_getr d_P_remove_40 ci_P rfl wd_105, s_iload_n d_P_remove_43 rfl, s_iconst d_P_remove_44 (by decide), s_iadd d_P_remove_45, s_iaload d_P_remove_46, s_iastore d_P_remove_47, s_aload_n d_P_remove_48 rfl, s_getr d_P_remove_49 ci_P rfl wd_109, s_iload_n d_P_remove_52 rfl, s_aload_n d_P_remove_53 rfl, s_getr d_P_remove_54 ci_P rfl wd_109, s_iload_n d_P_remove_57 rfl, s_iconst d_P_remove_58 (by decide), s_iadd d_P_remove_59, s_iaload d_P_remove_60, s_iastore d_P_remove_61, s_iinc d_P_remove_62 (by decide) (by decide), s_goto d_P_remove_65 (by decide), trivial⟩
theorem r_P_remove_68 {g : jm_G} {d : Nat} {L : List (Option jm_V)} {σ : jm_S} {K : jm_O → Prop} (hK : K (σ, .inl none)) : J g d 26 68 L [] σ K := J_vret d_P_remove_68 rfl hK
-- IdealProver$Poly plus (LIdealProver$Order;LIdealProver$Fraction;IIILIdealProver$Poly;)V
theorem d_P_plus_0 : decode prog_9_method_6_code 0 = .ok (.iconst 0, 1) := by decide +kernel
theorem d_P_plus_1 : decode prog_9_method_6_code 1 = .ok (.istore 7, 2) := by decide +kernel
theorem d_P_plus_3 : decode prog_9_method_6_code 3 = .ok (.iload 7, 2) := by decide +kernel
theorem d_P_plus_5 : decode prog_9_method_6_code 5 = .ok (.aload 6, 2) := by decide +kernel
theorem d_P_plus_7 : decode prog_9_method_6_code 7 = .ok (.getfield 21, 3) := by decide +kernel
theorem d_P_plus_10 : decode prog_9_method_6_code 10 = .ok (.if_icmp .ge 108, 3) := by decide +kernel
theorem d_P_plus_13 : decode prog_9_method_6_code 13 = .ok (.iconst 0, 1) := by decide +kernel
theorem d_P_plus_14 : decode prog_9_method_6_code 14 = .ok (.istore 8, 2) := by decide +kernel
theorem d_P_plus_16 : decode prog_9_method_6_code 16 = .ok (.iload 8, 2) := by decide +kernel
theorem d_P_plus_18 : decode prog_9_method_6_code 18 = .ok (.iconst 5, 1) := by decide +kernel
theorem d_P_plus_19 : decode prog_9_method_6_code 19 = .ok (.if_icmp .ge 45, 3) := by decide +kernel
theorem d_P_plus_22 : decode prog_9_method_6_code 22 = .ok (.iload 5, 2) := by decide +kernel
theorem d_P_plus_24 : decode prog_9_method_6_code 24 = .ok (.iload 8, 2) := by decide +kernel
theorem d_P_plus_26 : decode prog_9_method_6_code 26 = .ok (.invokestatic 58, 3) := by decide +kernel
theorem d_P_plus_29 : decode prog_9_method_6_code 29 = .ok (.aload 6, 2) := by decide +kernel
theorem d_P_plus_31 : decode prog_9_method_6_code 31 = .ok (.getfield 18, 3) := by decide +kernel
theorem d_P_plus_34 : decode prog_9_method_6_code 34 = .ok (.iload 7, 2) := by decide +kernel
theorem d_P_plus_36 : decode prog_9_method_6_code 36 = .ok (.iaload, 1) := by decide +kernel
theorem d_P_plus_37 : decode prog_9_method_6_code 37 = .ok (.iload 8, 2) := by decide +kernel
theorem d_P_plus_39 : decode prog_9_method_6_code 39 = .ok (.invokestatic 58, 3) := by decide +kernel
theorem d_P_plus_42 : decode prog_9_method_6_code 42 = .ok (.iadd, 1) := by decide +kernel
theorem d_P_plus_43 : decode prog_9_method_6_code 43 = .ok (.bipush 30, 2) := by decide +kernel
theorem d_P_plus_45 : decode prog_9_method_6_code 45 = .ok (.if_icmp .le 13, 3) := by decide +kernel
theorem d_P_plus_48 : decode prog_9_method_6_code 48 = .ok (.new 31, 3) := by decide +kernel
theorem d_P_plus_51 : decode prog_9_method_6_code 51 = .ok (.dup, 1) := by decide +kernel
theorem d_P_plus_52 : decode prog_9_method_6_code 52 = .ok (.bipush (-7), 2) := by decide +kernel
theorem d_P_plus_54 : decode prog_9_method_6_code 54 = .ok (.invokespecial 33, 3) := by decide +kernel
theorem d_P_plus_57 : decode prog_9_method_6_code 57 = .ok (.athrow, 1) := by decide +kernel
theorem d_P_plus_58 : decode prog_9_method_6_code 58 = .ok (.iinc 8 1, 3) := by decide +kernel
theorem d_P_plus_61 : decode prog_9_method_6_code 61 = .ok (.goto (-45), 3) := by decide +kernel
theorem d_P_plus_64 : decode prog_9_method_6_code 64 = .ok (.aload_n 2, 1) := by decide +kernel
theorem d_P_plus_65 : decode prog_9_method_6_code 65 = .ok (.iload_n 3, 1) := by decide +kernel
theorem d_P_plus_66 : decode prog_9_method_6_code 66 = .ok (.iload 4, 2) := by decide +kernel
theorem d_P_plus_68 : decode prog_9_method_6_code 68 = .ok (.aload 6, 2) := by decide +kernel
theorem d_P_plus_70 : decode prog_9_method_6_code 70 = .ok (.getfield 9, 3) := by decide +kernel
theorem d_P_plus_73 : decode prog_9_method_6_code 73 = .ok (.iload 7, 2) := by decide +kernel
theorem d_P_plus_75 : decode prog_9_method_6_code 75 = .ok (.iaload, 1) := by decide +kernel
theorem d_P_plus_76 : decode prog_9_method_6_code 76 = .ok (.aload 6, 2) := by decide +kernel
theorem d_P_plus_78 : decode prog_9_method_6_code 78 = .ok (.getfield 15, 3) := by decide +kernel
theorem d_P_plus_81 : decode prog_9_method_6_code 81 = .ok (.iload 7, 2) := by decide +kernel
theorem d_P_plus_83 : decode prog_9_method_6_code 83 = .ok (.iaload, 1) := by decide +kernel
theorem d_P_plus_84 : decode prog_9_method_6_code 84 = .ok (.invokevirtual 61, 3) := by decide +kernel
theorem d_P_plus_87 : decode prog_9_method_6_code 87 = .ok (.aload_n 0, 1) := by decide +kernel
theorem d_P_plus_88 : decode prog_9_method_6_code 88 = .ok (.aload_n 1, 1) := by decide +kernel
theorem d_P_plus_89 : decode prog_9_method_6_code 89 = .ok (.aload_n 2, 1) := by decide +kernel
theorem d_P_plus_90 : decode prog_9_method_6_code 90 = .ok (.aload_n 2, 1) := by decide +kernel
theorem d_P_plus_91 : decode prog_9_method_6_code 91 = .ok (.getfield 51, 3) := by decide +kernel
theorem d_P_plus_94 : decode prog_9_method_6_code 94 = .ok (.aload_n 2, 1) := by decide +kernel
theorem d_P_plus_95 : decode prog_9_method_6_code 95 = .ok (.getfield 56, 3) := by decide +kernel
theorem d_P_plus_98 : decode prog_9_method_6_code 98 = .ok (.iload 5, 2) := by decide +kernel
theorem d_P_plus_100 : decode prog_9_method_6_code 100 = .ok (.aload 6, 2) := by decide +kernel
theorem d_P_plus_102 : decode prog_9_method_6_code 102 = .ok (.getfield 18, 3) := by decide +kernel
theorem d_P_plus_105 : decode prog_9_method_6_code 105 = .ok (.iload 7, 2) := by decide +kernel
theorem d_P_plus_107 : decode prog_9_method_6_code 107 = .ok (.iaload, 1) := by decide +kernel
theorem d_P_plus_108 : decode prog_9_method_6_code 108 = .ok (.iadd, 1) := by decide +kernel
theorem d_P_plus_109 : decode prog_9_method_6_code 109 = .ok (.invokevirtual 64, 3) := by decide +kernel
theorem d_P_plus_112 : decode prog_9_method_6_code 112 = .ok (.iinc 7 1, 3) := by decide +kernel
theorem d_P_plus_115 : decode prog_9_method_6_code 115 = .ok (.goto (-112), 3) := by decide +kernel
theorem d_P_plus_118 : decode prog_9_method_6_code 118 = .ok (.return_, 1) := by decide +kernel
def tb_P_plus : List (Nat × jm_Op) := [(0, oC 0 1), (1, oIs 7 3), (3, oIl 7 5), (5, oAl 6 7), (7, oGi 5 0 10), (10, oIcGe 118 13), (13, oC 0 14), (14, oIs 8 16), (16, oIl 8 18), (18, oC 5 19), (19, oIcGe 64 22), (22, oIl 5 24), (24, oIl 8 26), (29, oAl 6 31), (31, oGr 5 3 8 34), (34, oIl 7 36), (36, oIa 37), (37, oIl 8 39), (42, oAdd 43), (43, oC 30 45), (45, oIcLe 58 48), (58, oInc 8 1 61), (61, oGo 16), (64, oAl 2 65), (65, oIl 3 66), (66, oIl 4 68), (68, oAl 6 70), (70, oGr 5 1 8 73), (73, oIl 7 75), (75, oIa 76), (76, oAl 6 78), (78, oGr 5 2 8 81), (81, oIl 7 83), (83, oIa 84), (87, oAl 0 88), (88, oAl 1 89), (89, oAl 2 90), (90, oAl 2 91), (91, oGi 4 0 94), (94, oAl 2 95), (95, oGi 4 1 98), (98, oIl 5 100), (100, oAl 6 102), (102, oGr 5 3 8 105), (105, oIl 7 107), (107, oIa 108), (108, oAdd 109), (112, oInc 7 1 115), (115, oGo 3)]
theorem ok_P_plus : jm_all 32 tb_P_plus := ⟨s_iconst d_P_plus_0 (by decide), s_istore d_P_plus_1 (by decide), s_iload d_P_plus_3, s_aload d_P_plus_5, s_geti d_P_plus_7 ci_P rfl wd_98, s_icmp_ge d_P_plus_10 (by decide), s_iconst d_P_plus_13 (by decide), s_istore d_P_plus_14 (by decide), s_iload d_P_plus_16, s_iconst d_P_plus_18 (by decide), s_icmp_ge d_P_plus_19 (by decide), s_iload d_P_plus_22, s_iload d_P_plus_24, s_aload d_P_plus_29, s_getr d_P_plus_31 ci_P rfl wd_109, s_iload d_P_plus_34, s_iaload d_P_plus_36, s_iload d_P_plus_37, s_iadd d_P_plus_42, s_bipush d_P_plus_43 (by decide), s_icmp_le d_P_plus_45 (by decide), s_iinc d_P_plus_58 (by decide) (by decide), s_goto d_P_plus_61 (by decide), s_aload_n d_P_plus_64 rfl, s_iload_n d_P_plus_65 rfl, s_iload d_P_plus_66, s_aload d_P_plus_68, s_getr d_P_plus_70 ci_P rfl wd_101, s_iload d_P_plus_73, s_iaload d_P_plus_75, s_aload d_P_plus_76, s_getr d_P_plus_78 ci_P rfl wd_105, s_iload d_P_plus_81, s_iaload d_P_plus_83, s_aload_n d_P_plus_87 rfl, s_aload_n d_P_plus_88 rfl, s_aload_n d_P_plus_89 rfl, s_aload_n d_P_plus_90 rfl, s_getiN d_P_plus_91 ci_F rfl wd_135, s_aload_n d_P_plus_94 rfl, s_getiN d_P_plus_95 ci_F rfl wd_139, s_iload d_P_plus_98, s_aload d_P_plus_100, s_getr d_P_plus_102 ci_P rfl wd_109, s_iload d_P_plus_105, s_iaload d_P_plus_107, s_iadd d_P_plus_108, s_iinc d_P_plus_112 (by decide) (by decide), s_goto d_P_plus_115 (by decide), trivial⟩
theorem k_P_plus_26 {g : jm_G} {d : Nat} {L : List (Option jm_V)} {r : List jm_V} {σ : jm_S} {K K' : jm_O → Prop} {x0 : Int32} {x1 : Int32} (hr : Nat.ble (jm_cs r) 8 = true) (hcal : J g d 14 0 [some (aI x0), some (aI x1)] [] σ K') (hk : ∀ u, K' u → jm_aft g (d + 1) 32 26 L r u K) : J g (d + 1) 32 26 L (aI x1 :: aI x0 :: r) σ K :=
  J_call' (id' := 14) jm_sk (vs := [aI x0, aI x1]) (inv_SN (id' := 14) d_P_plus_26 wd_459 wd_317 wd_54 cw_H_exponent (by decide) pn_H_exponent) cw_H_exponent (by decide) (by decide) (Nat.le_of_ble_eq_true rfl) rfl hr rfl hcal hk
theorem k_P_plus_39 {g : jm_G} {d : Nat} {L : List (Option jm_V)} {r : List jm_V} {σ : jm_S} {K K' : jm_O → Prop} {x0 : Int32} {x1 : Int32} (hr : Nat.ble (jm_cs r) 8 = true) (hcal : J g d 14 0 [some (aI x0), some (aI x1)] [] σ K') (hk : ∀ u, K' u → jm_aft g (d + 1) 32 39 L r u K) : J g (d + 1) 32 39 L (aI x1 :: aI x0 :: r) σ K :=
  J_call' (id' := 14) jm_sk (vs := [aI x0, aI x1]) (inv_SN (id' := 14) d_P_plus_39 wd_459 wd_317 wd_54 cw_H_exponent (by decide) pn_H_exponent) cw_H_exponent (by decide) (by decide) (Nat.le_of_ble_eq_true rfl) rfl hr rfl hcal hk
theorem k_P_plus_48 {g : jm_G} {d : Nat} {L : List (Option jm_V)} {r : List jm_V} {σ : jm_S} {K : jm_O → Prop} (hdep : 4 ≤ d) (hcs : Nat.ble (jm_cs r) 6 = true) (ht : gdm g (jm_hs σ) = 7) (hlim : jm_hs σ + 1 ≤ gb g + 601024 ∧ jm_ns σ + 7 ≤ 7293000) (hj : J g d 32 57 L (aR 7 (jm_hs σ) :: r) (jm_wi (jm_nw σ 7) (jm_hs σ) 0 (-7)) K) : J g d 32 48 L r σ K :=
  J_stop d_P_plus_48 d_P_plus_51 d_P_plus_52 (by decide) d_P_plus_54 wd_423 wd_424 hdep hcs ht hlim hj
theorem r_P_plus_57 {g : jm_G} {d : Nat} {L : List (Option jm_V)} {r : List jm_V} {σ : jm_S} {K : jm_O → Prop} {q : Nat} (hK : K (σ, .inr q)) : J g d 32 57 L (aR 7 q :: r) σ K := J_throw d_P_plus_57 rfl hK
theorem k_P_plus_84 {g : jm_G} {d : Nat} {L : List (Option jm_V)} {r : List jm_V} {σ : jm_S} {K K' : jm_O → Prop} {q0 : Nat} {x0 : Int32} {x1 : Int32} {x2 : Int32} {x3 : Int32} (hr : Nat.ble (jm_cs r) 8 = true) (hcal : J g d 33 0 [some (aR 4 q0), some (aI x0), some (aI x1), some (aI x2), some (aI x3)] [] σ K') (hk : ∀ u, K' u → jm_aft g (d + 1) 32 84 L r u K) : J g (d + 1) 32 84 L (aI x3 :: aI x2 :: aI x1 :: aI x0 :: aR 4 q0 :: r) σ K :=
  J_call' (id' := 33) jm_sk (vs := [aR 4 q0, aI x0, aI x1, aI x2, aI x3]) (inv_V (id' := 33) d_P_plus_84 ci_F wd_460 wd_461 wd_462 cw_F_times (by decide) pn_F_times) cw_F_times (by decide) (by decide) (Nat.le_of_ble_eq_true rfl) rfl hr rfl hcal hk
theorem k_P_plus_109 {g : jm_G} {d : Nat} {L : List (Option jm_V)} {r : List jm_V} {σ : jm_S} {K K' : jm_O → Prop} {q0 : Nat} {x0 : Nat} {x1 : Nat} {x2 : Int32} {x3 : Int32} {x4 : Int32} (hr : Nat.ble (jm_cs r) 8 = true) (hcal : J g d 23 0 [some (aR 5 q0), some (aR 13 x0), some (aR 4 x1), some (aI x2), some (aI x3), some (aI x4), none] [] σ K') (hk : ∀ u, K' u → jm_aft g (d + 1) 32 109 L r u K) : J g (d + 1) 32 109 L (aI x4 :: aI x3 :: aI x2 :: aR 4 x1 :: aR 13 x0 :: aR 5 q0 :: r) σ K :=
  J_call' (id' := 23) jm_sk (vs := [aR 5 q0, aR 13 x0, aR 4 x1, aI x2, aI x3, aI x4]) (inv_V (id' := 23) d_P_plus_109 ci_P wd_464 wd_416 wd_417 cw_P_come (by decide) pn_P_come) cw_P_come (by decide) (by decide) (Nat.le_of_ble_eq_true rfl) rfl hr rfl hcal hk
theorem r_P_plus_118 {g : jm_G} {d : Nat} {L : List (Option jm_V)} {σ : jm_S} {K : jm_O → Prop} (hK : K (σ, .inl none)) : J g d 32 118 L [] σ K := J_vret d_P_plus_118 rfl hK
-- IdealProver$Fraction times (IIII)V
theorem d_F_times_0 : decode prog_4_method_3_code 0 = .ok (.aload_n 0, 1) := by decide +kernel
theorem d_F_times_1 : decode prog_4_method_3_code 1 = .ok (.iload_n 1, 1) := by decide +kernel
theorem d_F_times_2 : decode prog_4_method_3_code 2 = .ok (.i2l, 1) := by decide +kernel
theorem d_F_times_3 : decode prog_4_method_3_code 3 = .ok (.iload_n 3, 1) := by decide +kernel
theorem d_F_times_4 : decode prog_4_method_3_code 4 = .ok (.i2l, 1) := by decide +kernel
theorem d_F_times_5 : decode prog_4_method_3_code 5 = .ok (.lmul, 1) := by decide +kernel
theorem d_F_times_6 : decode prog_4_method_3_code 6 = .ok (.iload_n 2, 1) := by decide +kernel
theorem d_F_times_7 : decode prog_4_method_3_code 7 = .ok (.i2l, 1) := by decide +kernel
theorem d_F_times_8 : decode prog_4_method_3_code 8 = .ok (.iload 4, 2) := by decide +kernel
theorem d_F_times_10 : decode prog_4_method_3_code 10 = .ok (.i2l, 1) := by decide +kernel
theorem d_F_times_11 : decode prog_4_method_3_code 11 = .ok (.lmul, 1) := by decide +kernel
theorem d_F_times_12 : decode prog_4_method_3_code 12 = .ok (.invokevirtual 35, 3) := by decide +kernel
theorem d_F_times_15 : decode prog_4_method_3_code 15 = .ok (.return_, 1) := by decide +kernel
def tb_F_times : List (Nat × jm_Op) := [(0, oAl 0 1), (1, oIl 1 2), (2, oI2L 3), (3, oIl 3 4), (4, oI2L 5), (5, oLMul 6), (6, oIl 2 7), (7, oI2L 8), (8, oIl 4 10), (10, oI2L 11), (11, oLMul 12)]
theorem ok_F_times : jm_all 33 tb_F_times := ⟨s_aload_n d_F_times_0 rfl, s_iload_n d_F_times_1 rfl, s_i2l d_F_times_2, s_iload_n d_F_times_3 rfl, s_i2l d_F_times_4, s_lmul d_F_times_5, s_iload_n d_F_times_6 rfl, s_i2l d_F_times_7, s_iload d_F_times_8, s_i2l d_F_times_10, s_lmul d_F_times_11, trivial⟩
theorem k_F_times_12 {g : jm_G} {d : Nat} {L : List (Option jm_V)} {r : List jm_V} {σ : jm_S} {K K' : jm_O → Prop} {q0 : Nat} {x0 : Int64} {x1 : Int64} (hr : Nat.ble (jm_cs r) 8 = true) (hcal : J g d 20 0 [some (aR 4 q0), some (aL x0), none, some (aL x1), none, none, none, none, none, none, none] [] σ K') (hk : ∀ u, K' u → jm_aft g (d + 1) 33 12 L r u K) : J g (d + 1) 33 12 L (aL x1 :: aL x0 :: aR 4 q0 :: r) σ K :=
  J_call' (id' := 20) jm_sk (vs := [aR 4 q0, aL x0, aL x1]) (inv_V (id' := 20) d_F_times_12 ci_F wd_429 wd_348 wd_1 cw_F_set (by decide) pn_F_set) cw_F_set (by decide) (by decide) (Nat.le_of_ble_eq_true rfl) rfl hr rfl hcal hk
theorem r_F_times_15 {g : jm_G} {d : Nat} {L : List (Option jm_V)} {σ : jm_S} {K : jm_O → Prop} (hK : K (σ, .inl none)) : J g d 33 15 L [] σ K := J_vret d_F_times_15 rfl hK
-- IdealProver$Poly isSame (LIdealProver$Poly;)Z
theorem d_P_isSame_0 : decode prog_9_method_9_code 0 = .ok (.aload_n 0, 1) := by decide +kernel
theorem d_P_isSame_1 : decode prog_9_method_9_code 1 = .ok (.getfield 21, 3) := by decide +kernel
theorem d_P_isSame_4 : decode prog_9_method_9_code 4 = .ok (.aload_n 1, 1) := by decide +kernel
theorem d_P_isSame_5 : decode prog_9_method_9_code 5 = .ok (.getfield 21, 3) := by decide +kernel
theorem d_P_isSame_8 : decode prog_9_method_9_code 8 = .ok (.if_icmp .ne 7, 3) := by decide +kernel
theorem d_P_isSame_11 : decode prog_9_method_9_code 11 = .ok (.iconst 1, 1) := by decide +kernel
theorem d_P_isSame_12 : decode prog_9_method_9_code 12 = .ok (.goto 4, 3) := by decide +kernel
theorem d_P_isSame_15 : decode prog_9_method_9_code 15 = .ok (.iconst 0, 1) := by decide +kernel
theorem d_P_isSame_16 : decode prog_9_method_9_code 16 = .ok (.istore_n 2, 1) := by decide +kernel
theorem d_P_isSame_17 : decode prog_9_method_9_code 17 = .ok (.iconst 0, 1) := by decide +kernel
theorem d_P_isSame_18 : decode prog_9_method_9_code 18 = .ok (.istore_n 3, 1) := by decide +kernel
theorem d_P_isSame_19 : decode prog_9_method_9_code 19 = .ok (.iload_n 3, 1) := by decide +kernel
theorem d_P_isSame_20 : decode prog_9_method_9_code 20 = .ok (.aload_n 0, 1) := by decide +kernel
theorem d_P_isSame_21 : decode prog_9_method_9_code 21 = .ok (.getfield 21, 3) := by decide +kernel
theorem d_P_isSame_24 : decode prog_9_method_9_code 24 = .ok (.if_icmp .ge 64, 3) := by decide +kernel
theorem d_P_isSame_27 : decode prog_9_method_9_code 27 = .ok (.iload_n 2, 1) := by decide +kernel
theorem d_P_isSame_28 : decode prog_9_method_9_code 28 = .ok (.ifCond .eq 60, 3) := by decide +kernel
theorem d_P_isSame_31 : decode prog_9_method_9_code 31 = .ok (.aload_n 0, 1) := by decide +kernel
theorem d_P_isSame_32 : decode prog_9_method_9_code 32 = .ok (.getfield 9, 3) := by decide +kernel
theorem d_P_isSame_35 : decode prog_9_method_9_code 35 = .ok (.iload_n 3, 1) := by decide +kernel
theorem d_P_isSame_36 : decode prog_9_method_9_code 36 = .ok (.iaload, 1) := by decide +kernel
theorem d_P_isSame_37 : decode prog_9_method_9_code 37 = .ok (.aload_n 1, 1) := by decide +kernel
theorem d_P_isSame_38 : decode prog_9_method_9_code 38 = .ok (.getfield 9, 3) := by decide +kernel
theorem d_P_isSame_41 : decode prog_9_method_9_code 41 = .ok (.iload_n 3, 1) := by decide +kernel
theorem d_P_isSame_42 : decode prog_9_method_9_code 42 = .ok (.iaload, 1) := by decide +kernel
theorem d_P_isSame_43 : decode prog_9_method_9_code 43 = .ok (.if_icmp .ne 37, 3) := by decide +kernel
theorem d_P_isSame_46 : decode prog_9_method_9_code 46 = .ok (.aload_n 0, 1) := by decide +kernel
theorem d_P_isSame_47 : decode prog_9_method_9_code 47 = .ok (.getfield 15, 3) := by decide +kernel
theorem d_P_isSame_50 : decode prog_9_method_9_code 50 = .ok (.iload_n 3, 1) := by decide +kernel
theorem d_P_isSame_51 : decode prog_9_method_9_code 51 = .ok (.iaload, 1) := by decide +kernel
theorem d_P_isSame_52 : decode prog_9_method_9_code 52 = .ok (.aload_n 1, 1) := by decide +kernel
theorem d_P_isSame_53 : decode prog_9_method_9_code 53 = .ok (.getfield 15, 3) := by decide +kernel
theorem d_P_isSame_56 : decode prog_9_method_9_code 56 = .ok (.iload_n 3, 1) := by decide +kernel
theorem d_P_isSame_57 : decode prog_9_method_9_code 57 = .ok (.iaload, 1) := by decide +kernel
theorem d_P_isSame_58 : decode prog_9_method_9_code 58 = .ok (.if_icmp .ne 22, 3) := by decide +kernel
theorem d_P_isSame_61 : decode prog_9_method_9_code 61 = .ok (.aload_n 0, 1) := by decide +kernel
theorem d_P_isSame_62 : decode prog_9_method_9_code 62 = .ok (.getfield 18, 3) := by decide +kernel
theorem d_P_isSame_65 : decode prog_9_method_9_code 65 = .ok (.iload_n 3, 1) := by decide +kernel
theorem d_P_isSame_66 : decode prog_9_method_9_code 66 = .ok (.iaload, 1) := by decide +kernel
theorem d_P_isSame_67 : decode prog_9_method_9_code 67 = .ok (.aload_n 1, 1) := by decide +kernel
theorem d_P_isSame_68 : decode prog_9_method_9_code 68 = .ok (.getfield 18, 3) := by decide +kernel
theorem d_P_isSame_71 : decode prog_9_method_9_code 71 = .ok (.iload_n 3, 1) := by decide +kernel
theorem d_P_isSame_72 : decode prog_9_method_9_code 72 = .ok (.iaload, 1) := by decide +kernel
theorem d_P_isSame_73 : decode prog_9_method_9_code 73 = .ok (.if_icmp .ne 7, 3) := by decide +kernel
theorem d_P_isSame_76 : decode prog_9_method_9_code 76 = .ok (.iconst 1, 1) := by decide +kernel
theorem d_P_isSame_77 : decode prog_9_method_9_code 77 = .ok (.goto 4, 3) := by decide +kernel
theorem d_P_isSame_80 : decode prog_9_method_9_code 80 = .ok (.iconst 0, 1) := by decide +kernel
theorem d_P_isSame_81 : decode prog_9_method_9_code 81 = .ok (.istore_n 2, 1) := by decide +kernel
theorem d_P_isSame_82 : decode prog_9_method_9_code 82 = .ok (.iinc 3 1, 3) := by decide +kernel
theorem d_P_isSame_85 : decode prog_9_method_9_code 85 = .ok (.goto (-66), 3) := by decide +kernel
theorem d_P_isSame_88 : decode prog_9_method_9_code 88 = .ok (.iload_n 2, 1) := by decide +kernel
theorem d_P_isSame_89 : decode prog_9_method_9_code 89 = .ok (.ireturn, 1) := by decide +kernel
def tb_P_isSame_0 : List (Nat × jm_Op) := [(0, oAl 0 1), (1, oGi 5 0 4), (4, oAl 1 5), (5, oGi 5 0 8), (8, oIcNe 15 11), (11, oC 1 12), (12, oGo 16), (15, oC 0 16), (16, oIs 2 17), (17, oC 0 18), (18, oIs 3 19), (19, oIl 3 20), (20, oAl 0 21), (21, oGi 5 0 24), (24, oIcGe 88 27), (27, oIl 2 28), (28, oIfEq 88 31), (31, oAl 0 32), (32, oGr 5 1 8 35), (35, oIl 3 36), (36, oIa 37), (37, oAl 1 38), (38, oGr 5 1 8 41), (41, oIl 3 42), (42, oIa 43), (43, oIcNe 80 46), (46, oAl 0 47), (47, oGr 5 2 8 50), (50, oIl 3 51), (51, oIa 52), (52, oAl 1 53), (53, oGr 5 2 8 56), (56, oIl 3 57), (57, oIa 58), (58, oIcNe 80 61), (61, oAl 0 62), (62, oGr 5 3 8 65), (65, oIl 3 66), (66, oIa 67), (67, oAl 1 68), (68, oGr 5 3 8 71), (71, oIl 3 72), (72, oIa 73), (73, oIcNe 80 76), (76, oC 1 77), (77, oGo 81), (80, oC 0 81), (81, oIs 2 82), (82, oInc 3 1 85), (85, oGo 19)]
theorem ok_P_isSame_0 : jm_all 37 tb_P_isSame_0 := ⟨s_aload_n d_P_isSame_0 rfl, s_geti d_P_isSame_1 ci_P rfl wd_98, s_aload_n d_P_isSame_4 rfl, s_geti d_P_isSame_5 ci_P rfl wd_98, s_icmp_ne d_P_isSame_8 (by decide), s_iconst d_P_isSame_11 (by decide), s_goto d_P_isSame_12 (by decide), s_iconst d_P_isSame_15 (by decide), s_istore_n d_P_isSame_16 rfl (by decide), s_iconst d_P_isSame_17 (by decide), s_istore_n d_P_isSame_18 rfl (by decide), s_iload_n d_P_isSame_19 rfl, s_aload_n d_P_isSame_20 rfl, s_geti d_P_isSame_21 ci_P rfl wd_98, s_icmp_ge d_P_isSame_24 (by decide), s_iload_n d_P_isSame_27 rfl, s_if_eq d_P_isSame_28 (by decide), s_aload_n d_P_isSame_31 rfl, s_getr d_P_isSame_32 ci_P rfl wd_101, s_iload_n d_P_isSame_35 rfl, s_iaload d_P_isSame_36, s_aload_n d_P_isSame_37 rfl, s_getr d_P_isSame_38 ci_P rfl wd_101, s_iload_n d_P_isSame_41 rfl, s_iaload d_P_isSame_42, s_icmp_ne d_P_isSame_43 (by decide), s_aload_n d_P_isSame_46 rfl, s_getr d_P_isSame_47 ci_P rfl wd_105, s_iload_n d_P_isSame_50 rfl, s_iaload d_P_isSame_51, s_aload_n d_P_isSame_52 rfl, s_getr d_P_isSame_53 ci_P rfl wd_105, s_iload_n d_P_isSame_56 rfl, s_iaload d_P_isSame_57, s_icmp_ne d_P_isSame_58 (by decide), s_aload_n d_P_isSame_61 rfl, s_getr d_P_isSame_62 ci_P rfl wd_109, s_iload_n d_P_isSame_65 rfl, s_iaload d_P_isSame_66, s_aload_n d_P_isSame_67 rfl, s_getr d_P_isSame_68 ci_P rfl wd_109, s_iload_n d_P_isSame_71 rfl, s_iaload d_P_isSame_72, s_icmp_ne d_P_isSame_73 (by decide), s_iconst d_P_isSame_76 (by decide), s_goto d_P_isSame_77 (by decide), s_iconst d_P_isSame_80 (by decide), s_istore_n d_P_isSame_81 rfl (by decide), s_iinc d_P_isSame_82 (by decide) (by decide), s_goto d_P_isSame_85 (by decide), trivial⟩
def tb_P_isSame_1 : List (Nat × jm_Op) := [(88, oIl 2 89)]
theorem ok_P_isSame_1 : jm_all 37 tb_P_isSame_1 := ⟨s_iload_n d_P_isSame_88 rfl, trivial⟩
def tb_P_isSame : List (Nat × jm_Op) := tb_P_isSame_0 ++ tb_P_isSame_1
theorem ok_P_isSame : jm_all 37 tb_P_isSame := jm_all_app ok_P_isSame_0 ok_P_isSame_1
theorem r_P_isSame_89 {g : jm_G} {d : Nat} {L : List (Option jm_V)} {σ : jm_S} {K : jm_O → Prop} {v : Int32} (hv : v = 0 ∨ v = 1) (hK : K (σ, .inl (some (aI v)))) : J g d 37 89 L [aI v] σ K := J_zret d_P_isSame_89 rfl hv hK
-- IdealProver$Element monic (LIdealProver$Fraction;I)V
theorem d_E_monic_0 : decode prog_2_method_2_code 0 = .ok (.aload_n 0, 1) := by decide +kernel
theorem d_E_monic_1 : decode prog_2_method_2_code 1 = .ok (.getfield 10, 3) := by decide +kernel
theorem d_E_monic_4 : decode prog_2_method_2_code 4 = .ok (.getfield 26, 3) := by decide +kernel
theorem d_E_monic_7 : decode prog_2_method_2_code 7 = .ok (.iconst 0, 1) := by decide +kernel
theorem d_E_monic_8 : decode prog_2_method_2_code 8 = .ok (.iaload, 1) := by decide +kernel
theorem d_E_monic_9 : decode prog_2_method_2_code 9 = .ok (.istore_n 3, 1) := by decide +kernel
theorem d_E_monic_10 : decode prog_2_method_2_code 10 = .ok (.aload_n 0, 1) := by decide +kernel
theorem d_E_monic_11 : decode prog_2_method_2_code 11 = .ok (.getfield 10, 3) := by decide +kernel
theorem d_E_monic_14 : decode prog_2_method_2_code 14 = .ok (.getfield 30, 3) := by decide +kernel
theorem d_E_monic_17 : decode prog_2_method_2_code 17 = .ok (.iconst 0, 1) := by decide +kernel
theorem d_E_monic_18 : decode prog_2_method_2_code 18 = .ok (.iaload, 1) := by decide +kernel
theorem d_E_monic_19 : decode prog_2_method_2_code 19 = .ok (.istore 4, 2) := by decide +kernel
theorem d_E_monic_21 : decode prog_2_method_2_code 21 = .ok (.iload 4, 2) := by decide +kernel
theorem d_E_monic_23 : decode prog_2_method_2_code 23 = .ok (.ifCond .ge 7, 3) := by decide +kernel
theorem d_E_monic_26 : decode prog_2_method_2_code 26 = .ok (.iconst (-1), 1) := by decide +kernel
theorem d_E_monic_27 : decode prog_2_method_2_code 27 = .ok (.goto 4, 3) := by decide +kernel
theorem d_E_monic_30 : decode prog_2_method_2_code 30 = .ok (.iconst 1, 1) := by decide +kernel
theorem d_E_monic_31 : decode prog_2_method_2_code 31 = .ok (.istore 5, 2) := by decide +kernel
theorem d_E_monic_33 : decode prog_2_method_2_code 33 = .ok (.aload_n 0, 1) := by decide +kernel
theorem d_E_monic_34 : decode prog_2_method_2_code 34 = .ok (.getfield 10, 3) := by decide +kernel
theorem d_E_monic_37 : decode prog_2_method_2_code 37 = .ok (.aload_n 1, 1) := by decide +kernel
theorem d_E_monic_38 : decode prog_2_method_2_code 38 = .ok (.iload 5, 2) := by decide +kernel
theorem d_E_monic_40 : decode prog_2_method_2_code 40 = .ok (.iload_n 3, 1) := by decide +kernel
theorem d_E_monic_41 : decode prog_2_method_2_code 41 = .ok (.imul, 1) := by decide +kernel
theorem d_E_monic_42 : decode prog_2_method_2_code 42 = .ok (.iload 5, 2) := by decide +kernel
theorem d_E_monic_44 : decode prog_2_method_2_code 44 = .ok (.iload 4, 2) := by decide +kernel
theorem d_E_monic_46 : decode prog_2_method_2_code 46 = .ok (.imul, 1) := by decide +kernel
theorem d_E_monic_47 : decode prog_2_method_2_code 47 = .ok (.invokevirtual 33, 3) := by decide +kernel
theorem d_E_monic_50 : decode prog_2_method_2_code 50 = .ok (.iconst 0, 1) := by decide +kernel
theorem d_E_monic_51 : decode prog_2_method_2_code 51 = .ok (.istore 6, 2) := by decide +kernel
theorem d_E_monic_53 : decode prog_2_method_2_code 53 = .ok (.iload 6, 2) := by decide +kernel
theorem d_E_monic_55 : decode prog_2_method_2_code 55 = .ok (.iload_n 2, 1) := by decide +kernel
theorem d_E_monic_56 : decode prog_2_method_2_code 56 = .ok (.if_icmp .ge 29, 3) := by decide +kernel
theorem d_E_monic_59 : decode prog_2_method_2_code 59 = .ok (.aload_n 0, 1) := by decide +kernel
theorem d_E_monic_60 : decode prog_2_method_2_code 60 = .ok (.getfield 22, 3) := by decide +kernel
theorem d_E_monic_63 : decode prog_2_method_2_code 63 = .ok (.iload 6, 2) := by decide +kernel
theorem d_E_monic_65 : decode prog_2_method_2_code 65 = .ok (.aaload, 1) := by decide +kernel
theorem d_E_monic_66 : decode prog_2_method_2_code 66 = .ok (.aload_n 1, 1) := by decide +kernel
theorem d_E_monic_67 : decode prog_2_method_2_code 67 = .ok (.iload 5, 2) := by decide +kernel
theorem d_E_monic_69 : decode prog_2_method_2_code 69 = .ok (.iload_n 3, 1) := by decide +kernel
theorem d_E_monic_70 : decode prog_2_method_2_code 70 = .ok (.imul, 1) := by decide +kernel
theorem d_E_monic_71 : decode prog_2_method_2_code 71 = .ok (.iload 5, 2) := by decide +kernel
theorem d_E_monic_73 : decode prog_2_method_2_code 73 = .ok (.iload 4, 2) := by decide +kernel
theorem d_E_monic_75 : decode prog_2_method_2_code 75 = .ok (.imul, 1) := by decide +kernel
theorem d_E_monic_76 : decode prog_2_method_2_code 76 = .ok (.invokevirtual 33, 3) := by decide +kernel
theorem d_E_monic_79 : decode prog_2_method_2_code 79 = .ok (.iinc 6 1, 3) := by decide +kernel
theorem d_E_monic_82 : decode prog_2_method_2_code 82 = .ok (.goto (-29), 3) := by decide +kernel
theorem d_E_monic_85 : decode prog_2_method_2_code 85 = .ok (.return_, 1) := by decide +kernel
def tb_E_monic : List (Nat × jm_Op) := [(0, oAl 0 1), (1, oGr 3 0 5 4), (4, oGr 5 2 8 7), (7, oC 0 8), (8, oIa 9), (9, oIs 3 10), (10, oAl 0 11), (11, oGr 3 0 5 14), (14, oGr 5 1 8 17), (17, oC 0 18), (18, oIa 19), (19, oIs 4 21), (21, oIl 4 23), (23, oIfGe 30 26), (26, oC (-1) 27), (27, oGo 31), (30, oC 1 31), (31, oIs 5 33), (33, oAl 0 34), (34, oGr 3 0 5 37), (37, oAl 1 38), (38, oIl 5 40), (40, oIl 3 41), (41, oMul 42), (42, oIl 5 44), (44, oIl 4 46), (46, oMul 47), (50, oC 0 51), (51, oIs 6 53), (53, oIl 6 55), (55, oIl 2 56), (56, oIcGe 85 59), (59, oAl 0 60), (60, oGr 3 1 10 63), (63, oIl 6 65), (65, oRa 66), (66, oAl 1 67), (67, oIl 5 69), (69, oIl 3 70), (70, oMul 71), (71, oIl 5 73), (73, oIl 4 75), (75, oMul 76), (79, oInc 6 1 82), (82, oGo 53)]
theorem ok_E_monic : jm_all 46 tb_E_monic := ⟨s_aload_n d_E_monic_0 rfl, s_getr d_E_monic_1 ci_E rfl wd_160, s_getrN d_E_monic_4 ci_P rfl wd_106, s_iconst d_E_monic_7 (by decide), s_iaload d_E_monic_8, s_istore_n d_E_monic_9 rfl (by decide), s_aload_n d_E_monic_10 rfl, s_getr d_E_monic_11 ci_E rfl wd_160, s_getrN d_E_monic_14 ci_P rfl wd_102, s_iconst d_E_monic_17 (by decide), s_iaload d_E_monic_18, s_istore d_E_monic_19 (by decide), s_iload d_E_monic_21, s_if_ge d_E_monic_23 (by decide), s_iconst d_E_monic_26 (by decide), s_goto d_E_monic_27 (by decide), s_iconst d_E_monic_30 (by decide), s_istore d_E_monic_31 (by decide), s_aload_n d_E_monic_33 rfl, s_getr d_E_monic_34 ci_E rfl wd_160, s_aload_n d_E_monic_37 rfl, s_iload d_E_monic_38, s_iload_n d_E_monic_40 rfl, s_imul d_E_monic_41, s_iload d_E_monic_42, s_iload d_E_monic_44, s_imul d_E_monic_46, s_iconst d_E_monic_50 (by decide), s_istore d_E_monic_51 (by decide), s_iload d_E_monic_53, s_iload_n d_E_monic_55 rfl, s_icmp_ge d_E_monic_56 (by decide), s_aload_n d_E_monic_59 rfl, s_getr d_E_monic_60 ci_E rfl wd_163, s_iload d_E_monic_63, s_aaload d_E_monic_65, s_aload_n d_E_monic_66 rfl, s_iload d_E_monic_67, s_iload_n d_E_monic_69 rfl, s_imul d_E_monic_70, s_iload d_E_monic_71, s_iload d_E_monic_73, s_imul d_E_monic_75, s_iinc d_E_monic_79 (by decide) (by decide), s_goto d_E_monic_82 (by decide), trivial⟩
theorem k_E_monic_47 {g : jm_G} {d : Nat} {L : List (Option jm_V)} {r : List jm_V} {σ : jm_S} {K K' : jm_O → Prop} {q0 : Nat} {x0 : Nat} {x1 : Int32} {x2 : Int32} (hr : Nat.ble (jm_cs r) 8 = true) (hcal : J g d 47 0 [some (aR 5 q0), some (aR 4 x0), some (aI x1), some (aI x2), none] [] σ K') (hk : ∀ u, K' u → jm_aft g (d + 1) 46 47 L r u K) : J g (d + 1) 46 47 L (aI x2 :: aI x1 :: aR 4 x0 :: aR 5 q0 :: r) σ K :=
  J_call' (id' := 47) jm_sk (vs := [aR 5 q0, aR 4 x0, aI x1, aI x2]) (inv_V (id' := 47) d_E_monic_47 ci_P wd_521 wd_522 wd_523 cw_P_scale (by decide) pn_P_scale) cw_P_scale (by decide) (by decide) (Nat.le_of_ble_eq_true rfl) rfl hr rfl hcal hk
theorem k_E_monic_76 {g : jm_G} {d : Nat} {L : List (Option jm_V)} {r : List jm_V} {σ : jm_S} {K K' : jm_O → Prop} {q0 : Nat} {x0 : Nat} {x1 : Int32} {x2 : Int32} (hr : Nat.ble (jm_cs r) 8 = true) (hcal : J g d 47 0 [some (aR 5 q0), some (aR 4 x0), some (aI x1), some (aI x2), none] [] σ K') (hk : ∀ u, K' u → jm_aft g (d + 1) 46 76 L r u K) : J g (d + 1) 46 76 L (aI x2 :: aI x1 :: aR 4 x0 :: aR 5 q0 :: r) σ K :=
  J_call' (id' := 47) jm_sk (vs := [aR 5 q0, aR 4 x0, aI x1, aI x2]) (inv_V (id' := 47) d_E_monic_76 ci_P wd_521 wd_522 wd_523 cw_P_scale (by decide) pn_P_scale) cw_P_scale (by decide) (by decide) (Nat.le_of_ble_eq_true rfl) rfl hr rfl hcal hk
theorem r_E_monic_85 {g : jm_G} {d : Nat} {L : List (Option jm_V)} {σ : jm_S} {K : jm_O → Prop} (hK : K (σ, .inl none)) : J g d 46 85 L [] σ K := J_vret d_E_monic_85 rfl hK
-- IdealProver$Poly scale (LIdealProver$Fraction;II)V
theorem d_P_scale_0 : decode prog_9_method_7_code 0 = .ok (.iconst 0, 1) := by decide +kernel
theorem d_P_scale_1 : decode prog_9_method_7_code 1 = .ok (.istore 4, 2) := by decide +kernel
theorem d_P_scale_3 : decode prog_9_method_7_code 3 = .ok (.iload 4, 2) := by decide +kernel
theorem d_P_scale_5 : decode prog_9_method_7_code 5 = .ok (.aload_n 0, 1) := by decide +kernel
theorem d_P_scale_6 : decode prog_9_method_7_code 6 = .ok (.getfield 21, 3) := by decide +kernel
theorem d_P_scale_9 : decode prog_9_method_7_code 9 = .ok (.if_icmp .ge 51, 3) := by decide +kernel
theorem d_P_scale_12 : decode prog_9_method_7_code 12 = .ok (.aload_n 1, 1) := by decide +kernel
theorem d_P_scale_13 : decode prog_9_method_7_code 13 = .ok (.aload_n 0, 1) := by decide +kernel
theorem d_P_scale_14 : decode prog_9_method_7_code 14 = .ok (.getfield 9, 3) := by decide +kernel
theorem d_P_scale_17 : decode prog_9_method_7_code 17 = .ok (.iload 4, 2) := by decide +kernel
theorem d_P_scale_19 : decode prog_9_method_7_code 19 = .ok (.iaload, 1) := by decide +kernel
theorem d_P_scale_20 : decode prog_9_method_7_code 20 = .ok (.aload_n 0, 1) := by decide +kernel
theorem d_P_scale_21 : decode prog_9_method_7_code 21 = .ok (.getfield 15, 3) := by decide +kernel
theorem d_P_scale_24 : decode prog_9_method_7_code 24 = .ok (.iload 4, 2) := by decide +kernel
theorem d_P_scale_26 : decode prog_9_method_7_code 26 = .ok (.iaload, 1) := by decide +kernel
theorem d_P_scale_27 : decode prog_9_method_7_code 27 = .ok (.iload_n 2, 1) := by decide +kernel
theorem d_P_scale_28 : decode prog_9_method_7_code 28 = .ok (.iload_n 3, 1) := by decide +kernel
theorem d_P_scale_29 : decode prog_9_method_7_code 29 = .ok (.invokevirtual 61, 3) := by decide +kernel
theorem d_P_scale_32 : decode prog_9_method_7_code 32 = .ok (.aload_n 0, 1) := by decide +kernel
theorem d_P_scale_33 : decode prog_9_method_7_code 33 = .ok (.getfield 9, 3) := by decide +kernel
theorem d_P_scale_36 : decode prog_9_method_7_code 36 = .ok (.iload 4, 2) := by decide +kernel
theorem d_P_scale_38 : decode prog_9_method_7_code 38 = .ok (.aload_n 1, 1) := by decide +kernel
theorem d_P_scale_39 : decode prog_9_method_7_code 39 = .ok (.getfield 51, 3) := by decide +kernel
theorem d_P_scale_42 : decode prog_9_method_7_code 42 = .ok (.iastore, 1) := by decide +kernel
theorem d_P_scale_43 : decode prog_9_method_7_code 43 = .ok (.aload_n 0, 1) := by decide +kernel
theorem d_P_scale_44 : decode prog_9_method_7_code 44 = .ok (.getfield 15, 3) := by decide +kernel
theorem d_P_scale_47 : decode prog_9_method_7_code 47 = .ok (.iload 4, 2) := by decide +kernel
theorem d_P_scale_49 : decode prog_9_method_7_code 49 = .ok (.aload_n 1, 1) := by decide +kernel
theorem d_P_scale_50 : decode prog_9_method_7_code 50 = .ok (.getfield 56, 3) := by decide +kernel
theorem d_P_scale_53 : decode prog_9_method_7_code 53 = .ok (.iastore, 1) := by decide +kernel
theorem d_P_scale_54 : decode prog_9_method_7_code 54 = .ok (.iinc 4 1, 3) := by decide +kernel
theorem d_P_scale_57 : decode prog_9_method_7_code 57 = .ok (.goto (-54), 3) := by decide +kernel
theorem d_P_scale_60 : decode prog_9_method_7_code 60 = .ok (.return_, 1) := by decide +kernel
def tb_P_scale : List (Nat × jm_Op) := [(0, oC 0 1), (1, oIs 4 3), (3, oIl 4 5), (5, oAl 0 6), (6, oGi 5 0 9), (9, oIcGe 60 12), (12, oAl 1 13), (13, oAl 0 14), (14, oGr 5 1 8 17), (17, oIl 4 19), (19, oIa 20), (20, oAl 0 21), (21, oGr 5 2 8 24), (24, oIl 4 26), (26, oIa 27), (27, oIl 2 28), (28, oIl 3 29), (32, oAl 0 33), (33, oGr 5 1 8 36), (36, oIl 4 38), (38, oAl 1 39), (39, oGi 4 0 42), (42, oIw 43), (43, oAl 0 44), (44, oGr 5 2 8 47), (47, oIl 4 49), (49, oAl 1 50), (50, oGi 4 1 53), (53, oIw 54), (54, oInc 4 1 57), (57, oGo 3)]
theorem ok_P_scale : jm_all 47 tb_P_scale := ⟨s_iconst d_P_scale_0 (by decide), s_istore d_P_scale_1 (by decide), s_iload d_P_scale_3, s_aload_n d_P_scale_5 rfl, s_geti d_P_scale_6 ci_P rfl wd_98, s_icmp_ge d_P_scale_9 (by decide), s_aload_n d_P_scale_12 rfl, s_aload_n d_P_scale_13 rfl, s_getr d_P_scale_14 ci_P rfl wd_101, s_iload d_P_scale_17, s_iaload d_P_scale_19, s_aload_n d_P_scale_20 rfl, s_getr d_P_scale_21 ci_P rfl wd_105, s_iload d_P_scale_24, s_iaload d_P_scale_26, s_iload_n d_P_scale_27 rfl, s_iload_n d_P_scale_28 rfl, s_aload_n d_P_scale_32 rfl, s_getr d_P_scale_33 ci_P rfl wd_101, s_iload d_P_scale_36, s_aload_n d_P_scale_38 rfl, s_getiN d_P_scale_39 ci_F rfl wd_135, s_iastore d_P_scale_42, s_aload_n d_P_scale_43 rfl, s_getr d_P_scale_44 ci_P rfl wd_105, s_iload d_P_scale_47, s_aload_n d_P_scale_49 rfl, s_getiN d_P_scale_50 ci_F rfl wd_139, s_iastore d_P_scale_53, s_iinc d_P_scale_54 (by decide) (by decide), s_goto d_P_scale_57 (by decide), trivial⟩
theorem k_P_scale_29 {g : jm_G} {d : Nat} {L : List (Option jm_V)} {r : List jm_V} {σ : jm_S} {K K' : jm_O → Prop} {q0 : Nat} {x0 : Int32} {x1 : Int32} {x2 : Int32} {x3 : Int32} (hr : Nat.ble (jm_cs r) 8 = true) (hcal : J g d 33 0 [some (aR 4 q0), some (aI x0), some (aI x1), some (aI x2), some (aI x3)] [] σ K') (hk : ∀ u, K' u → jm_aft g (d + 1) 47 29 L r u K) : J g (d + 1) 47 29 L (aI x3 :: aI x2 :: aI x1 :: aI x0 :: aR 4 q0 :: r) σ K :=
  J_call' (id' := 33) jm_sk (vs := [aR 4 q0, aI x0, aI x1, aI x2, aI x3]) (inv_V (id' := 33) d_P_scale_29 ci_F wd_460 wd_461 wd_462 cw_F_times (by decide) pn_F_times) cw_F_times (by decide) (by decide) (Nat.le_of_ble_eq_true rfl) rfl hr rfl hcal hk
theorem r_P_scale_60 {g : jm_G} {d : Nat} {L : List (Option jm_V)} {σ : jm_S} {K : jm_O → Prop} (hK : K (σ, .inl none)) : J g d 47 60 L [] σ K := J_vret d_P_scale_60 rfl hK
